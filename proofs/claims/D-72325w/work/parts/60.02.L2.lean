/-! lattices, readings by their number -/
def Lt : Type := Nat × Nat × Nat × Nat × (Nat → Nat) × (Nat → Nat → Nat) × (Nat → Nat → Nat)
def Lt.n (x : Lt) : Nat := x.1
def Lt.kind (x : Lt) : Nat := x.2.1
def Lt.slack (x : Lt) : Nat := x.2.2.1
def Lt.draw (x : Lt) : Nat := x.2.2.2.1
def Lt.m (x : Lt) : Nat → Nat := x.2.2.2.2.1
def Lt.w (x : Lt) : Nat → Nat → Nat := x.2.2.2.2.2.1
def Lt.c (x : Lt) : Nat → Nat → Nat := x.2.2.2.2.2.2
def Lt.of (x0 : Nat) (x1 : Nat) (x2 : Nat) (x3 : Nat) (x4 : Nat → Nat) (x5 : Nat → Nat → Nat) (x6 : Nat → Nat → Nat) : Lt := ⟨x0, x1, x2, x3, x4, x5, x6⟩
theorem Lt.mk_n (x0 : Nat) (x1 : Nat) (x2 : Nat) (x3 : Nat) (x4 : Nat → Nat) (x5 : Nat → Nat → Nat) (x6 : Nat → Nat → Nat) : Lt.n (Lt.of x0 x1 x2 x3 x4 x5 x6) = x0 := rfl
theorem Lt.mk_kind (x0 : Nat) (x1 : Nat) (x2 : Nat) (x3 : Nat) (x4 : Nat → Nat) (x5 : Nat → Nat → Nat) (x6 : Nat → Nat → Nat) : Lt.kind (Lt.of x0 x1 x2 x3 x4 x5 x6) = x1 := rfl
theorem Lt.mk_slack (x0 : Nat) (x1 : Nat) (x2 : Nat) (x3 : Nat) (x4 : Nat → Nat) (x5 : Nat → Nat → Nat) (x6 : Nat → Nat → Nat) : Lt.slack (Lt.of x0 x1 x2 x3 x4 x5 x6) = x2 := rfl
theorem Lt.mk_draw (x0 : Nat) (x1 : Nat) (x2 : Nat) (x3 : Nat) (x4 : Nat → Nat) (x5 : Nat → Nat → Nat) (x6 : Nat → Nat → Nat) : Lt.draw (Lt.of x0 x1 x2 x3 x4 x5 x6) = x3 := rfl
theorem Lt.mk_m (x0 : Nat) (x1 : Nat) (x2 : Nat) (x3 : Nat) (x4 : Nat → Nat) (x5 : Nat → Nat → Nat) (x6 : Nat → Nat → Nat) : Lt.m (Lt.of x0 x1 x2 x3 x4 x5 x6) = x4 := rfl
theorem Lt.mk_w (x0 : Nat) (x1 : Nat) (x2 : Nat) (x3 : Nat) (x4 : Nat → Nat) (x5 : Nat → Nat → Nat) (x6 : Nat → Nat → Nat) : Lt.w (Lt.of x0 x1 x2 x3 x4 x5 x6) = x5 := rfl
theorem Lt.mk_c (x0 : Nat) (x1 : Nat) (x2 : Nat) (x3 : Nat) (x4 : Nat → Nat) (x5 : Nat → Nat → Nat) (x6 : Nat → Nat → Nat) : Lt.c (Lt.of x0 x1 x2 x3 x4 x5 x6) = x6 := rfl
def Lt.Wf (L : Lt) : Prop := (L.n ≤ 8) ∧ (L.kind < 5) ∧ (L.slack ≤ 20) ∧ (L.draw < 2 ^ 31) ∧ (∀ k, k < L.n → 1 ≤ L.m k ∧ L.m k ≤ 4) ∧ (∀ k j, k < L.n → j < L.m k → L.w k j < 32) ∧ (∀ k j, k < L.n → j < L.m k → L.c k j < 10) ∧ (∀ k i j, k < L.n → i < j → j < L.m k → L.w k i ≠ L.w k j)
theorem Lt.Wf.n8 {L : Lt} (h : Lt.Wf L) : (L.n ≤ 8) := h.1
theorem Lt.Wf.k5 {L : Lt} (h : Lt.Wf L) : (L.kind < 5) := h.2.1
theorem Lt.Wf.s20 {L : Lt} (h : Lt.Wf L) : (L.slack ≤ 20) := h.2.2.1
theorem Lt.Wf.dr {L : Lt} (h : Lt.Wf L) : (L.draw < 2 ^ 31) := h.2.2.2.1
theorem Lt.Wf.m1 {L : Lt} (h : Lt.Wf L) : (∀ k, k < L.n → 1 ≤ L.m k ∧ L.m k ≤ 4) := h.2.2.2.2.1
theorem Lt.Wf.w32 {L : Lt} (h : Lt.Wf L) : (∀ k j, k < L.n → j < L.m k → L.w k j < 32) := h.2.2.2.2.2.1
theorem Lt.Wf.c10 {L : Lt} (h : Lt.Wf L) : (∀ k j, k < L.n → j < L.m k → L.c k j < 10) := h.2.2.2.2.2.2.1
theorem Lt.Wf.ds {L : Lt} (h : Lt.Wf L) : (∀ k i j, k < L.n → i < j → j < L.m k → L.w k i ≠ L.w k j) := h.2.2.2.2.2.2.2
/-- the product of d from k on -/
def lQ (m : Nat → Nat) : Nat → Nat → Nat
  | _, 0 => 1
  | k, d + 1 => m k * lQ m (k + 1) d
def Lt.P (L : Lt) (k : Nat) : Nat := lQ L.m k (L.n - k)
def Lt.pk (L : Lt) (r k : Nat) : Nat := r / L.P (k + 1) % L.m k
def Lt.wl (L : Lt) (p : Nat → Nat) (i : Nat) : List Nat := (List.range i).map fun k => L.w k (p k)
def Lt.cs (L : Lt) (p : Nat → Nat) : Nat → Nat
  | 0 => 0
  | i + 1 => L.cs p i + L.c i (p i)
/-- what picks tell; none: it isn't said -/
def Lt.tell (L : Lt) (p : Nat → Nat) : Option (List Nat) := eRun e0 (L.wl p L.n)
def Lt.pOk (L : Lt) (p : Nat → Nat) : Prop := ∀ k, k < L.n → p k < L.m k
/-- a reading by its number -/
def Lt.ev (L : Lt) (r : Nat) : Option (List Nat) := L.tell (L.pk r)
def Lt.cost (L : Lt) (r : Nat) : Nat := L.cs (L.pk r) L.n
theorem Lt.P_n (L : Lt) : L.P L.n = 1 := by unfold Lt.P; rw [Nat.sub_self]; rfl
theorem Lt.P_s (L : Lt) {k : Nat} (h : k < L.n) : L.P k = L.m k * L.P (k + 1) := by
  unfold Lt.P
  have e : L.n - k = (L.n - (k + 1)) + 1 := by omega
  rw [e]
  rfl
theorem lQ_pos {m : Nat → Nat} : ∀ d k, (∀ i, k ≤ i → i < k + d → 1 ≤ m i) → 0 < lQ m k d := by
  intro d
  induction d with
  | zero => intro k _; exact Nat.one_pos
  | succ d ih =>
    intro k h
    exact Nat.mul_pos (h k (Nat.le_refl _) (by omega)) (ih (k + 1) (fun i h1 h2 => h i (by omega) (by omega)))
theorem lQ_le {m : Nat → Nat} : ∀ d k, (∀ i, k ≤ i → i < k + d → m i ≤ 4) → lQ m k d ≤ 4 ^ d := by
  intro d
  induction d with
  | zero => intro k _; exact Nat.le_refl _
  | succ d ih =>
    intro k h
    have h1 := ih (k + 1) (fun i h1 h2 => h i (by omega) (by omega))
    have h2 := h k (Nat.le_refl _) (by omega)
    rw [Nat.pow_succ, Nat.mul_comm (4 ^ d)]
    exact Nat.mul_le_mul h2 h1
theorem Lt.Wf.Ppos {L : Lt} (h : L.Wf) (k : Nat) : 0 < L.P k := by
  by_cases hk : k ≤ L.n
  · exact lQ_pos _ _ (fun i h1 h2 => (h.m1 i (by omega)).1)
  · unfold Lt.P
    have e : L.n - k = 0 := by omega
    rw [e]; exact Nat.one_pos
theorem Lt.Wf.Ple {L : Lt} (h : L.Wf) (k : Nat) : L.P k ≤ 65536 := by
  by_cases hk : k ≤ L.n
  · have h1 : L.P k ≤ 4 ^ (L.n - k) := lQ_le _ _ (fun i h1 h2 => (h.m1 i (by omega)).2)
    have h2 : 4 ^ (L.n - k) ≤ 4 ^ 8 := Nat.pow_le_pow_right (by decide) (by have := h.n8; omega)
    exact Nat.le_trans h1 h2
  · unfold Lt.P
    have e : L.n - k = 0 := by omega
    rw [e]; show 1 ≤ _; decide
theorem Lt.Wf.pk_lt {L : Lt} (h : L.Wf) {r k : Nat} (hk : k < L.n) : L.pk r k < L.m k := Nat.mod_lt _ (h.m1 k hk).1
theorem Lt.Wf.pk_ok {L : Lt} (h : L.Wf) (r : Nat) : L.pOk (L.pk r) := fun _ hk => h.pk_lt hk
theorem Lt.Wf.cs_le {L : Lt} (h : L.Wf) {p : Nat → Nat} (hp : L.pOk p) : ∀ i, i ≤ L.n → L.cs p i ≤ 9 * i := by
  intro i
  induction i with
  | zero => intro _; exact Nat.le_refl _
  | succ i ih =>
    intro hi
    have h1 := ih (by omega)
    have h2 := h.c10 i (p i) (by omega) (hp i (by omega))
    show L.cs p i + _ ≤ _
    omega
theorem Lt.wl_s (L : Lt) (p : Nat → Nat) (i : Nat) : L.wl p (i + 1) = L.wl p i ++ [L.w i (p i)] := by
  unfold Lt.wl
  rw [List.range_succ, List.map_append]
  rfl
theorem Lt.wl_len (L : Lt) (p : Nat → Nat) (i : Nat) : (L.wl p i).length = i := by unfold Lt.wl; simp
/-- the words without noise -/
def Lt.wn (L : Lt) (p : Nat → Nat) (i : Nat) : List Nat := (L.wl p i).filter (fun w => decide (w ≠ 0))
theorem Lt.wn_s (L : Lt) (p : Nat → Nat) (i : Nat) : L.wn p (i + 1) = if L.w i (p i) = 0 then L.wn p i else L.wn p i ++ [L.w i (p i)] := by
  unfold Lt.wn
  rw [Lt.wl_s, List.filter_append]
  by_cases h : L.w i (p i) = 0
  · rw [if_pos h, List.filter_cons_of_neg (by simp [h])]
    simp
  · rw [if_neg h, List.filter_cons_of_pos (by simp [h])]
    rfl
theorem Lt.wn_le (L : Lt) (p : Nat → Nat) (i : Nat) : (L.wn p i).length ≤ i := by
  unfold Lt.wn
  exact Nat.le_trans (List.length_filter_le _ _) (Nat.le_of_eq (L.wl_len p i))
theorem Lt.Wf.wn_ok {L : Lt} (h : L.Wf) {p : Nat → Nat} (hp : L.pOk p) {i : Nat} (hi : i ≤ L.n) : wOk (L.wn p i) := by
  intro w hw
  unfold Lt.wn at hw
  rw [List.mem_filter] at hw
  obtain ⟨h1, h2⟩ := hw
  unfold Lt.wl at h1
  rw [List.mem_map] at h1
  obtain ⟨k, h3, h4⟩ := h1
  rw [List.mem_range] at h3
  subst h4
  exact ⟨Nat.pos_of_ne_zero (by simpa using h2), h.w32 k _ (by omega) (hp k (by omega))⟩
theorem Lt.tell_wn (L : Lt) (p : Nat → Nat) : eRun e0 (L.wn p L.n) = L.tell p := (eRun_noise (L.wl p L.n) e0).symm
