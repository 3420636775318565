/-! questions -/
def Lt.mo (L : Lt) (x : Int64) (k : Nat) : Nat := mx (fun w => L.hv (L.rs x L.C.length) k w) 32
def Lt.qL (L : Lt) (x : Int64) : Option Nat := (lk (L.mo x) (L.qN x) L.n).1
def Lt.askF (L : Lt) : Nat → Int64 → Nat
  | 0, _ => 0
  | f + 1, x => if L.sm x L.C.length = true then 0 else match L.qL x with
    | none => 0
    | some k => mx (fun c => if L.qW x k (L.w k c) = 0 then 0 else L.askF f (L.qW x k (L.w k c))) (L.m k) + 1
theorem Lt.ask_ex (L : Lt) (x : Int64) : ∃ a, a = L.askF 60 x := ⟨_, rfl⟩
noncomputable def Lt.ask (L : Lt) (x : Int64) : Nat := Classical.choose (L.ask_ex x)
theorem Lt.ask_def (L : Lt) (x : Int64) : L.ask x = L.askF 60 x := Classical.choose_spec (L.ask_ex x)
theorem mx_ge (f : Nat → Nat) : ∀ n i, i < n → f i ≤ mx f n := by
  intro n
  induction n with
  | zero => intro i h; omega
  | succ n ih =>
    intro i hi
    unfold mx
    by_cases e : i = n
    · subst e; split <;> omega
    · have := ih i (by omega); split <;> omega
theorem mx_eq {f g : Nat → Nat} : ∀ n, (∀ i, i < n → f i = g i) → mx f n = mx g n := by
  intro n
  induction n with
  | zero => intro _; rfl
  | succ n ih =>
    intro h
    unfold mx
    rw [ih (fun i hi => h i (by omega)), h n (by omega)]
theorem lk_some (mo : Nat → Nat) (all : Nat) : ∀ n k, (lk mo all n).1 = some k → k < n ∧ mo k < all := by
  intro n
  induction n with
  | zero => intro k h; cases h
  | succ n ih =>
    intro k h
    have hle := lk_le mo all n
    unfold lk at h
    split at h
    · cases h; exact ⟨by omega, by omega⟩
    · have := ih k h; exact ⟨by omega, this.2⟩
theorem Lt.rs_W {L : Lt} (h60 : L.C.length ≤ 60) (x : Int64) (k w : Nat) : ∀ t, t ≤ L.C.length → L.rs (L.qW x k w) t = (L.rs x t).filter (fun r => decide (L.w k (L.pk r k) = w)) := by
  intro t
  induction t with
  | zero => intro _; rfl
  | succ t ih =>
    intro ht
    have ih := ih (by omega)
    have hb : bt (L.qW x k w) t = (bt x t && decide (L.w k (L.pk (L.rd t) k) = w)) := by
      unfold Lt.qW
      rw [bS_b _ _ (by omega)]
      simp [show t < L.C.length by omega]
    rw [Lt.rs, Lt.rs, hb, ih]
    cases h1 : bt x t with
    | false => simp
    | true =>
      by_cases h2 : L.w k (L.pk (L.rd t) k) = w
      · simp [h2]
      · simp [h2]
theorem Lt.qN_W {L : Lt} (h60 : L.C.length ≤ 60) (x : Int64) (k w : Nat) : L.qN (L.qW x k w) = L.hv (L.rs x L.C.length) k w := by
  unfold Lt.qN
  rw [L.rs_W h60 x k w _ (Nat.le_refl _)]
  unfold Lt.hv
  rw [List.countP_eq_length_filter]
theorem Lt.W_lt {L : Lt} (h60 : L.C.length ≤ 60) {x : Int64} {k w : Nat} (hk : L.qL x = some k) (hw : w < 32) : L.qN (L.qW x k w) < L.qN x := by
  rw [L.qN_W h60]
  have h1 := lk_some _ _ _ _ hk
  have h2 := mx_ge (fun w => L.hv (L.rs x L.C.length) k w) 32 w hw
  have h3 := h1.2
  unfold Lt.mo at h3
  exact Nat.lt_of_le_of_lt h2 h3
theorem Lt.askF_s {L : Lt} (hL : L.Wf) (h60 : L.C.length ≤ 60) : ∀ f x, L.qN x ≤ f → L.askF f x = L.askF (f + 1) x := by
  intro f
  induction f with
  | zero =>
    intro x hx
    rw [Lt.askF, Lt.askF]
    split
    · rfl
    · cases hq : L.qL x with
      | none => rfl
      | some k => have := (lk_some _ _ _ _ hq).2; omega
  | succ f ih =>
    intro x hx
    rw [Lt.askF, Lt.askF]
    split
    · rfl
    · cases hq : L.qL x with
      | none => rfl
      | some k =>
        simp only
        congr 1
        apply mx_eq
        intro c hc
        have hk := (lk_some _ _ _ _ hq).1
        have := L.W_lt h60 hq (hL.w32 k c hk hc)
        rw [ih _ (by omega)]
theorem Lt.qN_le (L : Lt) (x : Int64) : L.qN x ≤ L.C.length := L.rs_len x _
theorem Lt.ask_eq {L : Lt} (hL : L.Wf) (h60 : L.C.length ≤ 60) (x : Int64) : L.ask x = if L.sm x L.C.length = true then 0 else match L.qL x with
    | none => 0
    | some k => mx (fun c => if L.qW x k (L.w k c) = 0 then 0 else L.ask (L.qW x k (L.w k c))) (L.m k) + 1 := by
  rw [L.ask_def, L.askF_s hL h60 60 x (Nat.le_trans (L.qN_le x) h60), Lt.askF]
  simp only [L.ask_def]
theorem Lt.ask_le {L : Lt} (hL : L.Wf) (h60 : L.C.length ≤ 60) : ∀ n x, L.qN x ≤ n → L.ask x ≤ n := by
  intro n
  induction n with
  | zero =>
    intro x hx
    rw [L.ask_eq hL h60]
    split
    · exact Nat.le_refl _
    · cases hq : L.qL x with
      | none => exact Nat.le_refl _
      | some k => have := (lk_some _ _ _ _ hq).2; omega
  | succ n ih =>
    intro x hx
    rw [L.ask_eq hL h60]
    split
    · omega
    · cases hq : L.qL x with
      | none => simp only; omega
      | some k =>
        simp only
        have hk := (lk_some _ _ _ _ hq).1
        have : mx (fun c => if L.qW x k (L.w k c) = 0 then 0 else L.ask (L.qW x k (L.w k c))) (L.m k) ≤ n := by
          apply mx_le
          intro c hc
          have h1 := L.W_lt h60 hq (hL.w32 k c hk hc)
          split
          · omega
          · exact ih _ (by omega)
        omega
/-- sums -/
def su (f : Nat → Nat) : Nat → Nat
  | 0 => 0
  | n + 1 => su f n + f n
theorem Lt.hv_c (L : Lt) (r : Nat) (l : List Nat) (k w : Nat) : L.hv (r :: l) k w = L.hv l k w + if L.w k (L.pk r k) = w then 1 else 0 := by
  unfold Lt.hv
  rw [List.countP_cons]
  by_cases h : L.w k (L.pk r k) = w <;> simp [h]
theorem Lt.su_hv {L : Lt} (hL : L.Wf) {k : Nat} (hk : k < L.n) : ∀ (l : List Nat) j, j ≤ L.m k → su (fun c => L.hv l k (L.w k c)) j ≤ l.length := by
  have one : ∀ r j, j ≤ L.m k → su (fun c => if L.w k (L.pk r k) = L.w k c then 1 else 0) j ≤ 1 ∧ ((∀ c, c < j → L.w k (L.pk r k) ≠ L.w k c) → su (fun c => if L.w k (L.pk r k) = L.w k c then 1 else 0) j = 0) := by
    intro r j
    induction j with
    | zero => intro _; exact ⟨by unfold su; omega, fun _ => rfl⟩
    | succ j ih =>
      intro hj
      have ih := ih (by omega)
      constructor
      · unfold su
        by_cases e : L.w k (L.pk r k) = L.w k j
        · rw [ih.2 (fun c hc => by rw [e]; exact (hL.ds k c j hk hc (by omega)).symm)]
          simp [e]
        · rw [if_neg e]; have := ih.1; omega
      · intro h
        unfold su
        rw [ih.2 (fun c hc => h c (by omega)), if_neg (h j (by omega))]
  intro l
  induction l with
  | nil =>
    intro j hj
    have : ∀ j, su (fun c => L.hv [] k (L.w k c)) j = 0 := by
      intro j
      induction j with
      | zero => rfl
      | succ j ih => unfold su; rw [ih]; rfl
    rw [this]; exact Nat.zero_le _
  | cons r l ih =>
    intro j hj
    have : ∀ j, su (fun c => L.hv (r :: l) k (L.w k c)) j = su (fun c => L.hv l k (L.w k c)) j + su (fun c => if L.w k (L.pk r k) = L.w k c then 1 else 0) j := by
      intro j
      induction j with
      | zero => rfl
      | succ j ih => unfold su; rw [ih, L.hv_c]; omega
    rw [this]
    have h1 := ih j hj
    have h2 := (one r j hj).1
    simp only [List.length_cons]
    omega
theorem bS_0 {f : Nat → Bool} {n : Nat} (hn : n ≤ 64) : bS f n = 0 ↔ ∀ i, i < n → f i = false := by
  constructor
  · intro h i hi
    have := bS_b f n hn i
    rw [h, bt_0] at this
    simp [hi] at this
    exact this
  · intro h
    apply bt_ext
    intro t ht
    rw [bS_b f n hn, bt_0]
    by_cases e : t < n
    · simp [h t e]
    · simp [e]
theorem Lt.rs_mem (L : Lt) (x : Int64) : ∀ t, (L.rs x t = [] ↔ ∀ i, i < t → bt x i = false) := by
  intro t
  induction t with
  | zero => exact ⟨fun _ i hi => by omega, fun _ => rfl⟩
  | succ t ih =>
    rw [Lt.rs]
    cases hb : bt x t with
    | true =>
      constructor
      · intro h; simp at h
      · intro h; have := h t (by omega); rw [hb] at this; cases this
    | false =>
      rw [if_neg (by decide), ih]
      constructor
      · intro h i hi
        by_cases e : i = t
        · subst e; exact hb
        · exact h i (by omega)
      · intro h i hi; exact h i (by omega)
theorem Lt.qN_0 (L : Lt) (x : Int64) : L.qN x = 0 ↔ ∀ i, i < L.C.length → bt x i = false := by
  unfold Lt.qN
  rw [List.length_eq_zero_iff, L.rs_mem]
theorem Lt.W_0 {L : Lt} (h60 : L.C.length ≤ 60) (x : Int64) (k w : Nat) : L.qW x k w = 0 ↔ L.qN (L.qW x k w) = 0 := by
  rw [L.qN_0]
  constructor
  · intro h i _; rw [h, bt_0]
  · intro h
    unfold Lt.qW
    rw [bS_0 (by omega)]
    intro i hi
    have := h i hi
    unfold Lt.qW at this
    rw [bS_b _ _ (by omega)] at this
    simp only [hi, decide_true, Bool.true_and] at this
    exact this
/-- a set that isn't empty has a part that isn't -/
theorem Lt.W_ex {L : Lt} (hL : L.Wf) (h60 : L.C.length ≤ 60) {x : Int64} (h1 : L.qN x ≠ 0) {k : Nat} (hk : k < L.n) : ∃ c, c < L.m k ∧ L.qW x k (L.w k c) ≠ 0 := by
  have : ∃ i, i < L.C.length ∧ bt x i = true := by
    apply Classical.byContradiction
    intro hn
    apply h1
    rw [L.qN_0]
    intro i hi
    cases hb : bt x i
    · rfl
    · exact (hn ⟨i, hi, hb⟩).elim
  obtain ⟨i, hi, hb⟩ := this
  refine ⟨L.pk (L.rd i) k, hL.pk_lt hk, fun z => ?_⟩
  unfold Lt.qW at z
  rw [bS_0 (by omega)] at z
  have := z i hi
  simp [hb] at this
/-- a stack of sets -/
def stk (G : gP) : List (Int64 × Nat) → Prop
  | [] => True
  | (x, d) :: r => gL G 8 r.length = x ∧ gS G 9 r.length = nI d ∧ stk G r
theorem stk.off {Z : Nat → Nat → Bool} {G G' : gP} (hO : gOff Z G G') : ∀ st : List (Int64 × Nat), (∀ k j, (k = 8 ∨ k = 9) → j < st.length → Z k j = false) → stk G st → stk G' st := by
  intro st
  induction st with
  | nil => intro _ _; trivial
  | cons p r ih =>
    rintro hz ⟨h1, h2, h3⟩
    refine ⟨?_, ?_, ih (fun k j hk hj => hz k j hk (by simp; omega)) h3⟩
    · rw [(hO 8 _ (hz _ _ (by simp) (by simp))).2.1]; exact h1
    · rw [(hO 9 _ (hz _ _ (by simp) (by simp))).1]; exact h2
noncomputable def Lt.vS (L : Lt) : List (Int64 × Nat) → Nat
  | [] => 0
  | (x, d) :: r => max (d + L.ask x) (L.vS r)
def Lt.sq (L : Lt) : List (Int64 × Nat) → Nat
  | [] => 0
  | (x, _) :: r => L.qN x + L.sq r
def Lt.stO (L : Lt) (st : List (Int64 × Nat)) : Prop := ∀ p ∈ st, 1 ≤ L.qN p.1 ∧ p.2 + L.qN p.1 ≤ L.C.length
def Lt.pt (L : Lt) (x : Int64) (k d : Nat) : Nat → List (Int64 × Nat)
  | 0 => []
  | c + 1 => if L.qW x k (L.w k c) = 0 then L.pt x k d c else (L.qW x k (L.w k c), d + 1) :: L.pt x k d c
theorem Lt.vS_app (L : Lt) : ∀ a b, L.vS (a ++ b) = max (L.vS a) (L.vS b) := by
  intro a
  induction a with
  | nil => intro b; simp [Lt.vS]
  | cons p a ih => intro b; obtain ⟨x, d⟩ := p; simp only [List.cons_append, Lt.vS]; rw [ih]; omega
theorem Lt.sq_app (L : Lt) : ∀ a b, L.sq (a ++ b) = L.sq a + L.sq b := by
  intro a
  induction a with
  | nil => intro b; simp [Lt.sq]
  | cons p a ih => intro b; obtain ⟨x, d⟩ := p; simp only [List.cons_append, Lt.sq]; rw [ih]; omega
theorem Lt.sq_len {L : Lt} : ∀ st, L.stO st → st.length ≤ L.sq st := by
  intro st
  induction st with
  | nil => intro _; exact Nat.le_refl _
  | cons p a ih =>
    intro h
    have h1 := ih (fun q hq => h q (List.mem_cons_of_mem _ hq))
    have h2 := (h p (List.mem_cons_self ..)).1
    simp only [Lt.sq, List.length_cons]; omega
theorem Lt.pt_v {L : Lt} (x : Int64) (k d : Nat) : ∀ c, ((∀ i, i < c → L.qW x k (L.w k i) = 0) → L.vS (L.pt x k d c) = 0 ∧ mx (fun c => if L.qW x k (L.w k c) = 0 then 0 else L.ask (L.qW x k (L.w k c))) c = 0) ∧
    ((∃ i, i < c ∧ L.qW x k (L.w k i) ≠ 0) → L.vS (L.pt x k d c) = d + 1 + mx (fun c => if L.qW x k (L.w k c) = 0 then 0 else L.ask (L.qW x k (L.w k c))) c) := by
  intro c
  induction c with
  | zero => exact ⟨fun _ => ⟨rfl, rfl⟩, fun ⟨i, hi, _⟩ => by omega⟩
  | succ c ih =>
    obtain ⟨ih1, ih2⟩ := ih
    constructor
    · intro h
      have := ih1 (fun i hi => h i (by omega))
      have hc := h c (by omega)
      rw [Lt.pt, if_pos hc]
      refine ⟨this.1, ?_⟩
      rw [mx, if_pos hc, this.2]; rfl
    · rintro ⟨i, hi, hne⟩
      by_cases hc : L.qW x k (L.w k c) = 0
      · have hic : i ≠ c := fun e => by subst e; exact hne hc
        rw [Lt.pt, if_pos hc, ih2 ⟨i, by omega, hne⟩, mx, if_pos hc, if_neg (Nat.not_lt_zero _)]
      · rw [Lt.pt, if_neg hc, mx, if_neg hc]
        simp only [Lt.vS]
        by_cases hex : ∃ i, i < c ∧ L.qW x k (L.w k i) ≠ 0
        · rw [ih2 hex]; split <;> omega
        · have hall : ∀ i, i < c → L.qW x k (L.w k i) = 0 := fun i hi => by
            apply Classical.byContradiction
            intro z; exact hex ⟨i, hi, z⟩
          have := ih1 hall
          rw [this.1, this.2]; split <;> omega
theorem Lt.pt_sq {L : Lt} (h60 : L.C.length ≤ 60) (x : Int64) (k d : Nat) : ∀ c, L.sq (L.pt x k d c) = su (fun c => L.hv (L.rs x L.C.length) k (L.w k c)) c := by
  intro c
  induction c with
  | zero => rfl
  | succ c ih =>
    rw [Lt.pt, su, ← L.qN_W h60]
    by_cases hc : L.qW x k (L.w k c) = 0
    · rw [if_pos hc, ih, (L.W_0 h60 _ _ _).mp hc]; rfl
    · rw [if_neg hc, Lt.sq, ih, Nat.add_comm]
theorem Lt.pt_O {L : Lt} (hL : L.Wf) (h60 : L.C.length ≤ 60) {x : Int64} {k d : Nat} (hq : L.qL x = some k) (hd : d + L.qN x ≤ L.C.length) : ∀ c, c ≤ L.m k → L.stO (L.pt x k d c) := by
  intro c
  induction c with
  | zero => intro _ p hp; cases hp
  | succ c ih =>
    intro hc
    rw [Lt.pt]
    have hk := (lk_some _ _ _ _ hq).1
    split
    · exact ih (by omega)
    · rename_i hne
      intro p hp
      rcases List.mem_cons.mp hp with rfl | hp
      · have := L.W_lt h60 hq (hL.w32 k c hk (by omega))
        have h0 : L.qN (L.qW x k (L.w k c)) ≠ 0 := fun z => hne ((L.W_0 h60 _ _ _).mpr z)
        simp only
        constructor
        · omega
        · omega
      · exact ih (by omega) p hp
/-- each pushes twice its size, less one -/
def Lt.mu (L : Lt) : List (Int64 × Nat) → Nat
  | [] => 0
  | (x, _) :: r => (2 * L.qN x - 1) + L.mu r
theorem Lt.mu_app (L : Lt) : ∀ a b, L.mu (a ++ b) = L.mu a + L.mu b := by
  intro a
  induction a with
  | nil => intro b; simp [Lt.mu]
  | cons p a ih => intro b; obtain ⟨x, d⟩ := p; simp only [List.cons_append, Lt.mu]; rw [ih]; omega
theorem Lt.mu_sq {L : Lt} : ∀ st, L.stO st → L.mu st + st.length = 2 * L.sq st := by
  intro st
  induction st with
  | nil => intro _; rfl
  | cons p a ih =>
    intro h
    have h1 := ih (fun q hq => h q (List.mem_cons_of_mem _ hq))
    have h2 := (h p (List.mem_cons_self ..)).1
    obtain ⟨x, d⟩ := p
    simp only [Lt.sq, Lt.mu, List.length_cons] at h2 ⊢; omega
theorem Lt.pt_mu {L : Lt} (hL : L.Wf) (h60 : L.C.length ≤ 60) {x : Int64} {k d : Nat} (hq : L.qL x = some k) (hd : d + L.qN x ≤ L.C.length) (h1 : 1 ≤ L.qN x) : L.mu (L.pt x k d (L.m k)) < 2 * L.qN x - 1 := by
  have hk := (lk_some _ _ _ _ hq).1
  have hO := L.pt_O hL h60 hq hd (L.m k) (Nat.le_refl _)
  have hm := L.mu_sq _ hO
  have hs := L.pt_sq h60 x k d (L.m k)
  have hb := L.su_hv hL hk (L.rs x L.C.length) (L.m k) (Nat.le_refl _)
  have hqN : (L.rs x L.C.length).length = L.qN x := rfl
  rw [← hs, hqN] at hb
  cases hp : L.pt x k d (L.m k) with
  | nil => 
    exfalso
    obtain ⟨c, hc, hne⟩ := L.W_ex hL h60 (show L.qN x ≠ 0 by omega) hk
    have : ∀ m, c < m → L.pt x k d m ≠ [] := by
      intro m
      induction m with
      | zero => intro h; omega
      | succ m ih =>
        intro h
        rw [Lt.pt]
        split
        · rename_i h0
          exact ih (by have : c ≠ m := fun e => by subst e; exact hne h0
                       omega)
        · simp
    exact this _ hc hp
  | cons p a =>
    rw [hp] at hm hb hO
    cases a with
    | nil =>
      -- one alone: it is smaller
      obtain ⟨y, e⟩ := p
      have hlt : L.qN y < L.qN x := by
        have hmem : (y, e) ∈ L.pt x k d (L.m k) := by rw [hp]; exact List.mem_cons_self ..
        have : ∀ m, m ≤ L.m k → (y, e) ∈ L.pt x k d m → L.qN y < L.qN x := by
          intro m
          induction m with
          | zero => intro _ h; cases h
          | succ m ih =>
            intro hm h
            rw [Lt.pt] at h
            split at h
            · exact ih (by omega) h
            · rcases List.mem_cons.mp h with h | h
              · cases h; exact L.W_lt h60 hq (hL.w32 k m hk (by omega))
              · exact ih (by omega) h
        exact this _ (Nat.le_refl _) hmem
      have h2 := (hO (y, e) (List.mem_cons_self ..)).1
      simp only [Lt.mu]
      simp only at h2
      omega
    | cons p2 a2 =>
      simp only [List.length_cons] at hm
      omega
