/-! sets of those that count: with, mostAlike, look, isSettled, ask -/
/-- what the questions read -/
def kS (L : Lt) (G : gP) : Prop := (xNow G L) ∧ (gS G 529 2 = nI L.C.length) ∧ (∀ t, t < L.C.length → akP L G t (L.rd t))
theorem kS.now {L : Lt} {G : gP} (h : kS L G) : (xNow G L) := h.1
theorem kS.many {L : Lt} {G : gP} (h : kS L G) : (gS G 529 2 = nI L.C.length) := h.2.1
theorem kS.asked {L : Lt} {G : gP} (h : kS L G) : (∀ t, t < L.C.length → akP L G t (L.rd t)) := h.2.2
theorem kS.of {L : Lt} {wt : Int32} {G : gP} (h : kJ L wt L.N G) (hN : xNow G L) (h60 : L.C.length ≤ 60) : kS L G :=
  ⟨hN, h.many, fun t ht => h.asked t _ (by omega) (L.rd_C ht)⟩
theorem with_ok {L : Lt} {G : gP} (hL : L.Wf) (hS : kS L G) (h60 : L.C.length ≤ 60) (x : Int64) {k w : Nat} (hk : k < L.n) (hw : w < 32) : Ok (f_X14_with G x (nI k) (nI w)) (fun y => y = L.qW x k w) := by
  have h8 := hL.n8
  unfold f_X14_with
  rw [obs]
  refine Ok.up (fun t s => s = (bS (fun t => bt x t && decide (L.w k (L.pk (L.rd t) k) = w)) t, nI t)) L.C.length (by omega) ?_ ?_ rfl
  · rintro t s ht rfl
    unfold f_X14_with_b6
    simp only
    have hp := hL.pk_lt (r := L.rd t) hk
    have hwt := hL.w32 k _ hk hp
    have e8 : (8 : Int32) * nI t + nI k = nI (8 * t + k) := by rw [nI_lit 8, pk_mul, nI_add]
    rw [hS.many, if_neg (nI_ge ht (by omega)), e8, gIn_t (by omega) (by omega), gck_t, nI_clamp (by omega), (hS.asked t ht).2 k hk]
    have hval : (if gShrL x (nI t) &&& 1 = 1 then if nI (L.w k (L.pk (L.rd t) k)) = nI w then some (gShlL 1 (nI t)) else some 0 else some 0) = some (if (bt x t && decide (L.w k (L.pk (L.rd t) k) = w)) = true then gShlL 1 (nI t) else 0) := by
      cases hb : bt x t with
      | false => rw [if_neg (fun z => by rw [tst_1 x (by omega), hb] at z; cases z)]; rfl
      | true =>
        rw [if_pos ((tst_1 x (by omega)).mpr hb), Bool.true_and]
        by_cases e : L.w k (L.pk (L.rd t) k) = w
        · rw [if_pos (nI_inj e), decide_eq_true e]; rfl
        · rw [if_neg (fun z => e ((nI_eq (by omega) (by omega)).mp z)), decide_eq_false e]; rfl
    rw [hval]
    exact ⟨_, rfl, by simp only [gLet_e]; rw [nI_1]; rfl⟩
  · rintro s rfl
    unfold f_X14_with_b6
    simp only
    rw [hS.many, if_pos (nI_le (Nat.le_refl _) (by omega))]
    exact ⟨_, rfl, rfl⟩
/-- a set of those that count -/
def Lt.sub (L : Lt) (x : Int64) : Prop := ∀ t, t < 64 → bt x t = true → t < L.C.length
theorem Lt.rs_su (L : Lt) (x : Int64) : ∀ t, (L.rs x t).length = su (fun j => if bt x j = true then 1 else 0) t := by
  intro t
  induction t with
  | zero => rfl
  | succ t ih =>
    show (if bt x t = true then L.rs x t ++ [L.rd t] else L.rs x t).length = su _ t + if bt x t = true then 1 else 0
    by_cases h : bt x t = true
    · rw [if_pos h, if_pos h, List.length_append, List.length_singleton, ih]
    · rw [if_neg h, if_neg h, ih, Nat.add_zero]
theorem su_z {f : Nat → Nat} (m : Nat) : ∀ n, (∀ k, m ≤ k → k < m + n → f k = 0) → su f (m + n) = su f m := by
  intro n
  induction n with
  | zero => intro _; rfl
  | succ n ih =>
    intro h
    show su f (m + n) + f (m + n) = _
    rw [ih (fun k h1 h2 => h k h1 (by omega)), h (m + n) (by omega) (by omega), Nat.add_zero]
theorem Lt.bits_qN {L : Lt} (h60 : L.C.length ≤ 60) {x : Int64} (hs : L.sub x) : f_J2_bitCount x = nI (L.qN x) := by
  rw [bitCount_nB]
  unfold Lt.qN
  rw [L.rs_su]
  apply nI_inj
  show su (fun j => if (lV x).testBit j = true then 1 else 0) 64 = _
  have : (64 : Nat) = L.C.length + (64 - L.C.length) := by omega
  rw [this, su_z]
  · rfl
  · intro k h1 h2
    have : (lV x).testBit k = false := by
      cases hb : (lV x).testBit k with
      | false => rfl
      | true => have := hs k (by omega) hb; omega
    rw [this]; rfl
theorem Lt.W_sub {L : Lt} (h60 : L.C.length ≤ 60) (x : Int64) (k w : Nat) : L.sub (L.qW x k w) := by
  intro t _ h
  unfold Lt.qW at h
  rw [bS_b _ _ (by omega), Bool.and_eq_true] at h
  exact of_decide_eq_true h.1
theorem alike1_ok {L : Lt} {G : gP} (hL : L.Wf) (hS : kS L G) (h60 : L.C.length ≤ 60) (x : Int64) {k : Nat} (hk : k < L.n) : Ok (f_X14_mostAlike G x (nI k)) (fun y => y = nI (L.mo x k)) := by
  have h8 := hL.n8
  have hm := hL.m1 k hk
  unfold f_X14_mostAlike Lt.mo
  rw [obs, ← L.mxw hL hk]
  refine Ok.up (fun j s => s = (nI (mx (fun j => L.hv (L.rs x L.C.length) k (L.w k j)) j), nI j)) (L.m k) (by omega) ?_ ?_ rfl
  · rintro j s hj rfl
    unfold f_X14_mostAlike_b6
    simp only
    have hsl := hS.now.1.2.2.2.2 k hk
    have hwj := hL.w32 k j hk hj
    rw [gIn_t (by omega) (by omega), gck_t, nI_clamp (by omega), hS.now.2.ref0 (by omega)]
    simp only [obind_some]
    rw [hsl.1, if_neg (nI_ge hj (by omega)), gck_t, gIn_t (by omega) (by omega), gck_t, nI_clamp (by omega), (hsl.2 j hj).1]
    refine Ok.bind (with_ok hL hS h60 x hk hwj) (fun y hy => ?_)
    subst hy
    rw [L.bits_qN h60 (L.W_sub h60 x k _), L.qN_W h60]
    have hb : ∀ j, L.hv (L.rs x L.C.length) k (L.w k j) ≤ 60 := fun j => Nat.le_trans (L.hv_le _ _ _) (Nat.le_trans (L.rs_len x _) h60)
    have hmx : mx (fun j => L.hv (L.rs x L.C.length) k (L.w k j)) j ≤ 60 := mx_le j (fun i _ => hb i)
    have hbj := hb j
    rw [gMax_I (by omega) (by omega), nI_1]
    exact ⟨_, rfl, rfl⟩
  · rintro s rfl
    unfold f_X14_mostAlike_b6
    simp only
    have hsl := hS.now.1.2.2.2.2 k hk
    rw [gIn_t (by omega) (by omega), gck_t, nI_clamp (by omega), hS.now.2.ref0 (by omega)]
    simp only [obind_some]
    rw [hsl.1, if_pos (nI_le (Nat.le_refl _) (by omega))]
    exact ⟨_, rfl, rfl⟩
theorem lookS_ok {L : Lt} {G : gP} (hL : L.Wf) (hS : kS L G) (h60 : L.C.length ≤ 60) {x : Int64} (hs : L.sub x) : Ok (f_X14_look G x) (fun y => y = rI (L.qL x)) := by
  have h8 := hL.n8
  unfold f_X14_look Lt.qL
  rw [L.bits_qN h60 hs]
  simp only [gLet_e, obs]
  have hqn : L.qN x ≤ 60 := Nat.le_trans (L.qN_le x) h60
  have hmo : ∀ k, L.mo x k ≤ 60 := fun k => mx_le 32 (fun w _ => Nat.le_trans (L.hv_le _ _ _) (Nat.le_trans (L.rs_len x _) h60))
  refine lkL h8 (by omega) (fun k _ => by have := hmo k; omega) (fun o l k hk => ?_) (fun o l => ?_)
  · unfold f_X14_look_b12
    simp only
    rw [hS.now.1.1, if_neg (nI_ge hk (by omega))]
    obtain ⟨y, hy, rfl⟩ := alike1_ok hL hS h60 x hk
    rw [hy]
    rfl
  · unfold f_X14_look_b12
    simp only
    rw [hS.now.1.1, if_pos (nI_le (Nat.le_refl _) (by omega))]
theorem areSame_ok {L : Lt} {G : gP} (hS : kS L G) (h60 : L.C.length ≤ 60) {i j : Nat} (hi : i < L.C.length) (hj : j < L.C.length) : f_X14_areSame G (nI i) (nI j) = some (bI (decide (L.ev (L.rd i) = L.ev (L.rd j)))) := by
  obtain ⟨⟨a, a1, a2, a3, a4⟩, -⟩ := hS.asked i hi
  obtain ⟨⟨b, b1, b2, b3, b4⟩, -⟩ := hS.asked j hj
  have la := a2.2.1
  have lb := b2.2.1
  unfold f_X14_areSame
  rw [gIn_t (by omega) (by omega), gck_t, gIn_t (by omega) (by omega), gck_t, nI_clamp (by omega), nI_clamp (by omega), a3, b3]
  have e0 : (if nI a.length = nI b.length then (1 : Int32) else 0) = bI (decide (a.length = b.length)) := ite_I (by omega) (by omega)
  rw [e0]
  simp only [gLet_e]
  have hl := cmpL (f := f_X14_areSame_b30 (nI i) (nI j) G) (a := 0) (N := 8) (c := fun k => decide (nsF a k = nsF b k)) (by omega) (fun bb k hk => ?_) (fun bb => ?_) (decide (a.length = b.length))
  · obtain ⟨y, hy, rfl⟩ := hl
    rw [show (0 : Int32) = nI 0 from rfl, hy]
    show gck (gZ (bI _)) (some (bI _)) = _
    rw [bI_Z, gck_t, a1, b1]
    congr 2
    by_cases e : a = b
    · subst e
      rw [decide_eq_true rfl, decide_eq_true rfl, (allB_iff _ _).mpr (fun k _ => decide_eq_true rfl)]; rfl
    · rw [decide_eq_false (show ¬ some a = some b from fun z => e (Option.some.inj z))]
      cases hc : (decide (a.length = b.length) && allB (fun k => decide (nsF a k = nsF b k)) 8) with
      | false => rfl
      | true =>
        rw [Bool.and_eq_true] at hc
        exact (e (ns_ext (of_decide_eq_true hc.1) (fun k hk => of_decide_eq_true ((allB_iff _ _).mp hc.2 k (by omega))))).elim
  · rw [Nat.zero_add]
    unfold f_X14_areSame_b30
    simp only
    have e8 : ∀ t : Nat, (8 : Int32) * nI t + nI k = nI (8 * t + k) := fun t => by rw [nI_lit 8, pk_mul, nI_add]
    rw [if_neg (show ¬ (8 : Int32) ≤ nI k from nI_ge (b := 8) hk (by decide))]
    cases bb
    · rw [if_pos (show bI false = 0 from rfl), if_neg (by decide)]
    · have f4 := nsF_le a2 k
      have f5 := nsF_le b2 k
      rw [if_neg (show ¬ bI true = 0 by decide), e8, e8, gIn_t (by omega) (by omega), gck_t, gIn_t (by omega) (by omega), gck_t, nI_clamp (by omega), nI_clamp (by omega), a4 k hk, b4 k hk, if_pos rfl, nI_1]
      by_cases e : nsF a k = nsF b k
      · rw [if_pos (nI_inj e), decide_eq_true e]; rfl
      · rw [if_neg (fun z => e ((nI_eq (by omega) (by omega)).mp z)), decide_eq_false e]; rfl
  · unfold f_X14_areSame_b30
    simp only
    rw [if_pos (show (8 : Int32) ≤ nI (0 + 8) by decide)]
