/-! the Model: a row, a reading that is taken -/
def mRow (G : gP) (k o : Nat) (L : Lt) : Prop := gS G k o = nI L.n ∧ gS G k (o + 1) = nI L.kind ∧ gS G k (o + 2) = nI L.slack ∧ gS G k (o + 3) = nI L.draw ∧
  ∀ i, i < L.n → gS G k (o + 4 + 9 * i) = nI (L.m i) ∧ ∀ j, j < L.m i → gS G k (o + 5 + 9 * i + j) = nI (L.w i j) ∧ gS G k (o + 9 + 9 * i + j) = nI (L.c i j)
def mPk (G : gP) (n : Nat) (p : Nat → Nat) : Prop := ∀ k, k < n → gS G 2 k = nI (p k)
theorem at_nI (k : Nat) : f_X11_at (nI k) = nI (4 + 9 * k) := by
  unfold f_X11_at
  rw [nI_lit 4, nI_lit 9, pk_mul, nI_add]
/-- what a taken reading leaves -/
def mTk (G : gP) (L : Lt) (p : Nat → Nat) (ns : List Nat) : Prop := gS G 0 6 = nI ns.length ∧ aL G 4 0 ns ∧ 0 < ns.length ∧ ns.length ≤ 8
def tP (G : gP) (L : Lt) (p : Nat → Nat) (r : gP × Int32) : Prop :=
  gOff (fun k j => decide (k = 3 ∨ k = 4 ∨ (k = 0 ∧ (j = 3 ∨ j = 4 ∨ j = 6 ∨ j = 7)))) G r.1 ∧ gS r.1 0 4 = nI (L.cs p L.n) ∧
  (match L.tell p with
   | none => r.2 = 0
   | some ns => r.2 = 1 ∧ mTk r.1 L p ns)
theorem takesPicked_ok {G : gP} {L : Lt} {p : Nat → Nat} (hL : L.Wf) (hR : mRow G 1 0 L) (hp : L.pOk p) (hk : mPk G L.n p) : Ok (f_X11_takesPicked G) (tP G L p) := by
  unfold f_X11_takesPicked
  simp only [gLet]
  have h8 := hL.n8
  refine Ok.bind (Q := fun G1 => gOff (fun k j => decide (k = 3 ∨ (k = 0 ∧ (j = 3 ∨ j = 4)))) G G1 ∧ gS G1 0 4 = nI (L.cs p L.n) ∧ mWs G1 (L.wn p L.n)) ?_ (fun G1 h1 => ?_)
  · refine Ok.up (fun i s => s.2 = nI i ∧ gOff (fun k j => decide (k = 3 ∨ (k = 0 ∧ (j = 3 ∨ j = 4)))) G s.1 ∧ gS s.1 0 4 = nI (L.cs p i) ∧ gS s.1 0 3 = nI (L.wn p i).length ∧ aL s.1 3 0 (L.wn p i)) L.n (by omega) ?_ ?_ ?_
    · rintro i ⟨G1, x⟩ hi ⟨hx, hO, hc, hn, ha⟩
      simp only at hx hO hc hn ha
      subst hx
      unfold f_X11_takesPicked_b12
      simp only
      have e1 : gS G1 1 0 = nI L.n := by rw [(hO 1 0 rfl).1]; exact hR.1
      have e2 : gS G1 2 i = nI (p i) := by rw [(hO 2 i (by simp)).1]; exact hk i hi
      have hpi := hp i hi
      have hm := hL.m1 i hi
      have hr := (hR.2.2.2.2 i hi).2 (p i) hpi
      have e3 : gS G1 1 (5 + 9 * i + p i) = nI (L.w i (p i)) := by
        rw [(hO 1 _ (by simp)).1]
        have := hr.1
        rwa [Nat.zero_add] at this
      have e4 : gS G1 1 (9 + 9 * i + p i) = nI (L.c i (p i)) := by
        rw [(hO 1 _ (by simp)).1]
        have := hr.2
        rwa [Nat.zero_add] at this
      have hw := hL.w32 i (p i) hi hpi
      have hcb := hL.c10 i (p i) hi hpi
      have hcs := hL.cs_le hp i (by omega)
      rw [e1, if_neg (nI_ge hi (by omega)), gIn_nI (by omega), decide_eq_true (by omega), nI_clamp (by omega), e2, at_nI, nI_lit 1, nI_lit 5, nI_add, nI_add, nI_add, nI_add, gIn_nI (by omega), gIn_nI (by omega), decide_eq_true (by omega), decide_eq_true (by omega), nI_clamp (by omega), nI_clamp (by omega)]
      have e5 : 4 + 9 * i + 1 + p i = 5 + 9 * i + p i := by omega
      have e6 : 4 + 9 * i + 5 + p i = 9 + 9 * i + p i := by omega
      rw [e5, e6, e3, e4, hc, nI_add]
      simp only [gck, gLet, if_true]
      have hwn := L.wn_le p i
      have hcs' : L.cs p i + L.c i (p i) = L.cs p (i + 1) := rfl
      rw [hcs']
      by_cases h0 : L.w i (p i) = 0
      · rw [h0, if_pos nI_0]
        refine ⟨_, rfl, ?_⟩
        have e7 : L.wn p (i + 1) = L.wn p i := by rw [L.wn_s, if_pos h0]
        refine ⟨nI_add i 1, hO.S1 rfl, gS_at, ?_, ?_⟩
        · rw [e7, gS_ne (by decide)]; exact hn
        · rw [e7]; exact ha.S1 (Or.inl (by decide))
      · rw [if_neg (nI_ne0 (by omega) (by omega))]
        have e7 : L.wn p (i + 1) = L.wn p i ++ [L.w i (p i)] := by rw [L.wn_s, if_neg h0]
        rw [gS_ne (show ¬ (0 = 0 ∧ 3 = 4) by decide), hn, gIn_nI (by omega), decide_eq_true (by omega), nI_clamp (by omega), if_pos rfl]
        refine ⟨_, rfl, ?_⟩
        refine ⟨nI_add i 1, ((hO.S1 rfl).S1 (by simp)).S1 rfl, ?_, ?_, ?_⟩
        · rw [gS_ne (by decide), gS_ne (by omega), gS_at]
        · rw [gS_at, gS_ne (by omega), gS_ne (by decide), hn, nI_add, e7]
          apply nI_inj; simp
        · rw [e7]
          refine aL.S1 ?_ (Or.inl (by decide))
          have := (ha.S1 (a := 0) (i := 4) (v := nI (L.cs p (i + 1))) (Or.inl (by decide))).push (v := L.w i (p i))
          rwa [Nat.zero_add] at this
    · rintro ⟨G1, x⟩ ⟨hx, hO, hc, hn, ha⟩
      simp only at hx hO hc hn ha
      subst hx
      unfold f_X11_takesPicked_b12
      simp only
      have e1 : gS G1 1 0 = nI L.n := by rw [(hO 1 0 rfl).1]; exact hR.1
      rw [e1, if_pos (nI_le (Nat.le_refl _) (by omega))]
      exact ⟨_, rfl, hO, hc, hn, ha, Nat.le_trans (L.wn_le p L.n) h8, hL.wn_ok hp (Nat.le_refl _)⟩
    · refine ⟨rfl, (gOff.rf.S1 rfl).S1 rfl, ?_, ?_, ?_⟩
      · rw [gS_at]; rfl
      · rw [gS_ne (by decide), gS_at]; rfl
      · exact aL.nil
  · obtain ⟨hO, hc, hw⟩ := h1
    refine Ok.bind (isSaid_ok hw) (fun r hr => ⟨_, rfl, ?_⟩)
    obtain ⟨hO2, hr2⟩ := hr
    rw [L.tell_wn p] at hr2
    refine ⟨?_, ?_, ?_⟩
    · refine (hO.w ?_).tr (hO2.w ?_)
      · intro k j h; simp at h ⊢; omega
      · intro k j h; simp at h ⊢; omega
    · rw [(hO2 0 4 rfl).1]; exact hc
    · cases ht : L.tell p with
      | none => rw [ht] at hr2; exact hr2
      | some ns => rw [ht] at hr2; exact hr2
/-- a taken reading by its number -/
def tR (G : gP) (L : Lt) (r : Nat) (q : gP × Int32) : Prop :=
  gOff tZ G q.1 ∧ mPk q.1 L.n (L.pk r) ∧ gS q.1 0 4 = nI (L.cost r) ∧
  (match L.ev r with
   | none => q.2 = 0
   | some ns => q.2 = 1 ∧ mTk q.1 L (L.pk r) ns)
theorem mRow.off {Z : Nat → Nat → Bool} {G G' : gP} {k o : Nat} {L : Lt} (h : mRow G k o L) (hO : gOff Z G G') (hz : ∀ j, Z k j = false) : mRow G' k o L := by
  obtain ⟨h1, h2, h3, h4, h5⟩ := h
  refine ⟨?_, ?_, ?_, ?_, fun i hi => ⟨?_, fun j hj => ⟨?_, ?_⟩⟩⟩
  · rw [(hO k _ (hz _)).1]; exact h1
  · rw [(hO k _ (hz _)).1]; exact h2
  · rw [(hO k _ (hz _)).1]; exact h3
  · rw [(hO k _ (hz _)).1]; exact h4
  · rw [(hO k _ (hz _)).1]; exact (h5 i hi).1
  · rw [(hO k _ (hz _)).1]; exact ((h5 i hi).2 j hj).1
  · rw [(hO k _ (hz _)).1]; exact ((h5 i hi).2 j hj).2
theorem takes_ok {G : gP} {L : Lt} (hL : L.Wf) (hR : mRow G 1 0 L) {r : Nat} (hr : r < 2 ^ 31) : Ok (f_X11_takes G (nI r)) (tR G L r) := by
  unfold f_X11_takes
  simp only [gLet]
  have h8 := hL.n8
  refine Ok.bind (Q := fun G1 => gOff (fun k j => decide (k = 2)) G G1 ∧ mPk G1 L.n (L.pk r)) ?_ (fun G1 h1 => ?_)
  · refine Ok.up (fun i s => s.2.2 = nI (L.n - i) - 1 ∧ s.2.1 = nI (r / L.P (L.n - i)) ∧ gOff (fun k j => decide (k = 2)) G s.1 ∧ ∀ k, L.n - i ≤ k → k < L.n → gS s.1 2 k = nI (L.pk r k)) L.n (by omega) ?_ ?_ ?_
    · rintro i ⟨G1, x, y⟩ hi ⟨hy, hx, hO, hp⟩
      simp only at hy hx hO hp
      have e0 : L.n - i = (L.n - i - 1) + 1 := by omega
      have hy' : y = nI (L.n - i - 1) := by rw [hy, e0, nI_pred]; rfl
      clear hy
      generalize hk : L.n - i - 1 = k at *
      have hkn : k < L.n := by omega
      have e1 : L.n - (i + 1) = k := by omega
      rw [e0] at hx
      subst hy' hx
      unfold f_X11_takes_b11
      simp only
      have hm := hL.m1 k hkn
      have e2 : ∀ G2 : gP, gOff (fun k j => decide (k = 2)) G G2 → gS G2 1 (4 + 9 * k) = nI (L.m k) := by
        intro G2 hO2
        rw [(hO2 1 _ rfl).1]
        have := (hR.2.2.2.2 k hkn).1
        rwa [Nat.zero_add] at this
      have hd : r / L.P (k + 1) < 2 ^ 31 := Nat.lt_of_le_of_lt (Nat.div_le_self _ _) hr
      rw [if_neg (nI_pos (by omega)), at_nI, gIn_nI (by omega), decide_eq_true (by omega), nI_clamp (by omega), nI_clamp (by omega), e2 G1 hO, gNz_nI (by omega) (by omega), gIn_nI (by omega), decide_eq_true (by omega), gRem_nI hd (by omega) (by omega)]
      simp only [gck, gLet, if_true]
      rw [e2 _ (hO.S1 rfl), gNz_nI (by omega) (by omega), pk_div hd (by omega) (by omega)]
      simp only [if_true]
      refine ⟨_, rfl, ?_⟩
      simp only
      refine ⟨?_, ?_, hO.S1 rfl, ?_⟩
      · rw [Int32.sub_eq_add_neg]
      · rw [L.P_s hkn, Nat.div_div_eq_div_mul, Nat.mul_comm]
      · intro a ha1 ha2
        by_cases hak : a = k
        · subst hak; rw [gS_at]; rfl
        · rw [gS_ne (by omega)]
          exact hp a (by omega) ha2
    · rintro ⟨G1, x, y⟩ ⟨hy, hx, hO, hp⟩
      simp only at hy hx hO hp
      rw [Nat.sub_self] at hy
      unfold f_X11_takes_b11
      simp only
      rw [hy, if_pos (by decide)]
      exact ⟨_, rfl, hO, fun k hk => hp k (by omega) hk⟩
    · refine ⟨?_, ?_, gOff.rf, fun k h1 h2 => by omega⟩
      · rw [hR.1]; rfl
      · show nI r = _
        rw [Nat.sub_zero, L.P_n, Nat.div_one]
  · obtain ⟨hO, hp⟩ := h1
    refine Ok.bind (takesPicked_ok hL (hR.off hO (fun _ => rfl)) (hL.pk_ok r) hp) (fun q hq => ⟨_, rfl, ?_⟩)
    obtain ⟨hO2, hc, ht⟩ := hq
    refine ⟨?_, ?_, hc, ?_⟩
    · refine (hO.w ?_).tr (hO2.w ?_)
      · intro k j h; simp [tZ] at h ⊢; omega
      · intro k j h; simp [tZ] at h ⊢; omega
    · intro k hk
      rw [(hO2 2 k (by simp)).1]; exact hp k hk
    · exact ht
/-- how many readings there are -/
def Lt.N (L : Lt) : Nat := if L.n = 0 then 0 else L.P 0
theorem lQ_s (m : Nat → Nat) : ∀ d k, lQ m k (d + 1) = lQ m k d * m (k + d) := by
  intro d
  induction d with
  | zero => intro k; show m k * 1 = 1 * m k; omega
  | succ d ih =>
    intro k
    show m k * lQ m (k + 1) (d + 1) = m k * lQ m (k + 1) d * m (k + (d + 1))
    rw [ih (k + 1), Nat.mul_assoc]
    have e : k + 1 + d = k + (d + 1) := by omega
    rw [e]
theorem readings_ok {G : gP} {L : Lt} (hL : L.Wf) (hR : mRow G 1 0 L) : Ok (f_X11_readings G) (fun x => x = nI L.N) := by
  unfold f_X11_readings
  simp only [gLet]
  have h8 := hL.n8
  refine Ok.bind (Q := fun x => x = nI L.N) ?_ (fun x hx => ⟨_, rfl, hx⟩)
  refine Ok.up (fun i s => s.2 = nI i ∧ s.1 = if L.n = 0 then 0 else nI (lQ L.m 0 i)) L.n (by omega) ?_ ?_ ?_
  · rintro i ⟨x, y⟩ hi ⟨hy, hx⟩
    simp only at hy hx
    rw [if_neg (by omega)] at hx
    subst hy hx
    unfold f_X11_readings_b17
    simp only
    have e2 : gS G 1 (4 + 9 * i) = nI (L.m i) := by
      have := (hR.2.2.2.2 i hi).1
      rwa [Nat.zero_add] at this
    rw [hR.1, if_neg (nI_ge hi (by omega)), at_nI, gIn_nI (by omega), decide_eq_true (by omega), nI_clamp (by omega), e2, pk_mul]
    refine ⟨_, rfl, nI_1 i, ?_⟩
    simp only
    rw [if_neg (by omega), lQ_s, Nat.zero_add]
  · rintro ⟨x, y⟩ ⟨hy, hx⟩
    simp only at hy hx
    unfold f_X11_readings_b17
    simp only
    rw [hR.1, hy, if_pos (nI_le (Nat.le_refl _) (by omega))]
    refine ⟨_, rfl, ?_⟩
    simp only
    rw [hx]
    unfold Lt.N Lt.P
    by_cases h0 : L.n = 0
    · rw [if_pos h0, if_pos h0]; rfl
    · rw [if_neg h0, if_neg h0, Nat.sub_zero]
  · refine ⟨rfl, ?_⟩
    simp only
    rw [hR.1]
    by_cases h0 : L.n = 0
    · rw [h0, if_pos nI_0, if_pos rfl]
    · rw [if_neg (nI_ne0 (by omega) (by omega)), if_neg h0]; rfl
