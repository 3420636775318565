/-! the slot to look at, however many count -/
def Lt.tl (L : Lt) (l : List Nat) (k j : Nat) : Nat := l.countP (fun r => decide (L.pk r k = j))
theorem Lt.tl_s (L : Lt) (l : List Nat) (r k j : Nat) : L.tl (l ++ [r]) k j = L.tl l k j + if L.pk r k = j then 1 else 0 := by
  unfold Lt.tl
  rw [List.countP_append, List.countP_singleton]
  by_cases h : L.pk r k = j
  · rw [if_pos h, if_pos (decide_eq_true h)]
  · rw [if_neg h, if_neg (by rw [decide_eq_false h]; decide)]
theorem Lt.tl_le (L : Lt) (l : List Nat) (k j : Nat) : L.tl l k j ≤ l.length := List.countP_le_length
theorem Lt.hv_tl {L : Lt} (hL : L.Wf) {k j : Nat} (hk : k < L.n) (hj : j < L.m k) (l : List Nat) : L.hv l k (L.w k j) = L.tl l k j := by
  unfold Lt.hv Lt.tl
  congr 1
  funext r
  have hp := hL.pk_lt (r := r) hk
  by_cases e : L.pk r k = j
  · rw [e, decide_eq_true rfl, decide_eq_true rfl]
  · rw [decide_eq_false e, decide_eq_false]
    intro z
    rcases Nat.lt_or_gt_of_ne e with h | h
    · exact hL.ds k _ _ hk h hj z
    · exact hL.ds k _ _ hk h hp z.symm
theorem Lt.hv_ex {L : Lt} {l : List Nat} {k w : Nat} (h : L.hv l k w ≠ 0) : ∃ r, r ∈ l ∧ L.w k (L.pk r k) = w := by
  unfold Lt.hv at h
  have := List.countP_pos_iff.mp (Nat.pos_of_ne_zero h)
  obtain ⟨r, h1, h2⟩ := this
  exact ⟨r, h1, of_decide_eq_true h2⟩
theorem Lt.mxw {L : Lt} (hL : L.Wf) {k : Nat} (hk : k < L.n) (l : List Nat) : mx (fun j => L.hv l k (L.w k j)) (L.m k) = mx (L.hv l k) 32 := by
  apply Nat.le_antisymm
  · exact mx_le _ (fun j hj => mx_ge (L.hv l k) 32 _ (hL.w32 k j hk hj))
  · refine mx_le _ (fun w hw => ?_)
    by_cases h0 : L.hv l k w = 0
    · omega
    · obtain ⟨r, -, rfl⟩ := L.hv_ex h0
      exact mx_ge (fun j => L.hv l k (L.w k j)) _ _ (hL.pk_lt hk)
theorem Lt.mxt {L : Lt} (hL : L.Wf) {k : Nat} (hk : k < L.n) (l : List Nat) : mx (L.tl l k) 4 = mx (L.hv l k) 32 := by
  rw [← L.mxw hL hk]
  have hm := hL.m1 k hk
  apply Nat.le_antisymm
  · refine mx_le _ (fun j hj => ?_)
    by_cases h : j < L.m k
    · rw [← L.hv_tl hL hk h]
      exact mx_ge (fun j => L.hv l k (L.w k j)) _ _ h
    · have : L.tl l k j = 0 := by
        unfold Lt.tl
        rw [List.countP_eq_zero]
        intro r _ z
        have := of_decide_eq_true z
        have := hL.pk_lt (r := r) hk
        omega
      omega
  · refine mx_le _ (fun j hj => ?_)
    rw [L.hv_tl hL hk hj]
    exact mx_ge (L.tl l k) 4 j (by omega)
theorem lk_eq {f g : Nat → Nat} (all : Nat) : ∀ n, (∀ k, k < n → f k = g k) → lk f all n = lk g all n := by
  intro n
  induction n with
  | zero => intro _; rfl
  | succ n ih =>
    intro h
    show (if f n < (lk f all n).2 then (some n, f n) else lk f all n) = if g n < (lk g all n).2 then (some n, g n) else lk g all n
    rw [ih (fun k hk => h k (by omega)), h n (by omega)]
def tJ (L : Lt) (b r : Nat) (G : gP) : Prop := (gS G 531 1 = nI (L.cost b + L.slack)) ∧ (gS G 531 2 = nI (L.cl r).length) ∧ (∀ k j, k < L.n → j < 4 → gS G 10 (4 * k + j) = nI (L.tl (L.cl r) k j))
theorem tJ.most {L : Lt} {b r : Nat} {G : gP} (h : tJ L b r G) : (gS G 531 1 = nI (L.cost b + L.slack)) := h.1
theorem tJ.many {L : Lt} {b r : Nat} {G : gP} (h : tJ L b r G) : (gS G 531 2 = nI (L.cl r).length) := h.2.1
theorem tJ.tl {L : Lt} {b r : Nat} {G : gP} (h : tJ L b r G) : (∀ k j, k < L.n → j < 4 → gS G 10 (4 * k + j) = nI (L.tl (L.cl r) k j)) := h.2.2
theorem tJ.off {Z : Nat → Nat → Bool} {L : Lt} {b r : Nat} {G G' : gP} (h : tJ L b r G) (hO : gOff Z G G') (z : ∀ k j, k = 10 ∨ k = 531 → Z k j = false) : tJ L b r G' :=
  ⟨by rw [(hO 531 1 (z _ _ (by omega))).1]; exact h.most, by rw [(hO 531 2 (z _ _ (by omega))).1]; exact h.many, fun k j hk hj => by rw [(hO 10 _ (z _ _ (by omega))).1]; exact h.tl k j hk hj⟩
theorem tJ.keep {L : Lt} {b r : Nat} {G : gP} (h : tJ L b r G) (hc : L.cnt r = false) : tJ L b (r + 1) G := by
  have e := L.cl_f hc
  exact ⟨h.most, by rw [e]; exact h.many, by rw [e]; exact h.tl⟩
theorem tlb_ok {L : Lt} (hL : L.Wf) {r : Nat} {ns l : List Nat} {G : gP} (hl : l.length < 2 ^ 30) (hs : sdP L r ns G) (ht : ∀ k j, k < L.n → j < 4 → gS G 10 (4 * k + j) = nI (L.tl l k j)) : Ok (gloop (f_X15_said_b27) gFu (G, (0 : Int32))) (fun G' => gOff (fun k _ => decide (k = 10)) G G' ∧ rSame G G' ∧ ∀ k j, k < L.n → j < 4 → gS G' 10 (4 * k + j) = nI (L.tl (l ++ [r]) k j)) := by
  have h8 := hL.n8
  refine Ok.up (fun i s => s.2 = nI i ∧ gOff (fun k _ => decide (k = 10)) G s.1 ∧ rSame G s.1 ∧ (∀ k j, k < i → j < 4 → gS s.1 10 (4 * k + j) = nI (L.tl (l ++ [r]) k j)) ∧ ∀ k j, i ≤ k → k < L.n → j < 4 → gS s.1 10 (4 * k + j) = nI (L.tl l k j)) L.n (by omega) ?_ ?_ ⟨rfl, gOff.rf, rSame.rf, fun k j hk => by omega, fun k j _ hk hj => ht k j hk hj⟩
  · rintro i ⟨G1, x⟩ hi ⟨hx, hO, hr, ha, hb⟩
    simp only at hx hO hr ha hb
    subst hx
    have hs1 : sdP L r ns G1 := hs.lis hL hO hr (fun k j hk => by simp; omega)
    have hp := hL.pk_lt (r := r) hi
    have hm := hL.m1 i hi
    unfold f_X15_said_b27
    simp only
    have e4 : (4 : Int32) * nI i + nI (L.pk r i) = nI (4 * i + L.pk r i) := by rw [nI_lit 4, pk_mul, nI_add]
    rw [hs1.now.1.1, if_neg (nI_ge hi (by omega)), gIn_t (by omega) (by omega), gck_t, nI_clamp (by omega), hs1.pk i hi, e4, gIn_t (by omega) (by omega), gck_t, gck_t, nI_clamp (by omega), hb i _ (Nat.le_refl _) hi (by omega), nI_1]
    simp only [gLet_e]
    refine ⟨_, rfl, nI_1 i, hO.S1 (by simp), hr.S1, fun k j hk hj => ?_, fun k j hk hkn hj => ?_⟩
    · simp only
      rw [L.tl_s]
      by_cases e : k = i
      · subst e
        by_cases e2 : j = L.pk r k
        · subst e2; rw [gS_at, if_pos rfl]
        · rw [gS_ne (by omega), if_neg (fun z => e2 z.symm), Nat.add_zero]
          exact hb k j (Nat.le_refl _) hi hj
      · rw [gS_ne (by omega), ← L.tl_s]
        exact ha k j (by omega) hj
    · simp only
      rw [gS_ne (by omega)]
      exact hb k j (by omega) hkn hj
  · rintro ⟨G1, x⟩ ⟨hx, hO, hr, ha, hb⟩
    simp only at hx hO hr ha hb
    subst hx
    have hs1 : sdP L r ns G1 := hs.lis hL hO hr (fun k j hk => by simp; omega)
    unfold f_X15_said_b27
    simp only
    rw [hs1.now.1.1, if_pos (nI_le (Nat.le_refl _) (by omega))]
    exact ⟨_, rfl, hO, hr, fun k j hk hj => ha k j hk hj⟩
theorem tally_LS {L : Lt} (hL : L.Wf) {b : Nat} (hB : L.B = some b) : LsP L 531 (tJ L b) := by
  refine ⟨fun r ns G hr hev hJ hs => ?_, fun r G _ he hJ => hJ.keep (by unfold Lt.cnt; rw [L.so_none he]; rfl), fun r G G' hJ hO _ => hJ.off hO (fun k j hk => by simp [wZ]; omega)⟩
  unfold fSd
  rw [if_neg (by decide), if_neg (by decide), if_pos rfl]
  unfold f_X15_said
  rw [hJ.most, snd531]
  have hcr := hL.cost_le r
  have hcb := hL.cost_le b
  have hsl := hL.s20
  have hcn := L.cnt_B (r := r) hB
  have hlen := L.cl_len r
  have hN := hL.N_le
  by_cases hlt : L.cost b + L.slack < L.cost r
  · rw [if_pos (nI_lt hlt (by omega))]
    exact ⟨_, rfl, hJ.keep (by rw [hcn, decide_eq_false (by omega), Bool.and_false]), gOff.rf, rSame.rf⟩
  · rw [if_neg (nI_nlt (by omega) (by omega))]
    refine Ok.bind (hs.so hL hev) (fun y hy => ?_)
    subst hy
    cases hso : L.so r with
    | false =>
      rw [if_pos (show bI false = 0 from rfl)]
      exact ⟨_, rfl, hJ.keep (by rw [hcn, hso]; rfl), gOff.rf, rSame.rf⟩
    | true =>
      rw [if_neg (show ¬ bI true = 0 by decide)]
      simp only [gLet_e, obs]
      have hc : L.cnt r = true := by rw [hcn, hso, decide_eq_true (show L.cost r ≤ L.cost b + L.slack by omega)]; rfl
      rw [hJ.many, nI_1]
      have hO1 : gOff (fun k _ => decide (k = 531)) G (gS1 G 531 2 (nI ((L.cl r).length + 1))) := gOff.rf.S1 (by simp)
      have hr1 : rSame G (gS1 G 531 2 (nI ((L.cl r).length + 1))) := rSame.rf.S1
      have g1 : gS (gS1 G 531 2 (nI ((L.cl r).length + 1))) 531 1 = nI (L.cost b + L.slack) := by rw [gS_ne (by decide)]; exact hJ.most
      have g2 : gS (gS1 G 531 2 (nI ((L.cl r).length + 1))) 531 2 = nI ((L.cl r).length + 1) := gS_at
      generalize gS1 G 531 2 (nI ((L.cl r).length + 1)) = G1 at *
      have hs1 : sdP L r ns G1 := hs.lis hL hO1 hr1 (fun k j hk => by simp; omega)
      refine (tlb_ok hL (l := L.cl r) (by omega) hs1 (fun k j hk hj => by rw [(hO1 10 _ (by simp)).1]; exact hJ.tl k j hk hj)).imp ?_
      rintro G2 ⟨a, b', c⟩
      refine ⟨⟨?_, ?_, ?_⟩, (hO1.w (fun k j z => by simp [liZ] at z ⊢; omega)).tr (a.w (fun k j z => by simp [liZ] at z ⊢; omega)), hr1.tr b'⟩
      · rw [(a 531 1 (by simp)).1]; exact g1
      · rw [(a 531 2 (by simp)).1, g2, L.cl_t hc, List.length_append, List.length_singleton]
      · rw [L.cl_t hc]; exact c
theorem first10_LS {L : Lt} (hL : L.Wf) : LsP L 526 (fun r G => fJ L r G ∧ ∀ j, j < 32 → gS G 10 j = nI 0) := by
  refine ⟨fun r ns G hr hev hJ hsd => ?_, fun r G _ he hJ => ⟨hJ.1.skip he, hJ.2⟩, fun r G G' hJ hO _ => ⟨hJ.1.off hO (fun k j hk => by simp [wZ]; omega), fun j hj => by rw [(hO 10 j (by simp [wZ])).1]; exact hJ.2 j hj⟩⟩
  unfold fSd
  rw [if_pos rfl]
  refine (first_sd hL hev hJ.1 hsd).imp ?_
  rintro G' ⟨a, b, c⟩
  exact ⟨⟨a, fun j hj => by rw [(b 10 j (by simp [f3Z])).1]; exact hJ.2 j hj⟩, b.w (fun k j z => by simp [f3Z, liZ] at z ⊢; omega), c⟩
theorem first10 {L : Lt} {G : gP} (hL : L.Wf) (hN : xNow G L) (hK : xRk G) (hz : ∀ j, j < 32 → gS G 10 j = nI 0) : Ok (f_X0_first G) (fun G' => fJ L L.N G' ∧ qP G G' ∧ ∀ j, j < 32 → gS G' 10 j = nI 0) := by
  unfold f_X0_first
  rw [gDec_t hK, gck_t]
  simp only [gLet_e, obs]
  have hq := qP.mk13 G
  refine (listen_ok hL (first10_LS hL) (hq.now hL hN) ⟨fJ_0 G, fun j hj => ?_⟩).imp ?_
  · unfold xMk13
    rw [gS_Sa, if_neg (by decide), gS_Sa, if_neg (by decide), gS_Sa, if_neg (by decide)]; exact hz j hj
  · rintro G' ⟨a, b, c⟩
    exact ⟨a.1, hq.tr ⟨b, c⟩, a.2⟩
theorem zero_ok {G : gP} : Ok (gloop (f_X0_lookAtMany_b2) gFu (G, (0 : Int32))) (fun G' => gOff (fun k _ => decide (k = 10)) G G' ∧ rSame G G' ∧ ∀ j, j < 32 → gS G' 10 j = nI 0) := by
  refine Ok.up (fun i s => s.2 = nI i ∧ gOff (fun k _ => decide (k = 10)) G s.1 ∧ rSame G s.1 ∧ ∀ j, j < i → gS s.1 10 j = nI 0) 32 (by decide) ?_ ?_ ⟨rfl, gOff.rf, rSame.rf, fun j hj => by omega⟩
  · rintro i ⟨G1, x⟩ hi ⟨hx, hO, hr, ha⟩
    simp only at hx hO hr ha
    subst hx
    unfold f_X0_lookAtMany_b2
    simp only
    rw [if_neg (show ¬ (32 : Int32) ≤ nI i from nI_ge (b := 32) hi (by decide)), gIn_t (by omega) hi, gck_t, nI_clamp (by omega)]
    refine ⟨_, rfl, nI_1 i, hO.S1 (by simp), hr.S1, fun j hj => ?_⟩
    simp only
    by_cases e : j = i
    · subst e; rw [gS_at]; rfl
    · rw [gS_ne (by omega)]; exact ha j (by omega)
  · rintro ⟨G1, x⟩ ⟨hx, hO, hr, ha⟩
    simp only at hx hO hr ha
    subst hx
    unfold f_X0_lookAtMany_b2
    simp only
    rw [if_pos (show (32 : Int32) ≤ nI 32 by decide)]
    exact ⟨_, rfl, hO, hr, ha⟩
theorem gMax_I {a b : Nat} (ha : a < 2 ^ 31) (hb : b < 2 ^ 31) : gMax (nI a) (nI b) = nI (if a < b then b else a) := by
  unfold gMax
  by_cases h : a < b
  · rw [if_pos (nI_lt h hb), if_pos h]
  · rw [if_neg (nI_nlt (by omega) ha), if_neg h]
theorem gMin_I {a b : Nat} (ha : a < 2 ^ 31) (hb : b < 2 ^ 31) : gMin (nI a) (nI b) = nI (if b < a then b else a) := by
  unfold gMin
  by_cases h : b < a
  · rw [if_pos (nI_lt h ha), if_pos h]
  · rw [if_neg (nI_nlt (by omega) hb), if_neg h]
/-- a loop over the slots that looks for the one that parts best -/
theorem lkL {f : Int32 × Int32 × Int32 → Option ((Int32 × Int32 × Int32) ⊕ Int32)} {n all : Nat} {mo : Nat → Nat} (hn : n ≤ 8) (ha : all < 2 ^ 30) (hm : ∀ k, k < n → mo k < 2 ^ 30)
    (h1 : ∀ o l k, k < n → f (o, nI l, nI k) = some (Sum.inl ((if nI l ≤ nI (mo k) then o else nI k), gMin (nI l) (nI (mo k)), nI k + 1))) (h2 : ∀ o l, f (o, l, nI n) = some (Sum.inr o)) : Ok (gloop f gFu ((-4 : Int32), nI all, (0 : Int32))) (fun x => x = rI (lk mo all n).1) := by
  refine Ok.up (fun i s => s = (rI (lk mo all i).1, nI (lk mo all i).2, nI i)) n (by omega) ?_ ?_ rfl
  · rintro i s hi rfl
    have hl := lk_le mo all i
    have hmi := hm i hi
    refine ⟨_, h1 _ _ i hi, ?_⟩
    simp only
    rw [gMin_I (by omega) (by omega), nI_1]
    show _ = (rI (if mo i < (lk mo all i).2 then (some i, mo i) else lk mo all i).1, nI (if mo i < (lk mo all i).2 then (some i, mo i) else lk mo all i).2, nI (i + 1))
    by_cases h : mo i < (lk mo all i).2
    · rw [if_neg (nI_ge h (by omega)), if_pos h, if_pos h]; rfl
    · rw [if_pos (nI_le (by omega) (by omega)), if_neg h, if_neg h]
  · rintro s rfl
    exact ⟨_, h2 _ _, rfl⟩
theorem lookMany_ok {G : gP} {L : Lt} (hL : L.Wf) (hN : xNow G L) (hK : xRk G) {b : Nat} (hB : L.B = some b) : Ok (f_X0_lookAtMany G) (qA G (rI (lk (fun k => mx (L.hv L.C k) 32) L.C.length L.n).1)) := by
  unfold f_X0_lookAtMany
  have h8 := hL.n8
  have hNl := hL.N_le
  have hCl : L.C.length ≤ L.N := L.cl_len L.N
  refine Ok.bind zero_ok (fun G1 h1 => ?_)
  obtain ⟨hO1, hr1, hz1⟩ := h1
  have hq1 : qP G G1 := ⟨hO1.w (fun k j z => by simp [cqZ, liZ] at z ⊢; omega), hr1⟩
  have hN1 := hq1.now hL hN
  have hK1 := hK.same hr1
  refine Ok.bind (Q := fun G2 => fJ L L.N G2 ∧ qP G1 G2 ∧ ∀ j, j < 32 → gS G2 10 j = nI 0) ?_ (fun G2 h2 => ?_)
  · -- First doesn't touch the tally: it is a question with a listener of its own
    have hf := first10 hL hN1 hK1 hz1
    exact hf
  obtain ⟨hf2, hq2, hz2⟩ := h2
  have hN2 := hq2.now hL hN1
  rw [gDec_t (hK1.same hq2.2), gck_t]
  simp only [gLet_e]
  obtain ⟨b1, -⟩ := hf2.bn hB
  rw [b1, hN2.1.2.2.1, nI_add]
  have hq3 : qP G2 (xMk15 G2 (nI (L.cost b + L.slack))) := by unfold xMk15; exact ⟨gOff.rf.Sa (fun j => by simp [cqZ, liZ]), rSame.rf.Sa⟩
  have hJ0 : tJ L b 0 (xMk15 G2 (nI (L.cost b + L.slack))) := by
    unfold xMk15
    refine ⟨?_, ?_, fun k j hk hj => ?_⟩
    · rw [gS_Sa, if_pos rfl, if_pos rfl]
    · rw [gS_Sa, if_pos rfl, if_neg (by decide)]; rfl
    · rw [gS_Sa, if_neg (by decide), hz2 _ (by omega)]; rfl
  refine Ok.bind (listen_ok hL (tally_LS hL hB) (hq3.now hL hN2) hJ0) (fun G4 h4 => ?_)
  obtain ⟨hJ, hO, hr⟩ := h4
  have hq : qP G G4 := ((hq1.tr hq2).tr hq3).tr ⟨hO, hr⟩
  have hN4 := hq.now hL hN
  have hm : gS G4 531 2 = nI L.C.length := hJ.many
  have htl : ∀ k j, k < L.n → j < 4 → gS G4 10 (4 * k + j) = nI (L.tl L.C k j) := hJ.tl
  rw [hm]
  refine Ok.bind (Q := fun x => x = rI (lk (fun k => mx (L.hv L.C k) 32) L.C.length L.n).1) ?_ (fun x hx => ⟨_, rfl, hq, hx⟩)
  rw [← lk_eq (f := fun k => mx (L.tl L.C k) 4) L.C.length L.n (fun k hk => L.mxt hL hk L.C)]
  have hmx : ∀ k, mx (L.tl L.C k) 4 < 2 ^ 30 := fun k => Nat.lt_of_le_of_lt (mx_le 4 (fun j _ => L.tl_le L.C k j)) (by omega)
  refine lkL h8 (by omega) (fun k _ => hmx k) (fun o l k hk => ?_) (fun o l => ?_)
  · unfold f_X0_lookAtMany_b63
    simp only
    rw [hN4.1.1, if_neg (nI_ge hk (by omega))]
    have hin : Ok (gloop (f_X0_lookAtMany_b81 (o, nI l, nI k) G4) gFu ((0 : Int32), (0 : Int32))) (fun x => x = nI (mx (L.tl L.C k) 4)) := by
      refine Ok.up (fun i s => s = (nI (mx (L.tl L.C k) i), nI i)) 4 (by decide) ?_ ?_ rfl
      · rintro i s hi rfl
        unfold f_X0_lookAtMany_b81
        simp only
        have e4 : (4 : Int32) * nI k + nI i = nI (4 * k + i) := by rw [nI_lit 4, pk_mul, nI_add]
        have ht1 := L.tl_le L.C k i
        have hmi : mx (L.tl L.C k) i ≤ L.C.length := mx_le i (fun j _ => L.tl_le L.C k j)
        rw [if_neg (show ¬ (4 : Int32) ≤ nI i from nI_ge (b := 4) hi (by decide)), e4, gIn_t (by omega) (by omega), gck_t, nI_clamp (by omega), htl k i hk hi, gMax_I (by omega) (by omega), nI_1]
        exact ⟨_, rfl, rfl⟩
      · rintro s rfl
        unfold f_X0_lookAtMany_b81
        simp only
        rw [if_pos (show (4 : Int32) ≤ nI 4 by decide)]
        exact ⟨_, rfl, rfl⟩
    obtain ⟨y, hy, rfl⟩ := hin
    rw [hy]
    rfl
  · unfold f_X0_lookAtMany_b63
    simp only
    rw [hN4.1.1, if_pos (nI_le (Nat.le_refl _) (by omega))]
