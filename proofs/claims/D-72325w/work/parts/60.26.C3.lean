/-! what is sound, by the component's checks -/
/-- what the numbers are -/
def nuP (G : gP) (ns : List Nat) : Prop := aL G 2 0 ns ∧ nsOk ns
theorem nuP.at {G : gP} {ns : List Nat} (h : nuP G ns) {j : Nat} (hj : j < ns.length) : gS G 2 j = nI (nsF ns j) := by
  have := nsF_aL h.1 hj
  rwa [Nat.zero_add] at this
theorem sound_1 (ns : List Nat) : sound 1 ns = (decide (1 < ns.length) && decide (suN (nsF ns) (ns.length - 1) = nsF ns (ns.length - 1))) := rfl
theorem sound_3 (ns : List Nat) : sound 3 ns = (decide (1 < ns.length) && decide (suN (nsF ns) (ns.length - 1) % 100 = nsF ns (ns.length - 1) % 100)) := rfl
theorem sum_ok {G : gP} {ns : List Nat} (h : nuP G ns) : Ok (gloop (f_X2_holds_15_b5 (nI ns.length) G) gFu ((0 : Int32), (0 : Int32))) (fun x => x = nI (suN (nsF ns) (ns.length - 1))) := by
  have h0 := h.2.1
  have h8 := h.2.2.1
  refine Ok.up (fun i s => s = (nI (suN (nsF ns) i), nI i)) (ns.length - 1) (by omega) ?_ ?_ rfl
  · rintro i s hi rfl
    unfold f_X2_holds_15_b5
    simp (disch := omega) only [nLit, neg_nI, nI_add, pk_mul, nI_sub1, nI_clamp, gIn_t, gck_t, gLet_e, nI_leI, nI_ltJ, nI_eq, nI_nM_eq, nM_nI_eq, nM_eq, nM_nI_le, nI_nM_le, nM_nI_lt, nI_nM_lt, at_nI, gS_at, gS_ne', obind_some, iteT, iteF, ite_p, ite_n, h.at (show i < ns.length by omega)]
    exact ⟨_, rfl, rfl⟩
  · rintro s rfl
    unfold f_X2_holds_15_b5
    simp (disch := omega) only [nLit, neg_nI, nI_add, pk_mul, nI_sub1, nI_clamp, gIn_t, gck_t, gLet_e, nI_leI, nI_ltJ, nI_eq, nI_nM_eq, nM_nI_eq, nM_eq, nM_nI_le, nI_nM_le, nM_nI_lt, nI_nM_lt, at_nI, gS_at, gS_ne', obind_some, iteT, iteF, ite_p, ite_n]
    exact ⟨_, rfl, rfl⟩
theorem total_ok {G : gP} {ns : List Nat} (h : nuP G ns) : Ok (f_X2_holds_15 G (nI ns.length)) (fun x => x = bI (sound 1 ns)) := by
  have h0 := h.2.1
  have h8 := h.2.2.1
  unfold f_X2_holds_15
  refine Ok.bind (sum_ok h) (fun x hx => ?_)
  subst hx
  unfold f_X1_holds_15 f_X2_part_15
  have hs := suN_le h.2 (ns.length - 1)
  have hf := nsF_le h.2 (ns.length - 1)
  rw [sound_1]
  simp (disch := omega) only [nLit, neg_nI, nI_add, pk_mul, nI_sub1, nI_clamp, gIn_t, gck_t, gLet_e, nI_leI, nI_ltJ, nI_eq, nI_nM_eq, nM_nI_eq, nM_eq, nM_nI_le, nI_nM_le, nM_nI_lt, nI_nM_lt, at_nI, gS_at, gS_ne', obind_some, iteT, iteF, ite_p, ite_n, h.at (show ns.length - 1 < ns.length by omega)]
  by_cases hl : 1 < ns.length
  · rw [if_neg (show ¬ ns.length - 1 ≤ 0 by omega), decide_eq_true hl]
    simp (disch := omega) only [nLit, neg_nI, nI_add, pk_mul, nI_sub1, nI_clamp, gIn_t, gck_t, gLet_e, nI_leI, nI_ltJ, nI_eq, nI_nM_eq, nM_nI_eq, nM_eq, nM_nI_le, nI_nM_le, nM_nI_lt, nI_nM_lt, at_nI, gS_at, gS_ne', obind_some, iteT, iteF, ite_p, ite_n]
    by_cases he : suN (nsF ns) (ns.length - 1) = nsF ns (ns.length - 1)
    · rw [if_pos he, decide_eq_true he]; exact ⟨_, rfl, rfl⟩
    · rw [if_neg he, decide_eq_false he]; exact ⟨_, rfl, rfl⟩
  · rw [if_pos (show ns.length - 1 ≤ 0 by omega), decide_eq_false hl]
    simp (disch := omega) only [nLit, neg_nI, nI_add, pk_mul, nI_sub1, nI_clamp, gIn_t, gck_t, gLet_e, nI_leI, nI_ltJ, nI_eq, nI_nM_eq, nM_nI_eq, nM_eq, nM_nI_le, nI_nM_le, nM_nI_lt, nI_nM_lt, at_nI, gS_at, gS_ne', obind_some, iteT, iteF, ite_p, ite_n]
    exact ⟨_, rfl, rfl⟩
theorem ending_ok {G : gP} {ns : List Nat} (h : nuP G ns) : Ok (f_X2_holds_17 G (nI ns.length)) (fun x => x = bI (sound 3 ns)) := by
  have h0 := h.2.1
  have h8 := h.2.2.1
  unfold f_X2_holds_17
  refine Ok.bind (show Ok (gloop (f_X2_holds_17_b5 (nI ns.length) G) gFu ((0 : Int32), (0 : Int32))) _ from sum_ok h) (fun x hx => ?_)
  subst hx
  unfold f_X1_holds_17 f_X4_part_17 f_X2_part_17
  have hs := suN_le h.2 (ns.length - 1)
  have hf := nsF_le h.2 (ns.length - 1)
  rw [sound_3]
  have e1 : gRem (nI (suN (nsF ns) (ns.length - 1))) (nI 100) = nI (suN (nsF ns) (ns.length - 1) % 100) := gRem_nI (by omega) (by decide) (by decide)
  have e2 : gRem (nI (nsF ns (ns.length - 1))) (nI 100) = nI (nsF ns (ns.length - 1) % 100) := gRem_nI (by omega) (by decide) (by decide)
  simp (disch := omega) only [nLit, neg_nI, nI_add, pk_mul, nI_sub1, nI_clamp, gIn_t, gck_t, gLet_e, nI_leI, nI_ltJ, nI_eq, nI_nM_eq, nM_nI_eq, nM_eq, nM_nI_le, nI_nM_le, nM_nI_lt, nI_nM_lt, at_nI, gS_at, gS_ne', obind_some, iteT, iteF, ite_p, ite_n, h.at (show ns.length - 1 < ns.length by omega), e1, e2]
  by_cases hl : 1 < ns.length
  · rw [if_neg (show ¬ ns.length - 1 ≤ 0 by omega), decide_eq_true hl]
    simp (disch := omega) only [nLit, neg_nI, nI_add, pk_mul, nI_sub1, nI_clamp, gIn_t, gck_t, gLet_e, nI_leI, nI_ltJ, nI_eq, nI_nM_eq, nM_nI_eq, nM_eq, nM_nI_le, nI_nM_le, nM_nI_lt, nI_nM_lt, at_nI, gS_at, gS_ne', obind_some, iteT, iteF, ite_p, ite_n]
    by_cases he : suN (nsF ns) (ns.length - 1) % 100 = nsF ns (ns.length - 1) % 100
    · rw [if_pos he, decide_eq_true he]; exact ⟨_, rfl, rfl⟩
    · rw [if_neg he, decide_eq_false he]; exact ⟨_, rfl, rfl⟩
  · rw [if_pos (show ns.length - 1 ≤ 0 by omega), decide_eq_false hl]
    simp (disch := omega) only [nLit, neg_nI, nI_add, pk_mul, nI_sub1, nI_clamp, gIn_t, gck_t, gLet_e, nI_leI, nI_ltJ, nI_eq, nI_nM_eq, nM_nI_eq, nM_eq, nM_nI_le, nI_nM_le, nM_nI_lt, nI_nM_lt, at_nI, gS_at, gS_ne', obind_some, iteT, iteF, ite_p, ite_n]
    exact ⟨_, rfl, rfl⟩
theorem rising_ok {G : gP} {ns : List Nat} (h : nuP G ns) : Ok (f_X3_holds_16 G (nI ns.length)) (fun x => x = bI (rsB (nsF ns) (ns.length - 1))) := by
  have h0 := h.2.1
  have h8 := h.2.2.1
  unfold f_X3_holds_16
  simp only [gLet_e]
  have e1 : f_X1_holds_16 (nI ns.length) = bI (rsB (nsF ns) 0) := by
    unfold f_X1_holds_16
    rw [if_neg (nI_nle (by omega) (by omega))]; rfl
  rw [e1]
  refine Ok.bind (Q := fun x => x = bI (rsB (nsF ns) (ns.length - 1))) ?_ (fun x hx => by subst hx; rw [bI_Z, gck_t]; exact ⟨_, rfl, rfl⟩)
  refine Ok.up (fun i s => s = (bI (rsB (nsF ns) i), nI (i + 1))) (ns.length - 1) (by omega) ?_ ?_ rfl
  · rintro i s hi rfl
    unfold f_X3_holds_16_b10
    have g1 := h.at (show i < ns.length by omega)
    have g2 := h.at (show i + 1 < ns.length by omega)
    have f1 := nsF_le h.2 i
    have f2 := nsF_le h.2 (i + 1)
    have e3 : nI (i + 1) - nI 1 = nI i := pk_sub (by omega)
    simp only
    rw [if_neg (nI_ge (show i + 1 < ns.length by omega) (by omega))]
    have e9 : rsB (nsF ns) (i + 1) = (rsB (nsF ns) i && decide (nsF ns i < nsF ns (i + 1))) := rfl
    rw [e9]
    cases hb : rsB (nsF ns) i with
    | false =>
      rw [if_pos (show bI false = 0 from rfl)]
      exact ⟨_, rfl, by simp only; rw [nI_1]; rfl⟩
    | true =>
      rw [if_neg (show ¬ bI true = 0 by decide)]
      simp (disch := omega) only [nLit, neg_nI, nI_add, pk_mul, nI_sub1, nI_clamp, gIn_t, gck_t, gLet_e, nI_leI, nI_ltJ, nI_eq, nI_nM_eq, nM_nI_eq, nM_eq, nM_nI_le, nI_nM_le, nM_nI_lt, nI_nM_lt, at_nI, gS_at, gS_ne', obind_some, iteT, iteF, ite_p, ite_n, e3, g1, g2]
      by_cases hlt : nsF ns i < nsF ns (i + 1)
      · rw [if_neg (by omega), decide_eq_true hlt]; exact ⟨_, rfl, rfl⟩
      · rw [if_pos (by omega), decide_eq_false hlt]; exact ⟨_, rfl, rfl⟩
  · rintro s rfl
    unfold f_X3_holds_16_b10
    simp only
    rw [if_pos (nI_le (show ns.length ≤ ns.length - 1 + 1 by omega) (by omega))]
    exact ⟨_, rfl, rfl⟩
theorem stB_1 (f : Nat → Nat) : stB f 1 = true := by unfold stB stB; simp
theorem steady_ok {G : gP} {ns : List Nat} (h : nuP G ns) : Ok (f_X5_holds_18 G (nI ns.length)) (fun x => x = bI (rsB (nsF ns) (ns.length - 1) && stB (nsF ns) (ns.length - 1))) := by
  have h0 := h.2.1
  have h8 := h.2.2.1
  unfold f_X5_holds_18
  refine Ok.bind (show Ok (f_X3_holds_18 G (nI ns.length)) _ from rising_ok h) (fun x hx => ?_)
  subst hx
  generalize rsB (nsF ns) (ns.length - 1) = rb
  refine Ok.bind (Q := fun x => x = bI (rb && stB (nsF ns) (ns.length - 1))) ?_ (fun x hx => by subst hx; rw [bI_Z, gck_t]; exact ⟨_, rfl, rfl⟩)
  by_cases h1 : ns.length = 1
  · refine Ok.out (r := bI rb) ?_ ?_
    · unfold f_X5_holds_18_b10
      simp only
      rw [h1, if_pos (show nI 1 ≤ 2 by decide)]
    · rw [h1]; show bI rb = bI (rb && true); rw [Bool.and_true]
  refine Ok.up (fun i s => s = (bI (rb && stB (nsF ns) (i + 1)), nI (i + 2))) (ns.length - 2) (by omega) ?_ ?_ (by rw [stB_1, Bool.and_true]; rfl)
  · rintro i s hi rfl
    unfold f_X5_holds_18_b10
    have g0 := h.at (show 0 < ns.length by omega)
    have g1 := h.at (show 1 < ns.length by omega)
    have g2 := h.at (show i + 1 < ns.length by omega)
    have g3 := h.at (show i + 2 < ns.length by omega)
    have f0 := nsF_le h.2 0
    have f1 := nsF_le h.2 1
    have f2 := nsF_le h.2 (i + 1)
    have f3 := nsF_le h.2 (i + 2)
    have e3 : nI (i + 2) - 1 = nI (i + 1) := nI_pred (i + 1)
    simp only
    rw [if_neg (nI_ge (show i + 2 < ns.length by omega) (by omega)), e3, gIn_t (by omega) (by omega), gIn_t (show i + 1 < 2 ^ 31 by omega) (by omega), gck_t, gck_t, nI_clamp (by omega), nI_clamp (show i + 1 < 2 ^ 31 by omega), g0, g1, g2, g3]
    have e9 : stB (nsF ns) (i + 1 + 1) = (stB (nsF ns) (i + 1) && decide ((nsF ns (i + 1 + 1) : Int) - (nsF ns (i + 1) : Int) = (nsF ns 1 : Int) - (nsF ns 0 : Int))) := rfl
    rw [e9, ← Bool.and_assoc, show i + 1 + 2 = i + 2 + 1 by omega]
    cases hb : (rb && stB (nsF ns) (i + 1)) with
    | false =>
      rw [if_pos (show bI false = 0 from rfl)]
      exact ⟨_, rfl, by simp only; rw [nI_1]; rfl⟩
    | true =>
      rw [if_neg (show ¬ bI true = 0 by decide)]
      by_cases hlt : (nsF ns (i + 1 + 1) : Int) - (nsF ns (i + 1) : Int) = (nsF ns 1 : Int) - (nsF ns 0 : Int)
      · rw [if_pos ((sub_iff (by omega) (by omega) (by omega) (by omega)).mpr hlt), decide_eq_true hlt]
        exact ⟨_, rfl, by simp only; rw [nI_1]; rfl⟩
      · have f3' : nsF ns (i + 1 + 1) ≤ 999999 := f3
        rw [if_neg (fun z => hlt ((sub_iff (by omega) (by omega) (by omega) (by omega)).mp z)), decide_eq_false hlt]
        exact ⟨_, rfl, by simp only; rw [nI_1]; rfl⟩
  · rintro s rfl
    unfold f_X5_holds_18_b10
    simp only
    rw [if_pos (nI_le (show ns.length ≤ ns.length - 2 + 2 by omega) (by omega))]
    refine ⟨_, rfl, ?_⟩
    simp only
    rw [show ns.length - 2 + 1 = ns.length - 1 by omega]
theorem isSound_ok {G : gP} {k : Nat} {ns : List Nat} (hk5 : k < 5) (hk : gS G 32 2 = nI k) (hm : gS G 0 5 = nI ns.length) (h : nuP G ns) : Ok (f_X12_isSound_526 G) (fun x => x = bI (sound k ns)) := by
  have h0 := h.2.1
  have h8 := h.2.2.1
  unfold f_X12_isSound_526
  rw [hk, hm, gIn_t (by omega) hk5, gck_t]
  have hc : k = 0 ∨ k = 1 ∨ k = 2 ∨ k = 3 ∨ k = 4 := by omega
  rcases hc with rfl | rfl | rfl | rfl | rfl
  · rw [if_pos (show nI 0 = 0 from rfl)]
    unfold f_X1_holds_14
    rw [if_neg (nI_nle (by omega) (by omega))]
    exact ⟨_, rfl, rfl⟩
  · rw [if_neg (by decide), if_pos (show nI 1 = 1 from rfl), obs]
    exact total_ok h
  · rw [if_neg (by decide), if_neg (by decide), if_pos (show nI 2 = 2 from rfl), obs]
    exact rising_ok h
  · rw [if_neg (by decide), if_neg (by decide), if_neg (by decide), if_pos (show nI 3 = 3 from rfl), obs]
    exact ending_ok h
  · rw [if_neg (by decide), if_neg (by decide), if_neg (by decide), if_neg (by decide), if_pos (show nI 4 = 4 from rfl), obs]
    exact steady_ok h
theorem sdP.so {L : Lt} {r : Nat} {ns : List Nat} {G : gP} (hL : L.Wf) (h : sdP L r ns G) (he : L.ev r = some ns) : Ok (f_X12_isSound_526 G) (fun x => x = bI (L.so r)) := by
  have : L.so r = sound L.kind ns := by unfold Lt.so; rw [he]
  rw [this]
  exact isSound_ok hL.k5 h.now.1.2.1 h.many ⟨h.ns, h.ok⟩
theorem snd529 : f_X12_isSound_529 = f_X12_isSound_526 := rfl
theorem snd531 : f_X12_isSound_531 = f_X12_isSound_526 := rfl
theorem snd532 : f_X12_isSound_532 = f_X12_isSound_526 := rfl
theorem snd533 : f_X12_isSound_533 = f_X12_isSound_526 := rfl
theorem snd534 : f_X12_isSound_534 = f_X12_isSound_526 := rfl
theorem sdP.lis {Z : Nat → Nat → Bool} {L : Lt} {r : Nat} {ns : List Nat} {G G' : gP} (hL : L.Wf) (h : sdP L r ns G) (hO : gOff Z G G') (hr : rSame G G') (hz : ∀ k j, k = 2 ∨ k = 4 ∨ (k = 0 ∧ j = 5) ∨ (32 ≤ k ∧ k < 58) → Z k j = false) : sdP L r ns G' :=
  ⟨h.now.q hL hO hr (fun k j a b => hz k j (Or.inr (Or.inr (Or.inr ⟨a, b⟩)))), fun k hk => by rw [(hO 4 k (hz _ _ (by omega))).1]; exact h.pk k hk, fun j v hj => by rw [(hO 2 _ (hz _ _ (by omega))).1]; exact h.ns j v hj, by rw [(hO 0 5 (hz _ _ (by omega))).1]; exact h.many, h.ok⟩
