/-! loops that compare; the listeners Weight and Next -/
def allB (c : Nat → Bool) : Nat → Bool
  | 0 => true
  | k + 1 => allB c k && c k
theorem allB_iff (c : Nat → Bool) : ∀ N, allB c N = true ↔ ∀ k, k < N → c k = true := by
  intro N
  induction N with
  | zero => exact ⟨fun _ k hk => by omega, fun _ => rfl⟩
  | succ N ih =>
    show (allB c N && c N) = true ↔ _
    rw [Bool.and_eq_true, ih]
    refine ⟨fun h k hk => ?_, fun h => ⟨fun k hk => h k (by omega), h N (by omega)⟩⟩
    by_cases e : k = N
    · subst e; exact h.2
    · exact h.1 k (by omega)
theorem cmpL {f : Int32 × Int32 → Option ((Int32 × Int32) ⊕ Int32)} {a N : Nat} {c : Nat → Bool} (hN : a + N < 2 ^ 30) (h1 : ∀ b k, k < N → f (bI b, nI (a + k)) = some (if b = true then Sum.inl (bI (c k), nI (a + k + 1)) else Sum.inr (bI b))) (h2 : ∀ b, f (bI b, nI (a + N)) = some (Sum.inr (bI b))) (s0 : Bool) : Ok (gloop f gFu (bI s0, nI a)) (fun x => x = bI (s0 && allB c N)) := by
  refine Ok.loop (fun n s => ∃ k b, n + k = N ∧ s = (bI b, nI (a + k)) ∧ b = (s0 && allB c k)) ?_ gFu N _ (by unfold gFu; omega) ⟨0, s0, rfl, rfl, by show s0 = (s0 && true); rw [Bool.and_true]⟩
  rintro n s ⟨k, b, hk, rfl, hb⟩
  cases n with
  | zero =>
    have e : k = N := by omega
    subst e
    exact ⟨_, h2 b, by simp only; rw [hb]⟩
  | succ n =>
    refine ⟨_, h1 b k (by omega), ?_⟩
    cases hbb : b with
    | false =>
      rw [if_neg (by decide)]
      simp only
      rw [hbb] at hb
      congr 1
      cases hs : s0 with
      | false => rfl
      | true =>
        rw [hs, Bool.true_and] at hb
        rw [Bool.true_and]
        cases hA : allB c N with
        | false => rfl
        | true =>
          exfalso
          have := (allB_iff c k).mpr (fun j hj => (allB_iff c N).mp hA j (by omega))
          rw [this] at hb; cases hb
    | true =>
      rw [if_pos rfl]
      simp only
      rw [hbb] at hb
      refine ⟨n, by omega, k + 1, c k, by omega, rfl, ?_⟩
      show c k = (s0 && (allB c k && c k))
      rw [← Bool.and_assoc, ← hb, Bool.true_and]
theorem alike_all (a b : List Nat) (n : Nat) : alike a b n = (decide (a.length = b.length) && allB (fun k => decide (nsF a k = nsF b k)) n) := by
  have h1 := alike_iff a b n
  have h2 := allB_iff (fun k => decide (nsF a k = nsF b k)) n
  cases hx : alike a b n with
  | true =>
    have := h1.mp hx
    rw [decide_eq_true this.1, h2.mpr (fun k hk => decide_eq_true (this.2 k hk))]; rfl
  | false =>
    cases hy : (decide (a.length = b.length) && allB (fun k => decide (nsF a k = nsF b k)) n) with
    | false => rfl
    | true =>
      rw [Bool.and_eq_true] at hy
      have := h1.mpr ⟨of_decide_eq_true hy.1, fun k hk => of_decide_eq_true (h2.mp hy.2 k hk)⟩
      rw [this] at hx; cases hx
theorem isSame_ok {G : gP} {a b : List Nat} (ha : nsOk a) (hb : nsOk b) (h5 : gS G 0 5 = nI a.length) (h6 : gS G 526 6 = nI b.length) (h2 : aL G 2 0 a) (h8 : aL G 528 0 b) : Ok (f_X13_isSame G) (fun x => x = bI (decide (a = b))) := by
  have la := ha.2.1
  have lb := hb.2.1
  unfold f_X13_isSame
  simp only [gLet_e]
  rw [h5, h6]
  have e0 : (if nI a.length = nI b.length then (1 : Int32) else 0) = bI (decide (a.length = b.length)) := ite_I (by omega) (by omega)
  rw [e0]
  refine Ok.bind (Q := fun x => x = bI (decide (a = b))) ?_ (fun x hx => by subst hx; rw [bI_Z, gck_t]; exact ⟨_, rfl, rfl⟩)
  by_cases hl : a.length = b.length
  · rw [decide_eq_true hl, ← alike_eq (a := a) (b := b) (Or.inr trivial), alike_all, decide_eq_true hl, ← hl]
    refine cmpL (a := 0) (N := a.length) (c := fun k => decide (nsF a k = nsF b k)) (by omega) (fun bb k hk => ?_) (fun bb => ?_) true
    · rw [Nat.zero_add]
      unfold f_X13_isSame_b22
      simp only
      rw [h5, if_neg (nI_ge hk (by omega))]
      cases bb
      · rw [if_pos (show bI false = 0 from rfl), if_neg (by decide)]
      · have g2 := nsF_aL h2 hk
        have g8 := nsF_aL h8 (j := k) (by omega)
        rw [Nat.zero_add] at g2 g8
        have f4 := nsF_le ha k
        have f5 := nsF_le hb k
        rw [if_neg (show ¬ bI true = 0 by decide), gIn_t (by omega) (by omega), gck_t, gck_t, nI_clamp (by omega), g2, g8, if_pos rfl, nI_1]
        by_cases e : nsF a k = nsF b k
        · rw [if_pos (nI_inj e), decide_eq_true e]; rfl
        · rw [if_neg (fun z => e ((nI_eq (by omega) (by omega)).mp z)), decide_eq_false e]; rfl
    · rw [Nat.zero_add]
      unfold f_X13_isSame_b22
      simp only
      rw [h5, if_pos (nI_le (Nat.le_refl _) (by omega))]
  · have : decide (a = b) = false := decide_eq_false (fun e => hl (by rw [e]))
    rw [this, decide_eq_false hl]
    have h0 := ha.1
    refine Ok.out (r := bI false) ?_ rfl
    unfold f_X13_isSame_b22
    simp only
    rw [h5, if_neg (show ¬ nI a.length ≤ 0 from nI_nle (by omega) (by omega)), if_pos (show bI false = 0 from rfl)]
/-- the next cost -/
def nJ (L : Lt) (r : Nat) (G : gP) : Prop := (fJ L L.N G) ∧ (gS G 532 2 = nI (if L.nx r = 9999 then 1000000 else L.nx r))
theorem nJ.f {L : Lt} {r : Nat} {G : gP} (h : nJ L r G) : (fJ L L.N G) := h.1
theorem nJ.nx {L : Lt} {r : Nat} {G : gP} (h : nJ L r G) : (gS G 532 2 = nI (if L.nx r = 9999 then 1000000 else L.nx r)) := h.2
theorem Lt.nx_f {L : Lt} {r : Nat} (h : ¬ (L.so r = true ∧ L.cost r < L.nx r ∧ L.ev r ≠ L.evO L.B)) : L.nx (r + 1) = L.nx r := by
  show (if _ then _ else _) = _
  rw [if_neg h]
theorem Lt.nx_t {L : Lt} {r : Nat} (h : L.so r = true ∧ L.cost r < L.nx r ∧ L.ev r ≠ L.evO L.B) : L.nx (r + 1) = L.cost r := by
  show (if _ then _ else _) = _
  rw [if_pos h]
theorem nJ.keep {L : Lt} {r : Nat} {G : gP} (h : nJ L r G) (hc : ¬ (L.so r = true ∧ L.cost r < L.nx r ∧ L.ev r ≠ L.evO L.B)) : nJ L (r + 1) G := ⟨h.f, by rw [L.nx_f hc]; exact h.nx⟩
theorem next_LS {L : Lt} (hL : L.Wf) : LsP L 532 (nJ L) := by
  refine ⟨fun r ns G hr hev hJ hs => ?_, fun r G _ he hJ => hJ.keep (fun z => by rw [L.so_none he] at z; cases z.1), fun r G G' hJ hO _ => ⟨hJ.f.off hO (fun k j hk => by simp [wZ]; omega), by rw [(hO 532 2 (by simp [wZ])).1]; exact hJ.nx⟩⟩
  unfold fSd
  rw [if_neg (by decide), if_neg (by decide), if_neg (by decide), if_pos rfl]
  unfold f_X16_said
  rw [hJ.nx, snd532]
  have hcr := hL.cost_le r
  have hnx := L.nx_le hL r
  by_cases hlt : L.cost r < L.nx r
  · rw [if_neg (show ¬ nI (if L.nx r = 9999 then 1000000 else L.nx r) ≤ nI (L.cost r) from nI_ge (by split <;> omega) (by split <;> omega))]
    refine Ok.bind (hs.so hL hev) (fun y hy => ?_)
    subst hy
    cases hso : L.so r with
    | false =>
      rw [if_pos (show bI false = 0 from rfl)]
      exact ⟨_, rfl, hJ.keep (fun z => by rw [hso] at z; cases z.1), gOff.rf, rSame.rf⟩
    | true =>
      rw [if_neg (show ¬ bI true = 0 by decide)]
      cases hB : L.B with
      | none => rw [hL.none_so L.N hB r hr] at hso; cases hso
      | some b =>
        obtain ⟨b1, b2, b3, b4, b5, b6⟩ := hJ.f.bn hB
        refine Ok.bind (isSame_ok hs.ok b5 hs.many b3 hs.ns b4) (fun y hy => ?_)
        subst hy
        have hevB : L.evO L.B = some L.bn := by unfold Lt.evO; rw [hB]; exact b6
        by_cases he : ns = L.bn
        · rw [decide_eq_true he, if_neg (show ¬ bI true = 0 by decide)]
          exact ⟨_, rfl, hJ.keep (fun z => z.2.2 (by rw [hev, hevB, he])), gOff.rf, rSame.rf⟩
        · rw [decide_eq_false he, if_pos (show bI false = 0 from rfl)]
          refine ⟨_, rfl, ⟨hJ.f.off (Z := fun k _ => decide (k = 532)) (gOff.rf.S1 (by simp)) (fun k j hk => by simp; omega), ?_⟩, gOff.rf.S1 (by simp [liZ]), rSame.rf.S1⟩
          rw [gS_at, L.nx_t ⟨hso, hlt, by rw [hev, hevB]; intro z; cases z; exact he rfl⟩, if_neg (by omega)]
  · rw [if_pos (show nI (if L.nx r = 9999 then 1000000 else L.nx r) ≤ nI (L.cost r) from by rw [if_neg (by omega)]; exact nI_le (by omega) (by omega))]
    exact ⟨_, rfl, hJ.keep (fun z => hlt z.2.1), gOff.rf, rSame.rf⟩
theorem xnext_ok {G : gP} {L : Lt} (hL : L.Wf) (hN : xNow G L) (hK : xRk G) : Ok (f_X0_nextCost G) (qA G (if L.nx L.N = 9999 then -4 else nI (L.nx L.N))) := by
  unfold f_X0_nextCost
  refine Ok.bind (first_ok hL hN hK) (fun G1 h1 => ?_)
  obtain ⟨hf1, hq1⟩ := h1
  rw [gDec_t (hK.same hq1.2), gck_t]
  simp only [gLet_e]
  have hq2 : qP G1 (xMk16 G1) := by unfold xMk16; exact ⟨gOff.rf.Sa (fun j => by simp [cqZ, liZ]), rSame.rf.Sa⟩
  have hJ0 : nJ L 0 (xMk16 G1) := by
    refine ⟨?_, ?_⟩
    · unfold xMk16
      exact hf1.off (Z := fun k _ => decide (k = 532)) (gOff.rf.Sa (fun j => by simp)) (fun k j hk => by simp; omega)
    · unfold xMk16
      rw [gS_Sa, if_pos rfl, if_pos rfl]
      rfl
  refine Ok.bind (listen_ok hL (next_LS hL) (hq2.now hL (hq1.now hL hN)) hJ0) (fun G2 h2 => ?_)
  obtain ⟨hJ, hO, hr⟩ := h2
  have hq : qP G G2 := (hq1.tr hq2).tr ⟨hO, hr⟩
  rw [hJ.nx]
  have hnx := L.nx_le hL L.N
  by_cases h9 : L.nx L.N = 9999
  · rw [if_pos h9, if_pos h9, if_pos (show (1000000 : Int32) ≤ nI 1000000 by decide)]
    exact ⟨_, rfl, hq, rfl⟩
  · rw [if_neg h9, if_neg h9, if_neg (show ¬ (1000000 : Int32) ≤ nI (L.nx L.N) from nI_ge (b := 1000000) (by omega) (by decide))]
    exact ⟨_, rfl, hq, rfl⟩
/-- weights -/
def wJ (L : Lt) (v : Nat) (r : Nat) (G : gP) : Prop := (gS G 534 1 = nI v) ∧ (gL G 534 3 = iL (L.wB r)) ∧ (gL G 534 2 = iL (L.wA v r))
theorem wJ.v {L : Lt} {v : Nat} {r : Nat} {G : gP} (h : wJ L v r G) : (gS G 534 1 = nI v) := h.1
theorem wJ.al {L : Lt} {v : Nat} {r : Nat} {G : gP} (h : wJ L v r G) : (gL G 534 3 = iL (L.wB r)) := h.2.1
theorem wJ.so {L : Lt} {v : Nat} {r : Nat} {G : gP} (h : wJ L v r G) : (gL G 534 2 = iL (L.wA v r)) := h.2.2
theorem weight_ok {L : Lt} (hL : L.Wf) {r : Nat} {ns : List Nat} {G : gP} (hs : sdP L r ns G) : Ok (gloop (f_X18_said_b12 G) gFu ((1 : Int64), (0 : Int32))) (fun x => x = iL (L.wt (L.pk r) L.n)) := by
  have h8 := hL.n8
  refine Ok.up (fun i s => s = (iL (L.wt (L.pk r) i), nI i)) L.n (by omega) ?_ ?_ rfl
  · rintro i s hi rfl
    unfold f_X18_said_b12
    have hp := hL.pk_lt (r := r) hi
    have hm := hL.m1 i hi
    have hc := hL.c10 i _ hi hp
    simp only
    rw [hs.now.1.1, if_neg (nI_ge hi (by omega)), gIn_t (by omega) (by omega), gck_t, nI_clamp (by omega), hs.now.2.ref0 (by omega)]
    simp only [obind_some]
    rw [gck_t, hs.pk i hi, gIn_t (by omega) (by omega), gck_t, nI_clamp (by omega), ((hs.now.1.2.2.2.2 i hi).2 _ hp).2, c10_L hc, iL_mul]
    exact ⟨_, rfl, by simp only; rw [nI_1]; rfl⟩
  · rintro s rfl
    unfold f_X18_said_b12
    simp only
    rw [hs.now.1.1, if_pos (nI_le (Nat.le_refl _) (by omega))]
    exact ⟨_, rfl, rfl⟩
theorem weight_LS {L : Lt} (hL : L.Wf) {v : Nat} (hv : v < 1000000) : LsP L 534 (wJ L v) := by
  have keep : ∀ r G, L.so r = false → wJ L v r G → wJ L v (r + 1) G := by
    intro r G hso h
    refine ⟨h.v, ?_, ?_⟩
    · show _ = iL (if L.so r = true then _ else _)
      rw [if_neg (by rw [hso]; decide)]; exact h.al
    · show _ = iL (if L.so r = true ∧ _ then _ else _)
      rw [if_neg (fun z => by rw [hso] at z; cases z.1)]; exact h.so
  refine ⟨fun r ns G hr hev hJ hs => ?_, fun r G _ he hJ => keep r G (L.so_none he) hJ, fun r G G' hJ hO _ => ⟨by rw [(hO 534 1 (by simp [wZ])).1]; exact hJ.v, by rw [(hO 534 3 (by simp [wZ])).2.1]; exact hJ.al, by rw [(hO 534 2 (by simp [wZ])).2.1]; exact hJ.so⟩⟩
  unfold fSd
  rw [if_neg (by decide), if_neg (by decide), if_neg (by decide), if_neg (by decide), if_neg (by decide), if_pos rfl]
  unfold f_X18_said
  rw [snd534]
  refine Ok.bind (hs.so hL hev) (fun y hy => ?_)
  subst hy
  cases hso : L.so r with
  | false =>
    rw [if_pos (show bI false = 0 from rfl)]
    exact ⟨_, rfl, keep r G hso hJ, gOff.rf, rSame.rf⟩
  | true =>
    rw [if_neg (show ¬ bI true = 0 by decide)]
    refine Ok.bind (weight_ok hL hs) (fun x hx => ?_)
    subst hx
    have hok := hs.ok
    have h0 := hok.1
    have h8 := hok.2.1
    have hl := L.lst_ns hev
    have hlb := nsF_le hok (ns.length - 1)
    have e5 : ∀ X : gP, gS X 0 5 = nI ns.length → gS X 0 5 - 1 = nI (ns.length - 1) := fun X h => by rw [h, nI_lit 1, pk_sub h0]
    have g2 := nsF_aL hs.ns (show ns.length - 1 < ns.length by omega)
    rw [Nat.zero_add, ← hl] at g2
    have hwB : L.wB (r + 1) = L.wB r + L.wt (L.pk r) L.n := by show (if L.so r = true then _ else _) = _; rw [if_pos hso]
    simp only [gLet_e]
    rw [e5 _ (by rw [gS_L1]; exact hs.many), gIn_t (by omega) (by omega), gck_t, nI_clamp (by omega), gS_L1, gS_L1, g2, hJ.v, gL_L1, if_neg (show ¬ (534 = 534 ∧ 2 = 3) by decide), hJ.al, hJ.so, iL_add, iL_add, ← hwB]
    have hO : ∀ w : Int64, gOff liZ G (gL1 (gL1 G 534 3 (iL (L.wB (r + 1)))) 534 2 w) := fun w => (gOff.rf.L1 (by simp [liZ])).L1 (by simp [liZ])
    have hR : ∀ w : Int64, rSame G (gL1 (gL1 G 534 3 (iL (L.wB (r + 1)))) 534 2 w) := fun w => (rSame.rf.L1).L1
    have h3 : ∀ w : Int64, gL (gL1 (gL1 G 534 3 (iL (L.wB (r + 1)))) 534 2 w) 534 3 = iL (L.wB (r + 1)) := fun w => by rw [gL_L1, if_neg (by decide), gL_L1, if_pos ⟨rfl, rfl⟩]
    have h2 : ∀ w : Int64, gL (gL1 (gL1 G 534 3 (iL (L.wB (r + 1)))) 534 2 w) 534 2 = w := fun w => by rw [gL_L1, if_pos ⟨rfl, rfl⟩]
    by_cases he : L.lst r = v
    · rw [if_pos (nI_inj he)]
      refine ⟨_, rfl, ⟨hJ.v, h3 _, ?_⟩, hO _, hR _⟩
      rw [h2]
      show _ = iL (if L.so r = true ∧ L.lst r = v then _ else _)
      rw [if_pos ⟨hso, he⟩]
    · rw [if_neg (fun z => he ((nI_eq (by omega) (by omega)).mp z))]
      refine ⟨_, rfl, ⟨hJ.v, h3 _, ?_⟩, hO _, hR _⟩
      rw [h2]
      show _ = iL (if L.so r = true ∧ L.lst r = v then _ else _)
      rw [if_neg (fun z => he z.2)]
      rw [show iL (L.wA v r) + 0 = iL (L.wA v r) from by rw [show (0 : Int64) = iL 0 from rfl, iL_add, Nat.add_zero]]
theorem xlikely_ok {G : gP} {L : Lt} (hL : L.Wf) (hN : xNow G L) (hK : xRk G) (a w : Int32) : Ok (f_X0_likely G a w) (qA G (sLikely L a w)) := by
  unfold f_X0_likely sLikely
  rw [isIn_rg a (lo := 0) (hi := 1000000) rfl rfl, isIn_rg w (lo := 0) (hi := 2) rfl rfl]
  cases ha : rg a 0 1000000 with
  | none => exact ⟨_, rfl, qP.rf, rfl⟩
  | some v =>
    obtain ⟨-, hv, rfl⟩ := rg_some ha
    simp only [Option.isSome_some, if_true]
    rw [if_neg (by decide)]
    cases hw : rg w 0 2 with
    | none => exact ⟨_, rfl, qP.rf, rfl⟩
    | some wn =>
      obtain ⟨-, hwn, rfl⟩ := rg_some hw
      simp only [Option.isSome_some, if_true]
      rw [if_neg (by decide), gDec_t hK, gck_t]
      simp only [gLet_e]
      have hq2 : qP G (xMk18 G (nI v)) := by unfold xMk18; exact ⟨(gOff.rf.La (fun j => by simp [cqZ, liZ])).Sa (fun j => by simp [cqZ, liZ]), (rSame.rf.La).Sa⟩
      have hJ0 : wJ L v 0 (xMk18 G (nI v)) := by
        unfold xMk18
        refine ⟨?_, ?_, ?_⟩
        · rw [gS_Sa, if_pos rfl, if_pos rfl]
        · rw [gL_Sa, gL_La, if_pos rfl]; rfl
        · rw [gL_Sa, gL_La, if_pos rfl]; rfl
      refine Ok.bind (listen_ok hL (weight_LS hL hv) (hq2.now hL hN) hJ0) (fun G2 h2 => ?_)
      obtain ⟨hJ, hO, hr⟩ := h2
      have hq : qP G G2 := hq2.tr ⟨hO, hr⟩
      have hNl := hL.N_le
      have hB := hL.wB_le L.N
      have hA := L.wA_le v L.N
      rw [hJ.al, hJ.so]
      by_cases h0 : L.wB L.N = 0
      · rw [if_pos h0, if_pos ((iL_0 (by omega)).mpr h0)]
        exact ⟨_, rfl, hq, rfl⟩
      · rw [if_neg h0, if_neg (fun z => h0 ((iL_0 (by omega)).mp z))]
        refine Ok.bind (gcd_ok (a := L.wA v L.N) (b := L.wB L.N) (by omega) (by omega) (f := f_X0_likely_b68) rfl) (fun x hx => ?_)
        subst hx
        have hg : 0 < Nat.gcd (L.wA v L.N) (L.wB L.N) := Nat.gcd_pos_of_pos_right _ (by omega)
        have hgl : Nat.gcd (L.wA v L.N) (L.wB L.N) ≤ L.wB L.N := Nat.gcd_le_right _ (by omega)
        have hnz : gNzL (iL (Nat.gcd (L.wA v L.N) (L.wB L.N))) = true := decide_eq_true (fun z => by have := (iL_0 (by omega)).mp z; omega)
        rw [hnz, gck_t, gck_t, iL_div (by omega) (by omega), iL_div (by omega) (by omega)]
        by_cases w0 : wn = 0
        · subst w0
          rw [if_pos (show nI 0 = 0 from rfl), if_pos rfl]
          exact ⟨_, rfl, hq, rfl⟩
        · rw [if_neg (nI_ne0 (by omega) (by omega)), if_neg w0]
          exact ⟨_, rfl, hq, rfl⟩
