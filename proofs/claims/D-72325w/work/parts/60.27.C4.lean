/-! the first listener: how many are said, sound; the best -/
theorem Lt.soundN_0 {L : Lt} (hL : L.Wf) : ∀ t, L.soundN t = 0 ↔ L.bestR t = none := by
  intro t
  induction t with
  | zero => exact ⟨fun _ => rfl, fun _ => rfl⟩
  | succ t ih =>
    unfold Lt.soundN Lt.bestR
    cases hs : L.so t
    · rw [if_neg (by decide), if_neg (fun z => by cases z.1)]; exact ih
    · rw [if_pos rfl]
      refine ⟨fun z => by omega, fun z => ?_⟩
      exfalso
      by_cases hc : L.cost t < L.costO (L.bestR t)
      · rw [if_pos ⟨rfl, hc⟩] at z; cases z
      · rw [if_neg (fun q => hc q.2)] at z
        rw [z] at hc
        have := hL.cost_le t
        exact hc (show L.cost t < 9999 by omega)
/-- the best one, as First holds it -/
def fBs (L : Lt) (G : gP) : Option Nat → Prop
  | none => gS G 526 3 = nI 1000000
  | some b => gS G 526 3 = nI (L.cost b) ∧ (∀ k, k < L.n → gS G 527 k = nI (L.pk b k)) ∧ ∃ ns, L.ev b = some ns ∧ nsOk ns ∧ gS G 526 6 = nI ns.length ∧ aL G 528 0 ns
def fJ (L : Lt) (r : Nat) (G : gP) : Prop := (gS G 526 1 = nI (L.saidN r)) ∧ (gS G 526 2 = nI (L.soundN r)) ∧ (fBs L G (L.bestR r))
theorem fJ.said {L : Lt} {r : Nat} {G : gP} (h : fJ L r G) : (gS G 526 1 = nI (L.saidN r)) := h.1
theorem fJ.snd {L : Lt} {r : Nat} {G : gP} (h : fJ L r G) : (gS G 526 2 = nI (L.soundN r)) := h.2.1
theorem fJ.best {L : Lt} {r : Nat} {G : gP} (h : fJ L r G) : (fBs L G (L.bestR r)) := h.2.2
theorem fBs.off {Z : Nat → Nat → Bool} {L : Lt} {G G' : gP} {o : Option Nat} (h : fBs L G o) (hO : gOff Z G G') (z : ∀ k j, (k = 526 ∧ (j = 3 ∨ j = 6)) ∨ k = 527 ∨ k = 528 → Z k j = false) : fBs L G' o := by
  cases o with
  | none =>
    show gS G' 526 3 = nI 1000000
    rw [(hO 526 3 (z _ _ (by omega))).1]; exact h
  | some b =>
    obtain ⟨h1, h2, ns, h3, h4, h5, h6⟩ := h
    refine ⟨?_, fun k hk => ?_, ns, h3, h4, ?_, fun j v hj => ?_⟩
    · rw [(hO 526 3 (z _ _ (by omega))).1]; exact h1
    · rw [(hO 527 k (z _ _ (by omega))).1]; exact h2 k hk
    · rw [(hO 526 6 (z _ _ (by omega))).1]; exact h5
    · rw [(hO 528 _ (z _ _ (by omega))).1]; exact h6 j v hj
theorem fJ.off {Z : Nat → Nat → Bool} {L : Lt} {r : Nat} {G G' : gP} (h : fJ L r G) (hO : gOff Z G G') (z : ∀ k j, 526 ≤ k ∧ k ≤ 528 → Z k j = false) : fJ L r G' :=
  ⟨by rw [(hO 526 1 (z _ _ (by omega))).1]; exact h.said, by rw [(hO 526 2 (z _ _ (by omega))).1]; exact h.snd, h.best.off hO (fun k j hk => z k j (by omega))⟩
theorem Lt.said_s {L : Lt} {r : Nat} {ns : List Nat} (h : L.ev r = some ns) : L.saidN (r + 1) = L.saidN r + 1 := by
  show (if L.ev r = none then _ else _) = _
  rw [if_neg (by rw [h]; simp)]
theorem Lt.sound_t {L : Lt} {r : Nat} (h : L.so r = true) : L.soundN (r + 1) = L.soundN r + 1 := by
  show (if L.so r = true then _ else _) = _
  rw [if_pos h]
theorem Lt.sound_f {L : Lt} {r : Nat} (h : L.so r = false) : L.soundN (r + 1) = L.soundN r := by
  show (if L.so r = true then _ else _) = _
  rw [if_neg (by rw [h]; decide)]
theorem Lt.best_f {L : Lt} {r : Nat} (h : L.so r = false) : L.bestR (r + 1) = L.bestR r := by
  show (if L.so r = true ∧ _ then _ else _) = _
  rw [if_neg (fun z => by rw [h] at z; cases z.1)]
theorem Lt.so_none {L : Lt} {r : Nat} (h : L.ev r = none) : L.so r = false := by unfold Lt.so; rw [h]
theorem fJ.skip {L : Lt} {r : Nat} {G : gP} (h : fJ L r G) (he : L.ev r = none) : fJ L (r + 1) G := by
  have hs := L.so_none he
  refine ⟨?_, by rw [L.sound_f hs]; exact h.snd, by rw [L.best_f hs]; exact h.best⟩
  show _ = nI (if L.ev r = none then _ else _)
  rw [if_pos he]; exact h.said
def f3Z (k _ : Nat) : Bool := decide (526 ≤ k ∧ k ≤ 528)
theorem first_sd {L : Lt} (hL : L.Wf) {r : Nat} {ns : List Nat} {G : gP} (hev : L.ev r = some ns) (hJ : fJ L r G) (hsd : sdP L r ns G) : Ok (f_X13_said G (nI (L.cost r))) (fun G' => fJ L (r + 1) G' ∧ gOff f3Z G G' ∧ rSame G G') := by
  unfold f_X13_said
  simp only [gLet_e]
  rw [hJ.said, nI_1, ← L.said_s hev]
  have hO1 : gOff (fun k j => decide (k = 526 ∧ j = 1)) G (gS1 G 526 1 (nI (L.saidN (r + 1)))) := gOff.rf.S1 (by simp)
  have hl1 : gOff f3Z G (gS1 G 526 1 (nI (L.saidN (r + 1)))) := hO1.w (fun k j z => by simp [f3Z] at z ⊢; omega)
  have hr1 : rSame G (gS1 G 526 1 (nI (L.saidN (r + 1)))) := rSame.rf.S1
  have g1 : gS (gS1 G 526 1 (nI (L.saidN (r + 1)))) 526 1 = nI (L.saidN (r + 1)) := gS_at
  generalize gS1 G 526 1 (nI (L.saidN (r + 1))) = G1 at *
  have hsd1 : sdP L r ns G1 := hsd.lis hL hO1 hr1 (fun k j hk => by simp; omega)
  refine Ok.bind (hsd1.so hL hev) (fun y hy => ?_)
  subst hy
  have g2 : gS G1 526 2 = nI (L.soundN r) := by rw [(hO1 526 2 rfl).1]; exact hJ.snd
  have hb1 : fBs L G1 (L.bestR r) := hJ.best.off hO1 (fun k j hk => by simp; omega)
  cases hs : L.so r with
  | false =>
    rw [if_pos (show bI false = 0 from rfl)]
    exact ⟨_, rfl, ⟨g1, by rw [L.sound_f hs]; exact g2, by rw [L.best_f hs]; exact hb1⟩, hl1, hr1⟩
  | true =>
    rw [if_neg (show ¬ bI true = 0 by decide), g2, nI_1, ← L.sound_t hs]
    have hO2 : gOff (fun k j => decide (k = 526 ∧ j = 2)) G1 (gS1 G1 526 2 (nI (L.soundN (r + 1)))) := gOff.rf.S1 (by simp)
    have hl2 : gOff f3Z G (gS1 G1 526 2 (nI (L.soundN (r + 1)))) := hl1.tr (hO2.w (fun k j z => by simp [f3Z] at z ⊢; omega))
    have hr2 : rSame G (gS1 G1 526 2 (nI (L.soundN (r + 1)))) := hr1.S1
    have g3 : gS (gS1 G1 526 2 (nI (L.soundN (r + 1)))) 526 1 = nI (L.saidN (r + 1)) := by rw [gS_ne (by decide)]; exact g1
    have g4 : gS (gS1 G1 526 2 (nI (L.soundN (r + 1)))) 526 2 = nI (L.soundN (r + 1)) := gS_at
    generalize gS1 G1 526 2 (nI (L.soundN (r + 1))) = G2 at *
    have hsd2 : sdP L r ns G2 := hsd1.lis hL hO2 (fun k j => (hr2 k j).trans (hr1 k j).symm) (fun k j hk => by simp; omega)
    have hb2 : fBs L G2 (L.bestR r) := hb1.off hO2 (fun k j hk => by simp; omega)
    have hcl := hL.cost_le r
    have hkeep : L.bestR (r + 1) = L.bestR r → Ok (Option.some G2) (fun G' => fJ L (r + 1) G' ∧ gOff f3Z G G' ∧ rSame G G') := fun e => ⟨_, rfl, ⟨g3, g4, by rw [e]; exact hb2⟩, hl2, hr2⟩
    have hnew : L.bestR (r + 1) = some r → Ok (Option.some (gS1 (gSc (gSc (gS1 G2 526 3 (nI (L.cost r))) 4 0 527 0 8) 2 0 528 0 8) 526 6 (gS (gSc (gSc (gS1 G2 526 3 (nI (L.cost r))) 4 0 527 0 8) 2 0 528 0 8) 0 5))) (fun G' => fJ L (r + 1) G' ∧ gOff f3Z G G' ∧ rSame G G') := by
      intro e
      have h8 := hL.n8
      refine ⟨_, rfl, ⟨?_, ?_, ?_⟩, ?_, ?_⟩
      · rw [gS_ne (by decide), gS_Sc_ne (by decide), gS_Sc_ne (by decide), gS_ne (by decide)]; exact g3
      · rw [gS_ne (by decide), gS_Sc_ne (by decide), gS_Sc_ne (by decide), gS_ne (by decide)]; exact g4
      · rw [e]
        have m5 : gS (gSc (gSc (gS1 G2 526 3 (nI (L.cost r))) 4 0 527 0 8) 2 0 528 0 8) 0 5 = nI ns.length := by
          rw [gS_Sc_ne (by decide), gS_Sc_ne (by decide), gS_ne (by decide)]; exact hsd2.many
        refine ⟨?_, fun k hk => ?_, ns, hev, hsd2.ok, by rw [gS_at]; exact m5, fun j v hj => ?_⟩
        · rw [gS_ne (by decide), gS_Sc_ne (by decide), gS_Sc_ne (by decide), gS_at]
        · rw [gS_ne (by omega), gS_Sc_ne (by decide), gS_Sc_in rfl (by omega) (by omega), gS_ne (by omega), Nat.zero_add, Nat.sub_zero]; exact hsd2.pk k hk
        · have hjl := (List.getElem?_eq_some_iff.mp hj).1
          have hok := hsd2.ok.2.1
          rw [gS_ne (by omega), gS_Sc_in rfl (by omega) (by omega), gS_Sc_ne (by decide), gS_ne (by omega)]
          have := hsd2.ns j v hj
          rw [Nat.zero_add] at this
          rw [show 0 + (0 + j - 0) = j by omega]
          exact this
      · exact (((hl2.S1 (by decide)).Sc (fun j _ _ => by simp [f3Z])).Sc (fun j _ _ => by simp [f3Z])).S1 (by decide)
      · exact (((hr2.S1).Sc).Sc).S1
    cases hbr : L.bestR r with
    | none =>
      rw [hbr] at hb2
      have hb3 : gS G2 526 3 = nI 1000000 := hb2
      rw [hb3, if_neg (nI_ge (by omega) (by decide))]
      refine hnew ?_
      show (if L.so r = true ∧ L.cost r < L.costO (L.bestR r) then _ else _) = _
      rw [if_pos ⟨hs, by rw [hbr]; show L.cost r < 9999; omega⟩]
    | some b =>
      rw [hbr] at hb2
      have hcb := hL.cost_le b
      rw [hb2.1]
      by_cases hlt : L.cost r < L.cost b
      · rw [if_neg (nI_ge hlt (by omega))]
        refine hnew ?_
        show (if L.so r = true ∧ L.cost r < L.costO (L.bestR r) then _ else _) = _
        rw [if_pos ⟨hs, by rw [hbr]; exact hlt⟩]
      · rw [if_pos (nI_le (by omega) (by omega))]
        refine hkeep ?_
        show (if L.so r = true ∧ L.cost r < L.costO (L.bestR r) then _ else _) = _
        rw [if_neg (fun z => hlt (by have := z.2; rw [hbr] at this; exact this))]
theorem first_LS {L : Lt} (hL : L.Wf) : LsP L 526 (fJ L) := by
  refine ⟨fun r ns G hr hev hJ hsd => ?_, fun r G _ he hJ => hJ.skip he, fun r G G' hJ hO _ => hJ.off hO (fun k j hk => by simp [wZ]; omega)⟩
  unfold fSd
  rw [if_pos rfl]
  refine (first_sd hL hev hJ hsd).imp ?_
  rintro G' ⟨a, b, c⟩
  exact ⟨a, b.w (fun k j z => by simp [f3Z, liZ] at z ⊢; omega), c⟩
/-- what a question leaves -/
def qP (G G' : gP) : Prop := gOff cqZ G G' ∧ rSame G G'
theorem qP.tr {G G1 G2 : gP} (h : qP G G1) (h2 : qP G1 G2) : qP G G2 := ⟨h.1.tr h2.1, h.2.tr h2.2⟩
theorem qP.rf {G : gP} : qP G G := ⟨gOff.rf, rSame.rf⟩
theorem qP.now {G G' : gP} {L : Lt} (h : qP G G') (hL : L.Wf) (hN : xNow G L) : xNow G' L := hN.q hL h.1 h.2 (fun k j => cqZ_32)
theorem cqZ_l {k j : Nat} (h : cqZ k j = false) : liZ k j = false := by simp only [cqZ, Bool.or_eq_false_iff] at h; exact h.2
theorem qP.mk13 (G : gP) : qP G (xMk13 G) := by
  unfold xMk13
  exact ⟨((gOff.rf.Sa (fun j => by simp [cqZ, liZ])).Sa (fun j => by simp [cqZ, liZ])).Sa (fun j => by simp [cqZ, liZ]), ((rSame.rf.Sa).Sa).Sa⟩
theorem fJ_0 {L : Lt} (G : gP) : fJ L 0 (xMk13 G) := by
  unfold xMk13
  refine ⟨?_, ?_, ?_⟩
  · rw [gS_Sa, if_pos rfl, if_neg (by decide)]; rfl
  · rw [gS_Sa, if_pos rfl, if_neg (by decide)]; rfl
  · show gS _ 526 3 = nI 1000000
    rw [gS_Sa, if_pos rfl, if_pos rfl]; rfl
theorem first_ok {L : Lt} {G : gP} (hL : L.Wf) (hN : xNow G L) (hK : xRk G) : Ok (f_X0_first G) (fun G' => fJ L L.N G' ∧ qP G G') := by
  unfold f_X0_first
  rw [gDec_t hK, gck_t]
  simp only [gLet_e, obs]
  have hq := qP.mk13 G
  refine (listen_ok hL (first_LS hL) (hq.now hL hN) (fJ_0 G)).imp ?_
  rintro G' ⟨a, b, c⟩
  exact ⟨a, hq.tr ⟨b, c⟩⟩
theorem isAny_I {L : Lt} {G : gP} (hL : L.Wf) (h : fJ L L.N G) : f_X13_isAny G = bI (L.B.isSome) := by
  unfold f_X13_isAny
  rw [h.snd]
  have hl := L.soundN_le L.N
  have hN := hL.N_le
  unfold Lt.B
  cases hb : L.bestR L.N with
  | none =>
    rw [(L.soundN_0 hL L.N).mpr hb, if_pos (show nI 0 ≤ 0 by decide)]; rfl
  | some b =>
    have : L.soundN L.N ≠ 0 := fun z => by have := (L.soundN_0 hL L.N).mp z; rw [hb] at this; cases this
    rw [if_neg (nI_nle (by omega) (by omega))]; rfl
theorem fJ.bn {L : Lt} {G : gP} {b : Nat} (h : fJ L L.N G) (hb : L.B = some b) : gS G 526 3 = nI (L.cost b) ∧ (∀ k, k < L.n → gS G 527 k = nI (L.pk b k)) ∧ gS G 526 6 = nI L.bn.length ∧ aL G 528 0 L.bn ∧ nsOk L.bn ∧ L.ev b = some L.bn := by
  have hh := h.best
  unfold Lt.B at hb
  rw [hb] at hh
  obtain ⟨h1, h2, ns, h3, h4, h5, h6⟩ := hh
  have e : L.bn = ns := L.bn_some hb h3
  rw [e]
  exact ⟨h1, h2, h5, h6, h4, h3⟩
/-- an answer of a question -/
def qA {α : Type} (G : gP) (v : α) (q : gP × α) : Prop := qP G q.1 ∧ q.2 = v
theorem xbest_ok {G : gP} {L : Lt} (hL : L.Wf) (hN : xNow G L) (hK : xRk G) (a : Int32) : Ok (f_X0_best G a) (qA G (sBest L a)) := by
  unfold f_X0_best sBest
  by_cases ha : (-2 : Int32) ≤ a
  · rw [if_pos ha, if_pos ha]
    refine Ok.bind (first_ok hL hN hK) (fun G1 h1 => ?_)
    rw [isAny_I hL h1.1]
    cases hB : L.B with
    | none => rw [if_pos (show bI (none : Option Nat).isSome = 0 from rfl)]; exact ⟨_, rfl, h1.2, rfl⟩
    | some b =>
      rw [if_neg (show ¬ bI (some b).isSome = 0 by show ¬ bI true = 0; decide)]
      obtain ⟨b1, b2, b3, b4, b5, b6⟩ := h1.1.bn hB
      simp only
      by_cases a2 : a = -2
      · subst a2
        rw [if_pos rfl, if_neg (by decide), if_pos rfl]
        exact ⟨_, rfl, h1.2, b3⟩
      · rw [if_neg a2, if_neg a2]
        by_cases a1 : a = -1
        · rw [if_pos a1, if_pos a1]; exact ⟨_, rfl, h1.2, b1⟩
        · rw [if_neg a1, if_neg a1, b3]
          have hnn : ¬ a < 0 := by
            intro z
            have x1 := Int32.le_iff_toInt_le.mp ha
            have x2 := Int32.lt_iff_toInt_lt.mp z
            have x3 : ((-2 : Int32)).toInt = -2 := by decide
            have x4 : ((0 : Int32)).toInt = 0 := by decide
            have y1 : a.toInt ≠ -2 := fun e => a2 (Int32.toInt_inj.mp (e.trans x3.symm))
            have y2 : a.toInt ≠ -1 := fun e => a1 (Int32.toInt_inj.mp (e.trans (show (-1 : Int) = ((-1 : Int32)).toInt by decide)))
            omega
          obtain ⟨j, hj, rfl⟩ := nI_of hnn
          have h8 := b5.2.1
          rw [rg_nI hj]
          by_cases hjl : j < L.bn.length
          · rw [if_neg (nI_ge hjl (by omega)), if_pos ⟨by omega, hjl⟩, gIn_t hj (by omega), gck_t, nI_clamp hj]
            have := nsF_aL b4 hjl
            rw [Nat.zero_add] at this
            exact ⟨_, rfl, h1.2, this⟩
          · rw [if_pos (nI_le (by omega) hj), if_neg (fun z => hjl z.2)]
            exact ⟨_, rfl, h1.2, rfl⟩
  · rw [if_neg ha, if_neg ha]; exact ⟨_, rfl, qP.rf, rfl⟩
theorem xtaken_ok {G : gP} {L : Lt} (hL : L.Wf) (hN : xNow G L) (hK : xRk G) (a : Int32) : Ok (f_X0_taken G a) (qA G (sTaken L a)) := by
  unfold f_X0_taken sTaken
  have h8 := hL.n8
  rw [xisSlot_rg h8 hN.1.1]
  cases ha : rg a 0 L.n with
  | none => exact ⟨_, rfl, qP.rf, rfl⟩
  | some k =>
    obtain ⟨-, hk, rfl⟩ := rg_some ha
    simp only [Option.isSome_some, if_true]
    rw [if_neg (by decide)]
    refine Ok.bind (first_ok hL hN hK) (fun G1 h1 => ?_)
    rw [isAny_I hL h1.1]
    have hN1 := h1.2.now hL hN
    cases hB : L.B with
    | none => rw [if_pos (show bI (none : Option Nat).isSome = 0 from rfl)]; exact ⟨_, rfl, h1.2, rfl⟩
    | some b =>
      rw [if_neg (show ¬ bI (some b).isSome = 0 by show ¬ bI true = 0; decide)]
      obtain ⟨b1, b2, b3, b4, b5, b6⟩ := h1.1.bn hB
      have hm := hL.m1 k hk
      have hp := hL.pk_lt (r := b) hk
      rw [gIn_t (by omega) (by omega), gck_t, nI_clamp (by omega), hN1.2.ref0 (by omega)]
      simp only [obind_some]
      rw [b2 k hk, gIn_t (by omega) (by omega), gck_t, gck_t, nI_clamp (by omega)]
      exact ⟨_, rfl, h1.2, ((hN1.1.2.2.2.2 k hk).2 _ hp).1⟩
