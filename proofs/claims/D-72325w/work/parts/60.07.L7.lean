/-! what is found of all readings -/
def Lt.so (L : Lt) (r : Nat) : Bool := match L.ev r with
  | none => false
  | some ns => sound L.kind ns
def Lt.saidN (L : Lt) : Nat → Nat
  | 0 => 0
  | t + 1 => if L.ev t = none then L.saidN t else L.saidN t + 1
def Lt.soundN (L : Lt) : Nat → Nat
  | 0 => 0
  | t + 1 => if L.so t = true then L.soundN t + 1 else L.soundN t
def Lt.costO (L : Lt) (o : Option Nat) : Nat := match o with
  | none => 9999
  | some b => L.cost b
def Lt.bestR (L : Lt) : Nat → Option Nat
  | 0 => none
  | t + 1 => if L.so t = true ∧ L.cost t < L.costO (L.bestR t) then some t else L.bestR t
def rI (o : Option Nat) : Int32 := match o with
  | none => -4
  | some b => nI b
def fZ (k j : Nat) : Bool := tZ k j || decide (k = 5 ∨ (k = 0 ∧ (j = 8 ∨ j = 9 ∨ j = 10 ∨ j = 11 ∨ j = 13)))
theorem Lt.Wf.cost_le {L : Lt} (h : L.Wf) (r : Nat) : L.cost r ≤ 72 := by
  have := h.cs_le (h.pk_ok r) L.n (Nat.le_refl _)
  have := h.n8
  unfold Lt.cost
  omega
theorem Lt.Wf.costO_le {L : Lt} (h : L.Wf) (o : Option Nat) : L.costO o ≤ 9999 := by
  cases o with
  | none => exact Nat.le_refl _
  | some b => have := h.cost_le b; show L.cost b ≤ _; omega
theorem Lt.saidN_le (L : Lt) : ∀ t, L.saidN t ≤ t := by
  intro t
  induction t with
  | zero => exact Nat.le_refl _
  | succ t ih => unfold Lt.saidN; split <;> omega
theorem Lt.soundN_le (L : Lt) : ∀ t, L.soundN t ≤ t := by
  intro t
  induction t with
  | zero => exact Nat.le_refl _
  | succ t ih => unfold Lt.soundN; split <;> omega
theorem Lt.bestR_lt (L : Lt) : ∀ t b, L.bestR t = some b → b < t ∧ L.so b = true := by
  intro t
  induction t with
  | zero => intro b h; cases h
  | succ t ih =>
    intro b h
    unfold Lt.bestR at h
    by_cases hc : L.so t = true ∧ L.cost t < L.costO (L.bestR t)
    · rw [if_pos hc] at h; cases h; exact ⟨by omega, hc.1⟩
    · rw [if_neg hc] at h; have := ih b h; exact ⟨by omega, this.2⟩
theorem Lt.Wf.N_le {L : Lt} (h : L.Wf) : L.N ≤ 65536 := by
  unfold Lt.N
  split
  · exact Nat.zero_le _
  · exact h.Ple 0
/-- what finds leaves -/
def fP (L : Lt) (G : gP) : Prop := (gS G 0 8 = nI (L.saidN L.N)) ∧ (gS G 0 9 = nI (L.soundN L.N)) ∧ (gS G 0 10 = rI (L.bestR L.N)) ∧ (gS G 0 11 = nI (L.costO (L.bestR L.N))) ∧ (match L.bestR L.N with
    | none => gS G 0 13 = 0
    | some b => ∃ ns, L.ev b = some ns ∧ nsOk ns ∧ gS G 0 13 = nI ns.length ∧ aL G 5 0 ns)
theorem fP.said {L : Lt} {G : gP} (h : fP L G) : (gS G 0 8 = nI (L.saidN L.N)) := h.1
theorem fP.snd {L : Lt} {G : gP} (h : fP L G) : (gS G 0 9 = nI (L.soundN L.N)) := h.2.1
theorem fP.best {L : Lt} {G : gP} (h : fP L G) : (gS G 0 10 = rI (L.bestR L.N)) := h.2.2.1
theorem fP.bc {L : Lt} {G : gP} (h : fP L G) : (gS G 0 11 = nI (L.costO (L.bestR L.N))) := h.2.2.2.1
theorem fP.bm {L : Lt} {G : gP} (h : fP L G) : (match L.bestR L.N with
    | none => gS G 0 13 = 0
    | some b => ∃ ns, L.ev b = some ns ∧ nsOk ns ∧ gS G 0 13 = nI ns.length ∧ aL G 5 0 ns) := h.2.2.2.2
theorem rI_m4 (o : Option Nat) (h : ∀ b, o = some b → b < 2 ^ 31) : rI o = -4 ↔ o = none := by
  cases o with
  | none => exact ⟨fun _ => rfl, fun _ => rfl⟩
  | some b =>
    refine ⟨fun z => ?_, fun z => by cases z⟩
    exfalso
    have := congrArg Int32.toInt z
    rw [show rI (some b) = nI b from rfl, nI_toInt (h b rfl)] at this
    have e : ((-4 : Int32)).toInt = -4 := by decide
    omega
theorem finds_ok {G : gP} {L : Lt} (hL : L.Wf) (hR : mRow G 1 0 L) : Ok (f_X11_finds G) (fun G' => gOff fZ G G' ∧ fP L G') := by
  unfold f_X11_finds
  simp only [gLet]
  have hN := hL.N_le
  have tzf : ∀ k j, fZ k j = false → tZ k j = false := by intro k j h; unfold fZ at h; rw [Bool.or_eq_false_iff] at h; exact h.1
  have z1 : ∀ {G1 : gP}, gOff fZ G G1 → mRow G1 1 0 L := fun hO => hR.off hO (fun j => by simp [fZ, tZ])
  refine Ok.bind (readings_ok hL (z1 ((((gOff.rf.S1 rfl).S1 rfl).S1 rfl).S1 rfl))) (fun x hx => ?_)
  subst hx
  refine Ok.bind (Q := fun G1 => gOff fZ G G1 ∧ gS G1 0 8 = nI (L.saidN L.N) ∧ gS G1 0 9 = nI (L.soundN L.N) ∧ gS G1 0 10 = rI (L.bestR L.N) ∧ gS G1 0 11 = nI (L.costO (L.bestR L.N))) ?_ (fun G1 h1 => ?_)
  · refine Ok.up (fun t s => s.2 = nI t ∧ gOff fZ G s.1 ∧ gS s.1 0 8 = nI (L.saidN t) ∧ gS s.1 0 9 = nI (L.soundN t) ∧ gS s.1 0 10 = rI (L.bestR t) ∧ gS s.1 0 11 = nI (L.costO (L.bestR t))) L.N (by omega) ?_ ?_ ?_
    · rintro t ⟨G1, x⟩ ht ⟨hx, hO, h8, h9, h10, h11⟩
      simp only at hx hO h8 h9 h10 h11
      subst hx
      unfold f_X11_finds_b30
      simp only
      rw [if_neg (nI_ge ht (by omega))]
      refine Ok.bind (takes_ok hL (z1 hO) (show t < 2 ^ 31 by omega)) (fun q hq => ?_)
      obtain ⟨hO2, hp, hc, hm⟩ := hq
      have o8 : gS q.1 0 8 = nI (L.saidN t) := by rw [(hO2 0 8 rfl).1]; exact h8
      have o9 : gS q.1 0 9 = nI (L.soundN t) := by rw [(hO2 0 9 rfl).1]; exact h9
      have o10 : gS q.1 0 10 = rI (L.bestR t) := by rw [(hO2 0 10 rfl).1]; exact h10
      have o11 : gS q.1 0 11 = nI (L.costO (L.bestR t)) := by rw [(hO2 0 11 rfl).1]; exact h11
      have hO3 : gOff fZ G q.1 := hO.tr (hO2.w tzf)
      cases he : L.ev t with
      | none =>
        rw [he] at hm
        simp only at hm
        rw [hm, if_pos rfl]
        refine ⟨_, rfl, nI_1 t, hO3, ?_, ?_, ?_, ?_⟩
        · show gS q.1 0 8 = _; rw [o8, Lt.saidN, if_pos he]
        · have e : L.so t = false := by unfold Lt.so; rw [he]
          show gS q.1 0 9 = _; rw [o9]; rw [Lt.soundN, e]; rfl
        · have e : L.so t = false := by unfold Lt.so; rw [he]
          show gS q.1 0 10 = _; rw [o10]; rw [Lt.bestR, e, if_neg (fun z => by cases z.1)]
        · have e : L.so t = false := by unfold Lt.so; rw [he]
          show gS q.1 0 11 = _; rw [o11]; rw [Lt.bestR, e, if_neg (fun z => by cases z.1)]
      | some ns =>
        rw [he] at hm
        obtain ⟨hm1, hm2⟩ := hm
        rw [hm1, if_neg (by decide)]
        simp only [gLet]
        have hns : nsOk ns := hm2.ok hL (hL.pk_ok t) he
        have hO4 : gOff fZ G (gS1 q.1 0 8 (gS q.1 0 8 + 1)) := hO3.S1 rfl
        have hm3 : mTk (gS1 q.1 0 8 (gS q.1 0 8 + 1)) L (L.pk t) ns := ⟨by rw [gS_ne (by decide)]; exact hm2.1, hm2.2.1.S1 (Or.inl (by decide)), hm2.2.2⟩
        refine Ok.bind (holds_ok hL (z1 hO4) hm3 hns) (fun y hy => ?_)
        have e8 : L.saidN (t + 1) = L.saidN t + 1 := by rw [Lt.saidN, if_neg (by rw [he]; simp)]
        have eso : L.so t = sound L.kind ns := by unfold Lt.so; rw [he]
        rw [← eso] at hy
        rw [hy]
        cases hs : L.so t with
        | false =>
          rw [if_pos (by decide)]
          refine ⟨_, rfl, nI_1 t, hO4, ?_, ?_, ?_, ?_⟩
          · show gS (gS1 q.1 0 8 (gS q.1 0 8 + 1)) 0 8 = _; rw [gS_at, o8, nI_1, e8]
          · show gS (gS1 q.1 0 8 (gS q.1 0 8 + 1)) 0 9 = _; rw [gS_ne (by decide), o9, Lt.soundN, hs]; rfl
          · show gS (gS1 q.1 0 8 (gS q.1 0 8 + 1)) 0 10 = _; rw [gS_ne (by decide), o10, Lt.bestR, hs, if_neg (fun z => by cases z.1)]
          · show gS (gS1 q.1 0 8 (gS q.1 0 8 + 1)) 0 11 = _; rw [gS_ne (by decide), o11, Lt.bestR, hs, if_neg (fun z => by cases z.1)]
        | true =>
          rw [if_neg (by decide)]
          simp only [gS_S1, gS_at]
          simp (config := { decide := true }) only [if_false, if_true, o8, o9, o10, o11, hc]
          have hcl := hL.cost_le t
          have hco := hL.costO_le (L.bestR t)
          have e9 : L.soundN (t + 1) = L.soundN t + 1 := by rw [Lt.soundN, if_pos hs]
          by_cases hlt : L.cost t < L.costO (L.bestR t)
          · have eb : L.bestR (t + 1) = some t := by rw [Lt.bestR, if_pos ⟨hs, hlt⟩]
            rw [if_neg (nI_ge hlt (by omega)), if_neg (nI_ge hlt (by omega))]
            refine ⟨_, rfl, nI_1 t, (((hO3.S1 rfl).S1 rfl).S1 rfl).S1 rfl, ?_, ?_, ?_, ?_⟩
            all_goals (simp only [gS_S1]; simp (config := { decide := true }) only [if_false, if_true])
            · rw [e8, nI_1]
            · rw [e9, nI_1]
            · rw [eb]; rfl
            · rw [eb]; rfl
          · have eb : L.bestR (t + 1) = L.bestR t := by rw [Lt.bestR, if_neg (fun z => hlt z.2)]
            rw [if_pos (nI_le (by omega) (by omega)), if_pos (nI_le (by omega) (by omega))]
            refine ⟨_, rfl, nI_1 t, (((hO3.S1 rfl).S1 rfl).S1 rfl).S1 rfl, ?_, ?_, ?_, ?_⟩
            all_goals (simp only [gS_S1]; simp (config := { decide := true }) only [if_false, if_true])
            · rw [e8, nI_1]
            · rw [e9, nI_1]
            · rw [eb]
            · rw [eb]
    · rintro ⟨G1, x⟩ ⟨hx, hO, h8, h9, h10, h11⟩
      simp only at hx hO h8 h9 h10 h11
      unfold f_X11_finds_b30
      simp only
      rw [hx, if_pos (nI_le (Nat.le_refl _) (by omega))]
      exact ⟨_, rfl, hO, h8, h9, h10, h11⟩
    · refine ⟨rfl, (((gOff.rf.S1 rfl).S1 rfl).S1 rfl).S1 rfl, ?_, ?_, ?_, ?_⟩
      all_goals (simp only [gS_S1]; simp (config := { decide := true }) only [if_false, if_true])
      · rfl
      · rfl
      · rfl
      · rfl
  · obtain ⟨hO, h8, h9, h10, h11⟩ := h1
    have e10 : gS (gS1 G1 0 13 0) 0 10 = rI (L.bestR L.N) := by rw [gS_ne (by decide)]; exact h10
    have hO1 : gOff fZ G (gS1 G1 0 13 0) := hO.S1 rfl
    rw [e10]
    cases hb : L.bestR L.N with
    | none =>
      rw [if_pos (show rI none = -4 from rfl)]
      refine ⟨_, rfl, hO1, ⟨?_, ?_, ?_, ?_, ?_⟩⟩
      · rw [gS_ne (by decide)]; exact h8
      · rw [gS_ne (by decide)]; exact h9
      · rw [hb, ← hb]; exact e10
      · rw [gS_ne (by decide)]; exact h11
      · rw [hb]; exact gS_at
    | some b =>
      have hbl := L.bestR_lt _ _ hb
      rw [if_neg (fun z => by have := (rI_m4 (some b) (fun b' hb' => by cases hb'; omega)).mp z; cases this)]
      refine Ok.bind (takes_ok hL (z1 hO1) (show b < 2 ^ 31 by omega)) (fun q hq => ?_)
      obtain ⟨hO2, hp, hc, hm⟩ := hq
      have hO3 : gOff fZ G q.1 := hO1.tr (hO2.w tzf)
      cases he : L.ev b with
      | none => have := hbl.2; unfold Lt.so at this; rw [he] at this; cases this
      | some ns =>
        rw [he] at hm
        obtain ⟨hm1, hm2⟩ := hm
        have hns : nsOk ns := hm2.ok hL (hL.pk_ok b) he
        rw [hm1, if_neg (by decide)]
        obtain ⟨g6, ga, gp, gl⟩ := hm2
        refine Ok.bind (Q := fun G2 => gOff (fun k j => decide (k = 5)) (gS1 q.1 0 13 (gS q.1 0 6)) G2 ∧ aL G2 5 0 ns) ?_ (fun G2 h2 => ?_)
        · refine Ok.up (fun i s => s.2 = nI i ∧ gOff (fun k j => decide (k = 5)) (gS1 q.1 0 13 (gS q.1 0 6)) s.1 ∧ aL s.1 5 0 (ns.take i)) ns.length (by omega) ?_ ?_ ?_
          · rintro i ⟨G2, x⟩ hi ⟨hx, hO5, ha5⟩
            simp only at hx hO5 ha5
            subst hx
            unfold f_X11_finds_b160
            simp only
            have e6 : gS G2 0 6 = nI ns.length := by rw [(hO5 0 6 rfl).1, gS_ne (by decide)]; exact g6
            have e4 : gS G2 4 i = nI (nsF ns i) := by
              rw [(hO5 4 i rfl).1, gS_ne (by omega)]
              have := nsF_aL ga hi
              rwa [Nat.zero_add] at this
            rw [e6, if_neg (nI_ge hi (by omega)), gIn_nI (by omega), decide_eq_true (by omega), nI_clamp (by omega), e4]
            refine ⟨_, rfl, nI_1 i, hO5.S1 rfl, ?_⟩
            have et : ns.take (i + 1) = ns.take i ++ [nsF ns i] := by
              rw [List.take_add_one]
              unfold nsF
              rw [List.getD_eq_getElem?_getD, List.getElem?_eq_getElem hi]
              rfl
            have el : (ns.take i).length = i := by rw [List.length_take]; omega
            show aL (gS1 G2 5 i (nI (nsF ns i))) 5 0 _
            rw [et]
            have := ha5.push (v := nsF ns i)
            rwa [Nat.zero_add, el] at this
          · rintro ⟨G2, x⟩ ⟨hx, hO5, ha5⟩
            simp only at hx hO5 ha5
            subst hx
            unfold f_X11_finds_b160
            simp only
            have e6 : gS G2 0 6 = nI ns.length := by rw [(hO5 0 6 rfl).1, gS_ne (by decide)]; exact g6
            rw [e6, if_pos (nI_le (Nat.le_refl _) (by omega))]
            rw [List.take_length] at ha5
            exact ⟨_, rfl, hO5, ha5⟩
          · exact ⟨rfl, gOff.rf, aL.nil⟩
        · obtain ⟨hO5, ha5⟩ := h2
          have hd : ∀ j, j ≠ 13 → tZ 0 j = false → gS G2 0 j = gS G1 0 j := by
            intro j hj hz
            rw [(hO5 0 j rfl).1, gS_ne (by omega), (hO2 0 j hz).1, gS_ne (by omega)]
          refine ⟨_, rfl, (hO3.S1 rfl).tr (hO5.w ?_), ⟨?_, ?_, ?_, ?_, ?_⟩⟩
          · intro k j h; simp [fZ, tZ] at h ⊢; omega
          · rw [hd 8 (by decide) rfl]; exact h8
          · rw [hd 9 (by decide) rfl]; exact h9
          · rw [hd 10 (by decide) rfl]; exact h10
          · rw [hd 11 (by decide) rfl]; exact h11
          · rw [hb]
            refine ⟨ns, he, hns, ?_, ha5⟩
            rw [(hO5 0 13 rfl).1, gS_at]; exact g6
