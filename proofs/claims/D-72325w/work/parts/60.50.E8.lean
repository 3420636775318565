/-! the component's words, whole -/
theorem xSt.got {S : St} {T : Nat → Nat × Nat} {G G' : gP} (hW : S.Wf) (h : xSt S T G) (hO : gOff gtZ G G') (hr : rSame G G') : xSt S T G' :=
  h.frame (L := S.now) hW hO (fun k j _ => hr k j) ((h.sg 0 (by omega)).same hr) (h.rk.same hr) (fun k j hk => by simp [gtZ]; omega) (h.now.off hW.now.n8 (h.sg 0 (by omega)) hO hr (fun k j a b => by simp [gtZ]; omega))
theorem lI_pos {t : List Nat} (ht : tok t) (q : Nat) : (0 : Int32) ≤ lI t q ↔ q < t.length := by
  unfold lI
  have := ht.lt q
  by_cases hq : q < t.length
  · rw [if_pos hq]; exact ⟨fun _ => hq, fun _ => nI_pos' (by omega)⟩
  · rw [if_neg hq]; exact ⟨fun z => absurd z (by decide), fun z => absurd z hq⟩
theorem lI_neg {t : List Nat} (ht : tok t) (q : Nat) : lI t q < (0 : Int32) ↔ ¬ q < t.length := by
  unfold lI
  have := ht.lt q
  by_cases hq : q < t.length
  · rw [if_pos hq]; exact ⟨fun z => absurd z (nI_pos (by omega)), fun z => absurd hq z⟩
  · rw [if_neg hq]; exact ⟨fun _ => hq, fun _ => by decide⟩
theorem readWords_ok {S : St} {T : Nat → Nat × Nat} {G : gP} (hW : S.Wf) (h : xSt S T G) : Ok (f_X0_readWords G) (fun r => gOff gtZ G r.1 ∧ rSame G r.1 ∧ match prs S.tape with
    | .inl e => r.2 = true ∧ gS r.1 8 6 = nI e
    | .inr sl => r.2 = false ∧ xLt r.1 58 (S.now.lay sl)) := by
  have ht : tok S.tape := hW.tape
  unfold f_X0_readWords
  have hO0 : gOff gtZ G (xpl G 0) := gOff.rf.S1 (by simp [gtZ])
  have hr0 : rSame G (xpl G 0) := rSame.rf.S1
  have hT0 : xTp (xpl G 0) S.tape 0 := ⟨by unfold xpl; rw [gS_ne (by decide)]; exact h.tp, gS_at, h.tape.S1 (Or.inl (by decide)), Nat.zero_le _⟩
  have hx0 := h.got hW hO0 hr0
  show Ok (gLet (xpl G 0) _) _
  simp only [gLet_e]
  generalize xpl G 0 = G0 at *
  have hn : xLt G0 (32 + 26 * 0) S.now := hx0.now
  refine Ok.bind (latTake_ok (i := 1) (j := 0) (by omega) (by omega) (by omega) (hx0.sg 1 (by omega)) (hx0.sg 0 (by omega)) hW.now hn) (fun G1 h1 => ?_)
  obtain ⟨hO1, hr1, hx1⟩ := h1
  have hx1' : xLt G1 58 S.now := hx1
  unfold f_X6_begin
  simp only [gLet_e, obind_some]
  have hO2 : gOff (fun k j => decide (k = 58 ∧ j = 1)) G1 (gS1 G1 58 1 0) := gOff.rf.S1 (by simp)
  have hr2 : rSame G1 (gS1 G1 58 1 0) := rSame.rf.S1
  have h21 : gS (gS1 G1 58 1 0) 58 1 = nI 0 := gS_at
  generalize gS1 G1 58 1 0 = G2 at *
  have hO02 : gOff gtZ G G2 := (hO0.tr (hO1.w (fun k j z => by simp [gtZ, lZ] at z ⊢; omega))).tr (hO2.w (fun k j z => by simp [gtZ] at z ⊢; omega))
  have hr02 : rSame G G2 := (hr0.tr hr1).tr hr2
  have hT2 : xTp G2 S.tape 0 := (hT0.off hO1 (fun k j hk => by simp [lZ]; omega)).off hO2 (fun k j hk => by simp; omega)
  have hk2 : gS G2 58 2 = nI S.now.kind ∧ gS G2 58 3 = nI S.now.slack ∧ gS G2 58 4 = nI S.now.draw := ⟨by rw [(hO2 58 2 (by simp)).1]; exact hx1'.2.1, by rw [(hO2 58 3 (by simp)).1]; exact hx1'.2.2.1, by rw [(hO2 58 4 (by simp)).1]; exact hx1'.2.2.2.1⟩
  have hg2 : xSg G2 58 := (h.sg 1 (by omega)).same hr02
  rw [next_ok ht hT2, obind_some]
  simp only
  have hle0 := skp_le (t := S.tape) (Nat.zero_le S.tape.length)
  have hO3 : gOff (fun k j => decide (k = 0 ∧ j = 12)) G2 (xpl G2 (skp S.tape 0)) := gOff.rf.S1 (by simp)
  have hr3 : rSame G2 (xpl G2 (skp S.tape 0)) := rSame.rf.S1
  have hT3 : xTp (xpl G2 (skp S.tape 0)) S.tape (skp S.tape 0) := hT2.pl hle0
  generalize xpl G2 (skp S.tape 0) = G3 at *
  have hO03 : gOff gtZ G G3 := hO02.tr (hO3.w (fun k j z => by simp [gtZ] at z ⊢; omega))
  have hr03 : rSame G G3 := hr02.tr hr3
  have e58 : ∀ j, gS G3 58 j = gS G2 58 j := fun j => (hO3 58 j (by simp)).1
  have lay : ∀ (G' : gP) sl, rSame G G' → gtP G' sl → (∀ j, j ≠ 1 → gS G' 58 j = gS G3 58 j) → xLt G' 58 (S.now.lay sl) := by
    intro G' sl hr' hP hj
    refine ⟨hP.1, ?_, ?_, ?_, fun i hi => ?_⟩
    · rw [hj 2 (by decide), e58]; exact hk2.1
    · rw [hj 3 (by decide), e58]; exact hk2.2.1
    · rw [hj 4 (by decide), e58]; exact hk2.2.2
    · have hi' : i < sl.length := hi
      exact hP.2 i _ (getD_mem [] hi')
  by_cases hin : skp S.tape 0 < S.tape.length
  · rw [if_pos ((lI_pos ht _).mpr hin)]
    have hprs : prs S.tape = match wds S.tape 8 (skp S.tape 0) [] with
      | .inl e => .inl e
      | .inr (sl, q) => if skp S.tape q < S.tape.length then .inl (skp S.tape q) else .inr sl := by
      unfold prs
      rw [if_neg (by omega)]
      cases wds S.tape 8 (skp S.tape 0) [] with
      | inl e => rfl
      | inr x => obtain ⟨sl, q⟩ := x; rfl
    refine Ok.bind (gotL_ok ht (hg2.same hr3) hT3 (by rw [e58]; exact h21)) (fun z hz => ?_)
    cases z with
    | inr r =>
      obtain ⟨G4, b4⟩ := r
      obtain ⟨hb4, hO4, hr4, e, hR, h86⟩ := hz
      simp only at hb4 hO4 hr4 h86
      subst hb4
      rw [hR] at hprs
      simp only at hprs
      rw [hprs]
      exact ⟨_, rfl, hO03.tr hO4, hr03.tr hr4, rfl, h86⟩
    | inl G4 =>
      obtain ⟨hO4, hr4, hj4, sl, q, hR, hT4, hP4⟩ := hz
      rw [hR] at hprs
      simp only at hprs
      rw [hprs]
      show Ok ((f_X0_nextLetter G4).bind _) _
      rw [next_ok ht hT4, obind_some]
      simp only
      have hleq := skp_le hT4.2.2.2
      have hT5 := hT4.pl hleq
      have hO5 : gOff (fun k j => decide (k = 0 ∧ j = 12)) G4 (xpl G4 (skp S.tape q)) := gOff.rf.S1 (by simp)
      have hr5 : rSame G4 (xpl G4 (skp S.tape q)) := rSame.rf.S1
      generalize xpl G4 (skp S.tape q) = G5 at *
      have hO05 : gOff gtZ G G5 := (hO03.tr hO4).tr (hO5.w (fun k j z => by simp [gtZ] at z ⊢; omega))
      have hr05 : rSame G G5 := (hr03.tr hr4).tr hr5
      by_cases hend : skp S.tape q < S.tape.length
      · rw [if_neg (fun z => (lI_neg ht _).mp z hend), if_pos hend, faulty_ok ht hT5 (skp_id _ _), obind_some]
        exact ⟨_, rfl, hO05.S1 (by simp [gtZ]), hr05.S1, rfl, gS_at⟩
      · rw [if_pos ((lI_neg ht _).mpr hend), if_neg hend]
        refine ⟨_, rfl, hO05, hr05, rfl, lay G5 sl hr05 ⟨by rw [(hO5 58 1 (by simp)).1]; exact hP4.1, fun i s hi => ?_⟩ (fun j hj => by rw [(hO5 58 j (by simp)).1]; exact hj4 j hj)⟩
        rw [hr5.sg]
        have hil : i < sl.length := (List.getElem?_eq_some_iff.mp hi).1
        have h8 := (wds_ok ht 8 (skp S.tape 0) [] hle0 rfl (fun s hs => by cases hs))
        rw [hR] at h8
        have rs := (h.sg 1 (by omega)).same (hr03.tr hr4) |>.rng (j := i) (by have := h8.2.1; omega)
        have rs' : 58 + 2 ≤ sgO G4 58 i := rs.1
        exact (hP4.2 i s hi).off hO5 (fun k j a b => by simp; omega)
  · rw [if_neg (fun z => hin ((lI_pos ht _).mp z))]
    have hprs : prs S.tape = .inr [] := by unfold prs; rw [if_pos (by omega)]
    rw [hprs]
    exact ⟨_, rfl, hO03, hr03, rfl, lay G3 [] hr03 ⟨by rw [e58]; exact h21, fun i s hi => by cases hi⟩ (fun j _ => rfl)⟩
theorem xSt.tape0 {S : St} {T : Nat → Nat × Nat} {G : gP} (hW : S.Wf) (h : xSt S T G) : xSt (St.of (S.now) (S.past) (S.kept) ([]) (S.sh)) T (gS1 G 0 11 0) := by
  have hO : gOff (fun k j => decide (k = 0 ∧ j = 11)) G (gS1 G 0 11 0) := gOff.rf.S1 (by simp)
  have hr : rSame G (gS1 G 0 11 0) := rSame.rf.S1
  have hlt : ∀ i L, i < 19 → L.n ≤ 8 → xLt G (32 + 26 * i) L → xLt (gS1 G 0 11 0) (32 + 26 * i) L := fun i L hi h8 hx => hx.off h8 (h.sg i hi) hO hr (fun k j a b => by simp; omega)
  refine ⟨h.rk.same hr, fun i hi => (h.sg i hi).same hr, h.pa.same hr, fun j hj => by rw [hr]; exact h.ka j hj, hlt 0 _ (by omega) hW.now.n8 h.now, by rw [(hO 0 16 (by simp)).1]; exact h.un, fun i L hi => ?_, ?_, gS_at, aL.nil, fun s hs => (h.sh s hs).off hO (hr _ _) (fun j => by simp)⟩
  · have hil : i < S.past.length := (List.getElem?_eq_some_iff.mp hi).1
    have hp8 := hW.p8
    have hx := h.past i L hi
    have e2 : paO (gS1 G 0 11 0) i = paO G i := rfl
    rw [e2]
    obtain ⟨-, p', hp', e'⟩ := h.pa.1 i (by omega)
    rw [e'] at hx ⊢
    exact hlt _ L (by omega) (hW.past L (List.mem_of_getElem? hi)).n8 hx
  · have hkk : xKp G S.kept := h.kept
    show xKp _ S.kept
    cases hSk : S.kept with
    | none => rw [hSk] at hkk; show gS _ 0 20 = 0; rw [(hO 0 20 (by simp)).1]; exact hkk
    | some z =>
      obtain ⟨Lk, pk⟩ := z
      rw [hSk] at hkk
      obtain ⟨k1, k2, k3, k4⟩ := hkk
      obtain ⟨w1, w2, w3⟩ := hW.kept Lk pk hSk
      refine ⟨by rw [(hO 0 20 (by simp)).1]; exact k1, by rw [(hO 0 19 (by simp)).1]; exact k2, hlt 2 Lk (by omega) w1.n8 k3, fun i L' hi => ?_⟩
      have hil : i < pk.length := (List.getElem?_eq_some_iff.mp hi).1
      exact hlt (11 + i) L' (by omega) (w2 L' (List.mem_of_getElem? hi)).n8 (k4 i L' hi)
theorem St.Wf.tape0 {S : St} (h : S.Wf) : ((St.of (S.now) (S.past) (S.kept) ([]) (S.sh)) : St).Wf := ⟨h.now, h.past, h.p8, h.kept, ⟨Nat.zero_le _, fun v hv => by cases hv⟩, h.sh⟩
theorem xwords_ok {S : St} {T : Nat → Nat × Nat} {G : gP} (hW : S.Wf) (h : xSt S T G) : Ok (f_X0_words G) (xA T (sWords S)) := by
  unfold f_X0_words sWords
  refine Ok.bind (readWords_ok hW h) (fun r hr => ?_)
  obtain ⟨G1, b⟩ := r
  obtain ⟨hO1, hr1, hm⟩ := hr
  simp only at hO1 hr1 hm ⊢
  have hx1 := h.got hW hO1 hr1
  have hp := prs_ok hW.tape
  cases hpr : prs S.tape with
  | inl e =>
    rw [hpr] at hm
    obtain ⟨rfl, h86⟩ := hm
    rw [if_pos rfl]
    simp only [gLet_e]
    refine ⟨_, rfl, hx1.tape0 hW, ?_⟩
    simp only
    rw [gS_ne (by decide), h86]
  | inr sl =>
    rw [hpr] at hm hp
    obtain ⟨rfl, hx58⟩ := hm
    rw [if_neg (by decide)]
    simp only [gLet_e]
    have hLW := hW.now.lay hp.2 hp.1
    have hO2 : gOff (fun k j => decide (k = 0 ∧ j = 11)) G1 (gS1 G1 0 11 0) := gOff.rf.S1 (by simp)
    have hr2 : rSame G1 (gS1 G1 0 11 0) := rSame.rf.S1
    have hx2 := hx1.tape0 hW
    have hg58 : xLt (gS1 G1 0 11 0) (32 + 26 * 1) (S.now.lay sl) := hx58.off hLW.n8 (hx1.sg 1 (by omega)) hO2 hr2 (fun k j a b => by simp; omega)
    generalize gS1 G1 0 11 0 = G2 at *
    refine Ok.bind (latTake_ok (i := 0) (j := 1) (by omega) (by omega) (by omega) (hx2.sg 0 (by omega)) (hx2.sg 1 (by omega)) hLW hg58) (fun G3 h3 => ?_)
    obtain ⟨hO3, hr3, hx3⟩ := h3
    have hs3 := hx2.now' hW.tape0 (hO3.w (fun k j z => by simp [nZ, lZ] at z ⊢; omega)) hr3 hx3
    have hs4 := hs3.past0 (hW.tape0.nowp hLW)
    refine ⟨_, rfl, hs4, ?_⟩
    simp only
    rw [gS_ne (by decide)]
    exact hx3.1
