/-! the Model: lose, settle, storm, undo, image, restore, type -/
theorem settle_ok {S : St} {G : gP} (hW : S.Wf) (h : mSt S G) (a w : Int32) : Ok (f_X11_settle G a w) (mA (sSettle S a w)) := by
  unfold f_X11_settle sSettle f_X11_isWord
  have hL := hW.now
  have h8 := hL.n8
  rw [isSlot_rg h8 h.now.1, in_rg w (lo := 0) (hi := 32) rfl rfl]
  cases ha : rg a 0 S.now.n with
  | none => exact ⟨_, rfl, h, rfl⟩
  | some s =>
    obtain ⟨-, hs, rfl⟩ := rg_some ha
    simp only [Option.isSome_some, if_true]
    rw [if_neg (by decide)]
    cases hw : rg w 0 32 with
    | none => exact ⟨_, rfl, h, rfl⟩
    | some wn =>
      obtain ⟨-, hwn, rfl⟩ := rg_some hw
      simp only [Option.isSome_some, if_true]
      rw [if_neg (by decide)]
      refine Ok.bind (placeOf_ok hL h.now hs (by omega)) (fun r hr => ?_)
      subst hr
      have hm := hL.m1 s hs
      simp (disch := omega) only [nLit, neg_nI, nI_add, pk_mul, nI_sub1, nI_clamp, gIn_t, gck_t, gLet_e, nI_leI, nI_ltJ, nI_eq, nI_nM_eq, nM_nI_eq, nM_eq, nM_nI_le, nI_nM_le, nM_nI_lt, nI_nM_lt, at_nI, gS_at, gS_ne', obind_some, iteT, iteF, ite_p, ite_n, (h.now.sl hs).1]
      cases hf : fnd (S.now.w s) wn (S.now.m s) with
      | none => exact ⟨_, rfl, h, rfl⟩
      | some j =>
        have hj := fnd_some _ _ hf
        have e4 : rI (some j) = nI j := rfl
        rw [e4]
        simp (disch := omega) only [nLit, neg_nI, nI_add, pk_mul, nI_sub1, nI_clamp, gIn_t, gck_t, gLet_e, nI_leI, nI_ltJ, nI_eq, nI_nM_eq, nM_nI_eq, nM_eq, nM_nI_le, nI_nM_le, nM_nI_lt, nI_nM_lt, at_nI, gS_at, gS_ne', obind_some, iteT, iteF, ite_p, ite_n]
        by_cases hn : S.now.m s = 1
        · rw [if_pos hn, if_pos hn]; exact ⟨_, rfl, h, rfl⟩
        · rw [if_neg hn, if_neg hn]
          refine Ok.bind (h.note hW) (fun G1 h1 => ?_)
          have hsl := h1.2.now.sl (i := s) hs
          have hc10 := hL.c10 s j hs hj.1
          have e1 : gS G1 1 (4 + 9 * s + 5 + j) = nI (S.now.c s j) := by
            rw [show 4 + 9 * s + 5 + j = 9 + 9 * s + j by omega]; exact (hsl.2 j hj.1).2
          rw [e1]
          refine Ok.bind (Q := fun G2 => gOff (fun k j => decide (k = 1 ∧ 4 + 9 * s ≤ j ∧ j < 13 + 9 * s)) G1 G2 ∧ gS G2 1 (4 + 9 * s) = nI 0) ?_ (fun G2 h2 => ?_)
          · refine Ok.up (fun t r => r.2 = nI t ∧ gOff (fun k j => decide (k = 1 ∧ 4 + 9 * s ≤ j ∧ j < 13 + 9 * s)) G1 r.1 ∧ (0 < t → gS r.1 1 (4 + 9 * s) = nI 0)) 9 (by decide) ?_ ?_ ⟨rfl, gOff.rf, fun z => by omega⟩
            · rintro t ⟨G2, x⟩ ht ⟨hx, hO, hz⟩
              simp only at hx hO hz
              subst hx
              unfold f_X11_settle_b74
              simp (disch := omega) only [nLit, neg_nI, nI_add, pk_mul, nI_sub1, nI_clamp, gIn_t, gck_t, gLet_e, nI_leI, nI_ltJ, nI_eq, nI_nM_eq, nM_nI_eq, nM_eq, nM_nI_le, nI_nM_le, nM_nI_lt, nI_nM_lt, at_nI, gS_at, gS_ne', obind_some, iteT, iteF, ite_p, ite_n]
              refine ⟨_, rfl, rfl, hO.S1 (by simp; omega), fun _ => ?_⟩
              simp only
              by_cases e : t = 0
              · subst e; rw [Nat.add_zero, gS_at]
              · rw [gS_ne (by omega)]; exact hz (by omega)
            · rintro ⟨G2, x⟩ ⟨hx, hO, hz⟩
              simp only at hx hO hz
              subst hx
              unfold f_X11_settle_b74
              simp (disch := omega) only [nLit, neg_nI, nI_add, pk_mul, nI_sub1, nI_clamp, gIn_t, gck_t, gLet_e, nI_leI, nI_ltJ, nI_eq, nI_nM_eq, nM_nI_eq, nM_eq, nM_nI_le, nI_nM_le, nM_nI_lt, nI_nM_lt, at_nI, gS_at, gS_ne', obind_some, iteT, iteF, ite_p, ite_n]
              exact ⟨_, rfl, hO, hz (by omega)⟩
          · refine Ok.bind (comes_ok (w0 := fun _ => 0) (c0 := fun _ => 0) (by omega) ⟨h2.2, fun j hj => by omega⟩ (by omega)) (fun G3 h3 => ?_)
            have hO3 := h2.1.tr h3.1
            refine ⟨_, rfl, h1.2.up (hO3.w (fun k j hz => by simp [nowZ] at hz ⊢; omega)) (mRow.put hL h1.2.now hO3 ?_), ?_⟩
            · refine ⟨h3.2.1, fun i hi => ?_⟩
              have hi0 : i = 0 := by omega
              subst hi0
              have := h3.2.2 0 (by omega)
              refine ⟨?_, this.2⟩
              rw [this.1]; unfold setp; simp only [if_true]; rw [hj.2]
            · rfl
theorem lose_ok {S : St} {G : gP} (hW : S.Wf) (h : mSt S G) (a : Int32) : Ok (f_X11_lose G a) (mA (sLose S a)) := by
  unfold f_X11_lose sLose
  have hL := hW.now
  have h8 := hL.n8
  rw [isSlot_rg h8 h.now.1]
  cases ha : rg a 0 S.now.n with
  | none => exact ⟨_, rfl, h, rfl⟩
  | some s =>
    obtain ⟨-, hs, rfl⟩ := rg_some ha
    simp only [Option.isSome_some, if_true]
    rw [if_neg (by decide)]
    refine Ok.bind (h.note hW) (fun G1 h1 => ?_)
    have hR := h1.2.now
    have e0 : gS G1 1 0 = nI S.now.n := hR.1
    simp (disch := omega) only [nLit, neg_nI, nI_add, pk_mul, nI_sub1, nI_clamp, gIn_t, gck_t, gLet_e, nI_leI, nI_ltJ, nI_eq, nI_nM_eq, nM_nI_eq, nM_eq, nM_nI_le, nI_nM_le, nM_nI_lt, nI_nM_lt, at_nI, gS_at, gS_ne', obind_some, iteT, iteF, ite_p, ite_n, e0]
    generalize hG5 : gS1 G1 1 0 (nI (S.now.n - 1)) = G5
    have hO5 : gOff (fun k j => decide (k = 1 ∧ j = 0)) G1 G5 := by rw [← hG5]; exact gOff.rf.S1 (by simp)
    have g5 : gS G5 1 0 = nI (S.now.n - 1) := by rw [← hG5, gS_at]
    -- the slots behind it move up
    refine Ok.bind (Q := fun G2 => gOff (fun k j => decide (k = 1 ∧ 4 + 9 * s ≤ j)) G5 G2 ∧ ∀ j, 4 + 9 * s ≤ j → j < 4 + 9 * (S.now.n - 1) → gS G2 1 j = gS G5 1 (j + 9)) ?_ (fun G2 h2 => ?_)
    · refine Ok.up (fun t r => r.2 = nI (4 + 9 * s + t) ∧ gOff (fun k j => decide (k = 1 ∧ 4 + 9 * s ≤ j)) G5 r.1 ∧ (∀ j, 4 + 9 * s ≤ j → j < 4 + 9 * s + t → gS r.1 1 j = gS G5 1 (j + 9)) ∧ ∀ j, 4 + 9 * s + t ≤ j → gS r.1 1 j = gS G5 1 j) (9 * (S.now.n - 1 - s)) (by omega) ?_ ?_ ⟨rfl, gOff.rf, fun j h1 h2 => by omega, fun j _ => rfl⟩
      · rintro t ⟨G2, x⟩ ht ⟨hx, hO, hc, hr⟩
        simp only at hx hO hc hr
        subst hx
        unfold f_X11_lose_b30
        have e2 : gS G2 1 0 = nI (S.now.n - 1) := by rw [(hO 1 0 (by simp)).1]; exact g5
        simp (disch := omega) only [nLit, neg_nI, nI_add, pk_mul, nI_sub1, nI_clamp, gIn_t, gck_t, gLet_e, nI_leI, nI_ltJ, nI_eq, nI_nM_eq, nM_nI_eq, nM_eq, nM_nI_le, nI_nM_le, nM_nI_lt, nI_nM_lt, at_nI, gS_at, gS_ne', obind_some, iteT, iteF, ite_p, ite_n, e2]
        refine ⟨_, rfl, rfl, hO.S1 (by simp), fun j hj1 hj2 => ?_, fun j hj => ?_⟩
        · simp only
          by_cases e : j = 4 + 9 * s + t
          · subst e; rw [gS_at, hr _ (by omega)]
          · rw [gS_ne (by omega)]; exact hc j hj1 (by omega)
        · simp only
          rw [gS_ne (by omega)]; exact hr j (by omega)
      · rintro ⟨G2, x⟩ ⟨hx, hO, hc, hr⟩
        simp only at hx hO hc hr
        subst hx
        unfold f_X11_lose_b30
        have e2 : gS G2 1 0 = nI (S.now.n - 1) := by rw [(hO 1 0 (by simp)).1]; exact g5
        simp (disch := omega) only [nLit, neg_nI, nI_add, pk_mul, nI_sub1, nI_clamp, gIn_t, gck_t, gLet_e, nI_leI, nI_ltJ, nI_eq, nI_nM_eq, nM_nI_eq, nM_eq, nM_nI_le, nI_nM_le, nM_nI_lt, nI_nM_lt, at_nI, gS_at, gS_ne', obind_some, iteT, iteF, ite_p, ite_n, e2]
        exact ⟨_, rfl, hO, fun j h1 h2 => hc j h1 (by omega)⟩
    · obtain ⟨hO2, hc2⟩ := h2
      have g2 : gS G2 1 0 = nI (S.now.n - 1) := by rw [(hO2 1 0 (by simp)).1]; exact g5
      refine Ok.bind (Q := fun G3 => gOff (fun k j => decide (k = 1 ∧ 4 + 9 * (S.now.n - 1) ≤ j)) G2 G3) ?_ (fun G3 hO3 => ?_)
      · refine Ok.up (fun t r => r.2 = nI t ∧ gOff (fun k j => decide (k = 1 ∧ 4 + 9 * (S.now.n - 1) ≤ j)) G2 r.1) 9 (by decide) ?_ ?_ ⟨rfl, gOff.rf⟩
        · rintro t ⟨G3, x⟩ ht ⟨hx, hO⟩
          simp only at hx hO
          subst hx
          unfold f_X11_lose_b67
          have e3 : gS G3 1 0 = nI (S.now.n - 1) := by rw [(hO 1 0 (by simp)).1]; exact g2
          simp (disch := omega) only [nLit, neg_nI, nI_add, pk_mul, nI_sub1, nI_clamp, gIn_t, gck_t, gLet_e, nI_leI, nI_ltJ, nI_eq, nI_nM_eq, nM_nI_eq, nM_eq, nM_nI_le, nI_nM_le, nM_nI_lt, nI_nM_lt, at_nI, gS_at, gS_ne', obind_some, iteT, iteF, ite_p, ite_n, e3]
          exact ⟨_, rfl, rfl, hO.S1 (by simp)⟩
        · rintro ⟨G3, x⟩ ⟨hx, hO⟩
          simp only at hx hO
          subst hx
          unfold f_X11_lose_b67
          simp (disch := omega) only [nLit, neg_nI, nI_add, pk_mul, nI_sub1, nI_clamp, gIn_t, gck_t, gLet_e, nI_leI, nI_ltJ, nI_eq, nI_nM_eq, nM_nI_eq, nM_eq, nM_nI_le, nI_nM_le, nM_nI_lt, nI_nM_lt, at_nI, gS_at, gS_ne', obind_some, iteT, iteF, ite_p, ite_n]
          exact ⟨_, rfl, hO⟩
      · have g3 : gS G3 1 0 = nI (S.now.n - 1) := by rw [(hO3 1 0 (by simp)).1]; exact g2
        have hl : ∀ j, 0 < j → j < 4 + 9 * s → j < 4 + 9 * (S.now.n - 1) → gS G3 1 j = gS G1 1 j := fun j h0 h1 h2 => by
          rw [(hO3 1 j (by simp; omega)).1, (hO2 1 j (by simp; omega)).1, (hO5 1 j (by simp; omega)).1]
        have hh : ∀ j, 4 + 9 * s ≤ j → j < 4 + 9 * (S.now.n - 1) → gS G3 1 j = gS G1 1 (j + 9) := fun j h1 h2 => by
          rw [(hO3 1 j (by simp; omega)).1, hc2 j h1 h2, (hO5 1 (j + 9) (by simp)).1]
        refine ⟨_, rfl, h1.2.up ?_ (mRow.of g3 ?_ ?_ ?_ (fun i hi => ?_)), g3⟩
        · exact ((hO5.w (fun k j hz => by simp [nowZ] at hz ⊢; omega)).tr (hO2.w (fun k j hz => by simp [nowZ] at hz ⊢; omega))).tr (hO3.w (fun k j hz => by simp [nowZ] at hz ⊢; omega))
        · rw [hl 1 (by omega) (by omega) (by omega)]; exact hR.2.1
        · rw [hl 2 (by omega) (by omega) (by omega)]; exact hR.2.2.1
        · rw [hl 3 (by omega) (by omega) (by omega)]; exact hR.2.2.2.1
        · have hi' : i < S.now.n - 1 := hi
          unfold Lt.del
          simp only [Lt.mk_n, Lt.mk_kind, Lt.mk_slack, Lt.mk_draw, Lt.mk_m, Lt.mk_w, Lt.mk_c, St.mk_now, St.mk_past, St.mk_kept, St.mk_tape, St.mk_sh]
          by_cases e : i < s
          · simp only [e, if_true]
            have hsl := hR.sl (i := i) (show i < S.now.n by omega)
            have hm : S.now.m i ≤ 4 := (hL.m1 i (by omega)).2
            refine ⟨by rw [hl _ (by omega) (by omega) (by omega)]; exact hsl.1, fun j hj => ⟨?_, ?_⟩⟩
            · rw [hl _ (by omega) (by omega) (by omega)]; exact (hsl.2 j hj).1
            · rw [hl _ (by omega) (by omega) (by omega)]; exact (hsl.2 j hj).2
          · simp only [e, if_false]
            have hsl := hR.sl (i := i + 1) (show i + 1 < S.now.n by omega)
            have hm : S.now.m (i + 1) ≤ 4 := (hL.m1 (i + 1) (by omega)).2
            refine ⟨?_, fun j hj => ⟨?_, ?_⟩⟩
            · rw [hh _ (by omega) (by omega), show 4 + 9 * i + 9 = 4 + 9 * (i + 1) by omega]; exact hsl.1
            · rw [hh _ (by omega) (by omega), show 5 + 9 * i + j + 9 = 5 + 9 * (i + 1) + j by omega]; exact (hsl.2 j hj).1
            · rw [hh _ (by omega) (by omega), show 9 + 9 * i + j + 9 = 9 + 9 * (i + 1) + j by omega]; exact (hsl.2 j hj).2
theorem undo_ok {S : St} {G : gP} (hW : S.Wf) (h : mSt S G) : Ok (f_X11_undo G) (mA (sUndo S)) := by
  unfold f_X11_undo sUndo
  have h8 := hW.p8
  cases hp : S.past.getLast? with
  | none =>
    have : S.past = [] := List.getLast?_eq_none_iff.mp hp
    rw [h.un, this, if_pos (show nI ([] : List Lt).length = 0 from rfl)]
    exact ⟨_, rfl, h, rfl⟩
  | some L =>
    have hlen : 0 < S.past.length := List.length_pos_iff.mpr (fun z => by rw [z] at hp; cases hp)
    rw [List.getLast?_eq_getElem?] at hp
    have hLW := hW.past L (List.mem_of_getElem? hp)
    simp (disch := omega) only [nLit, neg_nI, nI_add, pk_mul, nI_sub1, nI_clamp, gIn_t, gck_t, gLet_e, nI_leI, nI_ltJ, nI_eq, nI_nM_eq, nM_nI_eq, nM_eq, nM_nI_le, nI_nM_le, nM_nI_lt, nI_nM_lt, at_nI, gS_at, gS_ne', obind_some, iteT, iteF, ite_p, ite_n, h.un]
    generalize hG5 : gS1 G 0 29 (nI (S.past.length - 1)) = G5
    have hO5 : gOff (fun k j => decide (k = 0 ∧ j = 29)) G G5 := by rw [← hG5]; exact gOff.rf.S1 (by simp)
    have g29 : gS G5 0 29 = nI (S.past.length - 1) := by rw [← hG5, gS_at]
    refine Ok.bind (cpy_ok (N := 76) (dst := 1) (sd := 0) (src := 14) (ss := 76 * (S.past.length - 1)) (by decide) (by decide) ?_ ?_) (fun G2 h2 => ?_)
    · intro G2 i hO2 hi
      have e29 : gS G2 0 29 = nI (S.past.length - 1) := by rw [(hO2 0 29 rfl).1]; exact g29
      unfold f_X11_undo_b22
      simp (disch := omega) only [nLit, neg_nI, nI_add, pk_mul, nI_sub1, nI_clamp, gIn_t, gck_t, gLet_e, nI_leI, nI_ltJ, nI_eq, nI_nM_eq, nM_nI_eq, nM_eq, nM_nI_le, nI_nM_le, nM_nI_lt, nI_nM_lt, at_nI, gS_at, gS_ne', obind_some, iteT, iteF, ite_p, ite_n, e29, Nat.zero_add]
    · intro G2 hO2
      unfold f_X11_undo_b22
      simp (disch := omega) only [nLit, neg_nI, nI_add, pk_mul, nI_sub1, nI_clamp, gIn_t, gck_t, gLet_e, nI_leI, nI_ltJ, nI_eq, nI_nM_eq, nM_nI_eq, nM_eq, nM_nI_le, nI_nM_le, nM_nI_lt, nI_nM_lt, at_nI, gS_at, gS_ne', obind_some, iteT, iteF, ite_p, ite_n]
    · obtain ⟨hO2, hc⟩ := h2
      have e29 : gS G2 0 29 = nI (S.past.length - 1) := by rw [(hO2 0 29 (by simp)).1]; exact g29
      have hOO : gOff (fun k j => decide ((k = 0 ∧ j = 29) ∨ k = 1)) G G2 := (hO5.w (fun k j hz => by simp at hz ⊢; omega)).tr (hO2.w (fun k j hz => by simp at hz ⊢; omega))
      have hn : mRow G2 1 0 L := mRow.cp hLW ((h.past _ L hp).off hO5 (fun _ => rfl)) (fun j hj => hc j hj)
      have hh : mSt S G := h
      refine ⟨_, rfl, ⟨hn, ?_, ?_, ?_, ?_, ?_, ?_⟩, e29⟩
      · show gS G2 0 29 = nI S.past.dropLast.length
        rw [e29, List.length_dropLast]
      · intro i L' hi0
        have hi : S.past.dropLast[i]? = some L' := hi0
        have hi2 : S.past[i]? = some L' := by
          have : i < S.past.dropLast.length := (List.getElem?_eq_some_iff.mp hi).1
          rw [List.length_dropLast] at this
          rw [List.dropLast_eq_take, List.getElem?_take_of_lt (by omega)] at hi
          exact hi
        exact (h.past i L' hi2).off hOO (fun _ => rfl)
      · have hk := h.kept
        show match S.kept with | none => _ | some (L, p) => _
        cases hS : S.kept with
        | none => rw [hS] at hk; simp only at hk ⊢; rw [(hOO 0 32 rfl).1]; exact hk
        | some q =>
          obtain ⟨L, p⟩ := q
          rw [hS] at hk
          exact ⟨hk.1.off hOO (fun _ => rfl), by rw [(hOO 0 32 rfl).1]; exact hk.2.1, fun i L hi => (hk.2.2 i L hi).off hOO (fun _ => rfl)⟩
      · rw [(hOO 0 23 rfl).1]; exact h.tp
      · intro j v hj; rw [(hOO 11 _ rfl).1]; exact h.tape j v hj
      · intro s hs
        have := h.sh s hs
        show match S.sh s with | none => _ | some (k, l) => _
        cases hS : S.sh s with
        | none => rw [hS] at this; simp only at this ⊢; rw [(hOO 17 s rfl).1]; exact this
        | some q =>
          obtain ⟨k, l⟩ := q
          rw [hS] at this
          exact ⟨by rw [(hOO 17 s rfl).1]; exact this.1, by rw [(hOO 18 s rfl).1]; exact this.2.1, fun i v hi => by rw [(hOO 19 _ rfl).2.1]; exact this.2.2 i v hi⟩
theorem image_ok {S : St} {G : gP} (hW : S.Wf) (h : mSt S G) : Ok (f_X11_image G) (mA (sImage S)) := by
  unfold f_X11_image
  refine Ok.bind (cpy_ok (N := 76) (dst := 15) (sd := 0) (src := 1) (ss := 0) (by decide) (by decide) ?_ ?_) (fun G1 h1 => ?_)
  · intro G2 i hO2 hi
    unfold f_X11_image_b2
    simp (disch := omega) only [nLit, neg_nI, nI_add, pk_mul, nI_sub1, nI_clamp, gIn_t, gck_t, gLet_e, nI_leI, nI_ltJ, nI_eq, nI_nM_eq, nM_nI_eq, nM_eq, nM_nI_le, nI_nM_le, nM_nI_lt, nI_nM_lt, at_nI, gS_at, gS_ne', obind_some, iteT, iteF, ite_p, ite_n, Nat.zero_add]
  · intro G2 hO2
    unfold f_X11_image_b2
    simp (disch := omega) only [nLit, neg_nI, nI_add, pk_mul, nI_sub1, nI_clamp, gIn_t, gck_t, gLet_e, nI_leI, nI_ltJ, nI_eq, nI_nM_eq, nM_nI_eq, nM_eq, nM_nI_le, nI_nM_le, nM_nI_lt, nI_nM_lt, at_nI, gS_at, gS_ne', obind_some, iteT, iteF, ite_p, ite_n]
  refine Ok.bind (cpy_ok (N := 608) (dst := 16) (sd := 0) (src := 14) (ss := 0) (by decide) (by decide) ?_ ?_) (fun G2 h2 => ?_)
  · intro G2 i hO2 hi
    unfold f_X11_image_b28
    simp (disch := omega) only [nLit, neg_nI, nI_add, pk_mul, nI_sub1, nI_clamp, gIn_t, gck_t, gLet_e, nI_leI, nI_ltJ, nI_eq, nI_nM_eq, nM_nI_eq, nM_eq, nM_nI_le, nI_nM_le, nM_nI_lt, nI_nM_lt, at_nI, gS_at, gS_ne', obind_some, iteT, iteF, ite_p, ite_n, Nat.zero_add]
  · intro G2 hO2
    unfold f_X11_image_b28
    simp (disch := omega) only [nLit, neg_nI, nI_add, pk_mul, nI_sub1, nI_clamp, gIn_t, gck_t, gLet_e, nI_leI, nI_ltJ, nI_eq, nI_nM_eq, nM_nI_eq, nM_eq, nM_nI_le, nI_nM_le, nM_nI_lt, nI_nM_lt, at_nI, gS_at, gS_ne', obind_some, iteT, iteF, ite_p, ite_n]
  obtain ⟨hO1, hc1⟩ := h1
  obtain ⟨hO2, hc2⟩ := h2
  have e29 : gS G2 0 29 = nI S.past.length := by rw [(hO2 0 29 (by simp)).1, (hO1 0 29 (by simp)).1]; exact h.un
  simp only [gLet]
  rw [e29]
  have hOO : gOff (fun k j => decide (k = 15 ∨ k = 16 ∨ (k = 0 ∧ j = 32))) G (gS1 G2 0 32 (nI S.past.length)) := ((hO1.w (fun k j hz => by simp at hz ⊢; omega)).tr (hO2.w (fun k j hz => by simp at hz ⊢; omega))).S1 (by simp)
  have h8 := hW.p8
  refine ⟨_, rfl, ⟨h.now.off hOO (fun _ => rfl), ?_, fun i L hi => (h.past i L hi).off hOO (fun _ => rfl), ?_, ?_, ?_, ?_⟩, rfl⟩
  · rw [(hOO 0 29 rfl).1]; exact h.un
  · refine ⟨mRow.cp hW.now h.now (fun j hj => ?_), gS_at, fun i L hi => mRow.cp (hW.past L (List.mem_of_getElem? hi)) (h.past i L hi) (fun j hj => ?_)⟩
    · show gS (gS1 G2 0 32 _) 15 _ = _
      rw [gS_ne (by omega), (hO2 15 _ (by simp)).1, hc1 j hj]
    · have hil : i < S.past.length := (List.getElem?_eq_some_iff.mp hi).1
      show gS (gS1 G2 0 32 _) 16 _ = _
      have := hc2 (76 * i + j) (by omega)
      rw [Nat.zero_add] at this
      rw [gS_ne (by omega), this, (hO1 14 _ (by simp)).1]
  · rw [(hOO 0 23 rfl).1]; exact h.tp
  · intro j v hj; rw [(hOO 11 _ rfl).1]; exact h.tape j v hj
  · intro s hs
    have := h.sh s hs
    show match S.sh s with | none => _ | some (k, l) => _
    cases hS : S.sh s with
    | none => rw [hS] at this; simp only at this ⊢; rw [(hOO 17 s rfl).1]; exact this
    | some q =>
      obtain ⟨k, l⟩ := q
      rw [hS] at this
      exact ⟨by rw [(hOO 17 s rfl).1]; exact this.1, by rw [(hOO 18 s rfl).1]; exact this.2.1, fun i v hi => by rw [(hOO 19 _ rfl).2.1]; exact this.2.2 i v hi⟩
theorem restore_ok {S : St} {G : gP} (hW : S.Wf) (h : mSt S G) : Ok (f_X11_restore G) (mA (sRestore S)) := by
  unfold f_X11_restore sRestore
  have hk := h.kept
  cases hS : S.kept with
  | none => rw [hS] at hk; simp only at hk; rw [hk, if_neg (by decide)]; exact ⟨_, rfl, h, rfl⟩
  | some q =>
    obtain ⟨L, p⟩ := q
    rw [hS] at hk
    obtain ⟨hk1, hk2, hk3⟩ := hk
    obtain ⟨w1, w2, w3⟩ := hW.kept L p hS
    rw [hk2, if_pos (nI_pos' (by omega))]
    refine Ok.bind (cpy_ok (N := 76) (dst := 1) (sd := 0) (src := 15) (ss := 0) (by decide) (by decide) ?_ ?_) (fun G1 h1 => ?_)
    · intro G2 i hO2 hi
      unfold f_X11_restore_b12
      simp (disch := omega) only [nLit, neg_nI, nI_add, pk_mul, nI_sub1, nI_clamp, gIn_t, gck_t, gLet_e, nI_leI, nI_ltJ, nI_eq, nI_nM_eq, nM_nI_eq, nM_eq, nM_nI_le, nI_nM_le, nM_nI_lt, nI_nM_lt, at_nI, gS_at, gS_ne', obind_some, iteT, iteF, ite_p, ite_n, Nat.zero_add]
    · intro G2 hO2
      unfold f_X11_restore_b12
      simp (disch := omega) only [nLit, neg_nI, nI_add, pk_mul, nI_sub1, nI_clamp, gIn_t, gck_t, gLet_e, nI_leI, nI_ltJ, nI_eq, nI_nM_eq, nM_nI_eq, nM_eq, nM_nI_le, nI_nM_le, nM_nI_lt, nI_nM_lt, at_nI, gS_at, gS_ne', obind_some, iteT, iteF, ite_p, ite_n]
    refine Ok.bind (cpy_ok (N := 608) (dst := 14) (sd := 0) (src := 16) (ss := 0) (by decide) (by decide) ?_ ?_) (fun G2 h2 => ?_)
    · intro G2 i hO2 hi
      unfold f_X11_restore_b38
      simp (disch := omega) only [nLit, neg_nI, nI_add, pk_mul, nI_sub1, nI_clamp, gIn_t, gck_t, gLet_e, nI_leI, nI_ltJ, nI_eq, nI_nM_eq, nM_nI_eq, nM_eq, nM_nI_le, nI_nM_le, nM_nI_lt, nI_nM_lt, at_nI, gS_at, gS_ne', obind_some, iteT, iteF, ite_p, ite_n, Nat.zero_add]
    · intro G2 hO2
      unfold f_X11_restore_b38
      simp (disch := omega) only [nLit, neg_nI, nI_add, pk_mul, nI_sub1, nI_clamp, gIn_t, gck_t, gLet_e, nI_leI, nI_ltJ, nI_eq, nI_nM_eq, nM_nI_eq, nM_eq, nM_nI_le, nI_nM_le, nM_nI_lt, nI_nM_lt, at_nI, gS_at, gS_ne', obind_some, iteT, iteF, ite_p, ite_n]
    obtain ⟨hO1, hc1⟩ := h1
    obtain ⟨hO2, hc2⟩ := h2
    have e32 : gS G2 0 32 = nI p.length := by rw [(hO2 0 32 (by simp)).1, (hO1 0 32 (by simp)).1]; exact hk2
    simp only [gLet]
    rw [e32]
    have hOO : gOff (fun k j => decide (k = 1 ∨ k = 14 ∨ (k = 0 ∧ j = 29))) G (gS1 G2 0 29 (nI p.length)) := ((hO1.w (fun k j hz => by simp at hz ⊢; omega)).tr (hO2.w (fun k j hz => by simp at hz ⊢; omega))).S1 (by simp)
    refine ⟨_, rfl, ⟨mRow.cp w1 hk1 (fun j hj => ?_), gS_at, fun i L' hi => mRow.cp (w2 L' (List.mem_of_getElem? hi)) (hk3 i L' hi) (fun j hj => ?_), ?_, ?_, ?_, ?_⟩, rfl⟩
    · show gS (gS1 G2 0 29 _) 1 _ = _
      rw [gS_ne (by omega), (hO2 1 _ (by simp)).1, hc1 j hj]
    · have hil : i < p.length := (List.getElem?_eq_some_iff.mp hi).1
      show gS (gS1 G2 0 29 _) 14 _ = _
      have := hc2 (76 * i + j) (by omega)
      rw [Nat.zero_add] at this
      rw [gS_ne (by omega), this, (hO1 16 _ (by simp)).1]
    · exact ⟨hk1.off hOO (fun _ => rfl), by rw [(hOO 0 32 rfl).1]; exact hk2, fun i L hi => (hk3 i L hi).off hOO (fun _ => rfl)⟩
    · rw [(hOO 0 23 rfl).1]; exact h.tp
    · intro j v hj; rw [(hOO 11 _ rfl).1]; exact h.tape j v hj
    · intro s hs
      have := h.sh s hs
      show match S.sh s with | none => _ | some (k, l) => _
      cases hS : S.sh s with
      | none => rw [hS] at this; simp only at this ⊢; rw [(hOO 17 s rfl).1]; exact this
      | some q =>
        obtain ⟨k, l⟩ := q
        rw [hS] at this
        exact ⟨by rw [(hOO 17 s rfl).1]; exact this.1, by rw [(hOO 18 s rfl).1]; exact this.2.1, fun i v hi => by rw [(hOO 19 _ rfl).2.1]; exact this.2.2 i v hi⟩
def sType (S : St) (a : Int32) : St × Int32 := match rg a 32 127 with
  | none => (S, -1)
  | some v => if S.tape.length = 120 then (S, -3) else ((St.of (S.now) (S.past) (S.kept) (S.tape ++ [v]) (S.sh)), nI (S.tape.length + 1))
theorem type_ok {S : St} {G : gP} (hW : S.Wf) (h : mSt S G) (a : Int32) : Ok (f_X11_type G a) (mA (sType S a)) := by
  unfold f_X11_type sType
  rw [in_rg a (lo := 32) (hi := 127) rfl rfl]
  cases ha : rg a 32 127 with
  | none => exact ⟨_, rfl, h, rfl⟩
  | some v =>
    obtain ⟨-, hv, rfl⟩ := rg_some ha
    simp only [Option.isSome_some, if_true]
    rw [if_neg (by decide)]
    have h120 := hW.tape.1
    simp (disch := omega) only [nLit, neg_nI, nI_add, pk_mul, nI_sub1, nI_clamp, gIn_t, gck_t, gLet_e, nI_leI, nI_ltJ, nI_eq, nI_nM_eq, nM_nI_eq, nM_eq, nM_nI_le, nI_nM_le, nM_nI_lt, nI_nM_lt, at_nI, gS_at, gS_ne', obind_some, iteT, iteF, ite_p, ite_n, h.tp]
    by_cases hn : S.tape.length = 120
    · rw [if_pos hn, if_pos hn]; exact ⟨_, rfl, h, rfl⟩
    · rw [if_neg hn, if_neg hn]
      have hOO : gOff (fun k j => decide (k = 11 ∨ (k = 0 ∧ j = 23))) G (gS1 (gS1 G 11 S.tape.length (nI v)) 0 23 (nI (S.tape.length + 1))) := (gOff.rf.S1 (by simp)).S1 (by simp)
      refine ⟨_, rfl, ⟨h.now.off hOO (fun _ => rfl), ?_, fun i L hi => (h.past i L hi).off hOO (fun _ => rfl), ?_, ?_, ?_, ?_⟩, rfl⟩
      · rw [(hOO 0 29 rfl).1]; exact h.un
      · have hk := h.kept
        show match S.kept with | none => _ | some (L, p) => _
        cases hS : S.kept with
        | none => rw [hS] at hk; simp only at hk ⊢; rw [(hOO 0 32 rfl).1]; exact hk
        | some q =>
          obtain ⟨L, p⟩ := q
          rw [hS] at hk
          exact ⟨hk.1.off hOO (fun _ => rfl), by rw [(hOO 0 32 rfl).1]; exact hk.2.1, fun i L hi => (hk.2.2 i L hi).off hOO (fun _ => rfl)⟩
      · show gS _ 0 23 = nI (S.tape ++ [v]).length
        rw [gS_at, List.length_append, List.length_singleton]
      · have := (h.tape.push (v := v)).S1 (a := 0) (i := 23) (v := nI (S.tape.length + 1)) (Or.inl (by decide))
        rwa [Nat.zero_add] at this
      · intro s hs
        have := h.sh s hs
        show match S.sh s with | none => _ | some (k, l) => _
        cases hS : S.sh s with
        | none => rw [hS] at this; simp only at this ⊢; rw [(hOO 17 s rfl).1]; exact this
        | some q =>
          obtain ⟨k, l⟩ := q
          rw [hS] at this
          exact ⟨by rw [(hOO 17 s rfl).1]; exact this.1, by rw [(hOO 18 s rfl).1]; exact this.2.1, fun i v hi => by rw [(hOO 19 _ rfl).2.1]; exact this.2.2 i v hi⟩
