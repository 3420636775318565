/-! the component: image, restore -/
theorem xka_ref {j : Nat} (hj : j < 8) : xRef (some (32 + 26 * (11 + j))) 6 = some (32 + 26 * (11 + j)) := xRef_lat (by omega)
theorem ximage_ok {S : St} {T : Nat → Nat × Nat} {G : gP} (hW : S.Wf) (h : xSt S T G) : Ok (f_X0_image G) (xA T (sImage S)) := by
  unfold f_X0_image
  have hp8 := hW.p8
  have hn : xLt G (32 + 26 * 0) S.now := h.now
  refine Ok.bind (latTake_ok (i := 2) (j := 0) (by omega) (by omega) (by omega) (h.sg 2 (by omega)) (h.sg 0 (by omega)) hW.now hn) (fun G1 h1 => ?_)
  obtain ⟨hO1, hr1, hx1⟩ := h1
  refine Ok.bind (Q := fun G2 => gOff (fun k _ => decide (318 ≤ k ∧ k < 526)) G1 G2 ∧ rSame G1 G2 ∧ ∀ i L, S.past[i]? = some L → xLt G2 (32 + 26 * (11 + i)) L) ?_ (fun G2 h2 => ?_)
  · refine Ok.up (fun p s => s.2 = nI p ∧ gOff (fun k _ => decide (318 ≤ k ∧ k < 526)) G1 s.1 ∧ rSame G1 s.1 ∧ ∀ i L, i < p → S.past[i]? = some L → xLt s.1 (32 + 26 * (11 + i)) L) S.past.length (by omega) ?_ ?_ ⟨rfl, gOff.rf, rSame.rf, fun i L hi => by omega⟩
    · rintro p ⟨G2, x⟩ hp ⟨hx, hO, hr, hl⟩
      simp only at hx hO hr hl
      subst hx
      unfold f_X0_image_b13
      simp only
      have hr02 : rSame G G2 := hr1.tr hr
      have e16 : gS G2 0 16 = nI S.past.length := by rw [(hO 0 16 (by simp)).1, (hO1 0 16 (by simp [lZ])).1]; exact h.un
      obtain ⟨L, hL⟩ : ∃ L, S.past[p]? = some L := ⟨_, List.getElem?_eq_getElem hp⟩
      have hLW := hW.past L (List.mem_of_getElem? hL)
      obtain ⟨r1, q, hq, r2⟩ := h.pa.1 p (by omega)
      rw [e16, if_neg (nI_ge hp (by omega)), gIn_t (by omega) (by omega), gck_t, nI_clamp (by omega), hr02, hr02, h.ka p (by omega), r1, r2, xka_ref (by omega), obind_some, gck_t, xRef_lat (by omega), obind_some]
      have hsrc : xLt G2 (32 + 26 * (3 + q)) L := by
        have := h.past p L hL
        rw [r2] at this
        refine (this.off hLW.n8 (h.sg _ (by omega)) hO1 hr1 (fun k j a b => by simp [lZ]; omega)).off hLW.n8 ((h.sg _ (by omega)).same hr1) hO hr (fun k j a b => by simp; omega)
      refine Ok.bind (latTake_ok (i := 11 + p) (j := 3 + q) (by omega) (by omega) (by omega) ((h.sg _ (by omega)).same hr02) ((h.sg _ (by omega)).same hr02) hLW hsrc) (fun G3 h3 => ?_)
      obtain ⟨hO3, hr3, hx3⟩ := h3
      refine ⟨_, rfl, nI_1 p, hO.tr (hO3.w (fun k j z => by simp [lZ] at z ⊢; omega)), hr.tr hr3, fun i L' hi hL' => ?_⟩
      simp only
      by_cases e : i = p
      · subst e; rw [hL] at hL'; cases hL'; exact hx3
      · exact (hl i L' (by omega) hL').off (hW.past L' (List.mem_of_getElem? hL')).n8 ((h.sg _ (by omega)).same hr02) hO3 hr3 (fun k j a b => by simp [lZ]; omega)
    · rintro ⟨G2, x⟩ ⟨hx, hO, hr, hl⟩
      simp only at hx hO hr hl
      subst hx
      unfold f_X0_image_b13
      simp only
      have e16 : gS G2 0 16 = nI S.past.length := by rw [(hO 0 16 (by simp)).1, (hO1 0 16 (by simp [lZ])).1]; exact h.un
      rw [e16, if_pos (nI_le (Nat.le_refl _) (by omega))]
      exact ⟨_, rfl, hO, hr, fun i L hL => hl i L (List.getElem?_eq_some_iff.mp hL).1 hL⟩
  · obtain ⟨hO2, hr2, hl2⟩ := h2
    simp only [gLet_e]
    have e16 : gS G2 0 16 = nI S.past.length := by rw [(hO2 0 16 (by simp)).1, (hO1 0 16 (by simp [lZ])).1]; exact h.un
    rw [e16]
    have hr02 : rSame G G2 := hr1.tr hr2
    have hO3 : gOff (fun k j => decide (k = 0 ∧ (j = 19 ∨ j = 20))) G2 (gS1 (gS1 G2 0 19 (nI S.past.length)) 0 20 1) := (gOff.rf.S1 (by simp)).S1 (by simp)
    have hr3 : rSame G2 (gS1 (gS1 G2 0 19 (nI S.past.length)) 0 20 1) := (rSame.rf.S1).S1
    have h19 : gS (gS1 (gS1 G2 0 19 (nI S.past.length)) 0 20 1) 0 19 = nI S.past.length := by rw [gS_ne (by decide), gS_at]
    have h20 : gS (gS1 (gS1 G2 0 19 (nI S.past.length)) 0 20 1) 0 20 = 1 := gS_at
    generalize gS1 (gS1 G2 0 19 (nI S.past.length)) 0 20 1 = G3 at *
    have hr : rSame G G3 := hr02.tr hr3
    have hO : gOff (fun k j => decide ((84 ≤ k ∧ k < 110) ∨ (318 ≤ k ∧ k < 526) ∨ (k = 0 ∧ (j = 19 ∨ j = 20)))) G G3 := ((hO1.w (fun k j z => by simp [lZ] at z ⊢; omega)).tr (hO2.w (fun k j z => by simp at z ⊢; omega))).tr (hO3.w (fun k j z => by simp at z ⊢; omega))
    have hlt : ∀ i L, i < 2 ∨ (3 ≤ i ∧ i < 11) → L.n ≤ 8 → xLt G (32 + 26 * i) L → xLt G3 (32 + 26 * i) L := fun i L hi h8 hx => hx.off h8 (h.sg i (by omega)) hO hr (fun k j a b => by simp; omega)
    refine ⟨_, rfl, ⟨h.rk.same hr, fun i hi => (h.sg i hi).same hr, h.pa.same hr, fun j hj => by rw [hr]; exact h.ka j hj, hlt 0 _ (by omega) hW.now.n8 h.now, ?_, fun i L hi => ?_, ?_, ?_, ?_, fun s hs => (h.sh s hs).off hO (hr _ _) (fun j => by simp; omega)⟩, rfl⟩
    · rw [(hO 0 16 (by simp)).1]; exact h.un
    · have hil : i < S.past.length := (List.getElem?_eq_some_iff.mp hi).1
      have hx := h.past i L hi
      have e2 : paO G3 i = paO G i := by unfold paO; rw [hr]
      rw [e2]
      obtain ⟨-, p', hp', e'⟩ := h.pa.1 i (by omega)
      rw [e'] at hx ⊢
      exact hlt _ L (by omega) (hW.past L (List.mem_of_getElem? hi)).n8 hx
    · refine ⟨h20, h19, ?_, fun i L' hi => ?_⟩
      · exact (hx1.off hW.now.n8 ((h.sg 2 (by omega)).same hr1) hO2 hr2 (fun k j a b => by simp; omega)).off hW.now.n8 ((h.sg 2 (by omega)).same hr02) hO3 hr3 (fun k j a b => by simp; omega)
      · have hil : i < S.past.length := (List.getElem?_eq_some_iff.mp hi).1
        exact (hl2 i L' hi).off (hW.past L' (List.mem_of_getElem? hi)).n8 ((h.sg (11 + i) (by omega)).same hr02) hO3 hr3 (fun k j a b => by simp; omega)
    · rw [(hO 0 11 (by simp)).1]; exact h.tp
    · intro j v hj; rw [(hO 9 _ (by simp)).1]; exact h.tape j v hj
theorem xrestore_ok {S : St} {T : Nat → Nat × Nat} {G : gP} (hW : S.Wf) (h : xSt S T G) : Ok (f_X0_restore G) (xA T (sRestore S)) := by
  unfold f_X0_restore sRestore
  have hkk := h.kept
  cases hSk : S.kept with
  | none =>
    rw [hSk] at hkk
    rw [if_pos (show gS G 0 20 = 0 from hkk)]
    exact ⟨_, rfl, h, rfl⟩
  | some z =>
    obtain ⟨L, p⟩ := z
    rw [hSk] at hkk
    obtain ⟨k1, k2, k3, k4⟩ := hkk
    obtain ⟨w1, w2, w3⟩ := hW.kept L p hSk
    rw [k1, if_neg (by decide)]
    have k3' : xLt G (32 + 26 * 2) L := k3
    refine Ok.bind (latTake_ok (i := 0) (j := 2) (by omega) (by omega) (by omega) (h.sg 0 (by omega)) (h.sg 2 (by omega)) w1 k3') (fun G1 h1 => ?_)
    obtain ⟨hO1, hr1, hx1⟩ := h1
    refine Ok.bind (Q := fun G2 => gOff (fun k _ => decide (110 ≤ k ∧ k < 318)) G1 G2 ∧ rSame G1 G2 ∧ ∀ i L, p[i]? = some L → xLt G2 (paO G i) L) ?_ (fun G2 h2 => ?_)
    · refine Ok.up (fun t s => s.2 = nI t ∧ gOff (fun k _ => decide (110 ≤ k ∧ k < 318)) G1 s.1 ∧ rSame G1 s.1 ∧ ∀ i L, i < t → p[i]? = some L → xLt s.1 (paO G i) L) p.length (by omega) ?_ ?_ ⟨rfl, gOff.rf, rSame.rf, fun i L hi => by omega⟩
      · rintro t ⟨G2, x⟩ ht ⟨hx, hO, hr, hl⟩
        simp only at hx hO hr hl
        subst hx
        unfold f_X0_restore_b23
        simp only
        have hr02 : rSame G G2 := hr1.tr hr
        have e19 : gS G2 0 19 = nI p.length := by rw [(hO 0 19 (by simp)).1, (hO1 0 19 (by simp [lZ])).1]; exact k2
        obtain ⟨L', hL'⟩ : ∃ L', p[t]? = some L' := ⟨_, List.getElem?_eq_getElem ht⟩
        have hLW := w2 L' (List.mem_of_getElem? hL')
        obtain ⟨r1, q, hq, r2⟩ := h.pa.1 t (by omega)
        rw [e19, if_neg (nI_ge ht (by omega)), gIn_t (by omega) (by omega), gck_t, nI_clamp (by omega), hr02, hr02, h.ka t (by omega), r1, r2, xRef_lat (by omega), obind_some, gck_t, xka_ref (by omega), obind_some]
        have hsrc : xLt G2 (32 + 26 * (11 + t)) L' := ((k4 t L' hL').off hLW.n8 (h.sg _ (by omega)) hO1 hr1 (fun k j a b => by simp [lZ]; omega)).off hLW.n8 ((h.sg _ (by omega)).same hr1) hO hr (fun k j a b => by simp; omega)
        refine Ok.bind (latTake_ok (i := 3 + q) (j := 11 + t) (by omega) (by omega) (by omega) ((h.sg _ (by omega)).same hr02) ((h.sg _ (by omega)).same hr02) hLW hsrc) (fun G3 h3 => ?_)
        obtain ⟨hO3, hr3, hx3⟩ := h3
        refine ⟨_, rfl, nI_1 t, hO.tr (hO3.w (fun k j z => by simp [lZ] at z ⊢; omega)), hr.tr hr3, fun i L2 hi hL2 => ?_⟩
        simp only
        by_cases e : i = t
        · subst e; rw [hL'] at hL2; cases hL2; rw [r2]; exact hx3
        · have hx := hl i L2 (by omega) hL2
          obtain ⟨-, q', hq', e'⟩ := h.pa.1 i (by omega)
          have hne : paO G i ≠ paO G t := fun z => e (h.pa.2 i t (by omega) (by omega) z)
          rw [e'] at hx hne ⊢
          rw [r2] at hne
          exact hx.off (w2 L2 (List.mem_of_getElem? hL2)).n8 ((h.sg _ (by omega)).same hr02) hO3 hr3 (fun k j a b => by simp [lZ]; omega)
      · rintro ⟨G2, x⟩ ⟨hx, hO, hr, hl⟩
        simp only at hx hO hr hl
        subst hx
        unfold f_X0_restore_b23
        simp only
        have e19 : gS G2 0 19 = nI p.length := by rw [(hO 0 19 (by simp)).1, (hO1 0 19 (by simp [lZ])).1]; exact k2
        rw [e19, if_pos (nI_le (Nat.le_refl _) (by omega))]
        exact ⟨_, rfl, hO, hr, fun i L hL => hl i L (List.getElem?_eq_some_iff.mp hL).1 hL⟩
    · obtain ⟨hO2, hr2, hl2⟩ := h2
      simp only [gLet_e]
      have e19 : gS G2 0 19 = nI p.length := by rw [(hO2 0 19 (by simp)).1, (hO1 0 19 (by simp [lZ])).1]; exact k2
      rw [e19]
      have hr02 : rSame G G2 := hr1.tr hr2
      have hO3 : gOff (fun k j => decide (k = 0 ∧ j = 16)) G2 (gS1 G2 0 16 (nI p.length)) := gOff.rf.S1 (by simp)
      have hr3 : rSame G2 (gS1 G2 0 16 (nI p.length)) := rSame.rf.S1
      have h16 : gS (gS1 G2 0 16 (nI p.length)) 0 16 = nI p.length := gS_at
      generalize gS1 G2 0 16 (nI p.length) = G3 at *
      have hr : rSame G G3 := hr02.tr hr3
      have hO : gOff (fun k j => decide ((32 ≤ k ∧ k < 58) ∨ (110 ≤ k ∧ k < 318) ∨ (k = 0 ∧ j = 16))) G G3 := ((hO1.w (fun k j z => by simp [lZ] at z ⊢; omega)).tr (hO2.w (fun k j z => by simp at z ⊢; omega))).tr (hO3.w (fun k j z => by simp at z ⊢; omega))
      have hlt : ∀ i L, i = 2 ∨ (11 ≤ i ∧ i < 19) → L.n ≤ 8 → xLt G (32 + 26 * i) L → xLt G3 (32 + 26 * i) L := fun i L hi h8 hx => hx.off h8 (h.sg i (by omega)) hO hr (fun k j a b => by simp; omega)
      refine ⟨_, rfl, ⟨h.rk.same hr, fun i hi => (h.sg i hi).same hr, h.pa.same hr, fun j hj => by rw [hr]; exact h.ka j hj, ?_, h16, fun i L' hi => ?_, ?_, ?_, ?_, fun s hs => (h.sh s hs).off hO (hr _ _) (fun j => by simp; omega)⟩, rfl⟩
      · exact (hx1.off w1.n8 ((h.sg 0 (by omega)).same hr1) hO2 hr2 (fun k j a b => by simp; omega)).off w1.n8 ((h.sg 0 (by omega)).same hr02) hO3 hr3 (fun k j a b => by simp; omega)
      · have hil : i < p.length := (List.getElem?_eq_some_iff.mp hi).1
        have hx := hl2 i L' hi
        have e2 : paO G3 i = paO G i := by unfold paO; rw [hr]
        rw [e2]
        obtain ⟨-, p', hp', e'⟩ := h.pa.1 i (by omega)
        rw [e'] at hx ⊢
        exact hx.off (w2 L' (List.mem_of_getElem? hi)).n8 ((h.sg _ (by omega)).same hr02) hO3 hr3 (fun k j a b => by simp; omega)
      · refine ⟨by rw [(hO 0 20 (by simp)).1]; exact k1, by rw [(hO 0 19 (by simp)).1]; exact k2, hlt 2 L (by omega) w1.n8 k3, fun i L' hi => ?_⟩
        have hil : i < p.length := (List.getElem?_eq_some_iff.mp hi).1
        exact hlt (11 + i) L' (by omega) (w2 L' (List.mem_of_getElem? hi)).n8 (k4 i L' hi)
      · rw [(hO 0 11 (by simp)).1]; exact h.tp
      · intro j v hj; rw [(hO 9 _ (by simp)).1]; exact h.tape j v hj
