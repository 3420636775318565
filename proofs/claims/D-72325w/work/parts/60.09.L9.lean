/-! the Model: counts -/
theorem counts_b18_ok {G : gP} : Ok (gloop f_X11_counts_b18 gFu (G, (0 : Int32))) (fun G' => gOff (fun k _ => decide (k = 6)) G G' ∧ ∀ j, j < 256 → gS G' 6 j = 0) := by
  refine Ok.up (fun i s => s.2 = nI i ∧ gOff (fun k _ => decide (k = 6)) G s.1 ∧ ∀ j, j < i → gS s.1 6 j = 0) 256 (by decide) ?_ ?_ ⟨rfl, gOff.rf, fun j hj => by omega⟩
  · rintro i ⟨G1, x⟩ hi ⟨hx, hO, hz⟩
    simp only at hx hO hz
    subst hx
    unfold f_X11_counts_b18
    simp only
    rw [nI_lit 256, if_neg (nI_ge hi (by omega)), gIn_nI (by omega), decide_eq_true hi, nI_clamp (by omega)]
    refine ⟨_, rfl, nI_1 i, hO.S1 rfl, fun j hj => ?_⟩
    show gS (gS1 G1 6 i 0) 6 j = 0
    rw [gS_S1]
    by_cases e : j = i
    · rw [if_pos ⟨rfl, e⟩]
    · rw [if_neg (fun z => e z.2)]; exact hz j (by omega)
  · rintro ⟨G1, x⟩ ⟨hx, hO, hz⟩
    simp only at hx hO hz
    unfold f_X11_counts_b18
    simp only
    rw [hx, nI_lit 256, if_pos (nI_le (Nat.le_refl _) (by decide))]
    exact ⟨_, rfl, hO, hz⟩
/-- one that is counted: its words have one more -/
theorem having_ok {f : gP × Int32 → Option ((gP × Int32) ⊕ gP)} (hf : f = f_X11_counts_b175) {G : gP} {L : Lt} (hL : L.Wf) (hR : mRow G 1 0 L) {r : Nat} (hp : mPk G L.n (L.pk r)) {l : List Nat} (hl : l.length < 2 ^ 30) (hh : ∀ k w, k < L.n → w < 32 → gS G 6 (32 * k + w) = nI (L.hv l k w)) :
    Ok (gloop f gFu (G, (0 : Int32))) (fun G' => gOff (fun k _ => decide (k = 6)) G G' ∧ ∀ k w, k < L.n → w < 32 → gS G' 6 (32 * k + w) = nI (L.hv (l ++ [r]) k w)) := by
  subst hf
  have h8 := hL.n8
  refine Ok.up (fun i s => s.2 = nI i ∧ gOff (fun k _ => decide (k = 6)) G s.1 ∧ ∀ k w, k < L.n → w < 32 → gS s.1 6 (32 * k + w) = if k < i then nI (L.hv (l ++ [r]) k w) else nI (L.hv l k w)) L.n (by omega) ?_ ?_ ?_
  · rintro i ⟨G1, x⟩ hi ⟨hx, hO, hz⟩
    simp only at hx hO hz
    subst hx
    unfold f_X11_counts_b175
    simp only
    have e1 : gS G1 1 0 = nI L.n := by rw [(hO 1 0 rfl).1]; exact hR.1
    have e2 : gS G1 2 i = nI (L.pk r i) := by rw [(hO 2 i (by simp)).1]; exact hp i hi
    have hpi := hL.pk_lt (r := r) hi
    have hm := hL.m1 i hi
    have e3 : gS G1 1 (4 + 9 * i + 1 + L.pk r i) = nI (L.w i (L.pk r i)) := by
      rw [(hO 1 _ (by simp)).1]
      have := ((hR.2.2.2.2 i hi).2 (L.pk r i) hpi).1
      have e : 4 + 9 * i + 1 + L.pk r i = 0 + 5 + 9 * i + L.pk r i := by omega
      rw [e]; exact this
    have hw := hL.w32 i (L.pk r i) hi hpi
    have hvb := L.hv_le l i (L.w i (L.pk r i))
    rw [e1, if_neg (nI_ge hi (by omega)), gIn_nI (by omega), decide_eq_true (by omega), nI_clamp (by omega), e2, at_nI, nI_lit 1, nI_add, nI_add, gIn_nI (by omega), decide_eq_true (by omega), nI_clamp (by omega), e3, nI_lit 32, pk_mul, nI_add, gIn_nI (by omega), decide_eq_true (by omega), nI_clamp (by omega), hz i _ hi hw, if_neg (Nat.lt_irrefl i), nI_add]
    refine ⟨_, rfl, nI_add i 1, hO.S1 rfl, fun k w hk hwk => ?_⟩
    show gS (gS1 G1 6 (32 * i + L.w i (L.pk r i)) _) 6 (32 * k + w) = _
    rw [gS_S1]
    by_cases e : k = i ∧ w = L.w i (L.pk r i)
    · obtain ⟨rfl, rfl⟩ := e
      rw [if_pos ⟨rfl, rfl⟩, if_pos (by omega), L.hv_s, if_pos rfl]
    · rw [if_neg (fun z => e (by have := z.2; omega)), hz k w hk hwk]
      by_cases hki : k < i
      · rw [if_pos hki, if_pos (by omega)]
      · rw [if_neg hki]
        by_cases hki2 : k = i
        · subst hki2
          rw [if_pos (by omega), L.hv_s, if_neg (fun z => e ⟨rfl, z.symm⟩)]; rfl
        · rw [if_neg (by omega)]
  · rintro ⟨G1, x⟩ ⟨hx, hO, hz⟩
    simp only at hx hO hz
    unfold f_X11_counts_b175
    simp only
    have e1 : gS G1 1 0 = nI L.n := by rw [(hO 1 0 rfl).1]; exact hR.1
    rw [hx, e1, if_pos (nI_le (Nat.le_refl _) (by omega))]
    refine ⟨_, rfl, hO, fun k w hk hw => ?_⟩
    rw [hz k w hk hw, if_pos hk]
  · refine ⟨rfl, gOff.rf, fun k w hk hw => ?_⟩
    rw [if_neg (by omega)]
    exact hh k w hk hw
theorem fP.off {Z : Nat → Nat → Bool} {L : Lt} {G G' : gP} (h : fP L G) (hO : gOff Z G G') (z0 : Z 0 8 = false ∧ Z 0 9 = false ∧ Z 0 10 = false ∧ Z 0 11 = false ∧ Z 0 13 = false) (z5 : ∀ j, Z 5 j = false) : fP L G' := by
  obtain ⟨h1, h2, h3, h4, h5⟩ := h
  refine ⟨?_, ?_, ?_, ?_, ?_⟩
  · rw [(hO 0 8 z0.1).1]; exact h1
  · rw [(hO 0 9 z0.2.1).1]; exact h2
  · rw [(hO 0 10 z0.2.2.1).1]; exact h3
  · rw [(hO 0 11 z0.2.2.2.1).1]; exact h4
  · cases hb : L.bestR L.N with
    | none => rw [hb] at h5; rw [(hO 0 13 z0.2.2.2.2).1]; exact h5
    | some b =>
      rw [hb] at h5
      obtain ⟨ns, k1, k2, k3, k4⟩ := h5
      exact ⟨ns, k1, k2, by rw [(hO 0 13 z0.2.2.2.2).1]; exact k3, fun j v hj => by rw [(hO 5 _ (z5 _)).1]; exact k4 j v hj⟩
theorem Lt.nx_le {L : Lt} (hL : L.Wf) : ∀ t, L.nx t ≤ 9999 := by
  intro t
  induction t with
  | zero => exact Nat.le_refl _
  | succ t ih =>
    rw [Lt.nx]
    split
    · have := hL.cost_le t; omega
    · exact ih
theorem counts_ok {G : gP} {L : Lt} (hL : L.Wf) (hR : mRow G 1 0 L) : Ok (f_X11_counts G) (fun G' => gOff cZ G G' ∧ cP L G') := by
  unfold f_X11_counts
  have hN := hL.N_le
  have fzc : ∀ k j, cZ k j = false → fZ k j = false := by intro k j h; unfold cZ at h; rw [Bool.or_eq_false_iff] at h; exact h.1
  have tzc : ∀ k j, cZ k j = false → tZ k j = false := by intro k j h; have := fzc k j h; unfold fZ at this; rw [Bool.or_eq_false_iff] at this; exact this.1
  have z1 : ∀ {G1 : gP}, gOff cZ G G1 → mRow G1 1 0 L := fun hO => hR.off hO (fun j => by simp [cZ, fZ, tZ])
  refine Ok.bind (finds_ok hL hR) (fun G0 h0 => ?_)
  obtain ⟨hO0, hF0⟩ := h0
  simp only [gLet]
  refine Ok.bind counts_b18_ok (fun G1 h1 => ?_)
  obtain ⟨hO1, hz⟩ := h1
  have hO1' : gOff cZ G G1 := (((hO0.w fzc).S1 rfl).S1 rfl).tr (hO1.w (fun k j h => by simp [cZ, fZ, tZ] at h ⊢; omega))
  have g15 : gS G1 0 15 = 0 := by rw [(hO1 0 15 rfl).1, gS_ne (by decide), gS_at]
  have g14 : gS G1 0 14 = 9999 := by rw [(hO1 0 14 rfl).1, gS_at]
  have hOa : gOff (fun k j => decide (k = 0 ∧ (j = 14 ∨ j = 15))) G0 (gS1 (gS1 G0 0 15 0) 0 14 9999) := (gOff.rf.S1 rfl).S1 rfl
  have hF1 : fP L G1 := (hF0.off hOa ⟨rfl, rfl, rfl, rfl, rfl⟩ (fun j => rfl)).off hO1 ⟨rfl, rfl, rfl, rfl, rfl⟩ (fun j => rfl)
  have hbest := hF1.best
  -- how many readings are gone through
  refine Ok.bind (Q := fun x => ∃ M, x = nI M ∧ M ≤ L.N ∧ (M < L.N → L.B = none) ∧ (L.B = none → M = 0)) ?_ (fun x hx => ?_)
  · rw [hbest]
    cases hb : L.bestR L.N with
    | none => rw [if_pos (show rI none = -4 from rfl)]; exact ⟨_, rfl, 0, rfl, Nat.zero_le _, fun _ => hb, fun _ => rfl⟩
    | some b =>
      have hbl := L.bestR_lt _ _ hb
      rw [if_neg (fun z => by have := (rI_m4 (some b) (fun b' hb' => by cases hb'; omega)).mp z; cases this)]
      refine Ok.bind (readings_ok hL (z1 hO1')) (fun y hy => ⟨_, rfl, L.N, hy, Nat.le_refl _, fun h => by omega, fun h => by unfold Lt.B at h; rw [hb] at h; cases h⟩)
  · obtain ⟨M, rfl, hM, hMn, hM0⟩ := hx
    -- beyond M nothing is sound
    have hMcl : L.cl M = L.C ∧ L.nx M = L.nx L.N := by
      by_cases hlt : M < L.N
      · have hb := hMn hlt
        have hM00 := hM0 hb
        have hso := hL.none_so L.N hb
        have key : ∀ t, t ≤ L.N → L.cl t = [] ∧ L.nx t = 9999 := by
          intro t
          induction t with
          | zero => intro _; exact ⟨rfl, rfl⟩
          | succ t ih =>
            intro ht
            have := ih (by omega)
            have hs := hso t (by omega)
            constructor
            · rw [Lt.cl, if_neg (by unfold Lt.cnt; rw [hs]; simp)]; exact this.1
            · rw [Lt.nx, if_neg (fun z => by rw [hs] at z; cases z.1)]; exact this.2
        have k1 := key M hM
        have k2 := key L.N (Nat.le_refl _)
        unfold Lt.C
        exact ⟨k1.1.trans k2.1.symm, k1.2.trans k2.2.symm⟩
      · have : M = L.N := by omega
        subst this
        exact ⟨rfl, rfl⟩
    refine Ok.bind (Q := fun G' => gOff cZ G G' ∧ cP L G') ?_ (fun G' h => ⟨_, rfl, h⟩)
    refine Ok.up (fun t s => s.2 = nI t ∧ gOff cZ G s.1 ∧ fP L s.1 ∧ gS s.1 0 14 = nI (L.nx t) ∧ gS s.1 0 15 = nI (L.cl t).length ∧ (∀ i, i < 60 → ∀ r, (L.cl t)[i]? = some r → gS s.1 7 i = nI r) ∧ ∀ k w, k < L.n → w < 32 → gS s.1 6 (32 * k + w) = nI (L.hv (L.cl t) k w)) M (by omega) ?_ ?_ ?_
    · rintro t ⟨G2, x⟩ ht ⟨hx, hO, hF, h14, h15, h7, h6⟩
      simp only at hx hO hF h14 h15 h7 h6
      subst hx
      unfold f_X11_counts_b58
      simp only
      rw [if_neg (nI_ge ht (by omega))]
      refine Ok.bind (takes_ok hL (z1 hO) (show t < 2 ^ 31 by omega)) (fun q hq => ?_)
      obtain ⟨hO2, hp, hc, hm⟩ := hq
      have hOq : gOff cZ G q.1 := hO.tr (hO2.w tzc)
      have hFq : fP L q.1 := hF.off hO2 ⟨rfl, rfl, rfl, rfl, rfl⟩ (fun j => rfl)
      have o14 : gS q.1 0 14 = nI (L.nx t) := by rw [(hO2 0 14 rfl).1]; exact h14
      have o15 : gS q.1 0 15 = nI (L.cl t).length := by rw [(hO2 0 15 rfl).1]; exact h15
      have o7 : ∀ i, i < 60 → ∀ r, (L.cl t)[i]? = some r → gS q.1 7 i = nI r := fun i hi r hr => by rw [(hO2 7 i rfl).1]; exact h7 i hi r hr
      have o6 : ∀ k w, k < L.n → w < 32 → gS q.1 6 (32 * k + w) = nI (L.hv (L.cl t) k w) := fun k w hk hw => by rw [(hO2 6 _ rfl).1]; exact h6 k w hk hw
      have hnx := Lt.nx_le hL t
      have hcl := hL.cost_le t
      have hlen := L.cl_len t
      -- whether it is sound
      refine Ok.bind (Q := fun y => y = bI (L.so t)) ?_ (fun y hy => ?_)
      · cases he : L.ev t with
        | none =>
          rw [he] at hm
          simp only at hm
          rw [hm, if_pos rfl]
          exact ⟨_, rfl, by unfold Lt.so; rw [he]; rfl⟩
        | some ns =>
          rw [he] at hm
          obtain ⟨hm1, hm2⟩ := hm
          rw [hm1, if_neg (by decide)]
          refine Ok.bind (holds_ok hL (z1 hOq) hm2 (hm2.ok hL (hL.pk_ok t) he)) (fun y hy => ?_)
          have eso : L.so t = sound L.kind ns := by unfold Lt.so; rw [he]
          rw [hy, ← eso]
          cases L.so t
          · rw [if_pos (by decide)]; exact ⟨_, rfl, rfl⟩
          · rw [if_neg (by decide)]; exact ⟨_, rfl, rfl⟩
      · subst hy
        -- the next cost
        refine Ok.bind (Q := fun y => y = nI (L.nx (t + 1))) ?_ (fun y hy => ?_)
        · rw [o14, hc]
          cases hs : L.so t with
          | false =>
            rw [if_pos (by decide)]
            refine ⟨_, rfl, ?_⟩
            rw [Lt.nx, hs, if_neg (fun z => by cases z.1)]
          | true =>
            rw [if_neg (by decide)]
            by_cases hlt : L.cost t < L.nx t
            · rw [if_neg (nI_ge hlt (by omega))]
              cases he : L.ev t with
              | none => unfold Lt.so at hs; rw [he] at hs; cases hs
              | some ns =>
                rw [he] at hm
                obtain ⟨hm1, hm2⟩ := hm
                have hbm := hFq.bm
                cases hb : L.bestR L.N with
                | none => have := hL.none_so L.N hb t (by omega); rw [this] at hs; cases hs
                | some b =>
                  rw [hb] at hbm
                  obtain ⟨nb, k1, k2, k3, k4⟩ := hbm
                  refine Ok.bind (isAsBest_ok (hm2.ok hL (hL.pk_ok t) he) k2 hm2.1 k3 hm2.2.1 k4) (fun y hy => ?_)
                  have eO : L.evO L.B = some nb := by unfold Lt.evO Lt.B; rw [hb]; exact k1
                  rw [hy, Lt.nx]
                  by_cases hne : ns = nb
                  · rw [decide_eq_true hne, if_neg (by decide), if_neg (fun z => z.2.2 (by rw [he, eO, hne]))]
                    exact ⟨_, rfl, rfl⟩
                  · rw [decide_eq_false hne, if_pos (by decide), if_pos ⟨hs, hlt, fun z => hne (by rw [he, eO] at z; exact Option.some.inj z)⟩]
                    exact ⟨_, rfl, rfl⟩
            · rw [if_pos (nI_le (by omega) (by omega))]
              refine ⟨_, rfl, ?_⟩
              rw [Lt.nx, if_neg (fun z => hlt z.2.1)]
        · subst hy
          have hOr : gOff cZ G (gS1 q.1 0 14 (nI (L.nx (t + 1)))) := hOq.S1 rfl
          have hFr : fP L (gS1 q.1 0 14 (nI (L.nx (t + 1)))) := hFq.off (Z := fun k j => decide (k = 0 ∧ j = 14)) (gOff.rf.S1 rfl) ⟨rfl, rfl, rfl, rfl, rfl⟩ (fun j => rfl)
          have r11 : gS (gS1 q.1 0 14 (nI (L.nx (t + 1)))) 0 11 = nI (L.costO L.B) := hFr.bc
          have r2 : gS (gS1 q.1 0 14 (nI (L.nx (t + 1)))) 1 2 = nI L.slack := (z1 hOr).2.2.1
          have r4 : gS (gS1 q.1 0 14 (nI (L.nx (t + 1)))) 0 4 = nI (L.cost t) := by rw [gS_ne (by decide)]; exact hc
          have r15 : gS (gS1 q.1 0 14 (nI (L.nx (t + 1)))) 0 15 = nI (L.cl t).length := by rw [gS_ne (by decide)]; exact o15
          have hco := hL.costO_le L.B
          have hsl := hL.s20
          simp only [gLet]
          rw [r11, r2, r4, nI_add, r15]
          have hskip : L.cnt t = false → L.cl (t + 1) = L.cl t := fun h => by rw [Lt.cl, if_neg (by rw [h]; decide)]
          have hno : L.cnt t = false → (nI t + 1 = nI (t + 1) ∧ gOff cZ G (gS1 q.1 0 14 (nI (L.nx (t + 1)))) ∧ fP L (gS1 q.1 0 14 (nI (L.nx (t + 1)))) ∧ gS (gS1 q.1 0 14 (nI (L.nx (t + 1)))) 0 14 = nI (L.nx (t + 1)) ∧ gS (gS1 q.1 0 14 (nI (L.nx (t + 1)))) 0 15 = nI (L.cl (t + 1)).length ∧ (∀ i, i < 60 → ∀ r, (L.cl (t + 1))[i]? = some r → gS (gS1 q.1 0 14 (nI (L.nx (t + 1)))) 7 i = nI r) ∧ ∀ k w, k < L.n → w < 32 → gS (gS1 q.1 0 14 (nI (L.nx (t + 1)))) 6 (32 * k + w) = nI (L.hv (L.cl (t + 1)) k w)) := by
            intro h
            rw [hskip h]
            refine ⟨nI_1 t, hOr, hFr, gS_at, r15, fun i hi r hr => ?_, fun k w hk hw => ?_⟩
            · show gS (gS1 _ _ _ _) 7 i = _
              rw [gS_ne (by omega)]; exact o7 i hi r hr
            · show gS (gS1 _ _ _ _) 6 _ = _
              rw [gS_ne (by omega)]; exact o6 k w hk hw
          cases hs : L.so t with
          | false =>
            rw [if_pos (by decide)]
            exact ⟨_, rfl, hno (by unfold Lt.cnt; rw [hs]; rfl)⟩
          | true =>
            rw [if_neg (by decide)]
            by_cases hle : L.cost t ≤ L.costO L.B + L.slack
            · have hcn : L.cnt t = true := by unfold Lt.cnt; rw [hs, decide_eq_true hle]; rfl
              have ecl : L.cl (t + 1) = L.cl t ++ [t] := by rw [Lt.cl, if_pos hcn]
              rw [if_neg (nI_nlt hle (by omega))]
              -- the list
              refine Ok.bind (Q := fun G3 => gOff cZ G G3 ∧ gOff (fun k _ => decide (k = 7)) (gS1 q.1 0 14 (nI (L.nx (t + 1)))) G3 ∧ ∀ i, i < 60 → ∀ r, (L.cl t ++ [t])[i]? = some r → gS G3 7 i = nI r) ?_ (fun G3 h3 => ?_)
              · by_cases h60 : 60 ≤ (L.cl t).length
                · rw [nI_lit 60, if_pos (nI_le h60 (by omega))]
                  refine ⟨_, rfl, hOr, gOff.rf, fun i hi r hr => ?_⟩
                  rw [gS_ne (by omega)]
                  refine o7 i hi r ?_
                  rw [List.getElem?_append_left (by omega)] at hr
                  exact hr
                · rw [nI_lit 60, if_neg (nI_ge (by omega) (by omega)), gIn_nI (by omega), decide_eq_true (by omega), nI_clamp (by omega)]
                  refine ⟨_, rfl, hOr.S1 (by simp [cZ]), gOff.rf.S1 rfl, fun i hi r hr => ?_⟩
                  rw [gS_S1]
                  by_cases hie : i = (L.cl t).length
                  · rw [if_pos ⟨rfl, hie⟩]
                    subst hie
                    rw [List.getElem?_append_right (Nat.le_refl _), Nat.sub_self] at hr
                    cases hr; rfl
                  · rw [if_neg (fun z => hie z.2), gS_ne (by omega)]
                    by_cases hi2 : i < (L.cl t).length
                    · rw [List.getElem?_append_left hi2] at hr; exact o7 i hi r hr
                    · rw [List.getElem?_eq_none (by simp; omega)] at hr; cases hr
              · obtain ⟨hO3, hO37, hl3⟩ := h3
                have s15 : gS G3 0 15 = nI (L.cl t).length := by rw [(hO37 0 15 rfl).1]; exact r15
                rw [s15, nI_1]
                have hO4 : gOff cZ G (gS1 G3 0 15 (nI ((L.cl t).length + 1))) := hO3.S1 rfl
                have hp4 : mPk (gS1 G3 0 15 (nI ((L.cl t).length + 1))) L.n (L.pk t) := fun k hk => by
                  rw [gS_ne (by omega), (hO37 2 k rfl).1, gS_ne (by omega)]; exact hp k hk
                have hh4 : ∀ k w, k < L.n → w < 32 → gS (gS1 G3 0 15 (nI ((L.cl t).length + 1))) 6 (32 * k + w) = nI (L.hv (L.cl t) k w) := fun k w hk hw => by
                  rw [gS_ne (by omega), (hO37 6 _ rfl).1, gS_ne (by omega)]; exact o6 k w hk hw
                refine Ok.bind (having_ok rfl hL (z1 hO4) hp4 (by omega) hh4) (fun G5 h5 => ?_)
                obtain ⟨hO5, hh5⟩ := h5
                refine ⟨_, rfl, nI_1 t, hO4.tr (hO5.w (fun k j h => by simp [cZ] at h ⊢; omega)), ?_, ?_, ?_, ?_, ?_⟩
                · refine ((hFr.off hO37 ⟨rfl, rfl, rfl, rfl, rfl⟩ (fun j => rfl)).off (Z := fun k j => decide (k = 0 ∧ j = 15)) (gOff.rf.S1 rfl) ⟨rfl, rfl, rfl, rfl, rfl⟩ (fun j => rfl)).off hO5 ⟨rfl, rfl, rfl, rfl, rfl⟩ (fun j => rfl)
                · show gS G5 0 14 = _
                  rw [(hO5 0 14 rfl).1, gS_ne (by decide), (hO37 0 14 rfl).1, gS_at]
                · show gS G5 0 15 = _
                  rw [(hO5 0 15 rfl).1, gS_at, ecl]
                  apply nI_inj; simp
                · intro i hi r hr
                  rw [ecl] at hr
                  show gS G5 7 i = _
                  rw [(hO5 7 i rfl).1, gS_ne (by omega)]; exact hl3 i hi r hr
                · intro k w hk hw
                  rw [ecl]
                  exact hh5 k w hk hw
            · rw [if_pos (nI_lt (by omega) (by omega))]
              exact ⟨_, rfl, hno (by unfold Lt.cnt; rw [hs, decide_eq_false hle]; rfl)⟩
    · rintro ⟨G2, x⟩ ⟨hx, hO, hF, h14, h15, h7, h6⟩
      simp only at hx hO hF h14 h15 h7 h6
      unfold f_X11_counts_b58
      simp only
      rw [hx, if_pos (nI_le (Nat.le_refl _) (by omega))]
      rw [hMcl.1] at h15 h7 h6
      rw [hMcl.2] at h14
      exact ⟨_, rfl, hO, ⟨hF, h14, h15, h7, h6⟩⟩
    · refine ⟨rfl, hO1', hF1, g14, g15, fun i hi r hr => (by cases hr), fun k w hk hw => ?_⟩
      have := hL.n8
      exact hz _ (by omega)
