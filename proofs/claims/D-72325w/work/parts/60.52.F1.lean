/-! the Model: copy, meant, film -/
theorem lt0_I (a : Int32) : a < 0 ↔ a.toInt < 0 := by rw [Int32.lt_iff_toInt_lt]; exact Iff.rfl
theorem add_L (a b : Int32) : (a.toInt64 + b.toInt64).toInt = a.toInt + b.toInt := by
  rw [Int64.toInt_add, Int32.toInt_toInt64, Int32.toInt_toInt64]
  have h1 := Int32.le_toInt a
  have h2 := Int32.toInt_lt a
  have h3 := Int32.le_toInt b
  have h4 := Int32.toInt_lt b
  exact Int.bmod_eq_of_le (by omega) (by omega)
theorem copy_ok {S : St} {G : gP} (hW : S.Wf) (h : mSt S G) (a i b j n : Int32) : Ok (f_X11_copy G a i b j n) (mA (sCopy S a i b j n)) := by
  unfold f_X11_copy sCopy
  rw [isSheet_rg, isSheet_rg]
  cases ha : rg a 0 4 with
  | none => exact ⟨_, rfl, h, rfl⟩
  | some s =>
    obtain ⟨-, hs, rfl⟩ := rg_some ha
    simp only [Option.isSome_some, if_true]
    rw [if_neg (by decide)]
    cases hb : rg b 0 4 with
    | none => exact ⟨_, rfl, h, rfl⟩
    | some d =>
      obtain ⟨-, hd, rfl⟩ := rg_some hb
      simp only [Option.isSome_some, if_true]
      have hp := h.shP hs
      have hq := h.shP hd
      rw [if_neg (by decide), gIn_t (by omega) hs, gck_t, nI_clamp (by omega), gIn_t (show d < 2 ^ 31 by omega) hd, nI_clamp (show d < 2 ^ 31 by omega)]
      simp only [gck_t]
      cases hS : S.sh s with
      | none =>
        rw [hS] at hp
        have hp' : gS G 17 s = -1 := hp
        rw [hp', if_pos (by decide)]
        exact ⟨_, rfl, h, rfl⟩
      | some q =>
        obtain ⟨k, l⟩ := q
        rw [hS] at hp
        obtain ⟨p1, p2, p3⟩ := hp
        have hw := hW.sh s k l hS
        rw [p1, p2, if_neg (nI_pos (by omega))]
        simp only
        cases hD : S.sh d with
        | none =>
          rw [hD] at hq
          have hq' : gS G 17 d = -1 := hq
          rw [hq', if_neg (by decide)]
          exact ⟨_, rfl, h, rfl⟩
        | some q' =>
          obtain ⟨k', l'⟩ := q'
          rw [hD] at hq
          obtain ⟨q1, q2, q3⟩ := hq
          have hw' := hW.sh d k' l' hD
          rw [q1, q2, if_pos (nI_pos' (by omega))]
          simp only
          by_cases ek : k = k'
          · rw [if_pos (nI_inj ek), if_pos ek]
            have c1 : (nI l.length).toInt64 < i.toInt64 + n.toInt64 ↔ ¬ i.toInt + n.toInt ≤ (l.length : Int) := by
              rw [Int64.lt_iff_toInt_lt, add_L, Int32.toInt_toInt64, nI_toInt (by omega)]; omega
            have c2 : j.toInt64 + n.toInt64 ≤ (nI l'.length).toInt64 ↔ j.toInt + n.toInt ≤ (l'.length : Int) := by
              rw [Int64.le_iff_toInt_le, add_L, Int32.toInt_toInt64, nI_toInt (by omega)]
            by_cases hn : n < 0
            · rw [if_pos hn, if_neg (fun z => by have := (lt0_I n).mp hn; omega)]; exact ⟨_, rfl, h, rfl⟩
            rw [if_neg hn]
            by_cases hi : i < 0
            · rw [if_pos hi, if_neg (fun z => by have := (lt0_I i).mp hi; omega)]; exact ⟨_, rfl, h, rfl⟩
            rw [if_neg hi]
            by_cases hj : j < 0
            · rw [if_pos hj, if_neg (fun z => by have := (lt0_I j).mp hj; omega)]; exact ⟨_, rfl, h, rfl⟩
            rw [if_neg hj]
            by_cases h1 : i.toInt + n.toInt ≤ (l.length : Int)
            · rw [if_neg (fun z => c1.mp z h1)]
              by_cases h2 : j.toInt + n.toInt ≤ (l'.length : Int)
              · rw [if_pos (c2.mpr h2)]
                obtain ⟨nn, hnn, rfl⟩ := nI_of hn
                obtain ⟨ii, hii, rfl⟩ := nI_of hi
                obtain ⟨jj, hjj, rfl⟩ := nI_of hj
                rw [nI_toInt hnn, nI_toInt hii] at h1
                rw [nI_toInt hnn, nI_toInt hjj] at h2
                rw [nI_toInt hnn, nI_toInt hii, nI_toInt hjj, if_pos ⟨by omega, by omega, by omega, h1, h2⟩, Int.toNat_natCast, Int.toNat_natCast, Int.toNat_natCast]
                -- moved
                refine Ok.bind (Q := fun G1 => gOff (fun k _ => decide (k = 20)) G G1 ∧ ∀ x, x < nn → gL G1 20 x = gL G 19 (24 * s + ii + x)) ?_ (fun G1 h3 => ?_)
                · refine Ok.up (fun t z => z.2 = nI t ∧ gOff (fun k _ => decide (k = 20)) G z.1 ∧ ∀ x, x < t → gL z.1 20 x = gL G 19 (24 * s + ii + x)) nn (by omega) ?_ ?_ ⟨rfl, gOff.rf, fun x hx => by omega⟩
                  · rintro t ⟨G1, x⟩ ht ⟨hx, hO, hc⟩
                    simp only at hx hO hc
                    subst hx
                    unfold f_X11_copy_b110
                    simp only
                    have e1 : (24 : Int32) * nI s + nI ii + nI t = nI (24 * s + ii + t) := by rw [show (24 : Int32) = nI 24 from rfl, pk_mul, nI_add, nI_add]
                    rw [if_neg (nI_ge ht (by omega)), e1, gIn_t (by omega) (by omega), gck_t, gIn_t (show t < 2 ^ 31 by omega) (by omega), gck_t, nI_clamp (by omega), nI_clamp (by omega), (hO 19 _ (by simp)).2.1]
                    refine ⟨_, rfl, nI_1 t, hO.L1 (by simp), fun y hy => ?_⟩
                    simp only
                    by_cases e : y = t
                    · subst e; rw [gL_at]
                    · rw [gL_ne (by omega)]; exact hc y (by omega)
                  · rintro ⟨G1, x⟩ ⟨hx, hO, hc⟩
                    simp only at hx hO hc
                    subst hx
                    unfold f_X11_copy_b110
                    simp only
                    rw [if_pos (nI_le (Nat.le_refl _) (by omega))]
                    exact ⟨_, rfl, hO, hc⟩
                · obtain ⟨hO1, hc1⟩ := h3
                  refine Ok.bind (Q := fun G2 => gOff (fun k x => decide (k = 19 ∧ 24 * d + jj ≤ x ∧ x < 24 * d + jj + nn)) G1 G2 ∧ ∀ x, x < nn → gL G2 19 (24 * d + jj + x) = gL G1 20 x) ?_ (fun G2 h4 => ?_)
                  · refine Ok.up (fun t z => z.2 = nI t ∧ gOff (fun k x => decide (k = 19 ∧ 24 * d + jj ≤ x ∧ x < 24 * d + jj + nn)) G1 z.1 ∧ ∀ x, x < t → gL z.1 19 (24 * d + jj + x) = gL G1 20 x) nn (by omega) ?_ ?_ ⟨rfl, gOff.rf, fun x hx => by omega⟩
                    · rintro t ⟨G2, x⟩ ht ⟨hx, hO, hc⟩
                      simp only at hx hO hc
                      subst hx
                      unfold f_X11_copy_b147
                      simp only
                      have e1 : (24 : Int32) * nI d + nI jj + nI t = nI (24 * d + jj + t) := by rw [show (24 : Int32) = nI 24 from rfl, pk_mul, nI_add, nI_add]
                      rw [if_neg (nI_ge ht (by omega)), gIn_t (show t < 2 ^ 31 by omega) (by omega), gck_t, e1, gIn_t (show 24 * d + jj + t < 2 ^ 31 by omega) (by omega), gck_t, nI_clamp (by omega), nI_clamp (by omega), (hO 20 _ (by simp)).2.1]
                      refine ⟨_, rfl, nI_1 t, hO.L1 (by simp; omega), fun y hy => ?_⟩
                      simp only
                      by_cases e : y = t
                      · subst e; rw [gL_at]
                      · rw [gL_ne (by omega)]; exact hc y (by omega)
                    · rintro ⟨G2, x⟩ ⟨hx, hO, hc⟩
                      simp only at hx hO hc
                      subst hx
                      unfold f_X11_copy_b147
                      simp only
                      rw [if_pos (nI_le (Nat.le_refl _) (by omega))]
                      exact ⟨_, rfl, hO, hc⟩
                  · obtain ⟨hO2, hc2⟩ := h4
                    refine ⟨_, rfl, h.setSh hW ((hO1.w (fun k x z => by simp [shZ] at z ⊢; omega)).tr (hO2.w (fun k x z => by simp [shZ] at z ⊢; omega))) ⟨?_, ?_, fun x v hx => ?_⟩, rfl⟩
                    · rw [(hO2 17 d (by simp)).1, (hO1 17 d (by simp)).1]; exact q1
                    · rw [(hO2 18 d (by simp)).1, (hO1 18 d (by simp)).1, lF_len]; exact q2
                    · obtain ⟨hx1, rfl⟩ := lF_get hx
                      by_cases e : jj ≤ x ∧ x < jj + nn
                      · rw [if_pos e, show 24 * d + x = 24 * d + jj + (x - jj) by omega, hc2 _ (by omega), hc1 _ (by omega), show 24 * s + ii + (x - jj) = 24 * s + (ii + (x - jj)) by omega]
                        exact p3 _ _ (getD_mem 0 (by omega))
                      · rw [if_neg e, (hO2 19 _ (by simp; omega)).2.1, (hO1 19 _ (by simp)).2.1]
                        exact q3 _ _ (getD_mem 0 hx1)
              · rw [if_neg (fun z => h2 (c2.mp z)), if_neg (fun z => h2 z.2.2.2.2)]; exact ⟨_, rfl, h, rfl⟩
            · rw [if_pos (c1.mpr h1), if_neg (fun z => h1 z.2.2.2.1)]; exact ⟨_, rfl, h, rfl⟩
          · rw [if_neg (fun z => ek ((nI_eq (by omega) (by omega)).mp z)), if_neg ek]; exact ⟨_, rfl, h, rfl⟩
theorem Lt.Wf.kd {L : Lt} (hL : L.Wf) {v : Nat} (hv : v < 5) : (L.kd v).Wf := ⟨hL.n8, hv, hL.s20, hL.dr, hL.m1, hL.w32, hL.c10, hL.ds⟩
theorem mRow.kd {G : gP} {L : Lt} (hL : L.Wf) (h : mRow G 1 0 L) (v : Nat) : mRow (gS1 G 1 1 (nI v)) 1 0 (L.kd v) := by
  refine mRow.of ?_ gS_at ?_ ?_ (fun i hi => ?_)
  · rw [gS_ne (by decide)]; exact h.1
  · rw [gS_ne (by decide)]; exact h.2.2.1
  · rw [gS_ne (by decide)]; exact h.2.2.2.1
  · exact (h.sl (i := i) hi).off (hL.m1 i hi).2 (Z := fun k j => decide (k = 1 ∧ j < 4)) (gOff.rf.S1 (by simp)) (fun j h1 h2 => by simp; omega)
/-- whether the best one has just those numbers -/
theorem mnB_ok {G : gP} {L : Lt} {l : List Int64} {s i n : Nat} (hL : L.Wf) (hF : fP L G) (hs : s < 4) (hn : n < 7) (hil : i + n ≤ l.length) (h24 : l.length ≤ 24) (hl : ∀ x v, l[x]? = some v → gL G 19 (24 * s + x) = v) : Ok (gloop (f_X11_meant_b104 (nI n) (nI s) (nI i) G) gFu ((if gS G 0 13 = nI n then (1 : Int32) else 0), (0 : Int32))) (fun y => y = bI (mnB L l i n)) := by
  obtain ⟨g1, g2, g3, g4⟩ := hF.bn
  have e0 : (if gS G 0 13 = nI n then (1 : Int32) else 0) = bI (decide (L.bn.length = n)) := by rw [g1]; exact ite_I (by omega) (by omega)
  rw [e0]
  unfold mnB
  by_cases hl2 : L.bn.length = n
  · rw [decide_eq_true hl2]
    refine cmpL (a := 0) (N := n) (c := fun k => decide ((nI (nsF L.bn k)).toInt64 = l.getD (i + k) 0)) (by omega) (fun bb k hk => ?_) (fun bb => ?_) true
    · rw [Nat.zero_add]
      unfold f_X11_meant_b104
      simp only
      rw [if_neg (nI_ge hk (by omega))]
      cases bb
      · rw [if_pos (show bI false = 0 from rfl), if_neg (by decide)]
      · have gk := nsF_aL g2 (show k < L.bn.length by omega)
        rw [Nat.zero_add] at gk
        have e1 : (24 : Int32) * nI s + nI i + nI k = nI (24 * s + i + k) := by rw [show (24 : Int32) = nI 24 from rfl, pk_mul, nI_add, nI_add]
        rw [if_neg (show ¬ bI true = 0 by decide), gIn_t (by omega) (by omega), gck_t, e1, gIn_t (by omega) (by omega), gck_t, nI_clamp (by omega), nI_clamp (by omega), gk, show 24 * s + i + k = 24 * s + (i + k) by omega, hl (i + k) _ (getD_mem 0 (by omega)), if_pos rfl, nI_1]
        by_cases e : (nI (nsF L.bn k)).toInt64 = l.getD (i + k) 0
        · rw [if_pos e, decide_eq_true e]; rfl
        · rw [if_neg e, decide_eq_false e]; rfl
    · rw [Nat.zero_add]
      unfold f_X11_meant_b104
      simp only
      rw [if_pos (nI_le (Nat.le_refl _) (by omega))]
  · rw [decide_eq_false hl2, Bool.false_and]
    refine Ok.out (r := bI false) ?_ rfl
    unfold f_X11_meant_b104
    simp only
    by_cases h0 : n = 0
    · rw [h0, if_pos (show nI 0 ≤ 0 by decide)]
    · rw [if_neg (show ¬ nI n ≤ 0 from nI_nle (by omega) (by omega)), if_pos (show bI false = 0 from rfl)]
theorem meant_ok {S : St} {G : gP} (hW : S.Wf) (h : mSt S G) (a b i n : Int32) : Ok (f_X11_meant G a b i n) (fun q => mSt S q.1 ∧ q.2 = sMeant S a b i n) := by
  unfold f_X11_meant sMeant
  rw [isSheet_rg, in_rg b (lo := 0) (hi := 4) rfl rfl, in_rg n (lo := 1) (hi := 7) rfl rfl]
  cases ha : rg a 0 4 with
  | none => exact ⟨_, rfl, h, rfl⟩
  | some s =>
    obtain ⟨-, hs, rfl⟩ := rg_some ha
    simp only [Option.isSome_some, if_true]
    rw [if_neg (by decide)]
    cases hb : rg b 0 4 with
    | none => exact ⟨_, rfl, h, rfl⟩
    | some k =>
      obtain ⟨-, hk, rfl⟩ := rg_some hb
      simp only [Option.isSome_some, if_true]
      rw [if_neg (by decide)]
      cases hn : rg n 1 7 with
      | none => exact ⟨_, rfl, h, rfl⟩
      | some nn =>
        obtain ⟨hn1, hn7, rfl⟩ := rg_some hn
        simp only [Option.isSome_some, if_true]
        rw [if_neg (by decide), why_ok hW h hs hk i (by omega), obind_some]
        by_cases h0 : whyS (S.sh s) k i nn = 0
        · rw [if_pos (whyS_n.mpr h0), if_pos h0]
          obtain ⟨l, hS, h1, h2⟩ := whyS_0 h0
          have hw := hW.sh s k l hS
          have hp := h.shP hs
          rw [hS] at hp
          obtain ⟨p1, p2, p3⟩ := hp
          have hi : i = nI i.toInt.toNat := nJ_of (by omega)
          have hsl : shL S s = l := by unfold shL; rw [hS]
          have hil : i.toInt.toNat + nn ≤ l.length := by omega
          generalize i.toInt.toNat = ii at *
          subst hi
          have hL := hW.now
          simp only [gLet_e]
          rw [h.now.2.1, hsl]
          refine Ok.bind (Q := fun z => gOff (fun k j => decide (k = 1 ∧ j = 1) || qZ k j) G z.1 ∧ z.2 = mnS S.now l ii nn 5) ?_ (fun z hz => ?_)
          · refine Ok.up (fun v z => z.2.2 = nI v ∧ gOff (fun k j => decide (k = 1 ∧ j = 1) || qZ k j) G z.1 ∧ z.2.1 = mnS S.now l ii nn v) 5 (by decide) ?_ ?_ ⟨rfl, gOff.rf, rfl⟩
            · rintro v ⟨G1, x, y⟩ hv ⟨hy, hO, hx⟩
              simp only at hy hO hx
              subst hy hx
              unfold f_X11_meant_b67
              simp only
              have hR1 : mRow (gS1 G1 1 1 (nI v)) 1 0 (S.now.kd v) := by
                have hz : mRow (gS1 G1 1 1 (nI S.now.kind)) 1 0 S.now := by
                  refine mRow.of ?_ gS_at ?_ ?_ (fun p hp => ?_)
                  · rw [gS_ne (by decide), (hO 1 0 (by simp [qZ])).1]; exact h.now.1
                  · rw [gS_ne (by decide), (hO 1 2 (by simp [qZ])).1]; exact h.now.2.2.1
                  · rw [gS_ne (by decide), (hO 1 3 (by simp [qZ])).1]; exact h.now.2.2.2.1
                  · refine ((h.now.sl (i := p) hp).off (hL.m1 p hp).2 hO (fun j h1 h2 => by simp [qZ]; omega)).off (hL.m1 p hp).2 (Z := fun k j => decide (k = 1 ∧ j < 4)) (gOff.rf.S1 (by simp)) (fun j h1 h2 => by simp; omega)
                have := hz.kd hL v
                rw [gS1_1] at this
                exact this
              have hO1 : gOff (fun k j => decide (k = 1 ∧ j = 1) || qZ k j) G (gS1 G1 1 1 (nI v)) := hO.S1 (by simp)
              rw [if_neg (show ¬ (5 : Int32) ≤ nI v from nI_ge (b := 5) hv (by decide))]
              simp only [gLet_e]
              generalize gS1 G1 1 1 (nI v) = G2 at *
              refine Ok.bind (finds_ok (hL.kd hv) hR1) (fun G3 h3 => ?_)
              have hO3 : gOff (fun k j => decide (k = 1 ∧ j = 1) || qZ k j) G G3 := hO1.tr (h3.1.w (fun k j z => qZ_f (by simp only [Bool.or_eq_false_iff] at z; exact z.2)))
              refine Ok.bind (mnB_ok (hL.kd hv) h3.2 hs (by omega) hil hw.2 (fun x w hx => by rw [(hO3 19 _ (by simp [qZ])).2.1]; exact p3 x w hx)) (fun y hy => ?_)
              subst hy
              refine ⟨_, rfl, nI_1 v, hO3, ?_⟩
              simp only
              show _ = mnS S.now l ii nn v ||| (if mnB (S.now.kd v) l ii nn = true then gShl 1 (nI v) else 0)
              cases mnB (S.now.kd v) l ii nn
              · rw [if_pos (show bI false = 0 from rfl), if_neg (by decide)]
              · rw [if_neg (show ¬ bI true = 0 by decide), if_pos rfl]
            · rintro ⟨G1, x, y⟩ ⟨hy, hO, hx⟩
              simp only at hy hO hx
              subst hy hx
              unfold f_X11_meant_b67
              simp only
              rw [if_pos (show (5 : Int32) ≤ nI 5 by decide)]
              exact ⟨_, rfl, hO, rfl⟩
          · obtain ⟨G1, x⟩ := z
            obtain ⟨hO, hx⟩ := hz
            simp only at hO hx
            refine ⟨_, rfl, h.now' (L := S.now) (hO.S1 (k := 1) (j := 1) (v := nI S.now.kind) (by simp)) (fun k j hk => by simp [qZ]; omega) (mRow.of ?_ gS_at ?_ ?_ (fun p hp => ?_)), hx⟩
            · rw [gS_ne (by decide), (hO 1 0 (by simp [qZ])).1]; exact h.now.1
            · rw [gS_ne (by decide), (hO 1 2 (by simp [qZ])).1]; exact h.now.2.2.1
            · rw [gS_ne (by decide), (hO 1 3 (by simp [qZ])).1]; exact h.now.2.2.2.1
            · exact ((h.now.sl (i := p) hp).off (hL.m1 p hp).2 hO (fun j h1 h2 => by simp [qZ]; omega)).off (hL.m1 p hp).2 (Z := fun k j => decide (k = 1 ∧ j < 4)) (gOff.rf.S1 (by simp)) (fun j h1 h2 => by simp; omega)
        · rw [if_neg (fun z => h0 (whyS_n.mp z)), if_neg h0]; exact ⟨_, rfl, h, rfl⟩
theorem film_ok {S : St} {G : gP} (hW : S.Wf) (h : mSt S G) (a b i : Int32) : Ok (f_X11_film G a b i) (mA (sFilm S a b i)) := by
  unfold f_X11_film sFilm
  rw [isSheet_rg, in_rg b (lo := 0) (hi := 4) rfl rfl]
  cases ha : rg a 0 4 with
  | none => exact ⟨_, rfl, h, rfl⟩
  | some s =>
    obtain ⟨-, hs, rfl⟩ := rg_some ha
    simp only [Option.isSome_some, if_true]
    rw [if_neg (by decide)]
    cases hb : rg b 0 4 with
    | none => exact ⟨_, rfl, h, rfl⟩
    | some k =>
      obtain ⟨-, hk, rfl⟩ := rg_some hb
      simp only [Option.isSome_some, if_true]
      rw [if_neg (by decide)]
      have hL := hW.now
      refine Ok.bind (finds_ok hL h.now) (fun G1 h1 => ?_)
      obtain ⟨hO1, hF⟩ := h1
      have hm1 : mSt S G1 := h.q (hO1.w (fun k j => qZ_f))
      obtain ⟨g1, g2, g3, g4⟩ := hF.bn
      have hbest : gS G1 0 10 = rI S.now.B := hF.best
      rw [hbest]
      cases hB : S.now.B with
      | none => rw [if_pos rI_none]; exact ⟨_, rfl, hm1, rfl⟩
      | some bb =>
        have hbb := S.now.B_lt hB
        have hN := hL.N_le
        rw [if_neg (rI_ne (by omega)), g1, why_ok hW hm1 hs hk i (by omega), obind_some]
        simp only
        by_cases h0 : whyS (S.sh s) k i S.now.bn.length = 0
        · rw [if_pos (whyS_n.mpr h0), if_pos h0]
          obtain ⟨l, hS, h1, h2⟩ := whyS_0 h0
          have hw := hW.sh s k l hS
          have hp := hm1.shP hs
          rw [hS] at hp
          obtain ⟨p1, p2, p3⟩ := hp
          have hi : i = nI i.toInt.toNat := nJ_of (by omega)
          have hsl : shL S s = l := by unfold shL; rw [hS]
          have hil : i.toInt.toNat + S.now.bn.length ≤ l.length := by omega
          rw [hsl]
          generalize i.toInt.toNat = ii at *
          subst hi
          refine Ok.bind (Q := fun G2 => gOff (fun k x => decide (k = 19 ∧ 24 * s + ii ≤ x ∧ x < 24 * s + ii + S.now.bn.length)) G1 G2 ∧ ∀ x, x < S.now.bn.length → gL G2 19 (24 * s + ii + x) = cutL k ((nI (nsF S.now.bn x)).toInt64)) ?_ (fun G2 h3 => ?_)
          · refine Ok.up (fun t z => z.2 = nI t ∧ gOff (fun k x => decide (k = 19 ∧ 24 * s + ii ≤ x ∧ x < 24 * s + ii + S.now.bn.length)) G1 z.1 ∧ ∀ x, x < t → gL z.1 19 (24 * s + ii + x) = cutL k ((nI (nsF S.now.bn x)).toInt64)) S.now.bn.length (by omega) ?_ ?_ ⟨rfl, gOff.rf, fun x hx => by omega⟩
            · rintro t ⟨G2, x⟩ ht ⟨hx, hO, hc⟩
              simp only at hx hO hc
              subst hx
              unfold f_X11_film_b61
              simp only
              have gk := nsF_aL g2 ht
              rw [Nat.zero_add] at gk
              have e1 : (24 : Int32) * nI s + nI ii + nI t = nI (24 * s + ii + t) := by rw [show (24 : Int32) = nI 24 from rfl, pk_mul, nI_add, nI_add]
              rw [(hO 0 13 (by simp)).1, g1, if_neg (nI_ge ht (by omega)), gIn_t (by omega) (by omega), gck_t, e1, gIn_t (by omega) (by omega), gck_t, nI_clamp (by omega), nI_clamp (by omega), (hO 5 t (by simp)).1, gk, cut_I hk]
              refine ⟨_, rfl, nI_1 t, hO.L1 (by simp; omega), fun y hy => ?_⟩
              simp only
              by_cases e : y = t
              · subst e; rw [gL_at]
              · rw [gL_ne (by omega)]; exact hc y (by omega)
            · rintro ⟨G2, x⟩ ⟨hx, hO, hc⟩
              simp only at hx hO hc
              subst hx
              unfold f_X11_film_b61
              simp only
              rw [(hO 0 13 (by simp)).1, g1, if_pos (nI_le (Nat.le_refl _) (by omega))]
              exact ⟨_, rfl, hO, hc⟩
          · obtain ⟨hO2, hc2⟩ := h3
            refine ⟨_, rfl, hm1.setSh hW (hO2.w (fun k x z => by simp [shZ] at z ⊢; omega)) ⟨?_, ?_, fun x v hx => ?_⟩, ?_⟩
            · rw [(hO2 17 s (by simp)).1]; exact p1
            · rw [(hO2 18 s (by simp)).1, lF_len]; exact p2
            · obtain ⟨hx1, rfl⟩ := lF_get hx
              by_cases e : ii ≤ x ∧ x < ii + S.now.bn.length
              · rw [if_pos e, show 24 * s + x = 24 * s + ii + (x - ii) by omega, hc2 _ (by omega)]
              · rw [if_neg e, (hO2 19 _ (by simp; omega)).2.1]
                exact p3 _ _ (getD_mem 0 hx1)
            · simp only
              rw [(hO2 0 13 (by simp)).1]; exact g1
        · rw [if_neg (fun z => h0 (whyS_n.mp z)), if_neg h0]; exact ⟨_, rfl, hm1, rfl⟩
