/-! the Model: a reading -/
def tZ (k j : Nat) : Bool := decide (k = 2 ∨ k = 3 ∨ k = 4 ∨ (k = 0 ∧ (j = 3 ∨ j = 4 ∨ j = 6 ∨ j = 7)))
/-- the loop's state in isSaid -/
def sJ (G : gP) (ws : List Nat) (n : Nat) (s : gP × Int32 × Int32) : Prop :=
  gOff (fun k j => decide (k = 4 ∨ (k = 0 ∧ (j = 6 ∨ j = 7)))) G s.1 ∧ mWs s.1 ws ∧
  ((∃ ns rest, n = rest.length + 1 ∧ s.2 = (1, 1) ∧ mAt s.1 ws rest ∧ gS s.1 0 6 = nI ns.length ∧ aL s.1 4 0 ns ∧ 2 * ns.length + rest.length ≤ 8 ∧ eRun e0 ws = eRun ⟨0, 0, 0, false, ns⟩ rest) ∨
   (n = 0 ∧ s.2.1 = 0 ∧ eRun e0 ws = none) ∨
   (n = 0 ∧ s.2 = (1, 0) ∧ ∃ ns, eRun e0 ws = some ns ∧ gS s.1 0 6 = nI ns.length ∧ aL s.1 4 0 ns ∧ 0 < ns.length ∧ ns.length ≤ 8))
def sP (G : gP) (ws : List Nat) (r : gP × Int32) : Prop :=
  gOff (fun k j => decide (k = 4 ∨ (k = 0 ∧ (j = 6 ∨ j = 7)))) G r.1 ∧
  (match eRun e0 ws with
   | none => r.2 = 0
   | some ns => r.2 = 1 ∧ gS r.1 0 6 = nI ns.length ∧ aL r.1 4 0 ns ∧ 0 < ns.length ∧ ns.length ≤ 8)
theorem mWs.S1 {G : gP} {ws : List Nat} {k j : Nat} {v : Int32} (h : mWs G ws) (h1 : k ≠ 3) (h2 : ¬ (k = 0 ∧ j = 3)) : mWs (gS1 G k j v) ws := ⟨by rw [gS_ne (fun z => h2 ⟨z.1.symm, z.2.symm⟩)]; exact h.1, h.2.1.S1 (Or.inl h1), h.2.2⟩
theorem isSaid_ok {G : gP} {ws : List Nat} (h : mWs G ws) : Ok (f_X11_isSaid G) (sP G ws) := by
  unfold f_X11_isSaid
  simp only [gLet]
  refine Ok.bind (Q := sP G ws) ?_ (fun r hr => ?_)
  · refine Ok.loop (sJ G ws) ?_ gFu (ws.length + 1) _ (by have := h.2.2.1; unfold gFu; omega) ?_
    · rintro n ⟨G1, i1, m1⟩ ⟨hO, hW, hc⟩
      simp only at hO hW hc
      unfold f_X11_isSaid_b14
      rcases hc with ⟨ns, rest, hn, hs, hA, h6, ha, hle, he⟩ | ⟨hn, hs, he⟩ | ⟨hn, hs, ns, he, h6, ha, hp, hle⟩
      · cases hs
        simp only
        rw [if_neg (by decide), if_neg (by decide)]
        refine Ok.bind (number_ok hA) (fun q hq => ?_)
        have hle2 := hA.2.1.length_le
        have hrun := said_run (rest.length + 1) ns rest (hW.2.2.2.sx hA.2.1) (by omega)
        rw [mSaid] at hrun
        -- where the number ends
        have hcom : ∀ r2, r2 <:+ ws → q.1 = mN G1 ws r2 → mAt q.1 ws r2 ∧ gS q.1 0 6 = nI ns.length ∧ aL q.1 4 0 ns ∧ gOff (fun k j => decide (k = 4 ∨ (k = 0 ∧ (j = 6 ∨ j = 7)))) G q.1 := by
          intro r2 hr2 hq1
          rw [hq1]
          exact ⟨hA.mk' hr2, by unfold mN; rw [gS_ne (by decide)]; exact h6, ha.S1 (Or.inl (by decide)), hO.S1 rfl⟩
        have hG25 : ∀ (r2 : List Nat) (v : Int32), mAt q.1 ws r2 → gOff (fun k j => decide (k = 4 ∨ (k = 0 ∧ (j = 6 ∨ j = 7)))) G q.1 → gS q.1 0 6 = nI ns.length → mAt (gS1 (gS1 q.1 4 ns.length v) 0 6 (gS (gS1 q.1 4 ns.length v) 0 6 + 1)) ws r2 ∧ gOff (fun k j => decide (k = 4 ∨ (k = 0 ∧ (j = 6 ∨ j = 7)))) G (gS1 (gS1 q.1 4 ns.length v) 0 6 (gS (gS1 q.1 4 ns.length v) 0 6 + 1)) ∧ gS (gS1 (gS1 q.1 4 ns.length v) 0 6 (gS (gS1 q.1 4 ns.length v) 0 6 + 1)) 0 6 = nI (ns.length + 1) := by
          intro r2 v h1 h2 h3
          refine ⟨⟨(h1.1.S1 (by decide) (by omega)).S1 (by decide) (by decide), h1.2.1, ?_⟩, (h2.S1 (by simp)).S1 rfl, ?_⟩
          · rw [gS_ne (by decide), gS_ne (by omega)]; exact h1.2.2
          · rw [gS_at, gS_ne (by omega), h3, nI_1]
        have hid : ∀ X : gP, gS1 X 0 7 (gS X 0 7 + 0) = X := fun X => gS1_id (by rw [Int32.add_zero])
        -- wrong: the loop ends
        have hbad : ∀ r2, mAt q.1 ws r2 → gS q.1 0 6 = nI ns.length → gOff (fun k j => decide (k = 4 ∨ (k = 0 ∧ (j = 6 ∨ j = 7)))) G q.1 → eRun e0 ws = none → ∀ x y : Int32, x = 0 → ∃ n', n' < n ∧ sJ G ws n' (gS1 (gS1 (gS1 q.1 4 ns.length q.2) 0 6 (gS (gS1 q.1 4 ns.length q.2) 0 6 + 1)) 0 7 (gS (gS1 (gS1 q.1 4 ns.length q.2) 0 6 (gS (gS1 q.1 4 ns.length q.2) 0 6 + 1)) 0 7 + 0), x, y) ∧ sJ G ws n' (gS1 (gS1 (gS1 q.1 4 ns.length q.2) 0 6 (gS (gS1 q.1 4 ns.length q.2) 0 6 + 1)) 0 7 (gS (gS1 (gS1 q.1 4 ns.length q.2) 0 6 (gS (gS1 q.1 4 ns.length q.2) 0 6 + 1)) 0 7 + 1), x, y) := by
          intro r2 h1 h2 h3 h4 x y hx
          obtain ⟨k1, k2, k3⟩ := hG25 r2 q.2 h1 h3 h2
          rw [hid]
          exact ⟨0, by omega, ⟨k2, k1.1, Or.inr (Or.inl ⟨rfl, hx, h4⟩)⟩, ⟨k2.S1 rfl, k1.1.nx, Or.inr (Or.inl ⟨rfl, hx, h4⟩)⟩⟩
        cases hm : mNumber rest with
        | none =>
          rw [hm] at hq hrun
          obtain ⟨⟨r2, hr2, hq1⟩, hq2⟩ := hq
          obtain ⟨hA2, h62, ha2, hO2⟩ := hcom r2 hr2 hq1
          rw [hA2.here]
          simp only [Option.bind_some, gLet]
          rw [h62, gIn_nI (by omega), decide_eq_true (by omega), nI_clamp (by omega)]
          obtain ⟨n', hn', k1, k2⟩ := hbad r2 hA2 h62 hO2 (by rw [he]; exact hrun.symm) (if q.2 ≤ 0 then 0 else if (if hdI r2 = 31 then (1 : Int32) else 0) = 0 then if gS q.1 0 7 = gS q.1 0 3 then 1 else 0 else 1) (if hdI r2 = 31 then (1 : Int32) else 0) (by rw [hq2, if_pos m4_le])
          refine Ok.ck rfl ?_
          by_cases h31 : hdI r2 = 31
          · rw [if_pos h31] at k2 ⊢
            rw [if_neg (by decide)]
            exact ⟨_, rfl, n', hn', k2⟩
          · rw [if_neg h31] at k1 ⊢
            rw [if_pos rfl]
            exact ⟨_, rfl, n', hn', k1⟩
        | some z =>
          obtain ⟨v, r2⟩ := z
          rw [hm] at hq hrun
          obtain ⟨hq1, hq2⟩ := hq
          obtain ⟨hb1, hb2, hb3⟩ := mNumber_p hm
          simp only at hq1 hq2 hb1 hb2 hb3
          obtain ⟨hA2, h62, ha2, hO2⟩ := hcom r2 (hb2.trans hA.2.1) hq1
          rw [hA2.here]
          simp only [Option.bind_some, gLet]
          rw [h62, gIn_nI (by omega), decide_eq_true (by omega), nI_clamp (by omega)]
          simp only [Option.bind_some] at hrun
          refine Ok.ck rfl ?_
          by_cases h0 : v = 0
          · rw [if_pos h0] at hrun
            obtain ⟨n', hn', k1, k2⟩ := hbad r2 hA2 h62 hO2 (by rw [he]; exact hrun.symm) (if q.2 ≤ 0 then 0 else if (if hdI r2 = 31 then (1 : Int32) else 0) = 0 then if gS q.1 0 7 = gS q.1 0 3 then 1 else 0 else 1) (if hdI r2 = 31 then (1 : Int32) else 0) (by rw [hq2, h0, if_pos (show nI 0 ≤ 0 by decide)])
            by_cases h31 : hdI r2 = 31
            · rw [if_pos h31] at k2 ⊢
              rw [if_neg (by decide)]
              exact ⟨_, rfl, n', hn', k2⟩
            · rw [if_neg h31] at k1 ⊢
              rw [if_pos rfl]
              exact ⟨_, rfl, n', hn', k1⟩
          · rw [if_neg h0] at hrun
            have hv : ¬ q.2 ≤ 0 := by rw [hq2]; exact nI_nle (by omega) (by omega)
            rw [if_neg hv]
            have hb4 := hb3 h0
            obtain ⟨k1, k2, k3⟩ := hG25 r2 q.2 hA2 hO2 h62
            have ka : aL (gS1 (gS1 q.1 4 ns.length q.2) 0 6 (gS (gS1 q.1 4 ns.length q.2) 0 6 + 1)) 4 0 (ns ++ [v]) := by
              refine aL.S1 ?_ (Or.inl (by decide))
              have := ha2.push (v := v)
              rw [Nat.zero_add, ← hq2] at this
              exact this
            have kl : (ns ++ [v]).length = ns.length + 1 := by simp
            cases r2 with
            | nil =>
              rw [if_neg (show ¬ hdI [] = 31 by decide), if_pos rfl, if_pos rfl, hA2.2.2, hA2.1.1, if_pos (by simp), hid]
              refine ⟨_, rfl, 0, by omega, k2, k1.1, Or.inr (Or.inr ⟨rfl, rfl, ns ++ [v], ?_, ?_, ka, ?_, ?_⟩)⟩
              · rw [he, ← hrun]
              · rw [k3, kl]
              · omega
              · omega
            | cons w t =>
              simp only [List.length_cons] at hb4
              by_cases h31 : w = 31
              · subst h31
                rw [if_pos (show hdI (31 :: t) = 31 from rfl), if_neg (by decide), if_neg (by decide)]
                refine ⟨_, rfl, t.length + 1, by omega, ?_⟩
                have e1 : ∀ X : gP, mAt X ws (31 :: t) → gS1 X 0 7 (gS X 0 7 + 1) = mN X ws t := fun X hX => hX.step
                rw [e1 _ k1]
                refine ⟨k2.S1 rfl, k1.1.nx, Or.inl ⟨ns ++ [v], t, rfl, rfl, k1.tl, ?_, ka.S1 (Or.inl (by decide)), by omega, ?_⟩⟩
                · unfold mN; rw [gS_ne (by decide), k3, kl]
                · rw [he, ← hrun]
                  simp only
                  rw [if_pos trivial]
                  exact said_run _ _ _ (hW.2.2.2.sx (((List.suffix_cons 31 t).trans hb2).trans hA.2.1)) (by omega)
              · have hh : ¬ hdI (w :: t) = 31 := fun z => h31 (Option.some.inj ((hd_eq hA2 31 (by decide)).mp z))
                have hl3 := hA2.2.1.length_le
                simp only [List.length_cons] at hl3
                have h8 := hW.2.2.1
                rw [if_neg hh, if_pos rfl, if_pos rfl, hA2.2.2, hA2.1.1, if_neg (fun z => by have := (nI_eq (by omega) (by omega)).mp z; simp only [List.length_cons] at this; omega), hid]
                refine ⟨_, rfl, 0, by omega, k2, k1.1, Or.inr (Or.inl ⟨rfl, rfl, ?_⟩)⟩
                rw [he, ← hrun]
                simp only
                rw [if_neg h31]
      · simp only [hs]
        rw [if_pos trivial]
        refine ⟨_, rfl, ?_⟩
        simp only
        refine ⟨hO, ?_⟩
        rw [he]
      · cases hs
        simp only
        rw [if_neg (by decide), if_pos trivial]
        refine ⟨_, rfl, ?_⟩
        simp only
        refine ⟨hO, ?_⟩
        rw [he]
        exact ⟨rfl, h6, ha, hp, hle⟩
    · refine ⟨(gOff.rf.S1 rfl).S1 rfl, (h.S1 (by decide) (by decide)).S1 (by decide) (by decide), Or.inl ⟨[], ws, rfl, rfl, ⟨(h.S1 (by decide) (by decide)).S1 (by decide) (by decide), List.suffix_refl _, ?_⟩, ?_, aL.nil, ?_, rfl⟩⟩
      · rw [gS_ne (by decide), gS_at, Nat.sub_self]; rfl
      · rw [gS_at]; rfl
      · have := h.2.2.1
        simp only [List.length_nil]; omega
  · refine Ok.ck ?_ ⟨_, rfl, hr⟩
    unfold sP at hr
    cases he : eRun e0 ws with
    | none => rw [he] at hr; rw [hr.2]; rfl
    | some ns => rw [he] at hr; rw [hr.2.1]; rfl
