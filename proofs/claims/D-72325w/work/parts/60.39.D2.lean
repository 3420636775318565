/-! the component: hear, also, settle, check, slack, seed, lose -/
theorem add_ok {G : gP} {s m : Nat} {w0 c0 : Nat → Nat} (h : xSlt G s m w0 c0) (hm : m < 4) (w c : Nat) : Ok (f_X7_add G s (nI w) (nI c)) (fun G' => gOff (sZ s) G G' ∧ rSame G G' ∧ xSlt G' s (m + 1) (setp w0 m w) (setp c0 m c)) := by
  unfold f_X7_add
  simp only [gLet_e]
  rw [h.1, gIn_t (by omega) hm, gck_t, nI_clamp (by omega), gS_ne (show ¬ (s = s + 1 ∧ 2 = m) by omega), h.1, gIn_t (by omega) hm, gck_t, nI_clamp (by omega), gS_ne (show ¬ (s = s + 2 ∧ 2 = m) by omega), gS_ne (show ¬ (s = s + 1 ∧ 2 = m) by omega), h.1, nI_1]
  refine ⟨_, rfl, ((gOff.rf.S1 (by simp [sZ])).S1 (by simp [sZ])).S1 (by simp [sZ]), ((rSame.rf.S1).S1).S1, gS_at, fun j hj => ?_⟩
  unfold setp
  by_cases e : j = m
  · subst e
    simp only [if_true]
    refine ⟨?_, ?_⟩
    · rw [gS_ne (by omega), gS_ne (by omega), gS_at]
    · rw [gS_ne (by omega), gS_at]
  · simp only [e, if_false]
    have := h.2 j (by omega)
    refine ⟨?_, ?_⟩
    · rw [gS_ne (by omega), gS_ne (by omega), gS_ne (by omega)]; exact this.1
    · rw [gS_ne (by omega), gS_ne (by omega), gS_ne (by omega)]; exact this.2
theorem find_ok {G : gP} {s m : Nat} {w0 c0 : Nat → Nat} (h : xSlt G s m w0 c0) (hm : m ≤ 4) (hw0 : ∀ j, j < m → w0 j < 32) {w : Nat} (hw : w < 2 ^ 31) : Ok (f_X7_find G s (nI w)) (fun r => r = rI (fnd w0 w m)) := by
  unfold f_X7_find
  refine Ok.bind (Q := fun z => z = match fnd w0 w m with | none => Sum.inl () | some i => Sum.inr (nI i)) ?_ (fun z hz => ?_)
  · refine Ok.loop (fun n s => ∃ k, n + k = m ∧ s = nI k ∧ fnd w0 w k = none) ?_ gFu m _ (by unfold gFu; omega) ⟨0, by omega, rfl, rfl⟩
    rintro n x ⟨k, hk, rfl, hf⟩
    unfold f_X7_find_b2
    cases n with
    | zero =>
      have : k = m := by omega
      subst this
      rw [h.1, if_pos (nI_le (Nat.le_refl _) (by omega))]
      exact ⟨_, rfl, by simp only; rw [hf]⟩
    | succ n =>
      have hwk := hw0 k (by omega)
      rw [h.1, if_neg (nI_ge (by omega) (by omega)), gIn_t (by omega) (by omega), gck_t, nI_clamp (by omega), (h.2 k (by omega)).1]
      by_cases e : w0 k = w
      · rw [if_pos (nI_inj e)]
        refine ⟨_, rfl, ?_⟩
        have hs : fnd w0 w (k + 1) = some k := by unfold fnd; rw [hf]; simp only; rw [if_pos e]
        have hmono : ∀ d, fnd w0 w (k + 1 + d) = some k := by
          intro d
          induction d with
          | zero => exact hs
          | succ d ih => show (match fnd w0 w (k + 1 + d) with | some i => some i | none => _) = _; rw [ih]
        have := hmono n
        rw [show k + 1 + n = m by omega] at this
        simp only
        rw [this]
      · rw [if_neg (fun z => e ((nI_eq (by omega) hw).mp z)), nI_1]
        refine ⟨_, rfl, n, by omega, k + 1, by omega, rfl, ?_⟩
        unfold fnd; rw [hf]; simp only; rw [if_neg e]
  · subst hz
    cases fnd w0 w m with
    | none => exact ⟨_, rfl, rfl⟩
    | some i => exact ⟨_, rfl, rfl⟩
/-- a lattice with one slot changed -/
theorem xLt.put {G G' : gP} {L : Lt} (hL : L.Wf) (h : xLt G 32 L) (hg : xSg G 32) {s m : Nat} (hs : s < L.n) {w c : Nat → Nat} (hO : gOff (sZ (sgO G 32 s)) G G') (hr : rSame G G') (hx : xSlt G' (sgO G 32 s) m w c) : xLt G' 32 (L.put s m w c) := by
  have h8 := hL.n8
  have rs := hg.rng (j := s) (by omega)
  obtain ⟨h1, h2, h3, h4, h5⟩ := h
  refine ⟨?_, ?_, ?_, ?_, fun i hi => ?_⟩
  · rw [(hO 32 1 (by simp [sZ]; omega)).1]; exact h1
  · rw [(hO 32 2 (by simp [sZ]; omega)).1]; exact h2
  · rw [(hO 32 3 (by simp [sZ]; omega)).1]; exact h3
  · rw [(hO 32 4 (by simp [sZ]; omega)).1]; exact h4
  · rw [hr.sg]
    unfold Lt.put
    simp only [Lt.mk_n, Lt.mk_kind, Lt.mk_slack, Lt.mk_draw, Lt.mk_m, Lt.mk_w, Lt.mk_c, St.mk_now, St.mk_past, St.mk_kept, St.mk_tape, St.mk_sh]
    have hi' : i < L.n := hi
    by_cases e : i = s
    · subst e; simp only [if_true]; exact hx
    · simp only [e, if_false]
      have ri := hg.rng (j := i) (by omega)
      have hd : sgO G 32 i ≠ sgO G 32 s := fun z => e (hg.2 i s (by omega) (by omega) z)
      exact (h5 i hi').off hO (fun k j a b => by simp [sZ]; omega)
theorem sZ_n {G : gP} {s k j : Nat} (hg : xSg G 32) (hs : s < 8) (h : nZ k j = false) : sZ (sgO G 32 s) k j = false := by
  have := hg.rng (j := s) hs
  simp [nZ, sZ] at h ⊢; omega
theorem xisWord_rg (a : Int32) : f_X0_isWord a = if (rg a 0 32).isSome then 1 else 0 := isIn_rg a rfl rfl
theorem xisCost_rg (a : Int32) : f_X0_isCost a = if (rg a 0 10).isSome then 1 else 0 := isIn_rg a rfl rfl
theorem xSt.up {S : St} {T : Nat → Nat × Nat} {G G' : gP} {L : Lt} (hW : S.Wf) (h : xSt (St.of (S.now) (pushP S.past S.now) (S.kept) (S.tape) (S.sh)) T G) (hO : gOff nZ G G') (hr : rSame G G') (hn : xLt G' 32 L) : xSt (S.up L) T G' :=
  h.now' (hW.up hW.now) hO hr hn
theorem xhear_ok {S : St} {T : Nat → Nat × Nat} {G : gP} (hW : S.Wf) (h : xSt S T G) (a c : Int32) : Ok (f_X0_hear G a c) (xA T (sHear S a c)) := by
  unfold f_X0_hear sHear
  rw [xisWord_rg, xisCost_rg]
  cases ha : rg a 0 32 with
  | none => exact ⟨_, rfl, h, rfl⟩
  | some w =>
    obtain ⟨-, hw, rfl⟩ := rg_some ha
    simp only [Option.isSome_some, if_true]
    rw [if_neg (by decide)]
    cases hc : rg c 0 10 with
    | none => exact ⟨_, rfl, h, rfl⟩
    | some cn =>
      obtain ⟨-, hcn, rfl⟩ := rg_some hc
      simp only [Option.isSome_some, if_true]
      have hL := hW.now
      have h8 := hL.n8
      rw [if_neg (by decide), h.now.1]
      by_cases hn : S.now.n = 8
      · rw [if_pos hn, hn, if_pos (show nI 8 = 8 from rfl)]; exact ⟨_, rfl, h, rfl⟩
      · rw [if_neg hn, if_neg (show ¬ nI S.now.n = 8 from fun z => hn ((nI_eq (b := 8) (by omega) (by decide)).mp z))]
        refine Ok.bind (xnote_ok hW h) (fun G1 h1 => ?_)
        obtain ⟨hx1, -, -⟩ := h1
        have hN1 : xNow G1 S.now := hx1.xn
        unfold f_X6_come
        rw [hN1.1.1, gIn_t (by omega) (by omega), gck_t, nI_clamp (by omega), hN1.2.ref0 (by omega)]
        simp only [obind_some, gLet_e]
        have rs := hN1.2.rng (j := S.now.n) (by omega)
        rw [gS_ne (by omega), hN1.1.1, nI_1]
        have hOa : gOff (fun k j => decide (k = sgO G1 32 S.now.n ∨ k = 32)) G1 (gS1 (gS1 G1 (sgO G1 32 S.now.n) 2 0) 32 1 (nI (S.now.n + 1))) := (gOff.rf.S1 (by simp)).S1 (by simp)
        have hra : rSame G1 (gS1 (gS1 G1 (sgO G1 32 S.now.n) 2 0) 32 1 (nI (S.now.n + 1))) := (rSame.rf.S1).S1
        have hsa : xSlt (gS1 (gS1 G1 (sgO G1 32 S.now.n) 2 0) 32 1 (nI (S.now.n + 1))) (sgO G1 32 S.now.n) 0 (fun _ => 0) (fun _ => 0) := ⟨by rw [gS_ne (by omega), gS_at]; rfl, fun j hj => by omega⟩
        have g1 : gS (gS1 (gS1 G1 (sgO G1 32 S.now.n) 2 0) 32 1 (nI (S.now.n + 1))) 32 1 = nI (S.now.n + 1) := gS_at
        have g2 : ∀ j, j ≠ 1 → gS (gS1 (gS1 G1 (sgO G1 32 S.now.n) 2 0) 32 1 (nI (S.now.n + 1))) 32 j = gS G1 32 j := fun j hj => by rw [gS_ne (by omega), gS_ne (by omega)]
        generalize gS1 (gS1 G1 (sgO G1 32 S.now.n) 2 0) 32 1 (nI (S.now.n + 1)) = G2 at *
        refine Ok.bind (add_ok hsa (by omega) w cn) (fun G3 h3 => ?_)
        obtain ⟨hO3, hr3, hs3⟩ := h3
        have hr : rSame G1 G3 := hra.tr hr3
        have e32 : ∀ j, gS G3 32 j = gS G2 32 j := fun j => (hO3 32 j (by simp [sZ]; omega)).1
        refine ⟨_, rfl, hx1.up hW ((hOa.w (fun k j z => by simp [nZ] at z ⊢; omega)).tr (hO3.w (fun k j z => sZ_n hN1.2 (by omega) z))) hr ⟨?_, ?_, ?_, ?_, fun i hi => ?_⟩, ?_⟩
        · rw [e32]; exact g1
        · rw [e32, g2 2 (by decide)]; exact hN1.1.2.1
        · rw [e32, g2 3 (by decide)]; exact hN1.1.2.2.1
        · rw [e32, g2 4 (by decide)]; exact hN1.1.2.2.2.1
        · rw [hr.sg]
          unfold Lt.more Lt.put
          simp only [Lt.mk_n, Lt.mk_kind, Lt.mk_slack, Lt.mk_draw, Lt.mk_m, Lt.mk_w, Lt.mk_c, St.mk_now, St.mk_past, St.mk_kept, St.mk_tape, St.mk_sh]
          have hi' : i < S.now.n + 1 := hi
          by_cases e : i = S.now.n
          · subst e
            simp only [if_true]
            refine ⟨hs3.1, fun j hj => ?_⟩
            have : j = 0 := by omega
            subst this
            have := hs3.2 0 (by omega)
            unfold setp at this
            simp only [if_true] at this
            exact this
          · simp only [e, if_false]
            have ri := hN1.2.rng (j := i) (by omega)
            have hd : sgO G1 32 i ≠ sgO G1 32 S.now.n := fun z => e (hN1.2.2 i S.now.n (by omega) (by omega) z)
            exact ((hN1.1.2.2.2.2 i (by omega)).off hOa (fun k j a b => by simp; omega)).off hO3 (fun k j a b => by simp [sZ]; omega)
        · simp only
          rw [e32]; exact g1
theorem xalso_ok {S : St} {T : Nat → Nat × Nat} {G : gP} (hW : S.Wf) (h : xSt S T G) (a w c : Int32) : Ok (f_X0_also G a w c) (xA T (sAlso S a w c)) := by
  unfold f_X0_also sAlso
  have hL := hW.now
  have h8 := hL.n8
  have hN := h.xn
  rw [xisSlot_rg h8 hN.1.1, xisWord_rg, xisCost_rg]
  cases ha : rg a 0 S.now.n with
  | none => exact ⟨_, rfl, h, rfl⟩
  | some s =>
    obtain ⟨-, hs, rfl⟩ := rg_some ha
    simp only [Option.isSome_some, if_true]
    rw [if_neg (by decide)]
    cases hw : rg w 0 32 with
    | none => exact ⟨_, rfl, h, rfl⟩
    | some wn =>
      obtain ⟨-, hwn, rfl⟩ := rg_some hw
      simp only [Option.isSome_some, if_true]
      rw [if_neg (by decide)]
      cases hc : rg c 0 10 with
      | none => exact ⟨_, rfl, h, rfl⟩
      | some cn =>
        obtain ⟨-, hcn, rfl⟩ := rg_some hc
        simp only [Option.isSome_some, if_true]
        rw [if_neg (by decide), gIn_t (by omega) (by omega), gck_t, nI_clamp (by omega), hN.2.ref0 (by omega)]
        simp only [obind_some]
        have hsl := hN.1.2.2.2.2 s hs
        have hm := hL.m1 s hs
        refine Ok.bind (find_ok hsl hm.2 (fun j hj => hL.w32 s j hs hj) (show wn < 2 ^ 31 by omega)) (fun r hr => ?_)
        subst hr
        cases hf : fnd (S.now.w s) wn (S.now.m s) with
        | some i =>
          have := fnd_some _ _ hf
          rw [if_neg (show ¬ rI (some i) < 0 from nI_pos (by omega))]
          exact ⟨_, rfl, h, rfl⟩
        | none =>
          rw [if_pos (show rI none < 0 by decide), hsl.1]
          by_cases hn : S.now.m s = 4
          · rw [if_pos hn, hn, if_pos (show nI 4 = 4 from rfl)]; exact ⟨_, rfl, h, rfl⟩
          · rw [if_neg hn, if_neg (show ¬ nI (S.now.m s) = 4 from fun z => hn ((nI_eq (b := 4) (by omega) (by decide)).mp z))]
            refine Ok.bind (xnote_ok hW h) (fun G1 h1 => ?_)
            obtain ⟨hx1, hg1, -⟩ := h1
            have hN1 : xNow G1 S.now := hx1.xn
            have es : sgO G 32 s = sgO G1 32 s := by unfold sgO; rw [hg1]
            rw [es]
            refine Ok.bind (add_ok (hN1.1.2.2.2.2 s hs) (by omega) wn cn) (fun G2 h2 => ?_)
            exact ⟨_, rfl, hx1.up hW (h2.1.w (fun k j z => sZ_n hN1.2 (by omega) z)) h2.2.1 (xLt.put hL hN1.1 hN1.2 hs h2.1 h2.2.1 h2.2.2), h2.2.2.1⟩
theorem keep_ok {G : gP} {s m : Nat} {w0 c0 : Nat → Nat} (h : xSlt G s m w0 c0) (hm : m ≤ 4) {k : Nat} (hk : k < m) : Ok (f_X7_keepAlone G s (nI k)) (fun G' => gOff (sZ s) G G' ∧ rSame G G' ∧ xSlt G' s 1 (fun _ => w0 k) (fun _ => c0 k)) := by
  unfold f_X7_keepAlone
  simp only [gLet_e]
  rw [gIn_t (by omega) (by omega), gck_t, gck_t, nI_clamp (by omega), gS_ne (show ¬ (s + 2 = s + 1 ∧ k = 0) by omega), (h.2 k hk).1, (h.2 k hk).2]
  refine ⟨_, rfl, ((gOff.rf.S1 (by simp [sZ])).S1 (by simp [sZ])).S1 (by simp [sZ]), ((rSame.rf.S1).S1).S1, gS_at, fun j hj => ?_⟩
  have : j = 0 := by omega
  subst this
  refine ⟨?_, ?_⟩
  · rw [gS_ne (by omega), gS_ne (by omega), gS_at]
  · rw [gS_ne (by omega), gS_at]
theorem xsettle_ok {S : St} {T : Nat → Nat × Nat} {G : gP} (hW : S.Wf) (h : xSt S T G) (a w : Int32) : Ok (f_X0_settle G a w) (xA T (sSettle S a w)) := by
  unfold f_X0_settle sSettle
  have hL := hW.now
  have h8 := hL.n8
  have hN := h.xn
  rw [xisSlot_rg h8 hN.1.1, xisWord_rg]
  cases ha : rg a 0 S.now.n with
  | none => exact ⟨_, rfl, h, rfl⟩
  | some s =>
    obtain ⟨-, hs, rfl⟩ := rg_some ha
    simp only [Option.isSome_some, if_true]
    rw [if_neg (by decide)]
    cases hw : rg w 0 32 with
    | none => exact ⟨_, rfl, h, rfl⟩
    | some wn =>
      obtain ⟨-, hwn, rfl⟩ := rg_some hw
      simp only [Option.isSome_some, if_true]
      rw [if_neg (by decide), gIn_t (by omega) (by omega), gck_t, nI_clamp (by omega), hN.2.ref0 (by omega)]
      simp only [obind_some]
      have hsl := hN.1.2.2.2.2 s hs
      have hm := hL.m1 s hs
      refine Ok.bind (find_ok hsl hm.2 (fun j hj => hL.w32 s j hs hj) (show wn < 2 ^ 31 by omega)) (fun r hr => ?_)
      subst hr
      cases hf : fnd (S.now.w s) wn (S.now.m s) with
      | none =>
        rw [if_pos (show rI none < 0 by decide)]
        exact ⟨_, rfl, h, rfl⟩
      | some i =>
        have hi := fnd_some _ _ hf
        rw [if_neg (show ¬ rI (some i) < 0 from nI_pos (by omega)), hsl.1]
        simp only
        by_cases hn : S.now.m s = 1
        · rw [if_pos hn, hn, if_pos (show nI 1 = 1 from rfl)]; exact ⟨_, rfl, h, rfl⟩
        · rw [if_neg hn, if_neg (show ¬ nI (S.now.m s) = 1 from fun z => hn ((nI_eq (b := 1) (by omega) (by decide)).mp z))]
          refine Ok.bind (xnote_ok hW h) (fun G1 h1 => ?_)
          obtain ⟨hx1, hg1, -⟩ := h1
          have hN1 : xNow G1 S.now := hx1.xn
          have es : sgO G 32 s = sgO G1 32 s := by unfold sgO; rw [hg1]
          have hsl1 := hN1.1.2.2.2.2 s hs
          rw [es]
          simp only [gLet_e]
          rw [hsl1.1, show nI (S.now.m s) - 1 = nI (S.now.m s - 1) from pk_sub (b := 1) hm.1]
          refine Ok.bind (keep_ok hsl1 hm.2 hi.1) (fun G2 h2 => ?_)
          exact ⟨_, rfl, hx1.up hW (h2.1.w (fun k j z => sZ_n hN1.2 (by omega) z)) h2.2.1 (xLt.put hL hN1.1 hN1.2 hs h2.1 h2.2.1 h2.2.2), rfl⟩
/-- a lattice with a field changed -/
theorem xLt.fld {G : gP} {L L' : Lt} (hL : L.Wf) (h : xLt G 32 L) (hg : xSg G 32) {j : Nat} {v : Int32} (hn : L'.n = L.n) (hm : L'.m = L.m) (hw : L'.w = L.w) (hc : L'.c = L.c) (h1 : gS (gS1 G 32 j v) 32 1 = nI L'.n) (h2 : gS (gS1 G 32 j v) 32 2 = nI L'.kind) (h3 : gS (gS1 G 32 j v) 32 3 = nI L'.slack) (h4 : gS (gS1 G 32 j v) 32 4 = nI L'.draw) : xLt (gS1 G 32 j v) 32 L' := by
  have h8 := hL.n8
  refine ⟨h1, h2, h3, h4, fun i hi => ?_⟩
  rw [hn] at hi
  have ri := hg.rng (j := i) (by omega)
  rw [hm, hw, hc]
  exact (h.2.2.2.2 i hi).off (Z := fun k _ => decide (k = 32)) (gOff.rf.S1 (by simp)) (fun k j a b => by simp; omega)
theorem xcheck_ok {S : St} {T : Nat → Nat × Nat} {G : gP} (hW : S.Wf) (h : xSt S T G) (a : Int32) : Ok (f_X0_check G a) (xA T (sCheck S a)) := by
  unfold f_X0_check sCheck
  have hL := hW.now
  rw [isIn_rg a (lo := 0) (hi := 5) rfl rfl]
  cases ha : rg a 0 5 with
  | none => exact ⟨_, rfl, h, rfl⟩
  | some k =>
    obtain ⟨-, hk, rfl⟩ := rg_some ha
    simp only [Option.isSome_some, if_true]
    rw [if_neg (by decide)]
    have h5 := hL.k5
    have e1 : gS G 32 2 = nI S.now.kind := h.now.2.1
    have act : ∀ kd : Nat, kd = S.now.kind → Ok (if nI kd = nI k then some (G, (-2 : Int32)) else (f_X0_note G).bind fun q6 => gLet (gS1 q6 32 2 (nI k)) fun G8 => some (G8, nI kd)) (xA T (if S.now.kind = k then (S, -2) else (S.up (Lt.of (S.now.n) (k) (S.now.slack) (S.now.draw) (S.now.m) (S.now.w) (S.now.c)), nI S.now.kind))) := by
      rintro kd rfl
      by_cases hn : S.now.kind = k
      · rw [if_pos (nI_inj hn), if_pos hn]; exact ⟨_, rfl, h, rfl⟩
      · rw [if_neg (fun z => hn ((nI_eq (by omega) (by omega)).mp z)), if_neg hn]
        refine Ok.bind (xnote_ok hW h) (fun G1 h1 => ?_)
        have hN1 : xNow G1 S.now := h1.1.xn
        refine ⟨_, rfl, h1.1.up hW (gOff.rf.S1 (by simp [nZ])) (rSame.rf.S1) (xLt.fld hL hN1.1 hN1.2 rfl rfl rfl rfl ?_ gS_at ?_ ?_), rfl⟩
        · rw [gS_ne (by decide)]; exact hN1.1.1
        · rw [gS_ne (by decide)]; exact hN1.1.2.2.1
        · rw [gS_ne (by decide)]; exact hN1.1.2.2.2.1
    rw [e1, gIn_t (by omega) h5, gck_t]
    generalize hkd : S.now.kind = kd at *
    have hc : kd = 0 ∨ kd = 1 ∨ kd = 2 ∨ kd = 3 ∨ kd = 4 := by omega
    rcases hc with rfl | rfl | rfl | rfl | rfl
    · rw [if_pos (show nI 0 = 0 from rfl)]; exact act 0 rfl
    · rw [if_neg (by decide), if_pos (show nI 1 = 1 from rfl)]; exact act 1 rfl
    · rw [if_neg (by decide), if_neg (by decide), if_pos (show nI 2 = 2 from rfl)]; exact act 2 rfl
    · rw [if_neg (by decide), if_neg (by decide), if_neg (by decide), if_pos (show nI 3 = 3 from rfl)]; exact act 3 rfl
    · rw [if_neg (by decide), if_neg (by decide), if_neg (by decide), if_neg (by decide), if_pos (show nI 4 = 4 from rfl)]; exact act 4 rfl
theorem xslack_ok {S : St} {T : Nat → Nat × Nat} {G : gP} (hW : S.Wf) (h : xSt S T G) (a : Int32) : Ok (f_X0_slack G a) (xA T (sSlack S a)) := by
  unfold f_X0_slack sSlack
  have hL := hW.now
  rw [isIn_rg a (lo := 0) (hi := 21) rfl rfl]
  cases ha : rg a 0 21 with
  | none => exact ⟨_, rfl, h, rfl⟩
  | some k =>
    obtain ⟨-, hk, rfl⟩ := rg_some ha
    simp only [Option.isSome_some, if_true]
    rw [if_neg (by decide)]
    have h5 := hL.s20
    have e1 : gS G 32 3 = nI S.now.slack := h.now.2.2.1
    simp only [gLet_e]
    rw [e1]
    by_cases hn : S.now.slack = k
    · rw [if_pos (nI_inj hn), if_pos hn]; exact ⟨_, rfl, h, rfl⟩
    · rw [if_neg (fun z => hn ((nI_eq (by omega) (by omega)).mp z)), if_neg hn]
      refine Ok.bind (xnote_ok hW h) (fun G1 h1 => ?_)
      have hN1 : xNow G1 S.now := h1.1.xn
      refine ⟨_, rfl, h1.1.up hW (gOff.rf.S1 (by simp [nZ])) (rSame.rf.S1) (xLt.fld hL hN1.1 hN1.2 rfl rfl rfl rfl ?_ ?_ gS_at ?_), rfl⟩
      · rw [gS_ne (by decide)]; exact hN1.1.1
      · rw [gS_ne (by decide)]; exact hN1.1.2.1
      · rw [gS_ne (by decide)]; exact hN1.1.2.2.2.1
theorem xseed_ok {S : St} {T : Nat → Nat × Nat} {G : gP} (hW : S.Wf) (h : xSt S T G) (a : Int32) : Ok (f_X0_seed G a) (xA T (sSeed S a)) := by
  unfold f_X0_seed sSeed
  have hL := hW.now
  have hN := h.xn
  by_cases ha : 0 ≤ a
  · rw [if_pos ha, if_pos ha]
    simp only [gLet_e]
    have x1 := Int32.le_iff_toInt_le.mp ha
    have x4 : ((0 : Int32)).toInt = 0 := by decide
    refine ⟨_, rfl, h.now' hW (gOff.rf.S1 (by simp [nZ])) (rSame.rf.S1) (xLt.fld hL hN.1 hN.2 rfl rfl rfl rfl ?_ ?_ ?_ ?_), hN.1.2.2.2.1⟩
    · rw [gS_ne (by decide)]; exact hN.1.1
    · rw [gS_ne (by decide)]; exact hN.1.2.1
    · rw [gS_ne (by decide)]; exact hN.1.2.2.1
    · rw [gS_at]; exact nJ_of (show a.toInt = ((a.toInt.toNat : Nat) : Int) by omega)
  · rw [if_neg ha, if_neg ha]; exact ⟨_, rfl, h, rfl⟩
