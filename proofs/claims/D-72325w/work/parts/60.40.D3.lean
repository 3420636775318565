/-! the component: lose, storm, image, restore, type -/
theorem gOff.Rc {Z : Nat → Nat → Bool} {G G1 : gP} (h : gOff Z G G1) {a sp b dp n : Nat} (hz : ∀ j, dp ≤ j → j < dp + n → Z b j = true) : gOff Z G (gRc G1 a sp b dp n) := fun k j z => by
  refine ⟨(h k j z).1, (h k j z).2.1, ?_⟩
  rw [gR_Rc, if_neg (fun q => by obtain ⟨rfl, h1, h2⟩ := q; rw [hz j h1 h2] at z; cases z)]
  exact (h k j z).2.2
theorem xlose_ok {S : St} {T : Nat → Nat × Nat} {G : gP} (hW : S.Wf) (h : xSt S T G) (a : Int32) : Ok (f_X0_lose G a) (xA T (sLose S a)) := by
  unfold f_X0_lose sLose
  have hL := hW.now
  have h8 := hL.n8
  have hN := h.xn
  rw [xisSlot_rg h8 hN.1.1]
  cases ha : rg a 0 S.now.n with
  | none => exact ⟨_, rfl, h, rfl⟩
  | some s =>
    obtain ⟨-, hs, rfl⟩ := rg_some ha
    simp only [Option.isSome_some, if_true]
    rw [if_neg (by decide)]
    refine Ok.bind (xnote_ok hW h) (fun G1 h1 => ?_)
    obtain ⟨hx1, -, -⟩ := h1
    have hN1 : xNow G1 S.now := hx1.xn
    have hg := hN1.2
    unfold f_X6_lose
    rw [gIn_t (by omega) (by omega), gck_t, nI_clamp (by omega), hg.ref0 (by omega), obind_some, hN1.1.1, show nI S.now.n - 1 = nI (S.now.n - 1) from pk_sub (b := 1) (by omega)]
    simp only [gLet_e, gS_at]
    have hcp : gCp (nI s + 1) (nI s) (nI (S.now.n - 1) - nI s) 8 8 = true := by
      unfold gCp
      rw [nI_1, pk_sub (by omega)]
      apply decide_eq_true
      rw [nI_clamp (by omega), nI_clamp (by omega), nI_clamp (by omega)]
      exact ⟨nI_pos (by omega), nI_pos (by omega), nI_pos (by omega), by omega, by omega⟩
    rw [hcp, gck_t, nI_1, pk_sub (show s ≤ S.now.n - 1 by omega), nI_clamp (by omega), nI_clamp (by omega)]
    have hel : gEl (gS1 G1 32 1 (nI (S.now.n - 1))) (32 + 1) (s + 1) (S.now.n - 1 - s) 7 = true := by
      unfold gEl
      rw [List.all_eq_true]
      intro i hi
      rw [List.mem_range] at hi
      rw [gR_S1]
      obtain ⟨r1, p, hp, r2⟩ := hg.1 (s + 1 + i) (by omega)
      rw [r1]
      show decide _ = true
      apply decide_eq_true
      rw [r2]
      refine ⟨by omega, ?_⟩
      rw [show 32 + 2 + 3 * p = 32 + 26 * 0 + (2 + 3 * p) by omega, xT_lat (by omega) _ (by omega), xTl_slot]
    rw [hel, gck_t, gS_Rc, gS_at, gIn_t (by omega) (by omega), gck_t, nI_clamp (by omega)]
    -- the new references
    have hR : ∀ k j, k ≠ 33 → gR (gR1 (gRc (gS1 G1 32 1 (nI (S.now.n - 1))) (32 + 1) (s + 1) (32 + 1) s (S.now.n - 1 - s)) (32 + 1) (S.now.n - 1) (some (sgO G1 32 s))) k j = gR G1 k j := fun k j hk => by
      rw [gR_R1, if_neg (fun z => hk z.1), gR_Rc, if_neg (fun z => hk z.1), gR_S1]
    have hO : gOff (fun k j => decide (k = 33 ∨ (k = 32 ∧ j = 1))) G1 (gR1 (gRc (gS1 G1 32 1 (nI (S.now.n - 1))) (32 + 1) (s + 1) (32 + 1) s (S.now.n - 1 - s)) (32 + 1) (S.now.n - 1) (some (sgO G1 32 s))) := ((gOff.rf.S1 (by simp)).Rc (fun j _ _ => by simp)).R1 (by simp)
    have hS : ∀ k j, ¬ (k = 32 ∧ j = 1) → gS (gR1 (gRc (gS1 G1 32 1 (nI (S.now.n - 1))) (32 + 1) (s + 1) (32 + 1) s (S.now.n - 1 - s)) (32 + 1) (S.now.n - 1) (some (sgO G1 32 s))) k j = gS G1 k j := fun k j hk => by
      rw [gS_R1, gS_Rc, gS_ne hk]
    have h321 : gS (gR1 (gRc (gS1 G1 32 1 (nI (S.now.n - 1))) (32 + 1) (s + 1) (32 + 1) s (S.now.n - 1 - s)) (32 + 1) (S.now.n - 1) (some (sgO G1 32 s))) 32 1 = nI (S.now.n - 1) := by rw [gS_R1, gS_Rc, gS_at]
    have hP : ∀ j, j < 8 → gR (gR1 (gRc (gS1 G1 32 1 (nI (S.now.n - 1))) (32 + 1) (s + 1) (32 + 1) s (S.now.n - 1 - s)) (32 + 1) (S.now.n - 1) (some (sgO G1 32 s))) 33 j = some (sgO G1 32 (if j < s then j else if j < S.now.n - 1 then j + 1 else if j = S.now.n - 1 then s else j)) := fun j hj => by
      rw [gR_R1]
      by_cases e1 : j = S.now.n - 1
      · rw [if_pos ⟨rfl, e1⟩, if_neg (by omega), if_neg (by omega), if_pos e1]
      · rw [if_neg (fun z => e1 z.2), gR_Rc]
        by_cases e2 : s ≤ j ∧ j < S.now.n - 1
        · rw [if_pos ⟨rfl, by omega, by omega⟩, gR_S1, if_neg (by omega), if_pos e2.2, show s + 1 + (j - s) = j + 1 by omega]
          exact (hg.1 (j + 1) (by omega)).1
        · rw [if_neg (fun z => e2 ⟨z.2.1, by omega⟩), gR_S1]
          by_cases e3 : j < s
          · rw [if_pos e3]; exact (hg.1 j hj).1
          · rw [if_neg e3, if_neg (by omega), if_neg e1]; exact (hg.1 j hj).1
    have hrk : xRk (gR1 (gRc (gS1 G1 32 1 (nI (S.now.n - 1))) (32 + 1) (s + 1) (32 + 1) s (S.now.n - 1 - s)) (32 + 1) (S.now.n - 1) (some (sgO G1 32 s))) := by
      intro k j n hn
      rw [gR_R1] at hn
      split at hn
      · cases hn
        have := hg.rng (j := s) (by omega)
        exact Or.inl (by omega)
      · rw [gR_Rc] at hn
        split at hn
        · rw [gR_S1] at hn; exact hx1.rk _ _ _ hn
        · rw [gR_S1] at hn; exact hx1.rk _ _ _ hn
    generalize gR1 (gRc (gS1 G1 32 1 (nI (S.now.n - 1))) (32 + 1) (s + 1) (32 + 1) s (S.now.n - 1 - s)) (32 + 1) (S.now.n - 1) (some (sgO G1 32 s)) = G2 at *
    have hsO : ∀ j, j < 8 → sgO G2 32 j = sgO G1 32 (if j < s then j else if j < S.now.n - 1 then j + 1 else if j = S.now.n - 1 then s else j) := fun j hj => by
      show (gR G2 33 j).getD 0 = _
      rw [hP j hj]; rfl
    have hidx : ∀ j, j < 8 → (if j < s then j else if j < S.now.n - 1 then j + 1 else if j = S.now.n - 1 then s else j) < 8 := fun j hj => by
      split
      · omega
      · split
        · omega
        · split <;> omega
    have hsg : xSg G2 32 := by
      refine ⟨fun j hj => ?_, fun i j hi hj e => ?_⟩
      · rw [hsO j hj]
        exact ⟨hP j hj, (hg.1 _ (hidx j hj)).2⟩
      · rw [hsO i hi, hsO j hj] at e
        have := hg.2 _ _ (hidx i hi) (hidx j hj) e
        split at this
        · split at this
          · exact this
          · split at this
            · omega
            · split at this <;> omega
        · split at this
          · split at this
            · omega
            · split at this
              · omega
              · split at this <;> omega
          · split at this
            · split at this
              · omega
              · split at this
                · omega
                · split at this <;> omega
            · split at this
              · omega
              · split at this
                · omega
                · split at this <;> omega
    refine ⟨_, rfl, ?_, h321⟩
    refine hx1.frame (L := S.now.del s) (hW.up hW.now) hO (fun k j hk => hR k j hk) hsg hrk (fun k j hk => by simp; omega) ⟨h321, ?_, ?_, ?_, fun i hi => ?_⟩
    · rw [hS 32 2 (by omega)]; exact hN1.1.2.1
    · rw [hS 32 3 (by omega)]; exact hN1.1.2.2.1
    · rw [hS 32 4 (by omega)]; exact hN1.1.2.2.2.1
    · have hi' : i < S.now.n - 1 := hi
      rw [hsO i (by omega)]
      unfold Lt.del
      simp only [Lt.mk_n, Lt.mk_kind, Lt.mk_slack, Lt.mk_draw, Lt.mk_m, Lt.mk_w, Lt.mk_c, St.mk_now, St.mk_past, St.mk_kept, St.mk_tape, St.mk_sh]
      have cp : ∀ p, p < S.now.n → xSlt G2 (sgO G1 32 p) (S.now.m p) (S.now.w p) (S.now.c p) := fun p hp => by
        have rp := hg.rng (j := p) (by omega)
        have hx := hN1.1.2.2.2.2 p hp
        refine ⟨by rw [hS _ _ (by omega)]; exact hx.1, fun j hj => ⟨by rw [hS _ _ (by omega)]; exact (hx.2 j hj).1, by rw [hS _ _ (by omega)]; exact (hx.2 j hj).2⟩⟩
      by_cases e : i < s
      · simp only [e, if_true]; exact cp i (by omega)
      · simp only [e, if_false, hi', if_true]; exact cp (i + 1) (by omega)
theorem xdraw_I {d : Nat} (hd : d < 2 ^ 31) : (((nI d).toInt64 * 1103515245 + 12345) &&& 2147483647).toInt32 = nI (nxD d) := by
  rw [nxD_def, nI_L hd, show (1103515245 : Int64) = iL 1103515245 from rfl, show (12345 : Int64) = iL 12345 from rfl, iL_mul, iL_add]
  apply Int32.toBitVec_inj.mp
  apply BitVec.eq_of_toNat_eq
  have hm := Nat.mod_lt (d * 1103515245 + 12345) (show 0 < 2147483648 by omega)
  rw [toI_V, lV_and, pk_tn (by omega)]
  have e1 : lV (iL (d * 1103515245 + 12345)) = d * 1103515245 + 12345 := by
    show (BitVec.ofNat 64 (d * 1103515245 + 12345)).toNat = _
    rw [BitVec.toNat_ofNat, Nat.mod_eq_of_lt (by omega)]
  have e2 : lV (2147483647 : Int64) = 2 ^ 31 - 1 := by decide +kernel
  rw [e1, e2, Nat.and_two_pow_sub_one_eq_mod]
  omega
theorem drawOnce_ok {S : St} {T : Nat → Nat × Nat} {G : gP} (hW : S.Wf) (h : xSt (St.of (S.now) (pushP S.past S.now) (S.kept) (S.tape) (S.sh)) T G) : Ok (f_X0_drawOnce G) (fun G' => xSt (S.up S.now.drawn) T G') := by
  unfold f_X0_drawOnce
  have hL := hW.now
  have h8 := hL.n8
  have hN : xNow G S.now := h.xn
  simp only [gLet_e, gS_at]
  rw [hN.1.2.2.2.1, xdraw_I hL.dr]
  unfold Lt.drawn
  have hd := nxD_lt S.now.draw
  generalize nxD S.now.draw = d at *
  have hL3 : ((Lt.of (S.now.n) (S.now.kind) (S.now.slack) (d) (S.now.m) (S.now.w) (S.now.c)) : Lt).Wf := hL.hd hL.k5 hL.s20 hd
  have hx3 : xLt (gS1 G 32 4 (nI d)) 32 (Lt.of (S.now.n) (S.now.kind) (S.now.slack) (d) (S.now.m) (S.now.w) (S.now.c)) := by
    refine xLt.fld hL hN.1 hN.2 rfl rfl rfl rfl ?_ ?_ ?_ gS_at
    · rw [gS_ne (by decide)]; exact hN.1.1
    · rw [gS_ne (by decide)]; exact hN.1.2.1
    · rw [gS_ne (by decide)]; exact hN.1.2.2.1
  have hO3 : gOff nZ G (gS1 G 32 4 (nI d)) := gOff.rf.S1 (by simp [nZ])
  have hr3 : rSame G (gS1 G 32 4 (nI d)) := rSame.rf.S1
  generalize gS1 G 32 4 (nI d) = G3 at *
  have hg3 := hN.2.same hr3
  have hx : nI d / 65536 = nI (d / 65536) := pk_div (d := 65536) hd (by decide) (by decide)
  rw [hx]
  have hx31 : d / 65536 < 2 ^ 31 := by omega
  generalize d / 65536 = x at *
  have e0 : gS G3 32 1 = nI S.now.n := hx3.1
  rw [e0]
  unfold Lt.dr1
  by_cases h0 : S.now.n = 0
  · rw [if_pos h0, if_pos (show nI S.now.n = 0 by rw [h0]; rfl)]
    exact ⟨_, rfl, h.up hW hO3 hr3 hx3⟩
  · rw [if_neg h0, if_neg (nI_ne0 (by omega) (by omega)), gNz_nI (by omega) (by omega), gck_t, gRem_nI hx31 (by omega) (by omega)]
    have hs : x % S.now.n < S.now.n := Nat.mod_lt _ (by omega)
    have hx8 : gRem (nI x / 8) 32 = nI (x / 8 % 32) := by
      rw [show (8 : Int32) = nI 8 from rfl, pk_div hx31 (by decide) (by decide), show (32 : Int32) = nI 32 from rfl, gRem_nI (by omega) (by decide) (by decide)]
    have hx256 : gRem (nI x / 256) 10 = nI (x / 256 % 10) := by
      rw [show (256 : Int32) = nI 256 from rfl, pk_div hx31 (by decide) (by decide), show (10 : Int32) = nI 10 from rfl, gRem_nI (by omega) (by decide) (by decide)]
    rw [hx8, hx256, gIn_t (by omega) (by omega), gck_t, nI_clamp (by omega), hg3.ref0 (by omega), obind_some]
    have hsl : xSlt G3 (sgO G3 32 (x % S.now.n)) (S.now.m (x % S.now.n)) (S.now.w (x % S.now.n)) (S.now.c (x % S.now.n)) := hx3.2.2.2.2 _ hs
    have hm := hL.m1 _ hs
    rw [hsl.1]
    by_cases h4 : 4 ≤ S.now.m (x % S.now.n)
    · rw [if_pos (show (4 : Int32) ≤ nI (S.now.m (x % S.now.n)) from nI_le (a := 4) h4 (by omega)), if_neg (fun z => by omega)]
      exact ⟨_, rfl, h.up hW hO3 hr3 hx3⟩
    · rw [if_neg (show ¬ (4 : Int32) ≤ nI (S.now.m (x % S.now.n)) from nI_ge (b := 4) (by omega) (by decide))]
      refine Ok.bind (find_ok hsl hm.2 (fun j hj => hL.w32 _ j hs hj) (show x / 8 % 32 < 2 ^ 31 by omega)) (fun r hr => ?_)
      subst hr
      cases hf : fnd (S.now.w (x % S.now.n)) (x / 8 % 32) (S.now.m (x % S.now.n)) with
      | some j =>
        have := fnd_some _ _ hf
        rw [if_pos (show 0 ≤ rI (some j) from nI_pos' (by omega)), if_neg (fun z => by cases z.2)]
        exact ⟨_, rfl, h.up hW hO3 hr3 hx3⟩
      | none =>
        rw [if_neg (show ¬ 0 ≤ rI none by decide), if_pos ⟨by omega, rfl⟩, obs]
        refine (add_ok hsl (by omega) (x / 8 % 32) (x / 256 % 10)).imp ?_
        rintro G4 ⟨a, b, c⟩
        refine h.up hW (hO3.tr (a.w (fun k j z => sZ_n hg3 (by omega) z))) (hr3.tr b) ?_
        exact xLt.put hL3 hx3 hg3 hs a b c
theorem xstorm_ok {S : St} {T : Nat → Nat × Nat} {G : gP} (hW : S.Wf) (h : xSt S T G) (a : Int32) : Ok (f_X0_storm G a) (xA T (sStorm S a)) := by
  unfold f_X0_storm sStorm
  rw [isIn_rg a (lo := 1) (hi := 41) rfl rfl]
  cases ha : rg a 1 41 with
  | none => exact ⟨_, rfl, h, rfl⟩
  | some n =>
    obtain ⟨hn1, hn, rfl⟩ := rg_some ha
    simp only [Option.isSome_some, if_true]
    rw [if_neg (by decide)]
    refine Ok.bind (Q := fun G1 => xSt (S.storm n) T G1) ?_ (fun G1 h1 => ?_)
    · have hs0 : S.storm 0 = S := by unfold St.storm; rfl
      refine Ok.up (fun i s => s.2 = nI i ∧ xSt (S.storm i) T s.1) n (by omega) ?_ ?_ ⟨rfl, by rw [hs0]; exact h⟩
      · rintro i ⟨G1, x⟩ hi ⟨hx, h1⟩
        simp only at hx h1
        subst hx
        unfold f_X0_storm_b16
        simp only
        rw [if_neg (nI_ge hi (by omega))]
        refine Ok.bind (xnote_ok (hW.storm i) h1) (fun G2 h2 => ?_)
        refine Ok.bind (drawOnce_ok (hW.storm i) h2.1) (fun G3 h3 => ⟨_, rfl, nI_1 i, ?_⟩)
        have e : S.storm (i + 1) = (S.storm i).up (S.storm i).now.drawn := by rw [St.storm]
        rw [e]; exact h3
      · rintro ⟨G1, x⟩ ⟨hx, h1⟩
        simp only at hx h1
        subst hx
        unfold f_X0_storm_b16
        simp only
        rw [if_pos (nI_le (Nat.le_refl _) (by omega))]
        exact ⟨_, rfl, h1⟩
    · have hL := (hW.storm n).now
      have h8 := hL.n8
      have hN := h1.xn
      refine Ok.bind (Q := fun x => x = nI (su (S.storm n).now.m (S.storm n).now.n)) ?_ (fun x hx => ⟨_, rfl, h1, hx⟩)
      refine Ok.up (fun i s => s = (nI (su (S.storm n).now.m i), nI i)) (S.storm n).now.n (by omega) ?_ ?_ rfl
      · rintro i s hi rfl
        unfold f_X0_storm_b39
        simp only
        rw [hN.1.1, if_neg (nI_ge hi (by omega)), gIn_t (by omega) (by omega), gck_t, nI_clamp (by omega), hN.2.ref0 (by omega), obind_some, (hN.1.2.2.2.2 i hi).1]
        simp only [gLet_e]
        rw [nI_add, nI_1]
        exact ⟨_, rfl, rfl⟩
      · rintro s rfl
        unfold f_X0_storm_b39
        simp only
        rw [hN.1.1, if_pos (nI_le (Nat.le_refl _) (by omega))]
        exact ⟨_, rfl, rfl⟩
theorem xtype_ok {S : St} {T : Nat → Nat × Nat} {G : gP} (hW : S.Wf) (h : xSt S T G) (a : Int32) : Ok (f_X0_type G a) (xA T (sType S a)) := by
  unfold f_X0_type sType
  rw [isIn_rg a (lo := 32) (hi := 127) rfl rfl]
  cases ha : rg a 32 127 with
  | none => exact ⟨_, rfl, h, rfl⟩
  | some v =>
    obtain ⟨-, hv, rfl⟩ := rg_some ha
    simp only [Option.isSome_some, if_true]
    have h120 := hW.tape.1
    have hch : vp_nar .char (((nI v).toUInt32 % 65536).toInt32) = nI v := by
      rw [pk_vc, pk_char, pk_tn (by omega), Nat.mod_eq_of_lt (by omega)]
    rw [if_neg (by decide), h.tp, hch]
    by_cases hn : S.tape.length = 120
    · rw [if_pos hn, hn, if_pos (show nI 120 = 120 from rfl)]; exact ⟨_, rfl, h, rfl⟩
    · rw [if_neg hn, if_neg (show ¬ nI S.tape.length = 120 from fun z => hn ((nI_eq (b := 120) (by omega) (by decide)).mp z)), gIn_t (by omega) (by omega), gck_t, nI_clamp (by omega)]
      simp only [gLet_e]
      rw [gS_ne (show ¬ (0 = 9 ∧ 11 = S.tape.length) by omega), h.tp, nI_1, gS_at]
      have hO : gOff (fun k j => decide (k = 9 ∨ (k = 0 ∧ j = 11))) G (gS1 (gS1 G 9 S.tape.length (nI v)) 0 11 (nI (S.tape.length + 1))) := (gOff.rf.S1 (by simp)).S1 (by simp)
      have hr : rSame G (gS1 (gS1 G 9 S.tape.length (nI v)) 0 11 (nI (S.tape.length + 1))) := (rSame.rf.S1).S1
      have hlt : ∀ i L, i < 19 → L.n ≤ 8 → xLt G (32 + 26 * i) L → xLt (gS1 (gS1 G 9 S.tape.length (nI v)) 0 11 (nI (S.tape.length + 1))) (32 + 26 * i) L := fun i L hi h8 hx => hx.off h8 (h.sg i hi) hO hr (fun k j a b => by simp; omega)
      refine ⟨_, rfl, ⟨h.rk.same hr, fun i hi => (h.sg i hi).same hr, h.pa.same hr, fun j hj => by rw [hr]; exact h.ka j hj, hlt 0 _ (by omega) hW.now.n8 h.now, ?_, fun i L hi => ?_, ?_, ?_, ?_, fun s hs => (h.sh s hs).off hO (hr _ _) (fun j => by simp; omega)⟩, rfl⟩
      · rw [(hO 0 16 (by simp)).1]; exact h.un
      · have hil : i < S.past.length := (List.getElem?_eq_some_iff.mp hi).1
        have hp8 := hW.p8
        have hx := h.past i L hi
        have e2 : paO (gS1 (gS1 G 9 S.tape.length (nI v)) 0 11 (nI (S.tape.length + 1))) i = paO G i := rfl
        rw [e2]
        obtain ⟨-, p', hp', e'⟩ := h.pa.1 i (by omega)
        rw [e'] at hx ⊢
        exact hlt _ L (by omega) (hW.past L (List.mem_of_getElem? hi)).n8 hx
      · have hkk : xKp G S.kept := h.kept
        show xKp _ S.kept
        cases hSk : S.kept with
        | none => rw [hSk] at hkk; show gS _ 0 20 = 0; rw [(hO 0 20 (by simp)).1]; exact hkk
        | some z =>
          obtain ⟨Lk, pk⟩ := z
          rw [hSk] at hkk
          obtain ⟨k1, k2, k3, k4⟩ := hkk
          obtain ⟨w1, w2, w3⟩ := hW.kept Lk pk hSk
          refine ⟨by rw [(hO 0 20 (by simp)).1]; exact k1, by rw [(hO 0 19 (by simp)).1]; exact k2, hlt 2 Lk (by omega) w1.n8 k3, fun i L' hi => ?_⟩
          have hil : i < pk.length := (List.getElem?_eq_some_iff.mp hi).1
          exact hlt (11 + i) L' (by omega) (w2 L' (List.mem_of_getElem? hi)).n8 (k4 i L' hi)
      · show gS _ 0 11 = nI (S.tape ++ [v]).length
        rw [gS_at, List.length_append, List.length_singleton]
      · have := (h.tape.push (v := v)).S1 (a := 0) (i := 11) (v := nI (S.tape.length + 1)) (Or.inl (by decide))
        rwa [Nat.zero_add] at this
