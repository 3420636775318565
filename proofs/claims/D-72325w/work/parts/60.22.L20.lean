/-! states stay well; the Model: storm -/
theorem Lt.Wf.put {L : Lt} (hL : L.Wf) {s m : Nat} {w c : Nat → Nat} (hm : 1 ≤ m ∧ m ≤ 4) (hw : ∀ j, j < m → w j < 32) (hc : ∀ j, j < m → c j < 10) (hd : ∀ i j, i < j → j < m → w i ≠ w j) : (L.put s m w c).Wf := by
  refine ⟨hL.n8, hL.k5, hL.s20, hL.dr, fun k hk => ?_, fun k j hk hj => ?_, fun k j hk hj => ?_, fun k i j hk hi hj => ?_⟩
  all_goals (unfold Lt.put at *; simp only [Lt.mk_n, Lt.mk_kind, Lt.mk_slack, Lt.mk_draw, Lt.mk_m, Lt.mk_w, Lt.mk_c, St.mk_now, St.mk_past, St.mk_kept, St.mk_tape, St.mk_sh] at *; by_cases e : k = s)
  · subst e; simp only [if_true]; exact hm
  · simp only [e, if_false]; exact hL.m1 k hk
  · subst e; simp only [if_true] at *; exact hw j hj
  · simp only [e, if_false] at *; exact hL.w32 k j hk hj
  · subst e; simp only [if_true] at *; exact hc j hj
  · simp only [e, if_false] at *; exact hL.c10 k j hk hj
  · subst e; simp only [if_true] at *; exact hd i j hi hj
  · simp only [e, if_false] at *; exact hL.ds k i j hk hi hj
theorem Lt.Wf.more {L : Lt} (hL : L.Wf) {w c : Nat} (hn : L.n < 8) (hw : w < 32) (hc : c < 10) : (L.more w c).Wf := by
  refine ⟨by show L.n + 1 ≤ 8; omega, hL.k5, hL.s20, hL.dr, fun k hk => ?_, fun k j hk hj => ?_, fun k j hk hj => ?_, fun k i j hk hi hj => ?_⟩
  all_goals (unfold Lt.more Lt.put at *; simp only [Lt.mk_n, Lt.mk_kind, Lt.mk_slack, Lt.mk_draw, Lt.mk_m, Lt.mk_w, Lt.mk_c, St.mk_now, St.mk_past, St.mk_kept, St.mk_tape, St.mk_sh] at *; by_cases e : k = L.n)
  · subst e; simp
  · simp only [e, if_false]; exact hL.m1 k (by omega)
  · subst e; simp only [if_true] at *; exact hw
  · have hk2 : k < L.n := by omega
    simp only [e, if_false] at hj ⊢; exact hL.w32 k j hk2 hj
  · subst e; simp only [if_true] at *; exact hc
  · have hk2 : k < L.n := by omega
    simp only [e, if_false] at hj ⊢; exact hL.c10 k j hk2 hj
  · subst e; simp only [if_true] at *; omega
  · have hk2 : k < L.n := by omega
    simp only [e, if_false] at hj ⊢; exact hL.ds k i j hk2 hi hj
theorem Lt.Wf.add {L : Lt} (hL : L.Wf) {s w c : Nat} (hs : s < L.n) (hm : L.m s < 4) (hf : fnd (L.w s) w (L.m s) = none) (hw : w < 32) (hc : c < 10) : (L.add s w c).Wf := by
  unfold Lt.add
  refine hL.put ⟨by omega, by omega⟩ (fun j hj => ?_) (fun j hj => ?_) (fun i j hi hj => ?_)
  · unfold setp; split
    · exact hw
    · exact hL.w32 s j hs (by omega)
  · unfold setp; split
    · exact hc
    · exact hL.c10 s j hs (by omega)
  · unfold setp
    rw [if_neg (show ¬ i = L.m s by omega)]
    split
    · exact fnd_none _ hf i (by omega)
    · exact hL.ds s i j hs hi (by omega)
theorem Lt.Wf.del {L : Lt} (hL : L.Wf) (s : Nat) (hs : s < L.n) : (L.del s).Wf := by
  have h8 := hL.n8
  refine ⟨by show L.n - 1 ≤ 8; omega, hL.k5, hL.s20, hL.dr, fun k hk => ?_, fun k j hk hj => ?_, fun k j hk hj => ?_, fun k i j hk hi hj => ?_⟩
  all_goals (unfold Lt.del at *; simp only [Lt.mk_n, Lt.mk_kind, Lt.mk_slack, Lt.mk_draw, Lt.mk_m, Lt.mk_w, Lt.mk_c, St.mk_now, St.mk_past, St.mk_kept, St.mk_tape, St.mk_sh] at *; by_cases e : k < s)
  · simp only [e, if_true]; exact hL.m1 k (by omega)
  · simp only [e, if_false]; exact hL.m1 (k + 1) (by omega)
  · simp only [e, if_true] at *; exact hL.w32 k j (by omega) hj
  · simp only [e, if_false] at *; exact hL.w32 (k + 1) j (by omega) hj
  · simp only [e, if_true] at *; exact hL.c10 k j (by omega) hj
  · simp only [e, if_false] at *; exact hL.c10 (k + 1) j (by omega) hj
  · simp only [e, if_true] at *; exact hL.ds k i j (by omega) hi hj
  · simp only [e, if_false] at *; exact hL.ds (k + 1) i j (by omega) hi hj
theorem Lt.Wf.hd {L : Lt} (hL : L.Wf) {k s d : Nat} (hk : k < 5) (hs : s ≤ 20) (hd : d < 2 ^ 31) : ((Lt.of (L.n) (k) (s) (d) (L.m) (L.w) (L.c)) : Lt).Wf := ⟨hL.n8, hk, hs, hd, hL.m1, hL.w32, hL.c10, hL.ds⟩
theorem Lt.Wf.dr1 {L : Lt} (hL : L.Wf) {d : Nat} (hd : d < 2 ^ 31) (x : Nat) : (L.dr1 d x).Wf := by
  unfold Lt.dr1
  have h1 : ((Lt.of (L.n) (L.kind) (L.slack) (d) (L.m) (L.w) (L.c)) : Lt).Wf := hL.hd hL.k5 hL.s20 hd
  by_cases hn : L.n = 0
  · rw [if_pos hn]; exact h1
  · rw [if_neg hn]
    by_cases hc : L.m (x % L.n) < 4 ∧ fnd (L.w (x % L.n)) (x / 8 % 32) (L.m (x % L.n)) = none
    · rw [if_pos hc]
      exact h1.add (Nat.mod_lt _ (show 0 < L.n by omega)) hc.1 hc.2 (Nat.mod_lt _ (by omega)) (Nat.mod_lt _ (by omega))
    · rw [if_neg hc]; exact h1
theorem Lt.Wf.drawn {L : Lt} (hL : L.Wf) : L.drawn.Wf := hL.dr1 (nxD_lt _) _
theorem pushP_mem {p : List Lt} {L x : Lt} (h : x ∈ pushP p L) : x ∈ p ∨ x = L := by
  unfold pushP at h
  rcases List.mem_append.mp h with h | h
  · split at h
    · exact Or.inl (List.mem_of_mem_tail h)
    · exact Or.inl h
  · exact Or.inr (List.mem_singleton.mp h)
theorem St.Wf.up {S : St} (h : S.Wf) {L : Lt} (hL : L.Wf) : (S.up L).Wf := by
  refine ⟨hL, fun x hx => ?_, ?_, h.kept, h.tape, h.sh⟩
  · rcases pushP_mem hx with h1 | h1
    · exact h.past x h1
    · subst h1; exact h.now
  · show (pushP S.past S.now).length ≤ 8
    rw [pushP_len h.p8]
    have := h.p8
    split <;> omega
theorem St.Wf.storm {S : St} (h : S.Wf) : ∀ n, (S.storm n).Wf := by
  intro n
  induction n with
  | zero => exact h
  | succ n ih => exact ih.up ih.now.drawn
theorem nI_L {n : Nat} (h : n < 2 ^ 31) : (nI n).toInt64 = iL n := by
  rw [← Int64.toInt_inj, Int32.toInt_toInt64, nI_toInt h, iL_toInt (by omega)]
theorem iL_I (n : Nat) : (iL n).toInt32 = nI n := by
  unfold iL nI
  exact Int64.toInt32_ofNat'
theorem draw_I {d : Nat} (hd : d < 2 ^ 31) : (gRemL ((nI d).toInt64 * 1103515245 + 12345) 2147483648).toInt32 = nI (nxD d) := by
  rw [nxD_def, nI_L hd, show (1103515245 : Int64) = iL 1103515245 from rfl, show (12345 : Int64) = iL 12345 from rfl, show (2147483648 : Int64) = iL 2147483648 from rfl, iL_mul, iL_add, iL_rem (by omega) (by decide) (by decide), iL_I]
theorem storm1_ok {S : St} {G : gP} (hW : S.Wf) (h : mSt S G) {n i : Nat} (hi : i < n) (hn : n < 2 ^ 30) : Ok (f_X11_storm_b16 (nI n) (G, nI i)) (fun r => ∃ G', r = .inl (G', nI (i + 1)) ∧ mSt (S.up S.now.drawn) G') := by
  unfold f_X11_storm_b16
  simp only
  rw [if_neg (nI_ge hi (by omega))]
  refine Ok.bind (h.note hW) (fun G1 h1 => ?_)
  have hL := hW.now
  have h8 := hL.n8
  have hR := h1.2.now
  have e3 : gS G1 1 3 = nI S.now.draw := hR.2.2.2.1
  simp only [gLet_e, gS_at]
  rw [e3, draw_I hL.dr]
  unfold Lt.drawn
  have hd := nxD_lt S.now.draw
  generalize nxD S.now.draw = d at *
  have hR3 : mRow (gS1 G1 1 3 (nI d)) 1 0 (Lt.of (S.now.n) (S.now.kind) (S.now.slack) (d) (S.now.m) (S.now.w) (S.now.c)) := by
    refine mRow.of ?_ ?_ ?_ gS_at (fun i hi => ?_)
    · simp (disch := omega) only [nLit, neg_nI, nI_add, pk_mul, nI_sub1, nI_clamp, gIn_t, gck_t, gLet_e, nI_leI, nI_ltJ, nI_eq, nI_nM_eq, nM_nI_eq, nM_eq, nM_nI_le, nI_nM_le, nM_nI_lt, nI_nM_lt, at_nI, gS_at, gS_ne', obind_some, iteT, iteF, ite_p, ite_n]; exact hR.1
    · simp (disch := omega) only [nLit, neg_nI, nI_add, pk_mul, nI_sub1, nI_clamp, gIn_t, gck_t, gLet_e, nI_leI, nI_ltJ, nI_eq, nI_nM_eq, nM_nI_eq, nM_eq, nM_nI_le, nI_nM_le, nM_nI_lt, nI_nM_lt, at_nI, gS_at, gS_ne', obind_some, iteT, iteF, ite_p, ite_n]; exact hR.2.1
    · simp (disch := omega) only [nLit, neg_nI, nI_add, pk_mul, nI_sub1, nI_clamp, gIn_t, gck_t, gLet_e, nI_leI, nI_ltJ, nI_eq, nI_nM_eq, nM_nI_eq, nM_eq, nM_nI_le, nI_nM_le, nM_nI_lt, nI_nM_lt, at_nI, gS_at, gS_ne', obind_some, iteT, iteF, ite_p, ite_n]; exact hR.2.2.1
    · exact (hR.sl (i := i) hi).off (hL.m1 i hi).2 (Z := fun k j => decide (k = 1 ∧ j < 4)) (gOff.rf.S1 (by simp)) (fun j h1 h2 => by simp; omega)
  have hO3 : gOff nowZ G1 (gS1 G1 1 3 (nI d)) := gOff.rf.S1 rfl
  generalize gS1 G1 1 3 (nI d) = G3 at *
  have hL3 : ((Lt.of (S.now.n) (S.now.kind) (S.now.slack) (d) (S.now.m) (S.now.w) (S.now.c)) : Lt).Wf := hL.hd hL.k5 hL.s20 hd
  have hx : nI d / 65536 = nI (d / 65536) := pk_div (d := 65536) hd (by decide) (by decide)
  rw [hx]
  have hx31 : d / 65536 < 2 ^ 31 := by omega
  generalize d / 65536 = x at *
  have e0 : gS G3 1 0 = nI S.now.n := hR3.1
  rw [e0]
  unfold Lt.dr1
  by_cases h0 : S.now.n = 0
  · rw [if_pos h0, if_pos (show nI S.now.n ≤ 0 by rw [h0]; decide)]
    exact ⟨_, rfl, _, by rw [nI_1], h1.2.up hO3 hR3⟩
  · rw [if_neg h0, if_neg (nI_nle (by omega) (by omega)), gNz_nI (by omega) (by omega), gRem_nI hx31 (by omega) (by omega)]
    have hs : x % S.now.n < S.now.n := Nat.mod_lt _ (by omega)
    have hx8 : gRem (nI x / 8) 32 = nI (x / 8 % 32) := by
      rw [show (8 : Int32) = nI 8 from rfl, pk_div hx31 (by decide) (by decide), show (32 : Int32) = nI 32 from rfl, gRem_nI (by omega) (by decide) (by decide)]
    have hx256 : gRem (nI x / 256) 10 = nI (x / 256 % 10) := by
      rw [show (256 : Int32) = nI 256 from rfl, pk_div hx31 (by decide) (by decide), show (10 : Int32) = nI 10 from rfl, gRem_nI (by omega) (by decide) (by decide)]
    rw [hx8, hx256]
    have hsl : mSl G3 (x % S.now.n) (S.now.m (x % S.now.n)) (S.now.w (x % S.now.n)) (S.now.c (x % S.now.n)) := hR3.sl (i := x % S.now.n) hs
    have hm := hL.m1 _ hs
    simp (disch := omega) only [nLit, neg_nI, nI_add, pk_mul, nI_sub1, nI_clamp, gIn_t, gck_t, gLet_e, nI_leI, nI_ltJ, nI_eq, nI_nM_eq, nM_nI_eq, nM_eq, nM_nI_le, nI_nM_le, nM_nI_lt, nI_nM_lt, at_nI, gS_at, gS_ne', obind_some, iteT, iteF, ite_p, ite_n, hsl.1]
    by_cases h4 : 4 ≤ S.now.m (x % S.now.n)
    · rw [if_pos h4, if_neg (fun z => by omega)]
      exact ⟨_, rfl, _, rfl, h1.2.up hO3 hR3⟩
    · rw [if_neg h4]
      refine Ok.bind (placeOf_ok hL3 hR3 hs (show x / 8 % 32 < 2 ^ 31 by omega)) (fun r hr => ?_)
      have hr' : r = rI (fnd (S.now.w (x % S.now.n)) (x / 8 % 32) (S.now.m (x % S.now.n))) := hr
      subst hr'
      cases hf : fnd (S.now.w (x % S.now.n)) (x / 8 % 32) (S.now.m (x % S.now.n)) with
      | some j =>
        have := fnd_some _ _ hf
        rw [if_neg (show ¬ rI (some j) = nM 4 from rI_ne (by omega)), if_neg (fun z => by cases z.2)]
        exact ⟨_, rfl, _, rfl, h1.2.up hO3 hR3⟩
      | none =>
        rw [if_pos (show rI none = nM 4 from rfl), if_pos ⟨by omega, rfl⟩]
        refine Ok.bind (comes_ok (by omega) hsl (by omega)) (fun G4 h4 => ?_)
        refine ⟨_, rfl, _, rfl, h1.2.up (hO3.tr (h4.1.w (fun k j hz => by simp [nowZ] at hz ⊢; omega))) ?_⟩
        exact mRow.put hL3 hR3 h4.1 h4.2
theorem storm_ok {S : St} {G : gP} (hW : S.Wf) (h : mSt S G) (a : Int32) : Ok (f_X11_storm G a) (mA (sStorm S a)) := by
  unfold f_X11_storm sStorm
  rw [in_rg a (lo := 1) (hi := 41) rfl rfl]
  cases ha : rg a 1 41 with
  | none => exact ⟨_, rfl, h, rfl⟩
  | some n =>
    obtain ⟨hn1, hn, rfl⟩ := rg_some ha
    simp only [Option.isSome_some, if_true]
    rw [if_neg (by decide)]
    refine Ok.bind (Q := fun G1 => mSt (S.storm n) G1) ?_ (fun G1 h1 => ?_)
    · have hs0 : S.storm 0 = S := by unfold St.storm; rfl
      refine Ok.up (fun i s => s.2 = nI i ∧ mSt (S.storm i) s.1) n (by omega) ?_ ?_ ⟨rfl, by rw [hs0]; exact h⟩
      · rintro i ⟨G1, x⟩ hi ⟨hx, h1⟩
        simp only at hx h1
        subst hx
        refine (storm1_ok (hW.storm i) h1 hi (by omega)).imp ?_
        rintro r ⟨G2, rfl, h2⟩
        exact ⟨rfl, h2⟩
      · rintro ⟨G1, x⟩ ⟨hx, h1⟩
        simp only at hx h1
        subst hx
        unfold f_X11_storm_b16
        simp (disch := omega) only [nLit, neg_nI, nI_add, pk_mul, nI_sub1, nI_clamp, gIn_t, gck_t, gLet_e, nI_leI, nI_ltJ, nI_eq, nI_nM_eq, nM_nI_eq, nM_eq, nM_nI_le, nI_nM_le, nM_nI_lt, nI_nM_lt, at_nI, gS_at, gS_ne', obind_some, iteT, iteF, ite_p, ite_n]
        exact ⟨_, rfl, h1⟩
    · have hL := (hW.storm n).now
      have h8 := hL.n8
      have hR := h1.now
      refine Ok.bind (Q := fun x => x = nI (su (S.storm n).now.m (S.storm n).now.n)) ?_ (fun x hx => ⟨_, rfl, h1, hx⟩)
      refine Ok.up (fun i s => s = (nI (su (S.storm n).now.m i), nI i)) (S.storm n).now.n (by omega) ?_ ?_ rfl
      · rintro i s hi rfl
        unfold f_X11_storm_b152
        have hm := hL.m1 i hi
        simp (disch := omega) only [nLit, neg_nI, nI_add, pk_mul, nI_sub1, nI_clamp, gIn_t, gck_t, gLet_e, nI_leI, nI_ltJ, nI_eq, nI_nM_eq, nM_nI_eq, nM_eq, nM_nI_le, nI_nM_le, nM_nI_lt, nI_nM_lt, at_nI, gS_at, gS_ne', obind_some, iteT, iteF, ite_p, ite_n, hR.1, (hR.sl hi).1]
        exact ⟨_, rfl, rfl⟩
      · rintro s rfl
        unfold f_X11_storm_b152
        simp (disch := omega) only [nLit, neg_nI, nI_add, pk_mul, nI_sub1, nI_clamp, gIn_t, gck_t, gLet_e, nI_leI, nI_ltJ, nI_eq, nI_nM_eq, nM_nI_eq, nM_eq, nM_nI_le, nI_nM_le, nM_nI_lt, nI_nM_lt, at_nI, gS_at, gS_ne', obind_some, iteT, iteF, ite_p, ite_n, hR.1]
        exact ⟨_, rfl, rfl⟩
