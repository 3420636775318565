/-! the component says a number -/
theorem come_ok {i : Nat} {G : gP} {n : Nat} (hi : i < 19) (hg : xSg G (32 + 26 * i)) (hn : gS G (32 + 26 * i) 1 = nI n) (h8 : n < 8) : Ok (f_X6_come G (32 + 26 * i)) (fun q => q.2 = sgO G (32 + 26 * i) n ∧ rSame G q.1 ∧ gOff (fun k j => decide ((k = sgO G (32 + 26 * i) n ∧ j = 2) ∨ (k = 32 + 26 * i ∧ j = 1))) G q.1 ∧ gS q.1 (32 + 26 * i) 1 = nI (n + 1) ∧ gS q.1 (sgO G (32 + 26 * i) n) 2 = nI 0) := by
  unfold f_X6_come
  rw [hn, gIn_t (by omega) h8, gck_t, nI_clamp (by omega), hg.ref hi h8, obind_some]
  have rs := hg.rng (j := n) h8
  simp only [gLet_e]
  rw [gS_ne (by omega), hn, nI_1]
  refine ⟨_, rfl, rfl, (rSame.rf.S1).S1, (gOff.rf.S1 (by simp)).S1 (by simp), gS_at, ?_⟩
  rw [gS_ne (by omega), gS_at]; rfl
/-- a lattice with a slot more -/
theorem xLt.more {G G' : gP} {L : Lt} (hL : L.Wf) (h8 : L.n < 8) (h : xLt G 32 L) (hg : xSg G 32) {w c : Nat} {Z : Nat → Nat → Bool} (hO : gOff Z G G') (hz : ∀ k j, 32 ≤ k → k < 58 → ¬ (sgO G 32 L.n ≤ k ∧ k ≤ sgO G 32 L.n + 2) → ¬ (k = 32 ∧ j = 1) → Z k j = false) (hr : rSame G G') (h1 : gS G' 32 1 = nI (L.n + 1)) (hs : xSlt G' (sgO G 32 L.n) 1 (fun _ => w) (fun _ => c)) : xLt G' 32 (L.more w c) := by
  have rn := hg.rng (j := L.n) (by omega)
  refine ⟨h1, ?_, ?_, ?_, fun i hi => ?_⟩
  · rw [(hO 32 2 (hz _ _ (by omega) (by omega) (by omega) (by omega))).1]; exact h.2.1
  · rw [(hO 32 3 (hz _ _ (by omega) (by omega) (by omega) (by omega))).1]; exact h.2.2.1
  · rw [(hO 32 4 (hz _ _ (by omega) (by omega) (by omega) (by omega))).1]; exact h.2.2.2.1
  · rw [hr.sg]
    unfold Lt.more Lt.put
    simp only [Lt.mk_n, Lt.mk_kind, Lt.mk_slack, Lt.mk_draw, Lt.mk_m, Lt.mk_w, Lt.mk_c, St.mk_now, St.mk_past, St.mk_kept, St.mk_tape, St.mk_sh]
    have hi' : i < L.n + 1 := hi
    by_cases e : i = L.n
    · subst e
      simp only [if_true]
      exact hs
    · simp only [e, if_false]
      have ri := hg.rng (j := i) (by omega)
      have hd : sgO G 32 i ≠ sgO G 32 L.n := fun z => e (hg.2 i L.n (by omega) (by omega) z)
      exact (h.2.2.2.2 i (by omega)).off hO (fun k j a b => hz k j (by omega) (by omega) (by omega) (by omega))
def syX (k _ : Nat) : Bool := decide ((32 ≤ k ∧ k < 58) ∨ (535 ≤ k ∧ k ≤ 537))
theorem xsayL_ok {G : gP} {L : Lt} {ws : List Nat} (hL : L.Wf) (hN : xNow G L) (hK : xRk G) (h9 : ws.length = 9) (hw : ∀ w ∈ ws, w < 32) (h8 : (nz ws).length ≤ 8) (ha : aL G 538 0 ws) : Ok (f_X6_say G) (fun G' => gOff syX G G' ∧ rSame G G' ∧ xLt G' 32 (L.sayF (nz ws))) := by
  unfold f_X6_say f_X6_begin
  simp only [gLet_e, obind_some, obs]
  have hO0 : gOff (fun k j => decide (k = 32 ∧ j = 1)) G (gS1 G 32 1 0) := gOff.rf.S1 (by simp)
  have hr0 : rSame G (gS1 G 32 1 0) := rSame.rf.S1
  have hx0 : xLt (gS1 G 32 1 0) 32 (L.sayF (nz (ws.take 0))) := by
    refine ⟨gS_at, ?_, ?_, ?_, fun i hi => absurd hi (Nat.not_lt_zero i)⟩
    · rw [gS_ne (by decide)]; exact hN.1.2.1
    · rw [gS_ne (by decide)]; exact hN.1.2.2.1
    · rw [gS_ne (by decide)]; exact hN.1.2.2.2.1
  refine Ok.loop (fun n s => ∃ i, n + i = 9 ∧ s.2 = nI i ∧ gOff syX G s.1 ∧ rSame G s.1 ∧ xLt s.1 32 (L.sayF (nz (ws.take i)))) ?_ 10 9 _ (by omega) ⟨0, by omega, rfl, hO0.w (fun k j z => by simp [syX] at z ⊢; omega), hr0, hx0⟩
  rintro n ⟨G1, x⟩ ⟨i, hni, hx, hO, hr, hl⟩
  simp only at hx hO hr hl
  subst hx
  unfold f_X6_say_b12
  simp only
  cases n with
  | zero =>
    have e : i = 9 := by omega
    subst e
    rw [if_pos (show (9 : Int32) ≤ nI 9 by decide)]
    rw [← h9, List.take_length] at hl
    exact ⟨_, rfl, hO, hr, hl⟩
  | succ n =>
    have hi : i < ws.length := by omega
    have e538 : gS G1 538 i = nI ws[i] := by
      rw [(hO 538 i (by simp [syX])).1]
      have := ha i ws[i] (List.getElem?_eq_getElem hi)
      rwa [Nat.zero_add] at this
    have hwi := hw ws[i] (List.getElem_mem hi)
    have htk : ws.take (i + 1) = ws.take i ++ [ws[i]] := by rw [List.take_add_one, List.getElem?_eq_getElem hi]; rfl
    rw [if_neg (show ¬ (9 : Int32) ≤ nI i from nI_ge (b := 9) (by omega) (by decide)), gIn_t (by omega) (by omega), gck_t, nI_clamp (by omega), e538]
    simp only [gLet_e]
    by_cases h0 : ws[i] = 0
    · rw [if_pos ((nI_le0 (by omega)).mpr h0), nI_1]
      refine ⟨_, rfl, n, by omega, i + 1, by omega, rfl, hO, hr, ?_⟩
      simp only
      rw [htk, nz_app, h0]
      show xLt G1 32 (L.sayF (nz (ws.take i) ++ []))
      rw [List.append_nil]; exact hl
    · rw [if_neg (fun z => h0 ((nI_le0 (by omega)).mp z))]
      have hnz : nz (ws.take (i + 1)) = nz (ws.take i) ++ [ws[i]] := by
        rw [htk, nz_app]
        show _ ++ nz [ws[i]] = _
        rw [nz_c, if_neg h0]; rfl
      have hlen : (nz (ws.take i)).length < 8 := by
        have h1 : (nz (ws.take (i + 1))).length ≤ (nz ws).length := by
          have : ws = ws.take (i + 1) ++ ws.drop (i + 1) := (List.take_append_drop _ _).symm
          have h2 : nz ws = nz (ws.take (i + 1)) ++ nz (ws.drop (i + 1)) := by rw [← nz_app, ← this]
          rw [h2, List.length_append]; omega
        rw [hnz, List.length_append, List.length_singleton] at h1
        omega
      have hwf : (L.sayF (nz (ws.take i))).Wf := hL.sayW (by omega) (nz_lt (fun w hw' => hw w (List.mem_of_mem_take hw')))
      have hnn : (L.sayF (nz (ws.take i))).n = (nz (ws.take i)).length := L.sayF_len _
      have hg1 : xSg G1 32 := hN.2.same hr
      refine Ok.bind (come_ok (i := 0) (by omega) hg1 hl.1 (by omega)) (fun q hq => ?_)
      obtain ⟨G2, s⟩ := q
      obtain ⟨rfl, hr2, hO2, h21, h22⟩ := hq
      simp only at hr2 hO2 h21 h22 ⊢
      have rs := hg1.rng (j := (L.sayF (nz (ws.take i))).n) (by omega)
      have hK2 : xRk G2 := hK.same (hr.tr hr2)
      rw [gDec_t hK2, gck_t]
      have hsrc : xSlt (xMk7 G2 (nI ws[i])) 535 1 (fun _ => ws[i]) (fun _ => 0) := by
        unfold xMk7
        refine ⟨?_, fun j hj => ?_⟩
        · rw [gS_Sa, if_pos rfl, if_pos rfl]; rfl
        · have : j = 0 := by omega
          subst this
          refine ⟨?_, ?_⟩
          · rw [gS_Sa, if_neg (by decide), gS_Sa, if_neg (by decide), gS_Sa, if_pos rfl]; rfl
          · rw [gS_Sa, if_neg (by decide), gS_Sa, if_pos rfl]; rfl
      have hO3 : gOff (fun k _ => decide (535 ≤ k ∧ k ≤ 537)) G2 (xMk7 G2 (nI ws[i])) := by
        unfold xMk7
        exact ((gOff.rf.Sa (fun j => by simp)).Sa (fun j => by simp)).Sa (fun j => by simp)
      have hr3 : rSame G2 (xMk7 G2 (nI ws[i])) := by unfold xMk7; exact ((rSame.rf.Sa).Sa).Sa
      generalize xMk7 G2 (nI ws[i]) = G3 at *
      refine Ok.bind (slotTake_ok (s := sgO G1 32 (L.sayF (nz (ws.take i))).n) hsrc (by omega) (by omega)) (fun G4 h4 => ?_)
      obtain ⟨hO4, hr4, hs4⟩ := h4
      have hr14 : rSame G1 G4 := (hr2.tr hr3).tr hr4
      refine ⟨_, rfl, n, by omega, i + 1, by omega, nI_1 i, ?_, hr.tr hr14, ?_⟩
      · refine ((hO.tr (hO2.w (fun k j z => ?_))).tr (hO3.w (fun k j z => ?_))).tr (hO4.w (fun k j z => ?_))
        · simp [syX] at z ⊢; omega
        · simp [syX] at z ⊢; omega
        · simp [syX, sZ] at z ⊢; omega
      · simp only
        rw [hnz, L.sayF_s]
        refine xLt.more hwf (by omega) hl hg1 (Z := fun k j => decide ((sgO G1 32 (L.sayF (nz (ws.take i))).n ≤ k ∧ k ≤ sgO G1 32 (L.sayF (nz (ws.take i))).n + 2) ∨ (k = 32 ∧ j = 1) ∨ (535 ≤ k ∧ k ≤ 537))) (((hO2.w (fun k j z => ?_)).tr (hO3.w (fun k j z => ?_))).tr (hO4.w (fun k j z => ?_))) (fun k j a b c d => ?_) hr14 ?_ hs4
        · simp at z ⊢; omega
        · simp at z ⊢; omega
        · simp [sZ] at z ⊢; omega
        · simp; omega
        · rw [(hO4 32 1 (by simp [sZ]; omega)).1, (hO3 32 1 (by simp)).1]; exact h21
theorem xSt.past0 {S : St} {T : Nat → Nat × Nat} {G : gP} (hW : S.Wf) (h : xSt S T G) : xSt (St.of (S.now) ([]) (S.kept) (S.tape) (S.sh)) T (gS1 G 0 16 0) := by
  have hO : gOff (fun k j => decide (k = 0 ∧ j = 16)) G (gS1 G 0 16 0) := gOff.rf.S1 (by simp)
  have hr : rSame G (gS1 G 0 16 0) := rSame.rf.S1
  have hlt : ∀ i L, i < 19 → L.n ≤ 8 → xLt G (32 + 26 * i) L → xLt (gS1 G 0 16 0) (32 + 26 * i) L := fun i L hi h8 hx => hx.off h8 (h.sg i hi) hO hr (fun k j a b => by simp; omega)
  refine ⟨h.rk.same hr, fun i hi => (h.sg i hi).same hr, h.pa.same hr, fun j hj => by rw [hr]; exact h.ka j hj, hlt 0 _ (by omega) hW.now.n8 h.now, gS_at, fun i L hi => ?_, ?_, by rw [(hO 0 11 (by simp)).1]; exact h.tp, fun j v hj => by rw [(hO 9 _ (by simp)).1]; exact h.tape j v hj, fun s hs => (h.sh s hs).off hO (hr _ _) (fun j => by simp)⟩
  · have hi' : ([] : List Lt)[i]? = some L := hi
    cases hi'
  · have hkk : xKp G S.kept := h.kept
    show xKp _ S.kept
    cases hSk : S.kept with
    | none => rw [hSk] at hkk; show gS _ 0 20 = 0; rw [(hO 0 20 (by simp)).1]; exact hkk
    | some z =>
      obtain ⟨Lk, pk⟩ := z
      rw [hSk] at hkk
      obtain ⟨k1, k2, k3, k4⟩ := hkk
      obtain ⟨w1, w2, w3⟩ := hW.kept Lk pk hSk
      refine ⟨by rw [(hO 0 20 (by simp)).1]; exact k1, by rw [(hO 0 19 (by simp)).1]; exact k2, hlt 2 Lk (by omega) w1.n8 k3, fun i L' hi => ?_⟩
      have hil : i < pk.length := (List.getElem?_eq_some_iff.mp hi).1
      exact hlt (11 + i) L' (by omega) (w2 L' (List.mem_of_getElem? hi)).n8 (k4 i L' hi)
theorem St.Wf.nowp {S : St} (h : S.Wf) {L : Lt} (hL : L.Wf) : ((St.of (L) (S.past) (S.kept) (S.tape) (S.sh)) : St).Wf := ⟨hL, h.past, h.p8, h.kept, h.tape, h.sh⟩
theorem count9_ok {G : gP} {ws : List Nat} (h9 : ws.length = 9) (hw : ∀ w ∈ ws, w < 32) (ha : aL G 538 0 ws) : Ok (f_X0_countWords G) (fun x => x = nI (nz ws).length) := by
  unfold f_X0_countWords
  rw [obs]
  have hfin : ws = ws.take 9 := by rw [← h9, List.take_length]
  have hg : (fun x : Int32 => x = nI (nz ws).length) = (fun x : Int32 => x = nI (nz (ws.take 9)).length) := by rw [← hfin]
  rw [hg]
  refine Ok.up (fun i s => s = (nI (nz (ws.take i)).length, nI i)) 9 (by decide) ?_ ?_ rfl
  · rintro i s hi rfl
    unfold f_X0_countWords_b10
    simp only
    have hil : i < ws.length := by omega
    have e538 : gS G 538 i = nI ws[i] := by
      have := ha i ws[i] (List.getElem?_eq_getElem hil)
      rwa [Nat.zero_add] at this
    have hwi := hw ws[i] (List.getElem_mem hil)
    have htk : ws.take (i + 1) = ws.take i ++ [ws[i]] := by rw [List.take_add_one, List.getElem?_eq_getElem hil]; rfl
    rw [if_neg (show ¬ (9 : Int32) ≤ nI i from nI_ge (b := 9) (by omega) (by decide)), gIn_t (by omega) (by omega), gck_t, nI_clamp (by omega), e538]
    simp only [gLet_e]
    refine ⟨_, rfl, ?_⟩
    simp only
    rw [htk, nz_app, List.length_append, nI_1]
    by_cases h0 : ws[i] = 0
    · rw [if_pos ((nI_le0 (by omega)).mpr h0), h0]
      show (nI _ + nI 0, _) = _
      rw [nI_add]; rfl
    · rw [if_neg (fun z => h0 ((nI_le0 (by omega)).mp z)), nz_c, if_neg h0]
      show (nI _ + nI 1, _) = _
      rw [nI_add]; rfl
  · rintro s rfl
    unfold f_X0_countWords_b10
    simp only
    rw [if_pos (show (9 : Int32) ≤ nI 9 by decide)]
    exact ⟨_, rfl, rfl⟩
theorem xSt.say {S : St} {T : Nat → Nat × Nat} {G G' : gP} {L : Lt} (hW : S.Wf) (h : xSt S T G) (hO : gOff (fun k _ => decide ((32 ≤ k ∧ k < 58) ∨ (526 ≤ k ∧ k < 539))) G G') (hr : rSame G G') (hn : xLt G' 32 L) : xSt (St.of (L) (S.past) (S.kept) (S.tape) (S.sh)) T G' :=
  h.frame hW hO (fun k j _ => hr k j) ((h.sg 0 (by omega)).same hr) (h.rk.same hr) (fun k j hk => by simp; omega) hn
theorem sayL_9 (v : Nat) : sayL v = nz [v / 1000 / 100, if v / 1000 < 100 then 0 else 28, tW (v / 1000), uW (v / 1000), if v / 1000 = 0 then 0 else 29, v % 1000 / 100, if v % 1000 < 100 then 0 else 28, tW (v % 1000), uW (v % 1000)] := by
  unfold sayL smL
  rw [← nz_app, ← nz_app]
  rfl
theorem tensI {v : Nat} (h : v < 1000) : f_X0_tensWord (nI v) = nI (tW v) := by
  unfold f_X0_tensWord tW
  rw [show (100 : Int32) = nI 100 from rfl, gRem_nI (by omega) (by decide) (by decide), show (10 : Int32) = nI 10 from rfl, pk_div (by omega) (by decide) (by decide), gRem_nI (by omega) (by decide) (by decide)]
  by_cases h1 : v % 100 < 20
  · rw [if_neg (show ¬ (20 : Int32) ≤ nI (v % 100) from nI_ge (b := 20) h1 (by decide)), if_pos h1]
  · rw [if_pos (show (20 : Int32) ≤ nI (v % 100) from nI_le (a := 20) (by omega) (by omega)), if_neg h1]
    exact nI_add _ 18
theorem unitI {v : Nat} (h : v < 1000) : f_X0_unitWord (nI v) = nI (uW v) := by
  unfold f_X0_unitWord uW
  rw [show (100 : Int32) = nI 100 from rfl, gRem_nI (by omega) (by decide) (by decide), show (10 : Int32) = nI 10 from rfl, gRem_nI (by omega) (by decide) (by decide)]
  by_cases h1 : v % 100 < 20
  · rw [if_neg (show ¬ (20 : Int32) ≤ nI (v % 100) from nI_ge (b := 20) h1 (by decide)), if_pos h1]; rfl
  · rw [if_pos (show (20 : Int32) ≤ nI (v % 100) from nI_le (a := 20) (by omega) (by omega)), if_neg h1]
theorem hunI {v : Nat} (h : v < 1000) : (if (100 : Int32) ≤ nI v then (28 : Int32) else 0) = nI (if v < 100 then 0 else 28) := by
  by_cases h1 : v < 100
  · rw [if_neg (show ¬ (100 : Int32) ≤ nI v from nI_ge (b := 100) h1 (by decide)), if_pos h1]; rfl
  · rw [if_pos (show (100 : Int32) ≤ nI v from nI_le (a := 100) (by omega) (by omega)), if_neg h1]; rfl
theorem xsay_ok {S : St} {T : Nat → Nat × Nat} {G : gP} (hW : S.Wf) (h : xSt S T G) (a : Int32) : Ok (f_X0_say G a) (xA T (sSay S a)) := by
  unfold f_X0_say sSay
  rw [isIn_rg a (lo := 1) (hi := 1000000) rfl rfl]
  cases ha : rg a 1 1000000 with
  | none => exact ⟨_, rfl, h, rfl⟩
  | some v =>
    obtain ⟨hv1, hv, rfl⟩ := rg_some ha
    simp only [Option.isSome_some, if_true]
    rw [if_neg (by decide)]
    have d1 : nI v / 1000 = nI (v / 1000) := pk_div (d := 1000) (by omega) (by decide) (by decide)
    have r1 : gRem (nI v) 1000 = nI (v % 1000) := gRem_nI (d := 1000) (by omega) (by decide) (by decide)
    have ht : v / 1000 < 1000 := by omega
    have hs : v % 1000 < 1000 := by omega
    have e1 : nI (v / 1000) / 100 = nI (v / 1000 / 100) := pk_div (d := 100) (by omega) (by decide) (by decide)
    have e2 : nI (v % 1000) / 100 = nI (v % 1000 / 100) := pk_div (d := 100) (by omega) (by decide) (by decide)
    have e3 : (if nI (v / 1000) = 0 then (0 : Int32) else 29) = nI (if v / 1000 = 0 then 0 else 29) := by
      by_cases h0 : v / 1000 = 0
      · rw [if_pos ((nI_eq0 (by omega)).mpr h0), if_pos h0]; rfl
      · rw [if_neg (fun z => h0 ((nI_eq0 (by omega)).mp z)), if_neg h0]; rfl
    simp only [gLet_e]
    rw [d1, r1, gDec_t h.rk, gck_t, e1, e2, e3, tensI ht, tensI hs, unitI ht, unitI hs, hunI ht, hunI hs]
    have hlt := sayL_lt hv
    rw [sayL_9] at hlt ⊢
    -- nine words lie ready
    obtain ⟨ws, hws⟩ : ∃ ws, ws = [v / 1000 / 100, if v / 1000 < 100 then 0 else 28, tW (v / 1000), uW (v / 1000), if v / 1000 = 0 then 0 else 29, v % 1000 / 100, if v % 1000 < 100 then 0 else 28, tW (v % 1000), uW (v % 1000)] := ⟨_, rfl⟩
    rw [← hws] at hlt ⊢
    have h9 : ws.length = 9 := by rw [hws]; rfl
    have hw32 : ∀ w ∈ ws, w < 32 := by
      intro w hw
      by_cases h0 : w = 0
      · omega
      · exact hlt w (List.mem_filter.mpr ⟨hw, by simpa using h0⟩)
    have hOG : gOff (fun k _ => decide (k = 538)) G (gS1 (gS1 (gS1 (gS1 (gS1 (gS1 (gS1 (gS1 (gS1 (gSa G 538 fun _ => 0) 538 0 (nI (v / 1000 / 100))) 538 1 (nI (if v / 1000 < 100 then 0 else 28))) 538 2 (nI (tW (v / 1000)))) 538 3 (nI (uW (v / 1000)))) 538 4 (nI (if v / 1000 = 0 then 0 else 29))) 538 5 (nI (v % 1000 / 100))) 538 6 (nI (if v % 1000 < 100 then 0 else 28))) 538 7 (nI (tW (v % 1000)))) 538 8 (nI (uW (v % 1000)))) :=
      (((((((((gOff.rf.Sa (fun j => by simp)).S1 (by simp)).S1 (by simp)).S1 (by simp)).S1 (by simp)).S1 (by simp)).S1 (by simp)).S1 (by simp)).S1 (by simp)).S1 (by simp)
    have hrG : rSame G (gS1 (gS1 (gS1 (gS1 (gS1 (gS1 (gS1 (gS1 (gS1 (gSa G 538 fun _ => 0) 538 0 (nI (v / 1000 / 100))) 538 1 (nI (if v / 1000 < 100 then 0 else 28))) 538 2 (nI (tW (v / 1000)))) 538 3 (nI (uW (v / 1000)))) 538 4 (nI (if v / 1000 = 0 then 0 else 29))) 538 5 (nI (v % 1000 / 100))) 538 6 (nI (if v % 1000 < 100 then 0 else 28))) 538 7 (nI (tW (v % 1000)))) 538 8 (nI (uW (v % 1000)))) :=
      (((((((((rSame.rf.Sa).S1).S1).S1).S1).S1).S1).S1).S1).S1
    have haG : aL (gS1 (gS1 (gS1 (gS1 (gS1 (gS1 (gS1 (gS1 (gS1 (gSa G 538 fun _ => 0) 538 0 (nI (v / 1000 / 100))) 538 1 (nI (if v / 1000 < 100 then 0 else 28))) 538 2 (nI (tW (v / 1000)))) 538 3 (nI (uW (v / 1000)))) 538 4 (nI (if v / 1000 = 0 then 0 else 29))) 538 5 (nI (v % 1000 / 100))) 538 6 (nI (if v % 1000 < 100 then 0 else 28))) 538 7 (nI (tW (v % 1000)))) 538 8 (nI (uW (v % 1000)))) 538 0 ws := by
      rw [hws]
      have h0 : aL (gSa G 538 fun _ => 0) 538 0 [] := aL.nil
      exact ((((((((h0.push (v := _)).push (v := _)).push (v := _)).push (v := _)).push (v := _)).push (v := _)).push (v := _)).push (v := _)).push (v := _)
    generalize gS1 (gS1 (gS1 (gS1 (gS1 (gS1 (gS1 (gS1 (gS1 (gSa G 538 fun _ => 0) 538 0 (nI (v / 1000 / 100))) 538 1 (nI (if v / 1000 < 100 then 0 else 28))) 538 2 (nI (tW (v / 1000)))) 538 3 (nI (uW (v / 1000)))) 538 4 (nI (if v / 1000 = 0 then 0 else 29))) 538 5 (nI (v % 1000 / 100))) 538 6 (nI (if v % 1000 < 100 then 0 else 28))) 538 7 (nI (tW (v % 1000)))) 538 8 (nI (uW (v % 1000))) = G1 at *
    have hN1 : xNow G1 S.now := h.xn.q hW.now hOG hrG (fun k j a b => by simp; omega)
    have hx1 : xSt S T G1 := h.say hW (hOG.w (fun k j z => by simp at z ⊢; omega)) hrG hN1.1
    have hln : (nz ws).length ≤ 9 := Nat.le_trans (List.length_filter_le _ _) (by omega)
    refine Ok.bind (Q := xA T (if 8 < (nz ws).length then (S, -3) else ((St.of (S.now.sayF (nz ws)) ([]) (S.kept) (S.tape) (S.sh)), nI (nz ws).length))) ?_ (fun q hq => ⟨_, rfl, hq⟩)
    unfold f_X0_sayAll
    refine Ok.bind (count9_ok h9 hw32 haG) (fun x hx => ?_)
    subst hx
    by_cases h8 : 8 < (nz ws).length
    · rw [if_neg (show ¬ nI (nz ws).length ≤ 8 from nI_ge (a := 8) h8 (by omega)), if_pos h8]
      exact ⟨_, rfl, hx1, rfl⟩
    · rw [if_pos (show nI (nz ws).length ≤ 8 from nI_le (b := 8) (by omega) (by decide)), if_neg h8]
      refine Ok.bind (xsayL_ok hW.now hN1 hx1.rk h9 hw32 (by omega) haG) (fun G2 h2 => ?_)
      obtain ⟨hO2, hr2, hx2⟩ := h2
      have hL2 : (S.now.sayF (nz ws)).Wf := hW.now.sayW (by omega) (nz_lt hw32)
      have hs2 : xSt (St.of (S.now.sayF (nz ws)) (S.past) (S.kept) (S.tape) (S.sh)) T G2 := hx1.say hW (hO2.w (fun k j z => by simp [syX] at z ⊢; omega)) hr2 hx2
      have hs3 := hs2.past0 (hW.nowp hL2)
      refine ⟨_, rfl, hs3, ?_⟩
      show gS (gS1 G2 0 16 0) 32 1 = nI (nz ws).length
      rw [gS_ne (by decide), hx2.1, S.now.sayF_len]
