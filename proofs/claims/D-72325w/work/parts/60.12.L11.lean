/-! arguments by their number; the Model: best, taken, open, counted -/
/-- an argument in a range: its number -/
def rg (a : Int32) (lo hi : Nat) : Option Nat := if (lo : Int) ≤ a.toInt ∧ a.toInt < (hi : Int) then some a.toInt.toNat else none
theorem nJ_of {a : Int32} {k : Nat} (h : a.toInt = (k : Int)) : a = nI k := by
  have hk : k < 2 ^ 31 := by have := a.toInt_lt; omega
  rw [← Int32.toInt_inj, nI_toInt hk, h]
theorem rg_some {a : Int32} {lo hi k : Nat} (h : rg a lo hi = some k) : lo ≤ k ∧ k < hi ∧ a = nI k := by
  unfold rg at h
  split at h
  · cases h
    refine ⟨by omega, by omega, nJ_of (by omega)⟩
  · cases h
theorem rg_nI {lo hi k : Nat} (hk : k < 2 ^ 31) : rg (nI k) lo hi = if lo ≤ k ∧ k < hi then some k else none := by
  unfold rg
  rw [nI_toInt hk]
  by_cases h : lo ≤ k ∧ k < hi
  · rw [if_pos h, if_pos (by omega)]; rfl
  · rw [if_neg h, if_neg (by omega)]
theorem in_rg (a : Int32) {x y : Int64} {lo hi : Nat} (hx : x.toInt = (lo : Int)) (hy : y.toInt = (hi : Int) - 1) : f_X11_in a.toInt64 x y = if (rg a lo hi).isSome then 1 else 0 := by
  unfold f_X11_in rg
  simp only [Int64.lt_iff_toInt_lt, Int32.toInt_toInt64, hx, hy]
  by_cases h : (lo : Int) ≤ a.toInt ∧ a.toInt < (hi : Int)
  · rw [if_pos h, if_neg (by omega), if_neg (by omega)]; rfl
  · rw [if_neg h]
    by_cases h2 : a.toInt < (lo : Int)
    · rw [if_pos h2]; rfl
    · rw [if_neg h2, if_pos (by omega)]; rfl
theorem nI1_toInt64 {n : Nat} (h : n < 2 ^ 30) : (nI n - 1).toInt64.toInt = (n : Int) - 1 := by
  rw [Int32.toInt_toInt64]
  exact pk_sub_toInt (a := n) (b := 1) h (by decide)
theorem isSlot_rg {G : gP} {n : Nat} (hn : n ≤ 8) (h : gS G 1 0 = nI n) (a : Int32) : f_X11_isSlot G a = if (rg a 0 n).isSome then 1 else 0 := by
  unfold f_X11_isSlot
  rw [h]
  exact in_rg a rfl (nI1_toInt64 (Nat.lt_of_le_of_lt hn (by decide)))
/-- the best one's numbers -/
def Lt.bn (L : Lt) : List Nat := (L.evO L.B).getD []
theorem Lt.bn_none {L : Lt} (h : L.B = none) : L.bn = [] := by unfold Lt.bn Lt.evO; rw [h]; rfl
theorem Lt.bn_some {L : Lt} {b : Nat} {ns : List Nat} (h : L.B = some b) (he : L.ev b = some ns) : L.bn = ns := by unfold Lt.bn Lt.evO; rw [h]; show (L.ev b).getD [] = ns; rw [he]; rfl
theorem fP.bn {L : Lt} {G : gP} (h : fP L G) : gS G 0 13 = nI L.bn.length ∧ aL G 5 0 L.bn ∧ L.bn.length ≤ 8 ∧ ∀ v ∈ L.bn, v ≤ 999999 := by
  have h5 := h.bm
  cases hb : L.bestR L.N with
  | none => rw [hb] at h5; rw [L.bn_none hb]; exact ⟨h5, aL.nil, by decide, fun v hv => by cases hv⟩
  | some b =>
    rw [hb] at h5
    obtain ⟨ns, k1, k2, k3, k4⟩ := h5
    rw [L.bn_some hb k1]; exact ⟨k3, k4, k2.2.1, k2.2.2⟩
theorem Lt.B_lt {L : Lt} {b : Nat} (h : L.B = some b) : b < L.N ∧ L.so b = true := L.bestR_lt _ _ h
theorem Lt.so_ev {L : Lt} {r : Nat} (h : L.so r = true) : ∃ ns, L.ev r = some ns ∧ sound L.kind ns = true := by
  unfold Lt.so at h
  cases he : L.ev r with
  | none => rw [he] at h; cases h
  | some ns => rw [he] at h; exact ⟨ns, rfl, h⟩
/-- the scratch of the Model's questions -/
def qZ (k j : Nat) : Bool := decide (2 ≤ k ∧ k ≤ 10 ∨ k = 0 ∧ (j = 3 ∨ j = 4 ∨ j = 6 ∨ j = 7 ∨ j = 8 ∨ j = 9 ∨ j = 10 ∨ j = 11 ∨ j = 13 ∨ j = 14 ∨ j = 15 ∨ j = 21))
theorem qZ_t {k j : Nat} (h : qZ k j = false) : tZ k j = false := by simp [qZ, tZ] at h ⊢; omega
theorem qZ_f {k j : Nat} (h : qZ k j = false) : fZ k j = false := by simp [qZ, fZ, tZ] at h ⊢; omega
theorem qZ_c {k j : Nat} (h : qZ k j = false) : cZ k j = false := by simp [qZ, cZ, fZ, tZ] at h ⊢; omega
theorem mRow.q {G G' : gP} {L : Lt} (h : mRow G 1 0 L) (hO : gOff qZ G G') : mRow G' 1 0 L := h.off hO (fun j => by simp [qZ])
def sBest (L : Lt) (a : Int32) : Int32 := if (-2 : Int32) ≤ a then (match L.B with
  | none => -4
  | some b => if a = -1 then nI (L.cost b) else if a = -2 then nI L.bn.length else match rg a 0 L.bn.length with
    | none => -4
    | some k => nI (nsF L.bn k)) else -1
theorem rI_none : rI none = -4 := rfl
theorem rI_ne {b : Nat} (h : b < 2 ^ 31) : rI (some b) ≠ -4 := fun z => by have := (rI_m4 (some b) (fun b' hb' => by cases hb'; omega)).mp z; cases this
theorem best_ok {G : gP} {L : Lt} (hL : L.Wf) (hR : mRow G 1 0 L) (a : Int32) : Ok (f_X11_best G a) (fun q => gOff qZ G q.1 ∧ q.2 = sBest L a) := by
  unfold f_X11_best sBest
  by_cases h2 : (-2 : Int32) ≤ a
  · rw [if_pos h2, if_pos h2]
    refine Ok.bind (finds_ok hL hR) (fun G1 h1 => ?_)
    obtain ⟨hO, hF⟩ := h1
    have hO' := hO.w (fun k j => qZ_f)
    have hN := hL.N_le
    rw [hF.best, hF.bc, hF.bn.1]
    show Ok _ _
    cases hb : L.B with
    | none => unfold Lt.B at hb; rw [hb, rI_none, if_pos rfl]; exact ⟨_, rfl, hO', rfl⟩
    | some b =>
      have hbl := L.B_lt hb
      unfold Lt.B at hb
      rw [hb, if_neg (rI_ne (by omega))]
      by_cases e1 : a = -1
      · rw [if_pos e1]; exact ⟨_, rfl, hO', by simp only; rw [if_pos e1]; rfl⟩
      · rw [if_neg e1]
        by_cases e2 : a = -2
        · rw [if_pos e2]; exact ⟨_, rfl, hO', by simp only; rw [if_neg e1, if_pos e2]⟩
        · rw [if_neg e2]
          have h8 := hF.bn.2.2.1
          have ha0 : 0 ≤ a.toInt := by
            have x1 := Int32.le_iff_toInt_le.mp h2
            have x2 : a.toInt ≠ -1 := fun z => e1 (Int32.toInt_inj.mp (z.trans (by decide)))
            have x3 : a.toInt ≠ -2 := fun z => e2 (Int32.toInt_inj.mp (z.trans (by decide)))
            have x4 : ((-2 : Int32)).toInt = -2 := by decide
            omega
          have hra : a = nI a.toInt.toNat := nJ_of (by omega)
          have hal : a.toInt.toNat < 2 ^ 31 := by have := a.toInt_lt; omega
          generalize a.toInt.toNat = k at *
          subst hra
          simp only [rg_nI hal, e1, e2, if_false]
          by_cases hk : k < L.bn.length
          · have e5 := nsF_aL hF.bn.2.1 hk
            rw [Nat.zero_add] at e5
            simp (disch := omega) only [nLit, neg_nI, nI_add, pk_mul, nI_sub1, nI_clamp, gIn_t, gck_t, gLet_e, nI_leI, nI_ltJ, nI_eq, nI_nM_eq, nM_nI_eq, nM_eq, nM_nI_le, nI_nM_le, nM_nI_lt, nI_nM_lt, at_nI, gS_at, gS_ne', obind_some, iteT, iteF, ite_p, ite_n, e5]; exact ⟨_, rfl, hO', rfl⟩
          · simp (disch := omega) only [nLit, neg_nI, nI_add, pk_mul, nI_sub1, nI_clamp, gIn_t, gck_t, gLet_e, nI_leI, nI_ltJ, nI_eq, nI_nM_eq, nM_nI_eq, nM_eq, nM_nI_le, nI_nM_le, nM_nI_lt, nI_nM_lt, at_nI, gS_at, gS_ne', obind_some, iteT, iteF, ite_p, ite_n]; exact ⟨_, rfl, hO', rfl⟩
  · rw [if_neg h2, if_neg h2]; exact ⟨_, rfl, gOff.rf, rfl⟩
def sTaken (L : Lt) (a : Int32) : Int32 := match rg a 0 L.n with
  | none => -1
  | some k => match L.B with
    | none => -4
    | some b => nI (L.w k (L.pk b k))
theorem taken_ok {G : gP} {L : Lt} (hL : L.Wf) (hR : mRow G 1 0 L) (a : Int32) : Ok (f_X11_taken G a) (fun q => gOff qZ G q.1 ∧ q.2 = sTaken L a) := by
  unfold f_X11_taken sTaken
  have h8 := hL.n8
  rw [isSlot_rg hL.n8 hR.1]
  cases ha : rg a 0 L.n with
  | none => exact ⟨_, rfl, gOff.rf, rfl⟩
  | some k =>
    obtain ⟨-, hk, rfl⟩ := rg_some ha
    simp only [Option.isSome_some, if_true]
    rw [if_neg (by decide)]
    refine Ok.bind (finds_ok hL hR) (fun G1 h1 => ?_)
    obtain ⟨hO, hF⟩ := h1
    have hO' := hO.w (fun k j => qZ_f)
    have hN := hL.N_le
    rw [hF.best]
    cases hb : L.B with
    | none => unfold Lt.B at hb; rw [hb, rI_none, if_pos rfl]; exact ⟨_, rfl, hO', rfl⟩
    | some b =>
      have hbl := L.B_lt hb
      unfold Lt.B at hb
      rw [hb, if_neg (rI_ne (by omega))]
      refine Ok.bind (takes_ok hL (hR.q hO') (show b < 2 ^ 31 by omega)) (fun q hq => ?_)
      obtain ⟨hO2, hp, hc, hm⟩ := hq
      have hO3 := hO'.tr (hO2.w (fun k j => qZ_t))
      obtain ⟨ns, he, -⟩ := L.so_ev hbl.2
      rw [he] at hm
      rw [hm.1, if_neg (by decide)]
      have hpl := hL.pk_lt (r := b) hk
      have hm4 := hL.m1 k hk
      have e1 := (((hR.q hO3).2.2.2.2 k hk).2 _ hpl).1
      rw [show 0 + 5 + 9 * k + L.pk b k = 4 + 9 * k + 1 + L.pk b k by omega] at e1
      simp (disch := omega) only [nLit, neg_nI, nI_add, pk_mul, nI_sub1, nI_clamp, gIn_t, gck_t, gLet_e, nI_leI, nI_ltJ, nI_eq, nI_nM_eq, nM_nI_eq, nM_eq, nM_nI_le, nI_nM_le, nM_nI_lt, nI_nM_lt, at_nI, gS_at, gS_ne', obind_some, iteT, iteF, ite_p, ite_n, hp k hk, e1]
      exact ⟨_, rfl, hO3, rfl⟩
def sCounted (L : Lt) (a w : Int32) : Int32 := if a < 0 then -1 else match rg w 0 2 with
  | none => -1
  | some w => match L.C[a.toInt.toNat]? with
    | none => -4
    | some r => if w = 0 then nI (L.cost r) else nI (((L.ev r).getD []).getLastD 0)
theorem isCounted_ok {G : gP} {L : Lt} (hL : L.Wf) (hR : mRow G 1 0 L) (hF : fP L G) {r : Nat} (hr : r < 2 ^ 31) : Ok (f_X11_isCounted G (nI r)) (fun q => gOff tZ G q.1 ∧ q.2 = bI (L.cnt r) ∧ (L.cnt r = true → gS q.1 0 4 = nI (L.cost r) ∧ ∃ ns, L.ev r = some ns ∧ mTk q.1 L (L.pk r) ns ∧ nsOk ns)) := by
  unfold f_X11_isCounted
  refine Ok.bind (takes_ok hL hR hr) (fun q hq => ?_)
  obtain ⟨hO2, hp, hc, hm⟩ := hq
  cases he : L.ev r with
  | none =>
    rw [he] at hm
    have e : L.cnt r = false := by unfold Lt.cnt Lt.so; rw [he]; rfl
    simp only at hm
    rw [hm, if_pos rfl]
    exact ⟨_, rfl, hO2, by rw [e]; rfl, fun z => by rw [e] at z; cases z⟩
  | some ns =>
    rw [he] at hm
    obtain ⟨hm1, hm2⟩ := hm
    rw [hm1, if_neg (by decide)]
    have hok := hm2.ok hL (hL.pk_ok r) he
    refine Ok.bind (holds_ok hL (hR.off hO2 (fun _ => by simp [tZ])) hm2 hok) (fun y hy => ?_)
    have eso : L.so r = sound L.kind ns := by unfold Lt.so; rw [he]
    rw [hy, ← eso, (hO2 0 11 rfl).1, hF.bc, (hO2 1 2 rfl).1, hR.2.2.1, hc]
    have h1 := hL.cost_le r
    have h2 := hL.costO_le L.B
    have h3 := hL.s20
    show Ok (if bI (L.so r) = 0 then _ else if nI (L.costO L.B) + nI L.slack < nI (L.cost r) then _ else _) _
    cases hs : L.so r with
    | false =>
      rw [if_pos (by decide)]
      have e : L.cnt r = false := by unfold Lt.cnt; rw [hs]; rfl
      exact ⟨_, rfl, hO2, by rw [e]; rfl, fun z => by rw [e] at z; cases z⟩
    | true =>
      rw [if_neg (by decide)]
      by_cases hle : L.cost r ≤ L.costO L.B + L.slack
      · have e : L.cnt r = true := by unfold Lt.cnt; rw [hs, decide_eq_true hle]; rfl
        simp (disch := omega) only [nLit, neg_nI, nI_add, pk_mul, nI_sub1, nI_clamp, gIn_t, gck_t, gLet_e, nI_leI, nI_ltJ, nI_eq, nI_nM_eq, nM_nI_eq, nM_eq, nM_nI_le, nI_nM_le, nM_nI_lt, nI_nM_lt, at_nI, gS_at, gS_ne', obind_some, iteT, iteF, ite_p, ite_n]; exact ⟨_, rfl, hO2, by rw [e]; rfl, fun _ => ⟨hc, ns, rfl, hm2, hok⟩⟩
      · have e : L.cnt r = false := by unfold Lt.cnt; rw [hs, decide_eq_false hle]; rfl
        simp (disch := omega) only [nLit, neg_nI, nI_add, pk_mul, nI_sub1, nI_clamp, gIn_t, gck_t, gLet_e, nI_leI, nI_ltJ, nI_eq, nI_nM_eq, nM_nI_eq, nM_eq, nM_nI_le, nI_nM_le, nM_nI_lt, nI_nM_lt, at_nI, gS_at, gS_ne', obind_some, iteT, iteF, ite_p, ite_n]; exact ⟨_, rfl, hO2, by rw [e]; rfl, fun z => by rw [e] at z; cases z⟩
theorem Lt.C_none {L : Lt} (hL : L.Wf) (h : L.B = none) : L.C = [] := by
  have hso := hL.none_so L.N h
  have key : ∀ t, t ≤ L.N → L.cl t = [] := by
    intro t
    induction t with
    | zero => intro _; rfl
    | succ t ih =>
      intro ht
      rw [Lt.cl, if_neg (by unfold Lt.cnt; rw [hso t (by omega)]; simp)]; exact ih (by omega)
  exact key _ (Nat.le_refl _)
theorem Lt.cl_pre (L : Lt) : ∀ d t, L.cl t <+: L.cl (t + d) := by
  intro d t
  induction d with
  | zero => exact List.prefix_refl _
  | succ d ih =>
    refine ih.trans ?_
    show L.cl (t + d) <+: (if L.cnt (t + d) = true then L.cl (t + d) ++ [t + d] else L.cl (t + d))
    split
    · exact List.prefix_append _ _
    · exact List.prefix_refl _
theorem counted_ok {G : gP} {L : Lt} (hL : L.Wf) (hR : mRow G 1 0 L) (a w : Int32) : Ok (f_X11_counted G a w) (fun q => gOff qZ G q.1 ∧ q.2 = sCounted L a w) := by
  unfold f_X11_counted sCounted
  by_cases h0 : a < 0
  · rw [if_pos h0, if_pos h0]; exact ⟨_, rfl, gOff.rf, rfl⟩
  · rw [if_neg h0, if_neg h0, in_rg w (lo := 0) (hi := 2) rfl rfl]
    cases hw : rg w 0 2 with
    | none => exact ⟨_, rfl, gOff.rf, rfl⟩
    | some wn =>
      obtain ⟨-, hwn, rfl⟩ := rg_some hw
      simp only [Option.isSome_some, if_true]
      rw [if_neg (by decide)]
      have ha0 : 0 ≤ a.toInt := by
        have x1 : ¬ a.toInt < (0 : Int32).toInt := fun z => h0 (Int32.lt_iff_toInt_lt.mpr z)
        have x4 : ((0 : Int32)).toInt = 0 := by decide
        omega
      have hra : a = nI a.toInt.toNat := nJ_of (by omega)
      have hal : a.toInt.toNat < 2 ^ 31 := by have := a.toInt_lt; omega
      generalize a.toInt.toNat = k at *
      subst hra
      refine Ok.bind (finds_ok hL hR) (fun G1 h1 => ?_)
      obtain ⟨hO, hF⟩ := h1
      have hO' := hO.w (fun k j => qZ_f)
      have hN := hL.N_le
      refine Ok.bind (Q := fun x => ∃ M, x = nI M ∧ M ≤ L.N ∧ L.cl M = L.C) ?_ (fun x hx => ?_)
      · rw [hF.best]
        cases hb : L.B with
        | none =>
          have hC := L.C_none hL hb
          unfold Lt.B at hb; rw [hb, rI_none, if_pos rfl]; exact ⟨_, rfl, 0, rfl, Nat.zero_le _, hC.symm⟩
        | some b =>
          have hbl := L.B_lt hb
          unfold Lt.B at hb
          rw [hb, if_neg (rI_ne (by omega))]
          exact Ok.bind (readings_ok hL (hR.q hO')) (fun y hy => ⟨_, rfl, L.N, hy, Nat.le_refl _, rfl⟩)
      · obtain ⟨M, rfl, hM, hMC⟩ := hx
        refine Ok.bind (Q := fun z => match z with
          | .inl G2 => gOff qZ G G2 ∧ L.C[k]? = none
          | .inr q => gOff qZ G q.1 ∧ ∃ r, L.C[k]? = some r ∧ q.2 = if wn = 0 then nI (L.cost r) else nI (((L.ev r).getD []).getLastD 0)) ?_ (fun z hz => ?_)
        · refine Ok.loop (fun n s => n ≤ M ∧ gOff qZ G s.1 ∧ fP L s.1 ∧ (L.cl (M - n)).length ≤ k ∧ s.2 = (nI (L.cl (M - n)).length, nI (M - n))) ?_ gFu M _ (by unfold gFu; omega) ⟨Nat.le_refl _, hO', hF, ?_, ?_⟩
          · rintro n ⟨G2, x⟩ ⟨hn, hO2, hF2, hlen, hx⟩
            simp only at hx hO2 hF2
            subst hx
            unfold f_X11_counted_b44
            simp only
            by_cases hn0 : n = 0
            · subst hn0
              rw [Nat.sub_zero, hMC] at hlen
              simp (disch := omega) only [nLit, neg_nI, nI_add, pk_mul, nI_sub1, nI_clamp, gIn_t, gck_t, gLet_e, nI_leI, nI_ltJ, nI_eq, nI_nM_eq, nM_nI_eq, nM_eq, nM_nI_le, nI_nM_le, nM_nI_lt, nI_nM_lt, at_nI, gS_at, gS_ne', obind_some, iteT, iteF, ite_p, ite_n]; exact ⟨_, rfl, hO2, List.getElem?_eq_none hlen⟩
            · simp (disch := omega) only [nLit, neg_nI, nI_add, pk_mul, nI_sub1, nI_clamp, gIn_t, gck_t, gLet_e, nI_leI, nI_ltJ, nI_eq, nI_nM_eq, nM_nI_eq, nM_eq, nM_nI_le, nI_nM_le, nM_nI_lt, nI_nM_lt, at_nI, gS_at, gS_ne', obind_some, iteT, iteF, ite_p, ite_n]
              refine Ok.bind (isCounted_ok hL (hR.q hO2) hF2 (show M - n < 2 ^ 31 by omega)) (fun q hq => ?_)
              obtain ⟨hO3, hq2, hq3⟩ := hq
              have hO4 := hO2.tr (hO3.w (fun k j => qZ_t))
              have hF3 : fP L q.1 := hF2.off hO3 ⟨rfl, rfl, rfl, rfl, rfl⟩ (fun j => rfl)
              have e1 : M - n + 1 = M - (n - 1) := by omega
              have ecl : L.cl (M - (n - 1)) = if L.cnt (M - n) = true then L.cl (M - n) ++ [M - n] else L.cl (M - n) := by rw [← e1]; rfl
              rw [hq2]
              cases hc : L.cnt (M - n) with
              | false =>
                rw [hc, if_neg (by decide)] at ecl
                rw [if_pos (by decide)]
                refine ⟨_, rfl, n - 1, by omega, by omega, hO4, hF3, ?_, ?_⟩
                · rw [ecl]; exact hlen
                · rw [ecl, ← e1]
              | true =>
                rw [hc, if_pos rfl] at ecl
                rw [if_neg (by decide)]
                obtain ⟨hcs, ns, he, htk, hok⟩ := hq3 hc
                have hll := L.cl_len (M - n)
                by_cases hk : (L.cl (M - n)).length = k
                · have hCk : L.C[k]? = some (M - n) := by
                    have hpre : L.cl (M - (n - 1)) <+: L.C := by
                      rw [← hMC]
                      have := L.cl_pre (n - 1) (M - (n - 1))
                      rwa [show M - (n - 1) + (n - 1) = M by omega] at this
                    obtain ⟨t, ht⟩ := hpre
                    rw [← ht, ecl, List.append_assoc, ← hk, List.getElem?_append_right (Nat.le_refl _), Nat.sub_self]
                    rfl
                  rw [if_pos (by rw [hk])]
                  by_cases hw0 : wn = 0
                  · subst hw0
                    rw [if_pos (by decide)]
                    exact ⟨_, rfl, hO4, _, hCk, hcs⟩
                  · have hl8 := hok.2.1
                    have hl1 := hok.1
                    rw [if_neg hw0, htk.1]
                    have e5 := nsF_aL htk.2.1 (j := ns.length - 1) (by omega)
                    rw [Nat.zero_add] at e5
                    simp (disch := omega) only [nLit, neg_nI, nI_add, pk_mul, nI_sub1, nI_clamp, gIn_t, gck_t, gLet_e, nI_leI, nI_ltJ, nI_eq, nI_nM_eq, nM_nI_eq, nM_eq, nM_nI_le, nI_nM_le, nM_nI_lt, nI_nM_lt, at_nI, gS_at, gS_ne', obind_some, iteT, iteF, ite_p, ite_n, e5]
                    refine ⟨_, rfl, hO4, _, hCk, ?_⟩
                    simp only
                    rw [he]
                    apply nI_inj
                    show nsF ns (ns.length - 1) = ns.getLastD 0
                    unfold nsF
                    rw [List.getD_eq_getElem?_getD, List.getLastD_eq_getLast?, List.getLast?_eq_getElem?]
                · rw [if_neg hk]
                  refine ⟨_, rfl, n - 1, by omega, by omega, hO4, hF3, ?_, ?_⟩
                  · rw [ecl]; simp; omega
                  · rw [ecl, ← e1]; simp only [nI_1, List.length_append, List.length_singleton]
          · rw [Nat.sub_self]; exact Nat.zero_le _
          · rw [Nat.sub_self]; rfl
        · cases z with
          | inl G2 => exact ⟨_, rfl, hz.1, by rw [hz.2]⟩
          | inr q =>
            obtain ⟨h1, r, h2, h3⟩ := hz
            exact ⟨_, rfl, h1, by rw [h2]; exact h3⟩
