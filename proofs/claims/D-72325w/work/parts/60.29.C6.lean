/-! those that count: Counted listens; counted, open -/
theorem kJ.said {L : Lt} (hL : L.Wf) {wt : Int32} {r : Nat} {ns : List Nat} {G : gP} (hr : r < L.N) (hev : L.ev r = some ns) (hJ : kJ L wt r G) (hs : sdP L r ns G) (hc : L.cnt r = true) :
    Ok ((gloop (f_X14_said_b18) gFu (G, (0 : Int32))).bind fun q7 => Option.bind (if (60 : Int32) ≤ (gS q7 529 2) then some q7 else (f_X14_lay q7).bind fun q37 => some q37) fun q22 => Option.bind (if (gS q22 529 2) = (gS q22 529 4) then gLet (gS1 q22 529 5 (nI (L.cost r))) fun G31 => gck (gIn ((gS G31 0 5) - (1 : Int32)) 8) (gLet (gS1 G31 529 6 (gS G31 2 ((gS G31 0 5) - (1 : Int32)).toNatClampNeg)) fun G34 => some G34) else some q22) fun q25 => gLet (gS1 q25 529 2 ((gS q25 529 2) + (1 : Int32))) fun G28 => some G28) (fun G' => kJ L wt (r + 1) G' ∧ gOff liZ G G' ∧ rSame G G') := by
  have hN := hL.N_le
  have hlen := L.cl_len r
  have h8 := hL.n8
  refine Ok.bind (opn_ok hL hs) (fun G1 h1 => ?_)
  obtain ⟨hO1, hr1, ho1⟩ := h1
  have hs1 : sdP L r ns G1 := hs.lis hL hO1 hr1 (fun k j hk => by simp; omega)
  have hl1 : gOff liZ G G1 := hO1.w (fun k j z => by simp [liZ] at z ⊢; omega)
  have m1 : gS G1 529 2 = nI (L.cl r).length := by rw [(hO1 529 2 (by simp)).1]; exact hJ.many
  have hopn : ∀ k, k < L.n → gL G1 530 k = opW L (L.cl (r + 1)) k := fun k hk => by
    rw [ho1 k hk, hJ.opn k hk, opW_s _ (hL.w32 k _ hk (hL.pk_lt hk)), L.cl_t hc]
  -- laid, if there is room
  refine Ok.bind (Q := fun G2 => gOff (fun k j => decide (k = 5 ∨ k = 6 ∨ k = 7)) G1 G2 ∧ rSame G1 G2 ∧ ∀ i q, i < 60 → (L.cl r ++ [r])[i]? = some q → akP L G2 i q) ?_ (fun G2 h2 => ?_)
  · have hold : ∀ i q, i < 60 → (L.cl r)[i]? = some q → akP L G1 i q := fun i q hi hq => (hJ.asked i q hi hq).off h8 hO1 (by simp) (fun k j hk _ _ => by simp; omega)
    rw [m1]
    by_cases h60 : 60 ≤ (L.cl r).length
    · rw [if_pos (show (60 : Int32) ≤ nI (L.cl r).length from nI_le (a := 60) h60 (by omega))]
      refine ⟨_, rfl, gOff.rf, rSame.rf, fun i q hi hq => hold i q hi ?_⟩
      rw [List.getElem?_append_left (by omega)] at hq; exact hq
    · rw [if_neg (show ¬ (60 : Int32) ≤ nI (L.cl r).length from nI_ge (b := 60) (by omega) (by decide)), obs]
      refine (lay_ok hL hs1 hev (show (L.cl r).length < 60 by omega) m1).imp ?_
      rintro G2 ⟨a, b, c⟩
      refine ⟨a.w (fun k j z => by simp at z ⊢; omega), b, fun i q hi hq => ?_⟩
      by_cases e : i = (L.cl r).length
      · subst e
        rw [List.getElem?_append_right (Nat.le_refl _), Nat.sub_self] at hq
        cases hq
        exact c
      · have hil : i < (L.cl r).length := by have := (List.getElem?_eq_some_iff.mp hq).1; simp at this; omega
        rw [List.getElem?_append_left hil] at hq
        exact (hold i q hi hq).off h8 a (by simp; omega) (fun k j hk h1 h2 => by simp; omega)
  obtain ⟨hO2, hr2, ha2⟩ := h2
  have hs2 : sdP L r ns G2 := hs1.lis hL hO2 hr2 (fun k j hk => by simp; omega)
  have hl2 : gOff liZ G G2 := hl1.tr (hO2.w (fun k j z => by simp [liZ] at z ⊢; omega))
  have hr02 := hr1.tr hr2
  have c2 : ∀ j, gS G2 529 j = gS G 529 j := fun j => by rw [(hO2 529 j (by simp)).1, (hO1 529 j (by simp)).1]
  have o2 : ∀ k, k < L.n → gL G2 530 k = opW L (L.cl (r + 1)) k := fun k hk => by rw [(hO2 530 k (by simp)).2.1]; exact hopn k hk
  -- wanted
  refine Ok.bind (Q := fun G3 => gOff (fun k j => decide (k = 529 ∧ (j = 5 ∨ j = 6))) G2 G3 ∧ rSame G2 G3 ∧ ∀ t q, wt = nI t → t < 2 ^ 31 → (L.cl r ++ [r])[t]? = some q → gS G3 529 5 = nI (L.cost q) ∧ gS G3 529 6 = nI (L.lst q)) ?_ (fun G3 h3 => ?_)
  · rw [c2, c2, hJ.many, hJ.wt]
    by_cases hw : nI (L.cl r).length = wt
    · rw [if_pos hw]
      simp only [gLet_e]
      have hok := hs2.ok
      have e5 : gS (gS1 G2 529 5 (nI (L.cost r))) 0 5 - 1 = nI (ns.length - 1) := by
        rw [gS_ne (by decide), hs2.many, nI_lit 1, pk_sub hok.1]
      have h8n := hok.2.1
      have h0n := hok.1
      have e6 : gS (gS1 G2 529 5 (nI (L.cost r))) 2 (ns.length - 1) = nI (L.lst r) := by
        rw [gS_ne (by omega), L.lst_ns hev]
        have := nsF_aL hs2.ns (show ns.length - 1 < ns.length by omega)
        rw [Nat.zero_add] at this
        exact this
      rw [e5, gIn_t (by omega) (by omega), gck_t, nI_clamp (by omega), e6]
      refine ⟨_, rfl, (gOff.rf.S1 (by simp)).S1 (by simp), (rSame.rf.S1).S1, fun t q e ht hq => ?_⟩
      have htl : t = (L.cl r).length := ((nI_eq (by omega) ht).mp (hw.trans e)).symm
      subst htl
      rw [List.getElem?_append_right (Nat.le_refl _), Nat.sub_self] at hq
      cases hq
      refine ⟨?_, gS_at⟩
      rw [gS_ne (by decide), gS_at]
    · rw [if_neg hw]
      refine ⟨_, rfl, gOff.rf, rSame.rf, fun t q e ht hq => ?_⟩
      have htl : t ≠ (L.cl r).length := fun z => hw (by rw [e, z])
      have hil : t < (L.cl r).length := by have := (List.getElem?_eq_some_iff.mp hq).1; simp at this; omega
      rw [List.getElem?_append_left hil] at hq
      rw [c2, c2]
      exact hJ.want t q e ht hq
  obtain ⟨hO3, hr3, hw3⟩ := h3
  simp only [gLet_e]
  have m3 : gS G3 529 2 = nI (L.cl r).length := by rw [(hO3 529 2 (by simp)).1, c2]; exact hJ.many
  rw [m3, nI_1]
  have hO4 : gOff (fun k j => decide (k = 529)) G2 (gS1 G3 529 2 (nI ((L.cl r).length + 1))) := (hO3.w (fun k j z => by simp at z ⊢; omega)).S1 (by simp)
  refine ⟨_, rfl, ⟨?_, ?_, ?_, fun k hk => ?_, ?_, ?_⟩, hl2.tr (hO4.w (fun k j z => by simp [liZ] at z ⊢; omega)), (hr02.tr hr3).S1⟩
  · rw [gS_ne (by decide), (hO3 529 1 (by simp)).1, c2]; exact hJ.most
  · rw [gS_ne (by decide), (hO3 529 4 (by simp)).1, c2]; exact hJ.wt
  · rw [gS_at, L.cl_t hc, List.length_append, List.length_singleton]
  · rw [gL_S1, (hO3 530 k (by simp)).2.1]; exact o2 k hk
  · rw [L.cl_t hc]
    exact fun i q hi hq => (ha2 i q hi hq).off h8 hO4 (by simp) (fun k j hk _ _ => by simp; omega)
  · rw [L.cl_t hc]
    intro t q e ht hq
    have := hw3 t q e ht hq
    refine ⟨?_, ?_⟩
    · rw [gS_ne (by decide)]; exact this.1
    · rw [gS_ne (by decide)]; exact this.2
theorem m4_lt {a : Nat} (h : a < 2 ^ 31) : (-4 : Int32) < nI a := by
  rw [Int32.lt_iff_toInt_lt, nI_toInt h]
  have : ((-4 : Int32)).toInt = -4 := by decide
  omega
theorem Lt.cnt_B {L : Lt} {b r : Nat} (hb : L.B = some b) : L.cnt r = (L.so r && decide (L.cost r ≤ L.cost b + L.slack)) := by
  unfold Lt.cnt
  rw [hb]; rfl
theorem counted_LS {L : Lt} (hL : L.Wf) (wt : Int32) : LsP L 529 (kJ L wt) := by
  refine ⟨fun r ns G hr hev hJ hs => ?_, fun r G _ he hJ => hJ.keep (by unfold Lt.cnt; rw [L.so_none he]; rfl), fun r G G' hJ hO _ => hJ.off hL hO (fun k j hk => by simp [wZ]; omega)⟩
  unfold fSd
  rw [if_neg (by decide), if_pos rfl]
  unfold f_X14_said
  rw [hJ.most]
  unfold kMo
  have hcr := hL.cost_le r
  cases hB : L.B with
  | none =>
    simp only
    rw [if_pos (m4_lt (by omega))]
    refine ⟨_, rfl, hJ.keep ?_, gOff.rf, rSame.rf⟩
    unfold Lt.cnt
    rw [hL.none_so L.N hB r hr]; rfl
  | some b =>
    simp only
    have hcb := hL.cost_le b
    have hsl := hL.s20
    have hcn := L.cnt_B (r := r) hB
    by_cases hlt : L.cost b + L.slack < L.cost r
    · rw [if_pos (nI_lt hlt (by omega))]
      exact ⟨_, rfl, hJ.keep (by rw [hcn, decide_eq_false (by omega), Bool.and_false]), gOff.rf, rSame.rf⟩
    · rw [if_neg (nI_nlt (by omega) (by omega)), snd529]
      refine Ok.bind (hs.so hL hev) (fun y hy => ?_)
      subst hy
      cases hso : L.so r with
      | false =>
        rw [if_pos (show bI false = 0 from rfl)]
        exact ⟨_, rfl, hJ.keep (by rw [hcn, hso]; rfl), gOff.rf, rSame.rf⟩
      | true =>
        rw [if_neg (show ¬ bI true = 0 by decide)]
        exact hJ.said hL hr hev hs (by rw [hcn, hso, decide_eq_true (show L.cost r ≤ L.cost b + L.slack by omega)]; rfl)
def kW (L : Lt) (a : Int32) : Int32 := match L.B with
  | none => -4
  | some _ => if 0 ≤ a then a else -4
theorem kJ_0 {L : Lt} {wt : Int32} (G : gP) : kJ L wt 0 (xMk14 G (kMo L) wt) := by
  unfold xMk14
  refine ⟨?_, ?_, ?_, fun k hk => ?_, fun i q _ hq => (by cases hq), fun t q _ _ hq => (by cases hq)⟩
  · rw [gS_Sa, if_pos rfl, if_pos rfl]
  · rw [gS_Sa, if_pos rfl, if_neg (by decide), if_pos rfl]
  · rw [gS_Sa, if_pos rfl, if_neg (by decide), if_neg (by decide)]; rfl
  · rw [gL_Sa, gL_La, if_pos rfl]
    unfold opW
    apply bt_ext
    intro t ht
    rw [bt_0, bS_b _ 32 (by omega)]
    show false = (decide (t < 32) && decide (0 < L.hv [] k t))
    rw [decide_eq_false (show ¬ 0 < L.hv [] k t by unfold Lt.hv; simp), Bool.and_false]
theorem qP.mk14 (G : gP) (a b : Int32) : qP G (xMk14 G a b) := by
  unfold xMk14
  exact ⟨(gOff.rf.La (fun j => by simp [cqZ, liZ])).Sa (fun j => by simp [cqZ, liZ]), (rSame.rf.La).Sa⟩
theorem countedOnes_ok {L : Lt} {G : gP} (hL : L.Wf) (hN : xNow G L) (hK : xRk G) (a : Int32) : Ok (f_X0_countedOnes G a) (fun G' => kJ L (kW L a) L.N G' ∧ qP G G') := by
  unfold f_X0_countedOnes
  refine Ok.bind (first_ok hL hN hK) (fun G1 h1 => ?_)
  obtain ⟨hf1, hq1⟩ := h1
  have hN1 := hq1.now hL hN
  have hK1 := hK.same hq1.2
  refine Ok.bind (Q := fun G2 => kJ L (kW L a) 0 G2 ∧ qP G1 G2) ?_ (fun G2 h2 => ?_)
  · have hd := gDec_t hK1
    rw [isAny_I hL hf1, hd]
    have k0 := kJ_0 (L := L) (wt := kW L a) G1
    cases hB : L.B with
    | none =>
      have e1 : kMo L = -4 := by unfold kMo; rw [hB]
      have e2 : kW L a = -4 := by unfold kW; rw [hB]
      rw [if_pos (show bI (none : Option Nat).isSome = 0 from rfl), gck_t]
      rw [e1, e2] at k0
      rw [e2]
      exact ⟨_, rfl, k0, qP.mk14 _ _ _⟩
    | some b =>
      have e1 : kMo L = nI (L.cost b + L.slack) := by unfold kMo; rw [hB]
      have e2 : kW L a = if 0 ≤ a then a else -4 := by unfold kW; rw [hB]
      obtain ⟨b1, -⟩ := hf1.bn hB
      rw [if_neg (show ¬ bI (some b).isSome = 0 by show ¬ bI true = 0; decide), gck_t, gck_t, b1, hN1.1.2.2.1, nI_add]
      rw [e1, e2] at k0
      rw [e2]
      by_cases ha : 0 ≤ a
      · rw [if_pos ha] at k0 ⊢
        rw [if_pos ha]
        exact ⟨_, rfl, k0, qP.mk14 _ _ _⟩
      · rw [if_neg ha] at k0 ⊢
        rw [if_neg ha]
        exact ⟨_, rfl, k0, qP.mk14 _ _ _⟩
  · rw [obs]
    refine (listen_ok hL (counted_LS hL (kW L a)) (h2.2.now hL hN1) h2.1).imp ?_
    rintro G' ⟨x, y, z⟩
    exact ⟨x, (hq1.tr h2.2).tr ⟨y, z⟩⟩
theorem xopen_ok {G : gP} {L : Lt} (hL : L.Wf) (hN : xNow G L) (hK : xRk G) (a : Int32) : Ok (f_X0_open G a) (qA G (sOpen L a)) := by
  unfold f_X0_open sOpen
  have h8 := hL.n8
  rw [xisSlot_rg h8 hN.1.1]
  cases ha : rg a 0 L.n with
  | none => exact ⟨_, rfl, qP.rf, rfl⟩
  | some k =>
    obtain ⟨-, hk, rfl⟩ := rg_some ha
    simp only [Option.isSome_some, if_true]
    rw [if_neg (by decide)]
    refine Ok.bind (countedOnes_ok hL hN hK _) (fun G1 h1 => ?_)
    rw [gIn_t (by omega) (by omega), gck_t, nI_clamp (by omega)]
    exact ⟨_, rfl, h1.2, h1.1.opn k hk⟩
theorem xcounted_ok {G : gP} {L : Lt} (hL : L.Wf) (hN : xNow G L) (hK : xRk G) (a w : Int32) : Ok (f_X0_counted G a w) (qA G (sCounted L a w)) := by
  unfold f_X0_counted sCounted
  have hNl := hL.N_le
  have hCl : L.C.length ≤ L.N := L.cl_len L.N
  by_cases ha : a < 0
  · rw [if_pos ha, if_pos ha]; exact ⟨_, rfl, qP.rf, rfl⟩
  rw [if_neg ha, if_neg ha, isIn_rg w (lo := 0) (hi := 2) rfl rfl]
  cases hw : rg w 0 2 with
  | none => exact ⟨_, rfl, qP.rf, rfl⟩
  | some wn =>
    obtain ⟨-, hwn, rfl⟩ := rg_some hw
    simp only [Option.isSome_some, if_true]
    rw [if_neg (by decide)]
    obtain ⟨t, ht, rfl⟩ := nI_of ha
    refine Ok.bind (countedOnes_ok hL hN hK _) (fun G1 h1 => ?_)
    have hm : gS G1 529 2 = nI L.C.length := h1.1.many
    rw [hm, nI_toInt ht, Int.toNat_natCast]
    by_cases hlt : t < L.C.length
    · rw [if_pos (nI_lt hlt (by omega))]
      obtain ⟨q, hq⟩ : ∃ q, L.C[t]? = some q := ⟨_, List.getElem?_eq_getElem hlt⟩
      have hkw : kW L (nI t) = nI t := by
        unfold kW
        cases hB : L.B with
        | none => rw [L.C_none hL hB] at hlt; simp at hlt
        | some b => simp only; rw [if_pos (nI_pos' ht)]
      have hww := h1.1.want t q hkw ht hq
      rw [hq]
      simp only
      by_cases w0 : wn = 0
      · subst w0
        rw [if_pos (show nI 0 = 0 from rfl), if_pos rfl]
        exact ⟨_, rfl, h1.2, hww.1⟩
      · rw [if_neg (nI_ne0 (by omega) (by omega)), if_neg w0]
        exact ⟨_, rfl, h1.2, hww.2⟩
    · rw [if_neg (nI_nlt (by omega) ht), List.getElem?_eq_none (by omega)]
      exact ⟨_, rfl, h1.2, rfl⟩
