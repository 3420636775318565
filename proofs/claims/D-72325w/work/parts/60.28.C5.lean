/-! those that count: what Counted holds -/
theorem nsF_ge {ns : List Nat} {k : Nat} (h : ns.length ≤ k) : nsF ns k = 0 := by
  unfold nsF
  rw [List.getD_eq_getElem?_getD, List.getElem?_eq_none h]; rfl
theorem Lt.lst_ns {L : Lt} {r : Nat} {ns : List Nat} (he : L.ev r = some ns) : L.lst r = nsF ns (ns.length - 1) := by
  unfold Lt.lst nsF
  rw [he]
  show ns.getLastD 0 = _
  rw [List.getD_eq_getElem?_getD, List.getLastD_eq_getLast?, List.getLast?_eq_getElem?]
/-- one that is asked about, as it is laid -/
def akP (L : Lt) (G : gP) (i q : Nat) : Prop := (∃ ns, L.ev q = some ns ∧ nsOk ns ∧ gS G 7 i = nI ns.length ∧ ∀ k, k < 8 → gS G 6 (8 * i + k) = nI (nsF ns k)) ∧ ∀ k, k < L.n → gS G 5 (8 * i + k) = nI (L.w k (L.pk q k))
def kMo (L : Lt) : Int32 := match L.B with
  | none => -4
  | some b => nI (L.cost b + L.slack)
def opW (L : Lt) (l : List Nat) (k : Nat) : Int64 := bS (fun w => decide (0 < L.hv l k w)) 32
def kJ (L : Lt) (wt : Int32) (r : Nat) (G : gP) : Prop := (gS G 529 1 = kMo L) ∧ (gS G 529 4 = wt) ∧ (gS G 529 2 = nI (L.cl r).length) ∧ (∀ k, k < L.n → gL G 530 k = opW L (L.cl r) k) ∧ (∀ i q, i < 60 → (L.cl r)[i]? = some q → akP L G i q) ∧ (∀ t q, wt = nI t → t < 2 ^ 31 → (L.cl r)[t]? = some q → gS G 529 5 = nI (L.cost q) ∧ gS G 529 6 = nI (L.lst q))
theorem kJ.most {L : Lt} {wt : Int32} {r : Nat} {G : gP} (h : kJ L wt r G) : (gS G 529 1 = kMo L) := h.1
theorem kJ.wt {L : Lt} {wt : Int32} {r : Nat} {G : gP} (h : kJ L wt r G) : (gS G 529 4 = wt) := h.2.1
theorem kJ.many {L : Lt} {wt : Int32} {r : Nat} {G : gP} (h : kJ L wt r G) : (gS G 529 2 = nI (L.cl r).length) := h.2.2.1
theorem kJ.opn {L : Lt} {wt : Int32} {r : Nat} {G : gP} (h : kJ L wt r G) : (∀ k, k < L.n → gL G 530 k = opW L (L.cl r) k) := h.2.2.2.1
theorem kJ.asked {L : Lt} {wt : Int32} {r : Nat} {G : gP} (h : kJ L wt r G) : (∀ i q, i < 60 → (L.cl r)[i]? = some q → akP L G i q) := h.2.2.2.2.1
theorem kJ.want {L : Lt} {wt : Int32} {r : Nat} {G : gP} (h : kJ L wt r G) : (∀ t q, wt = nI t → t < 2 ^ 31 → (L.cl r)[t]? = some q → gS G 529 5 = nI (L.cost q) ∧ gS G 529 6 = nI (L.lst q)) := h.2.2.2.2.2
theorem akP.off {Z : Nat → Nat → Bool} {L : Lt} {G G' : gP} {i q : Nat} (h : akP L G i q) (h8 : L.n ≤ 8) (hO : gOff Z G G') (z7 : Z 7 i = false) (z : ∀ k j, k = 5 ∨ k = 6 → 8 * i ≤ j → j < 8 * i + 8 → Z k j = false) : akP L G' i q := by
  obtain ⟨⟨ns, h1, h2, h3, h4⟩, h5⟩ := h
  refine ⟨⟨ns, h1, h2, by rw [(hO 7 i z7).1]; exact h3, fun k hk => ?_⟩, fun k hk => ?_⟩
  · rw [(hO 6 _ (z _ _ (by omega) (by omega) (by omega))).1]; exact h4 k hk
  · rw [(hO 5 _ (z _ _ (by omega) (by omega) (by omega))).1]; exact h5 k hk
theorem kJ.off {Z : Nat → Nat → Bool} {L : Lt} {wt : Int32} {r : Nat} {G G' : gP} (h : kJ L wt r G) (hL : L.Wf) (hO : gOff Z G G') (z : ∀ k j, k = 5 ∨ k = 6 ∨ k = 7 ∨ k = 529 ∨ k = 530 → Z k j = false) : kJ L wt r G' := by
  refine ⟨?_, ?_, ?_, fun k hk => ?_, fun i q hi hq => (h.asked i q hi hq).off hL.n8 hO (z _ _ (by omega)) (fun k j hk _ _ => z _ _ (by omega)), fun t q e ht hq => ⟨?_, ?_⟩⟩
  · rw [(hO 529 1 (z _ _ (by omega))).1]; exact h.most
  · rw [(hO 529 4 (z _ _ (by omega))).1]; exact h.wt
  · rw [(hO 529 2 (z _ _ (by omega))).1]; exact h.many
  · rw [(hO 530 k (z _ _ (by omega))).2.1]; exact h.opn k hk
  · rw [(hO 529 5 (z _ _ (by omega))).1]; exact (h.want t q e ht hq).1
  · rw [(hO 529 6 (z _ _ (by omega))).1]; exact (h.want t q e ht hq).2
theorem Lt.cl_f {L : Lt} {r : Nat} (h : L.cnt r = false) : L.cl (r + 1) = L.cl r := by
  show (if L.cnt r = true then _ else _) = _
  rw [if_neg (by rw [h]; decide)]
theorem Lt.cl_t {L : Lt} {r : Nat} (h : L.cnt r = true) : L.cl (r + 1) = L.cl r ++ [r] := by
  show (if L.cnt r = true then _ else _) = _
  rw [if_pos h]
theorem kJ.keep {L : Lt} {wt : Int32} {r : Nat} {G : gP} (h : kJ L wt r G) (hc : L.cnt r = false) : kJ L wt (r + 1) G := by
  have e := L.cl_f hc
  exact ⟨h.most, h.wt, by rw [e]; exact h.many, by rw [e]; exact h.opn, by rw [e]; exact h.asked, by rw [e]; exact h.want⟩
theorem opW_s {L : Lt} (l : List Nat) {r k : Nat} (hw : L.w k (L.pk r k) < 32) : opW L l k ||| gShlL 1 (nI (L.w k (L.pk r k))) = opW L (l ++ [r]) k := by
  unfold opW
  apply bt_ext
  intro t ht
  rw [bt_or, bS_b _ 32 (by omega), bS_b _ 32 (by omega), bt_1 (by omega), L.hv_s]
  by_cases e : t = L.w k (L.pk r k)
  · rw [decide_eq_true e, if_pos e.symm, decide_eq_true (show t < 32 by omega), decide_eq_true (show 0 < L.hv l k t + 1 by omega)]
    simp
  · rw [decide_eq_false e, if_neg (fun z => e z.symm), Nat.add_zero, Bool.or_false]
/-- the words of a reading are open -/
theorem opn_ok {L : Lt} (hL : L.Wf) {r : Nat} {ns : List Nat} {G : gP} (hs : sdP L r ns G) : Ok (gloop (f_X14_said_b18) gFu (G, (0 : Int32))) (fun G' => gOff (fun k _ => decide (k = 530)) G G' ∧ rSame G G' ∧ ∀ k, k < L.n → gL G' 530 k = gL G 530 k ||| gShlL 1 (nI (L.w k (L.pk r k)))) := by
  have h8 := hL.n8
  refine Ok.up (fun i s => s.2 = nI i ∧ gOff (fun k _ => decide (k = 530)) G s.1 ∧ rSame G s.1 ∧ (∀ k, k < i → gL s.1 530 k = gL G 530 k ||| gShlL 1 (nI (L.w k (L.pk r k)))) ∧ ∀ k, i ≤ k → gL s.1 530 k = gL G 530 k) L.n (by omega) ?_ ?_ ⟨rfl, gOff.rf, rSame.rf, fun k hk => by omega, fun k _ => rfl⟩
  · rintro i ⟨G1, x⟩ hi ⟨hx, hO, hr, ho, hl⟩
    simp only at hx hO hr ho hl
    subst hx
    unfold f_X14_said_b18
    have hs1 : sdP L r ns G1 := hs.lis hL hO hr (fun k j hk => by simp; omega)
    have hsl := hs1.now.1.2.2.2.2 i hi
    have hp := hL.pk_lt (r := r) hi
    have hm := hL.m1 i hi
    simp only
    rw [hs1.now.1.1, if_neg (nI_ge hi (by omega)), gIn_t (by omega) (by omega), gck_t, gck_t, nI_clamp (by omega), hs1.now.2.ref0 (by omega)]
    simp only [obind_some]
    rw [gck_t, gck_t, hs1.pk i hi, gIn_t (by omega) (by omega), gck_t, nI_clamp (by omega), (hsl.2 _ hp).1]
    simp only [gLet_e]
    refine ⟨_, rfl, nI_1 i, hO.L1 (by simp), hr.L1, fun k hk => ?_, fun k hk => ?_⟩
    · simp only
      rw [gL_L1]
      by_cases e : k = i
      · subst e; rw [if_pos ⟨rfl, rfl⟩, hl k (Nat.le_refl _)]
      · rw [if_neg (fun z => e z.2)]; exact ho k (by omega)
    · simp only
      rw [gL_L1, if_neg (fun z => by omega)]; exact hl k (by omega)
  · rintro ⟨G1, x⟩ ⟨hx, hO, hr, ho, hl⟩
    simp only at hx hO hr ho hl
    subst hx
    unfold f_X14_said_b18
    have hs1 : sdP L r ns G1 := hs.lis hL hO hr (fun k j hk => by simp; omega)
    simp only
    rw [hs1.now.1.1, if_pos (nI_le (Nat.le_refl _) (by omega))]
    exact ⟨_, rfl, hO, hr, ho⟩
/-- a reading is laid among those that may be asked about -/
theorem lay_ok {L : Lt} (hL : L.Wf) {r : Nat} {ns : List Nat} {G : gP} (hs : sdP L r ns G) (hev : L.ev r = some ns) {t : Nat} (ht : t < 60) (h2 : gS G 529 2 = nI t) : Ok (f_X14_lay G) (fun G' => gOff (fun k j => decide ((k = 7 ∧ j = t) ∨ ((k = 5 ∨ k = 6) ∧ 8 * t ≤ j ∧ j < 8 * t + 8))) G G' ∧ rSame G G' ∧ akP L G' t r) := by
  have h8 := hL.n8
  have hok := hs.ok
  unfold f_X14_lay
  rw [h2, gIn_t (by omega) ht, gck_t, nI_clamp (by omega), hs.many]
  simp only [gLet_e, obs]
  have hO0 : gOff (fun k j => decide ((k = 7 ∧ j = t) ∨ ((k = 5 ∨ k = 6) ∧ 8 * t ≤ j ∧ j < 8 * t + 8))) G (gS1 G 7 t (nI ns.length)) := gOff.rf.S1 (by simp)
  refine Ok.up (fun i s => s.2 = nI i ∧ gOff (fun k j => decide ((k = 7 ∧ j = t) ∨ ((k = 5 ∨ k = 6) ∧ 8 * t ≤ j ∧ j < 8 * t + 8))) G s.1 ∧ rSame G s.1 ∧ gS s.1 7 t = nI ns.length ∧ (∀ k, k < i → gS s.1 6 (8 * t + k) = nI (nsF ns k)) ∧ ∀ k, k < i → k < L.n → gS s.1 5 (8 * t + k) = nI (L.w k (L.pk r k))) 8 (by decide) ?_ ?_ ⟨rfl, hO0, rSame.rf.S1, gS_at, fun k hk => by omega, fun k hk => by omega⟩
  · rintro i ⟨G1, x⟩ hi ⟨hx, hO, hr, g7, g6, g5⟩
    simp only at hx hO hr g7 g6 g5
    subst hx
    unfold f_X14_lay_b21
    have hs1 : sdP L r ns G1 := hs.lis hL hO hr (fun k j hk => by simp; omega)
    have k2 : gS G1 529 2 = nI t := by rw [(hO 529 2 (by simp)).1]; exact h2
    simp only
    rw [if_neg (show ¬ (8 : Int32) ≤ nI i from nI_ge (b := 8) hi (by decide)), hs1.now.1.1, k2]
    have key : ∀ wd : Nat, (i < L.n → wd = L.w i (L.pk r i)) → Ok (gck (gIn (8 * nI t + nI i) 480) (gLet (gS1 G1 5 (8 * nI t + nI i).toNatClampNeg (nI wd)) fun G14 => if gS G14 0 5 ≤ nI i then gck (gIn (8 * gS G14 529 2 + nI i) 480) (gLet (gS1 G14 6 (8 * gS G14 529 2 + nI i).toNatClampNeg 0) fun G18 => some (Sum.inl (G18, nI i + 1))) else gck (gIn (nI i) 8) (gck (gIn (8 * gS G14 529 2 + nI i) 480) (gLet (gS1 G14 6 (8 * gS G14 529 2 + nI i).toNatClampNeg (gS G14 2 (nI i).toNatClampNeg)) fun G22 => some (Sum.inl (G22, nI i + 1)))))) (fun q : (gP × Int32) ⊕ gP => match q with | Sum.inl s => s.2 = nI (i + 1) ∧ gOff (fun k j => decide ((k = 7 ∧ j = t) ∨ ((k = 5 ∨ k = 6) ∧ 8 * t ≤ j ∧ j < 8 * t + 8))) G s.1 ∧ rSame G s.1 ∧ gS s.1 7 t = nI ns.length ∧ (∀ k, k < i + 1 → gS s.1 6 (8 * t + k) = nI (nsF ns k)) ∧ ∀ k, k < i + 1 → k < L.n → gS s.1 5 (8 * t + k) = nI (L.w k (L.pk r k)) | Sum.inr _ => False) := by
      intro wd hwd
      have e8 : (8 : Int32) * nI t + nI i = nI (8 * t + i) := by rw [nI_lit 8, pk_mul, nI_add]
      rw [e8, gIn_t (by omega) (by omega), gck_t, nI_clamp (by omega)]
      simp only [gLet_e]
      rw [gS_ne (by omega), gS_ne (by omega), k2, e8, gIn_t (by omega) (by omega), gck_t, nI_clamp (by omega), hs1.many, gIn_t (show i < 2 ^ 31 by omega) hi, gck_t, gck_t, nI_clamp (by omega), gS_ne (by omega)]
      have fin : ∀ v : Nat, v = nsF ns i → Ok (some (Sum.inl (gS1 (gS1 G1 5 (8 * t + i) (nI wd)) 6 (8 * t + i) (nI v), nI i + 1))) (fun q : (gP × Int32) ⊕ gP => match q with | Sum.inl s => s.2 = nI (i + 1) ∧ gOff (fun k j => decide ((k = 7 ∧ j = t) ∨ ((k = 5 ∨ k = 6) ∧ 8 * t ≤ j ∧ j < 8 * t + 8))) G s.1 ∧ rSame G s.1 ∧ gS s.1 7 t = nI ns.length ∧ (∀ k, k < i + 1 → gS s.1 6 (8 * t + k) = nI (nsF ns k)) ∧ ∀ k, k < i + 1 → k < L.n → gS s.1 5 (8 * t + k) = nI (L.w k (L.pk r k)) | Sum.inr _ => False) := by
        rintro v rfl
        refine ⟨_, rfl, nI_1 i, (hO.S1 (by simp; omega)).S1 (by simp; omega), (hr.S1).S1, ?_, fun k hk => ?_, fun k hk hkn => ?_⟩
        · simp only
          rw [gS_ne (by omega), gS_ne (by omega)]; exact g7
        · simp only
          by_cases e : k = i
          · subst e; rw [gS_at]
          · rw [gS_ne (by omega), gS_ne (by omega)]; exact g6 k (by omega)
        · simp only
          rw [gS_ne (by omega)]
          by_cases e : k = i
          · subst e; rw [gS_at, hwd hkn]
          · rw [gS_ne (by omega)]; exact g5 k (by omega) hkn
      have hl8 := hok.2.1
      by_cases hin : i < ns.length
      · rw [if_neg (nI_ge hin (by omega))]
        have := nsF_aL hs1.ns hin
        rw [Nat.zero_add] at this
        rw [this]
        exact fin _ rfl
      · rw [if_pos (nI_le (by omega) (by omega))]
        exact fin 0 (nsF_ge (by omega)).symm
    by_cases hin : i < L.n
    · rw [if_neg (nI_ge hin (by omega)), gIn_t (by omega) (by omega), gck_t, nI_clamp (by omega), hs1.now.2.ref0 (by omega)]
      simp only [obind_some]
      have hp := hL.pk_lt (r := r) hin
      have hm := hL.m1 i hin
      rw [gck_t, hs1.pk i hin, gIn_t (show L.pk r i < 2 ^ 31 by omega) (by omega), gck_t, nI_clamp (show L.pk r i < 2 ^ 31 by omega), ((hs1.now.1.2.2.2.2 i hin).2 _ hp).1]
      have := key _ (fun _ => rfl)
      rw [gIn_t (show i < 2 ^ 31 by omega) hi, nI_clamp (show i < 2 ^ 31 by omega)] at this
      rw [obind_some]
      refine this.imp ?_
      intro q hq
      cases q with
      | inl s => exact hq
      | inr x => exact hq
    · rw [if_pos (nI_le (by omega) (by omega)), obind_some]
      refine (key 0 (fun z => (hin z).elim)).imp ?_
      intro q hq
      cases q with
      | inl s => exact hq
      | inr x => exact hq
  · rintro ⟨G1, x⟩ ⟨hx, hO, hr, g7, g6, g5⟩
    simp only at hx hO hr g7 g6 g5
    subst hx
    unfold f_X14_lay_b21
    simp only
    rw [if_pos (show (8 : Int32) ≤ nI 8 by decide)]
    exact ⟨_, rfl, hO, hr, ⟨ns, hev, hok, g7, g6⟩, fun k hk => g5 k (by omega) hk⟩
