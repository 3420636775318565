/-! the component's words -/
def wf (acc : List (Nat × Nat)) (j : Nat) : Nat := (acc.getD j (0, 0)).1
def cf (acc : List (Nat × Nat)) (j : Nat) : Nat := (acc.getD j (0, 0)).2
theorem getD_l {acc : List (Nat × Nat)} {x : Nat × Nat} {j : Nat} (h : j < acc.length) : (acc ++ [x]).getD j (0, 0) = acc.getD j (0, 0) := by
  rw [List.getD_eq_getElem?_getD, List.getD_eq_getElem?_getD, List.getElem?_append_left h]
theorem getD_r {acc : List (Nat × Nat)} {x : Nat × Nat} : (acc ++ [x]).getD acc.length (0, 0) = x := by
  rw [List.getD_eq_getElem?_getD, List.getElem?_append_right (Nat.le_refl _), Nat.sub_self]; rfl
theorem xSlt.ext {G : gP} {s m : Nat} {w c w' c' : Nat → Nat} (h : xSlt G s m w c) (hw : ∀ j, j < m → w j = w' j) (hc : ∀ j, j < m → c j = c' j) : xSlt G s m w' c' :=
  ⟨h.1, fun j hj => by rw [← hw j hj, ← hc j hj]; exact h.2 j hj⟩
def xAc (G : gP) (a : Nat) (acc : List (Nat × Nat)) : Prop := xSlt G a acc.length (wf acc) (cf acc)
theorem fnd_wf {acc : List (Nat × Nat)} {w : Nat} : fnd (wf acc) w acc.length = none ↔ w ∉ acc.map Prod.fst := by
  constructor
  · intro h hm
    rw [List.mem_map] at hm
    obtain ⟨x, hx, rfl⟩ := hm
    obtain ⟨k, hk, e⟩ := List.getElem_of_mem hx
    have := fnd_none _ h k hk
    apply this
    unfold wf
    have g := getD_mem (l := acc) (0, 0) hk
    rw [List.getElem?_eq_getElem hk] at g
    rw [← Option.some.inj g, e]
  · intro h
    cases hf : fnd (wf acc) w acc.length with
    | none => rfl
    | some i =>
      exfalso
      obtain ⟨h1, h2⟩ := fnd_some _ _ hf
      apply h
      rw [List.mem_map]
      exact ⟨acc.getD i (0, 0), List.mem_of_getElem? (getD_mem _ h1), h2⟩
def caZ (a k j : Nat) : Bool := decide ((a ≤ k ∧ k ≤ a + 2) ∨ (k = 0 ∧ j = 12) ∨ (k = 8 ∧ j = 6))
theorem addAc {G : gP} {a w c : Nat} {acc : List (Nat × Nat)} (h : xAc G a acc) (h4 : acc.length < 4) : Ok (f_X7_add G a (nI w) (nI c)) (fun G' => gOff (sZ a) G G' ∧ rSame G G' ∧ xAc G' a (acc ++ [(w, c)])) := by
  refine (add_ok h h4 w c).imp ?_
  rintro G' ⟨x, y, z⟩
  refine ⟨x, y, ?_⟩
  unfold xAc
  rw [List.length_append, List.length_singleton]
  refine z.ext (fun j hj => ?_) (fun j hj => ?_)
  · unfold setp wf
    by_cases e : j = acc.length
    · rw [if_pos e, e, getD_r]
    · rw [if_neg e, getD_l (by omega)]
  · unfold setp cf
    by_cases e : j = acc.length
    · rw [if_pos e, e, getD_r]
    · rw [if_neg e, getD_l (by omega)]
theorem xAc.off {Z : Nat → Nat → Bool} {G G' : gP} {a : Nat} {acc : List (Nat × Nat)} (h : xAc G a acc) (hO : gOff Z G G') (z : ∀ k j, a ≤ k → k ≤ a + 2 → Z k j = false) : xAc G' a acc := xSlt.off h hO z
theorem cand_ok {G : gP} {t : List Nat} {p a : Nat} {acc : List (Nat × Nat)} (ht : tok t) (h : xTp G t p) (ha : 32 ≤ a) (hA : xAc G a acc) (h4 : acc.length < 4) (hb : ∀ x ∈ acc, x.1 < 32 ∧ x.2 < 10) : Ok (f_X0_readCandidate G a) (fun r => gOff (caZ a) G r.1 ∧ rSame G r.1 ∧ match cnd t p (acc.map Prod.fst) with
    | .inl e => r.2 = true ∧ gS r.1 8 6 = nI e
    | .inr (w, c, q) => r.2 = false ∧ xTp r.1 t q ∧ xAc r.1 a (acc ++ [(w, c)])) := by
  unfold f_X0_readCandidate
  have hle := skp_le h.2.2.2
  have h' := h.pl hle
  have hlt := ht.lt (skp t p)
  rw [next_ok ht h, obind_some]
  simp only [gLet_e]
  have hO' : ∀ q', gOff (caZ a) G (xpl G q') := fun q' => gOff.rf.S1 (by simp [caZ])
  have hr' : ∀ q', rSame G (xpl G q') := fun q' => rSame.rf.S1
  have hA' : ∀ q', xAc (xpl G q') a acc := fun q' => hA.off (Z := fun k _ => decide (k = 0)) (gOff.rf.S1 (by simp)) (fun k j x y => by simp; omega)
  rw [h'.2.1]
  have bad : ∀ q', cnd t p (acc.map Prod.fst) = .inl (skp t p) → Ok ((f_X0_faulty (gS1 (xpl G q') 0 12 (nI (skp t p)))).bind fun q10 => some (q10, true)) (fun r : gP × Bool => gOff (caZ a) G r.1 ∧ rSame G r.1 ∧ match cnd t p (acc.map Prod.fst) with | .inl e => r.2 = true ∧ gS r.1 8 6 = nI e | .inr (w, c, q) => r.2 = false ∧ xTp r.1 t q ∧ xAc r.1 a (acc ++ [(w, c)])) := by
    intro q' hc
    have e1 : gS1 (xpl G q') 0 12 (nI (skp t p)) = xpl G (skp t p) := xpl_xpl G q' _
    rw [e1, faulty_ok ht h' (skp_id t p), obind_some, hc]
    exact ⟨_, rfl, (hO' _).S1 (by simp [caZ]), (hr' _).S1, rfl, gS_at⟩
  have hrw := xreadWord_ok ht h'
  rw [skp_id] at hrw
  unfold cnd at bad ⊢
  cases hr : rdW t (skp t p) with
  | none =>
    rw [hr] at hrw bad
    simp only at bad ⊢
    obtain ⟨q', hq'⟩ := hrw
    rw [hq', obind_some]
    simp only
    rw [if_pos (show (-4 : Int32) < 0 by decide), xpl_xpl]
    exact bad q' trivial
  | some wq =>
    obtain ⟨w, q1⟩ := wq
    rw [hr] at hrw bad
    simp only at hrw bad ⊢
    have hwq := rdW_lt ht hr
    rw [hrw, obind_some]
    simp only
    rw [if_neg (show ¬ nI w < 0 from nI_pos (by omega)), xpl_xpl]
    refine Ok.bind (find_ok (hA' q1) (by omega) (fun j hj => (hb _ (List.mem_of_getElem? (getD_mem (0, 0) hj))).1) (show w < 2 ^ 31 by omega)) (fun r hr2 => ?_)
    subst hr2
    by_cases hm : w ∈ acc.map Prod.fst
    · rw [if_pos hm] at bad ⊢
      cases hf : fnd (wf acc) w acc.length with
      | none => exact (fnd_wf.mp hf hm).elim
      | some i =>
        have hi := fnd_some _ _ hf
        rw [if_neg (show ¬ rI (some i) < 0 from nI_pos (by omega))]
        exact bad q1 rfl
    · rw [if_neg hm, fnd_wf.mpr hm, if_pos (show rI none < 0 by decide)]
      have hT1 : xTp (xpl G q1) t q1 := h.pl hwq.2.2
      have hle1 := skp_le hwq.2.2
      rw [show (58 : Int32) = nI 58 from rfl, sign_ok ht hT1 (by decide) (by decide), obind_some]
      by_cases h58 : ltr t (skp t q1) = 58
      · rw [if_pos h58, if_pos h58]
        have hin := ht.in (p := skp t q1) (by omega)
        have hT2 : xTp (xpl G (skp t q1 + 1)) t (skp t q1 + 1) := h.pl (by omega)
        have hle2 := skp_le hT2.2.2.2
        have hT3 : xTp (xpl G (skp t (skp t q1 + 1))) t (skp t (skp t q1 + 1)) := h.pl hle2
        have hlt3 := ht.lt (skp t (skp t q1 + 1))
        simp only
        rw [if_neg (by decide), xpl_xpl, next_ok ht hT2, xpl_xpl, obind_some]
        simp only
        cases hd : isD (ltr t (skp t (skp t q1 + 1))) with
        | false =>
          have hnc : f_X0_isCost (lI t (skp t (skp t q1 + 1)) - 48) = 0 := by
            unfold f_X0_isCost lI
            by_cases hin3 : skp t (skp t q1 + 1) < t.length
            · rw [if_pos hin3]
              have hnd : ¬ (48 ≤ ltr t (skp t (skp t q1 + 1)) ∧ ltr t (skp t (skp t q1 + 1)) ≤ 57) := fun z => by rw [(isD_iff _).mpr z] at hd; cases hd
              rw [isIn_rg _ (lo := 0) (hi := 10) rfl rfl]
              unfold rg
              have hnn : ¬ ((0 : Nat) : Int) ≤ (nI (ltr t (skp t (skp t q1 + 1))) - 48).toInt ∨ ¬ (nI (ltr t (skp t (skp t q1 + 1))) - 48).toInt < ((10 : Nat) : Int) := by
                rw [show (48 : Int32) = nI 48 from rfl, pk_sub_toInt (by omega) (by decide)]
                omega
              rw [if_neg (show ¬ (((0 : Nat) : Int) ≤ (nI (ltr t (skp t (skp t q1 + 1))) - 48).toInt ∧ (nI (ltr t (skp t (skp t q1 + 1))) - 48).toInt < ((10 : Nat) : Int)) from fun z => by rcases hnn with h | h; exact h z.1; exact h z.2)]
              rfl
            · rw [if_neg hin3]; decide
          rw [hnc, if_pos rfl, if_neg (by decide), faulty_ok ht hT3 (skp_id _ _), obind_some]
          exact ⟨_, rfl, (hO' _).S1 (by simp [caZ]), (hr' _).S1, rfl, gS_at⟩
        | true =>
          have bd := (isD_iff _).mp hd
          have hin3 := ht.in (p := skp t (skp t q1 + 1)) (by omega)
          have hlI : lI t (skp t (skp t q1 + 1)) - 48 = nI (ltr t (skp t (skp t q1 + 1)) - 48) := by
            unfold lI
            rw [if_pos hin3]
            exact pk_sub (b := 48) bd.1
          have hc1 : f_X0_isCost (nI (ltr t (skp t (skp t q1 + 1)) - 48)) = 1 := by
            rw [xisCost_rg, rg_nI (by omega), if_pos (show 0 ≤ ltr t (skp t (skp t q1 + 1)) - 48 ∧ ltr t (skp t (skp t q1 + 1)) - 48 < 10 by omega)]; rfl
          rw [hlI, hc1, if_neg (by decide), if_pos rfl, hT3.2.1, nI_1]
          have e1 : gS1 (xpl G (skp t (skp t q1 + 1))) 0 12 (nI (skp t (skp t q1 + 1) + 1)) = xpl G (skp t (skp t q1 + 1) + 1) := xpl_xpl _ _ _
          rw [e1]
          refine Ok.bind (addAc (hA' _) h4) (fun G3 h3 => ?_)
          obtain ⟨hO3, hr3, hA3⟩ := h3
          refine ⟨_, rfl, (hO' _).tr (hO3.w (fun k j z => by simp [caZ, sZ] at z ⊢; omega)), (hr' _).tr hr3, rfl, ?_, hA3⟩
          exact (h.pl (show skp t (skp t q1 + 1) + 1 ≤ t.length by omega)).off hO3 (fun k j hk => by simp [sZ]; omega)
      · rw [if_neg h58, if_neg h58]
        simp only
        rw [if_pos trivial, xpl_xpl]
        refine Ok.bind (addAc (c := 0) (hA' _) h4) (fun G3 h3 => ?_)
        obtain ⟨hO3, hr3, hA3⟩ := h3
        refine ⟨_, rfl, (hO' _).tr (hO3.w (fun k j z => by simp [caZ, sZ] at z ⊢; omega)), (hr' _).tr hr3, rfl, ?_, hA3⟩
        exact (h.pl hle1).off hO3 (fun k j hk => by simp [sZ]; omega)
/-- behind a candidate -/
def ctn (t : List Nat) (f q : Nat) (acc : List (Nat × Nat)) : Nat ⊕ (List (Nat × Nat) × Nat) := if f = 0 then .inr (acc, q) else if ltr t (skp t q) = 44 then slt t f (skp t q + 1) acc else .inr (acc, skp t q)
theorem slt_ctn (t : List Nat) (f p : Nat) (acc : List (Nat × Nat)) : slt t (f + 1) p acc = match cnd t p (acc.map Prod.fst) with
    | .inl e => .inl e
    | .inr (w, c, q) => ctn t f q (acc ++ [(w, c)]) := by
  show (match cnd t p (acc.map Prod.fst) with | .inl e => _ | .inr (w, c, q) => _) = _
  cases cnd t p (acc.map Prod.fst) with
  | inl e => rfl
  | inr x => obtain ⟨w, c, q⟩ := x; rfl
theorem slots_ok {G G0 : gP} {t : List Nat} {a : Nat} (ht : tok t) (ha : 32 ≤ a) (R : Nat ⊕ (List (Nat × Nat) × Nat)) {f q : Nat} {acc : List (Nat × Nat)} (hlen : acc.length + f = 4) (hR : R = ctn t f q acc) (h : xTp G t q) (hA : xAc G a acc) (hb : ∀ x ∈ acc, x.1 < 32 ∧ x.2 < 10) : Ok (gloop (f_X0_readWords_b50 (G0, a)) gFu G) (fun z => match z with
    | .inl G' => gOff (caZ a) G G' ∧ rSame G G' ∧ ∃ s q, R = .inr (s, q) ∧ xTp G' t q ∧ xAc G' a s
    | .inr r => r.2 = true ∧ gOff (caZ a) G r.1 ∧ rSame G r.1 ∧ ∃ e, R = .inl e ∧ gS r.1 8 6 = nI e) := by
  refine Ok.loop (fun f s => gOff (caZ a) G s ∧ rSame G s ∧ ∃ q acc, acc.length + f = 4 ∧ R = ctn t f q acc ∧ xTp s t q ∧ xAc s a acc ∧ ∀ x ∈ acc, x.1 < 32 ∧ x.2 < 10) ?_ gFu f _ (by unfold gFu; omega) ⟨gOff.rf, rSame.rf, q, acc, hlen, hR, h, hA, hb⟩
  rintro f G1 ⟨hO, hr, q, acc, hlen, hR, h, hA, hb⟩
  unfold f_X0_readWords_b50
  simp only
  rw [hA.1]
  unfold ctn at hR
  by_cases hf0 : f = 0
  · rw [if_pos hf0] at hR
    rw [if_pos (show (4 : Int32) ≤ nI acc.length from nI_le (a := 4) (by omega) (by omega))]
    exact ⟨_, rfl, hO, hr, acc, q, hR, h, hA⟩
  · rw [if_neg hf0] at hR
    rw [if_neg (show ¬ (4 : Int32) ≤ nI acc.length from nI_ge (b := 4) (by omega) (by decide)), show (44 : Int32) = nI 44 from rfl, sign_ok ht h (by decide) (by decide), obind_some]
    have hle := skp_le h.2.2.2
    have hA' : ∀ q', xAc (xpl G1 q') a acc := fun q' => hA.off (Z := fun k _ => decide (k = 0)) (gOff.rf.S1 (by simp)) (fun k j x y => by simp; omega)
    by_cases h44 : ltr t (skp t q) = 44
    · rw [if_pos h44] at hR ⊢
      have hin := ht.in (p := skp t q) (by omega)
      obtain ⟨f, rfl⟩ : ∃ f', f = f' + 1 := ⟨f - 1, by omega⟩
      rw [slt_ctn] at hR
      simp only
      rw [if_neg (by decide)]
      have hc := cnd_ok ht (p := skp t q + 1) (by omega) (acc.map Prod.fst)
      refine Ok.bind (cand_ok ht (h.pl (show skp t q + 1 ≤ t.length by omega)) ha (hA' _) (by omega) hb) (fun r hr2 => ?_)
      obtain ⟨G2, b⟩ := r
      obtain ⟨hO2, hr2, hm⟩ := hr2
      simp only at hO2 hr2 hm ⊢
      have hOO : gOff (caZ a) G G2 := (hO.S1 (by simp [caZ])).tr hO2
      have hrr : rSame G G2 := (hr.S1).tr hr2
      cases hcd : cnd t (skp t q + 1) (acc.map Prod.fst) with
      | inl e =>
        rw [hcd] at hm hR
        simp only at hm hR
        rw [hm.1, if_pos rfl]
        exact ⟨_, rfl, rfl, hOO, hrr, e, hR, hm.2⟩
      | inr x =>
        obtain ⟨w, c, q2⟩ := x
        rw [hcd] at hm hR hc
        simp only at hm hR hc
        rw [hm.1, if_neg (by decide)]
        refine ⟨_, rfl, f, by omega, hOO, hrr, q2, acc ++ [(w, c)], ?_, hR, hm.2.1, hm.2.2, ?_⟩
        · rw [List.length_append, List.length_singleton]; omega
        · intro x hx
          rw [List.mem_append, List.mem_singleton] at hx
          rcases hx with hx | rfl
          · exact hb x hx
          · exact ⟨hc.1, hc.2.1⟩
    · rw [if_neg h44] at hR ⊢
      simp only
      rw [if_pos trivial]
      exact ⟨_, rfl, hO.S1 (by simp [caZ]), hr.S1, acc, skp t q, hR, h.pl hle, hA' _⟩
/-- what reading writes -/
def gtZ (k j : Nat) : Bool := decide ((58 ≤ k ∧ k < 84) ∨ (k = 0 ∧ j = 12) ∨ (k = 8 ∧ j = 6))
def gtP (G : gP) (sl : List (List (Nat × Nat))) : Prop := gS G 58 1 = nI sl.length ∧ ∀ i s, sl[i]? = some s → xAc G (sgO G 58 i) s
theorem gotL_ok {G : gP} {t : List Nat} {q0 : Nat} (ht : tok t) (hg : xSg G 58) (h : xTp G t q0) (h0 : gS G 58 1 = nI 0) : Ok (gloop (f_X0_readWords_b33) gFu (G, (1 : Int32))) (fun z => match z with
    | .inl G' => gOff gtZ G G' ∧ rSame G G' ∧ (∀ j, j ≠ 1 → gS G' 58 j = gS G 58 j) ∧ ∃ sl q, wds t 8 q0 [] = .inr (sl, q) ∧ xTp G' t q ∧ gtP G' sl
    | .inr r => r.2 = true ∧ gOff gtZ G r.1 ∧ rSame G r.1 ∧ ∃ e, wds t 8 q0 [] = .inl e ∧ gS r.1 8 6 = nI e) := by
  refine Ok.loop (fun f s => gOff gtZ G s.1 ∧ rSame G s.1 ∧ (∀ j, j ≠ 1 → gS s.1 58 j = gS G 58 j) ∧ ((f = 0 ∧ s.2 = 0 ∧ ∃ sl q, wds t 8 q0 [] = .inr (sl, q) ∧ xTp s.1 t q ∧ gtP s.1 sl) ∨ (0 < f ∧ s.2 = 1 ∧ ∃ p acc, acc.length + f = 8 ∧ wds t 8 q0 [] = wds t f p acc ∧ xTp s.1 t p ∧ gtP s.1 acc))) ?_ gFu 8 _ (by unfold gFu; omega) ⟨gOff.rf, rSame.rf, fun j _ => rfl, Or.inr ⟨by omega, rfl, q0, [], rfl, rfl, h, h0, fun i s hi => by cases hi⟩⟩
  rintro f ⟨G1, x⟩ ⟨hO, hr, h58, hJ⟩
  simp only at hO hr h58 hJ
  rcases hJ with ⟨rfl, rfl, sl, q, he, hT, hS⟩ | ⟨hf, rfl, p, acc, hlen, he, hT, hS⟩
  · unfold f_X0_readWords_b33
    simp only
    rw [if_pos trivial]
    exact ⟨_, rfl, hO, hr, h58, sl, q, he, hT, hS⟩
  · obtain ⟨f, rfl⟩ : ∃ f', f = f' + 1 := ⟨f - 1, by omega⟩
    have hg1 : xSg G1 58 := hg.same hr
    unfold f_X0_readWords_b33
    simp only
    rw [if_neg (by decide)]
    refine Ok.bind (come_ok (i := 1) (by omega) hg1 hS.1 (by omega)) (fun qq hq => ?_)
    obtain ⟨G2, a⟩ := qq
    obtain ⟨ea, hr2, hO2, h21, h22⟩ := hq
    simp only at ea hr2 hO2 h21 h22 ⊢
    have ea' : a = sgO G1 58 acc.length := ea
    subst ea'
    have rs := hg1.rng (j := acc.length) (by omega)
    have hT2 : xTp G2 t p := hT.off hO2 (fun k j hk => by simp; omega)
    have hA2 : xAc G2 (sgO G1 58 acc.length) [] := ⟨h22, fun j hj => by cases hj⟩
    have hc := cnd_ok ht hT2.2.2.2 []
    have hw : wds t (f + 1) p acc = match slt t 4 p [] with
      | .inl e => .inl e
      | .inr (s, q) => if f = 0 then .inr (acc ++ [s], q) else if ltr t (skp t q) = 59 then wds t f (skp t q + 1) (acc ++ [s]) else .inr (acc ++ [s], skp t q) := rfl
    have hs1 := slt_ctn t 3 p []
    refine Ok.bind (cand_ok ht hT2 (by omega) hA2 (by simp) (fun x hx => by cases hx)) (fun r hr3 => ?_)
    obtain ⟨G3, b⟩ := r
    obtain ⟨hO3, hr3, hm⟩ := hr3
    simp only at hO3 hr3 hm ⊢
    have hO13 : gOff (fun k j => decide ((sgO G1 58 acc.length ≤ k ∧ k ≤ sgO G1 58 acc.length + 2) ∨ (k = 58 ∧ j = 1) ∨ (k = 0 ∧ j = 12) ∨ (k = 8 ∧ j = 6))) G1 G3 := (hO2.w (fun k j z => by simp at z ⊢; omega)).tr (hO3.w (fun k j z => by simp [caZ] at z ⊢; omega))
    have hg13 : ∀ {G' : gP}, gOff (fun k j => decide ((sgO G1 58 acc.length ≤ k ∧ k ≤ sgO G1 58 acc.length + 2) ∨ (k = 58 ∧ j = 1) ∨ (k = 0 ∧ j = 12) ∨ (k = 8 ∧ j = 6))) G1 G' → gOff gtZ G G' := fun hx => hO.tr (hx.w (fun k j z => by simp [gtZ] at z ⊢; omega))
    have hr13 : rSame G1 G3 := hr2.tr hr3
    have e1 : ([] : List (Nat × Nat)).map Prod.fst = [] := rfl
    cases hcd : cnd t p [] with
    | inl e =>
      rw [e1, hcd] at hm hs1
      simp only at hm hs1
      rw [hs1] at hw
      simp only at hw
      rw [hm.1, if_pos rfl]
      exact ⟨_, rfl, rfl, hg13 hO13, hr.tr hr13, e, he.trans hw, hm.2⟩
    | inr x =>
      obtain ⟨w, c, q⟩ := x
      rw [e1, hcd] at hm hs1
      rw [hcd] at hc
      simp only at hm hs1 hc
      rw [hm.1, if_neg (by decide)]
      have hlo := slots_ok (G0 := G2) (a := sgO G1 58 acc.length) ht (by omega) (ctn t 3 q [(w, c)]) (f := 3) (acc := [(w, c)]) rfl rfl hm.2.1 hm.2.2 (fun x hx => by rw [List.mem_singleton] at hx; subst hx; exact ⟨hc.1, hc.2.1⟩)
      refine Ok.bind hlo (fun z hz => ?_)
      have hs2 : slt t (3 + 1) p [] = ctn t 3 q [(w, c)] := hs1
      rw [← hs2] at hz
      cases z with
      | inr r =>
        obtain ⟨G4, b4⟩ := r
        obtain ⟨hb4, hO4, hr4, e, hR, h86⟩ := hz
        simp only at hb4 hO4 hr4 h86
        rw [hR] at hw
        simp only at hw
        subst hb4
        show Ok (some (Sum.inr (Sum.inr (G4, true)))) _
        exact ⟨_, rfl, rfl, hg13 (hO13.tr (hO4.w (fun k j z => by simp [caZ] at z ⊢; omega))), hr.tr (hr13.tr hr4), e, he.trans hw, h86⟩
      | inl G4 =>
        obtain ⟨hO4, hr4, s, q2, hR, hT4, hA4⟩ := hz
        rw [hR] at hw
        simp only at hw
        have hO14 := hO13.tr (hO4.w (fun k j z => by simp [caZ] at z ⊢; omega))
        have hr14 : rSame G1 G4 := hr13.tr hr4
        have m58 : gS G4 58 1 = nI (acc.length + 1) := by rw [(hO4 58 1 (by simp [caZ]; omega)).1, (hO3 58 1 (by simp [caZ]; omega)).1]; exact h21
        have h58' : ∀ j, j ≠ 1 → gS G4 58 j = gS G 58 j := fun j hj => by rw [(hO14 58 j (by simp; omega)).1]; exact h58 j hj
        have hS4 : ∀ G5, gOff (fun k j => decide (k = 0 ∧ j = 12)) G4 G5 → rSame G4 G5 → gtP G5 (acc ++ [s]) := by
          intro G5 hO5 hr5
          refine ⟨by rw [(hO5 58 1 (by simp)).1, m58, List.length_append, List.length_singleton], fun i s' hi => ?_⟩
          rw [(hr14.tr hr5).sg]
          by_cases e : i = acc.length
          · subst e
            rw [List.getElem?_append_right (Nat.le_refl _), Nat.sub_self] at hi
            cases hi
            exact hA4.off hO5 (fun k j x y => by simp; omega)
          · have hil : i < acc.length := by have := (List.getElem?_eq_some_iff.mp hi).1; simp at this; omega
            rw [List.getElem?_append_left hil] at hi
            have ri := hg1.rng (j := i) (by omega)
            have hd : sgO G1 58 i ≠ sgO G1 58 acc.length := fun z => e (hg1.2 i acc.length (by omega) (by omega) z)
            exact ((hS.2 i s' hi).off hO14 (fun k j x y => by simp; omega)).off hO5 (fun k j x y => by simp; omega)
        show Ok (if (8 : Int32) ≤ gS G4 58 1 then some (Sum.inl (G4, (0 : Int32))) else (f_X0_isSign G4 59).bind fun q34 => if q34.2 = 0 then some (Sum.inl (q34.1, (0 : Int32))) else some (Sum.inl (q34.1, (1 : Int32)))) _
        rw [m58]
        by_cases hf0 : f = 0
        · rw [if_pos hf0] at hw
          rw [if_pos (show (8 : Int32) ≤ nI (acc.length + 1) from nI_le (a := 8) (by omega) (by omega))]
          exact ⟨_, rfl, 0, by omega, hg13 hO14, hr.tr hr14, h58', Or.inl ⟨rfl, rfl, _, _, he.trans hw, hT4, hS4 _ gOff.rf rSame.rf⟩⟩
        · rw [if_neg hf0] at hw
          rw [if_neg (show ¬ (8 : Int32) ≤ nI (acc.length + 1) from nI_ge (b := 8) (by omega) (by decide)), show (59 : Int32) = nI 59 from rfl, sign_ok ht hT4 (by decide) (by decide), obind_some]
          have hle4 := skp_le hT4.2.2.2
          have h58'' : ∀ q', ∀ j, j ≠ 1 → gS (xpl G4 q') 58 j = gS G 58 j := fun q' j hj => by
            show gS (gS1 G4 0 12 _) 58 j = _
            rw [gS_ne (by omega)]; exact h58' j hj
          by_cases h59 : ltr t (skp t q2) = 59
          · rw [if_pos h59] at hw ⊢
            have hin := ht.in (p := skp t q2) (by omega)
            simp only
            rw [if_neg (by decide)]
            refine ⟨_, rfl, f, by omega, (hg13 hO14).S1 (by simp [gtZ]), (hr.tr hr14).S1, h58'' _, Or.inr ⟨by omega, rfl, skp t q2 + 1, acc ++ [s], ?_, he.trans hw, hT4.pl (by omega), hS4 _ (gOff.rf.S1 (by simp)) (rSame.rf.S1)⟩⟩
            rw [List.length_append, List.length_singleton]; omega
          · rw [if_neg h59] at hw ⊢
            simp only
            rw [if_pos trivial]
            exact ⟨_, rfl, 0, by omega, (hg13 hO14).S1 (by simp [gtZ]), (hr.tr hr14).S1, h58'' _, Or.inl ⟨rfl, rfl, _, _, he.trans hw, hT4.pl hle4, hS4 _ (gOff.rf.S1 (by simp)) (rSame.rf.S1)⟩⟩
