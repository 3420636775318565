/-! the component reads a tape -/
def xTp (G : gP) (t : List Nat) (p : Nat) : Prop := gS G 0 11 = nI t.length ∧ gS G 0 12 = nI p ∧ aL G 9 0 t ∧ p ≤ t.length
def xpl (G : gP) (p : Nat) : gP := gS1 G 0 12 (nI p)
theorem xpl_xpl (G : gP) (p q : Nat) : xpl (xpl G p) q = xpl G q := gS1_1
theorem xTp.pl {G : gP} {t : List Nat} {p q : Nat} (h : xTp G t p) (hq : q ≤ t.length) : xTp (xpl G q) t q := ⟨by unfold xpl; rw [gS_ne (by decide)]; exact h.1, gS_at, h.2.2.1.S1 (Or.inl (by decide)), hq⟩
theorem xTp.id {G : gP} {t : List Nat} {p : Nat} (h : xTp G t p) : xpl G p = G := gS1_id h.2.1
theorem xTp.at {G : gP} {t : List Nat} {p : Nat} (h : xTp G t p) {j : Nat} (hj : j < t.length) : gS G 9 j = nI (ltr t j) := by
  have := h.2.2.1 j _ (ltr_at hj)
  rwa [Nat.zero_add] at this
theorem xTp.off {Z : Nat → Nat → Bool} {G G' : gP} {t : List Nat} {p : Nat} (h : xTp G t p) (hO : gOff Z G G') (z : ∀ k j, (k = 0 ∧ (j = 11 ∨ j = 12)) ∨ k = 9 → Z k j = false) : xTp G' t p :=
  ⟨by rw [(hO 0 11 (z _ _ (by omega))).1]; exact h.1, by rw [(hO 0 12 (z _ _ (by omega))).1]; exact h.2.1, fun j v hj => by rw [(hO 9 _ (z _ _ (by omega))).1]; exact h.2.2.1 j v hj, h.2.2.2⟩
/-- the letter here; -1: the end -/
def lI (t : List Nat) (q : Nat) : Int32 := if q < t.length then nI (ltr t q) else -1
theorem next_ok {G : gP} {t : List Nat} {p : Nat} (ht : tok t) (h : xTp G t p) : f_X0_nextLetter G = some (xpl G (skp t p), lI t (skp t p)) := by
  have hl := ht.1
  have hloop : Ok (gloop (f_X0_nextLetter_b0) gFu G) (fun G' => G' = xpl G (skp t p)) := by
    refine Ok.loop (fun n s => ∃ p', n + p' = t.length ∧ s = xpl G p' ∧ skp t p' = skp t p) ?_ gFu (t.length - p) _ (by unfold gFu; omega) ⟨p, by have := h.2.2.2; omega, h.id.symm, rfl⟩
    rintro n s ⟨p', hn, rfl, hs⟩
    have h' : xTp (xpl G p') t p' := h.pl (by omega)
    unfold f_X0_nextLetter_b0
    rw [h'.1, h'.2.1]
    cases n with
    | zero =>
      rw [if_pos (nI_le (by omega) (by omega))]
      refine ⟨_, rfl, ?_⟩
      simp only
      rw [← hs, skp_n (by rw [ltr_ge (by omega)]; decide)]
    | succ n =>
      have hlt := ht.lt p'
      rw [if_neg (nI_ge (by omega) (by omega)), gIn_t (by omega) (by omega), gck_t, nI_clamp (by omega), h'.at (by omega)]
      by_cases e : ltr t p' = 32
      · rw [e, if_pos (show nI 32 = 32 from rfl), nI_1]
        refine ⟨_, rfl, n, by omega, p' + 1, by omega, xpl_xpl G p' (p' + 1), ?_⟩
        rw [← skp_s (by omega) e]; exact hs
      · rw [if_neg (show ¬ nI (ltr t p') = 32 from fun z => e ((nI_eq (b := 32) (by omega) (by decide)).mp z))]
        refine ⟨_, rfl, ?_⟩
        simp only
        rw [← hs, skp_n e]
  obtain ⟨G', e, rfl⟩ := hloop
  unfold f_X0_nextLetter lI
  rw [e, obind_some]
  have hle := skp_le h.2.2.2
  have h' := h.pl hle
  rw [h'.1, h'.2.1]
  by_cases hq : skp t p < t.length
  · rw [if_neg (nI_ge hq (by omega)), if_pos hq, gIn_t (by omega) (by omega), gck_t, nI_clamp (by omega), h'.at hq]
  · rw [if_pos (nI_le (by omega) (by omega)), if_neg hq]
theorem lI_eq {t : List Nat} (ht : tok t) {q c : Nat} (hc0 : 0 < c) (hc : c < 2 ^ 31) : lI t q = nI c ↔ ltr t q = c := by
  unfold lI
  have hlt := ht.lt q
  by_cases hq : q < t.length
  · rw [if_pos hq, nI_eq (by omega) hc]
  · rw [if_neg hq, ltr_ge (by omega)]
    refine ⟨fun z => ?_, fun z => by omega⟩
    have := congrArg Int32.toInt z
    rw [nI_toInt hc] at this
    have e : ((-1 : Int32)).toInt = -1 := by decide
    omega
theorem sign_ok {G : gP} {t : List Nat} {p c : Nat} (ht : tok t) (h : xTp G t p) (hc0 : 0 < c) (hc : c < 2 ^ 31) : f_X0_isSign G (nI c) = some (if ltr t (skp t p) = c then (xpl G (skp t p + 1), 1) else (xpl G (skp t p), 0)) := by
  unfold f_X0_isSign
  rw [next_ok ht h, obind_some]
  have h' := h.pl (skp_le h.2.2.2)
  simp only
  by_cases e : ltr t (skp t p) = c
  · rw [if_pos ((lI_eq ht hc0 hc).mpr e), if_pos e]
    simp only [gLet_e]
    rw [h'.2.1, nI_1]
    show some (xpl (xpl G _) _, _) = _
    rw [xpl_xpl]
  · rw [if_neg (fun z => e ((lI_eq ht hc0 hc).mp z)), if_neg e]
theorem faulty_ok {G : gP} {t : List Nat} {e : Nat} (ht : tok t) (h : xTp G t e) (hs : skp t e = e) : f_X0_faulty G = some (gS1 G 8 6 (nI e)) := by
  unfold f_X0_faulty
  rw [next_ok ht h, hs, h.id, obind_some]
  simp only [gLet_e]
  rw [h.2.1]
theorem xisD_in {c : Nat} (h : c < 2 ^ 31) : f_X0_isIn (nI c).toInt64 48 57 = bI (isD c) := isD_in h
theorem figure_ok {G : gP} {t : List Nat} {p : Nat} (ht : tok t) (h : xTp G t p) : f_X0_isFigure G = some (bI (isD (ltr t p))) := by
  unfold f_X0_isFigure
  have hl := ht.1
  have hlt := ht.lt p
  have h2 := h.2.2.2
  rw [h.1, h.2.1]
  by_cases hp : p < t.length
  · rw [if_neg (nI_ge hp (by omega)), gIn_t (by omega) (by omega), gck_t, nI_clamp (by omega), h.at hp, xisD_in (by omega)]
    cases isD (ltr t p)
    · rw [if_pos (show bI false = 0 from rfl)]; rfl
    · rw [if_neg (show ¬ bI true = 0 by decide)]; rfl
  · rw [if_pos (nI_le (by omega) (by omega)), ltr_ge (by omega)]; rfl
theorem xwordOf_ok {t : List Nat} (ht : tok t) (q : Nat) : f_X0_wordOf (lI t q) = oW (ltW (ltr t q)) := by
  unfold lI
  have hlt := ht.lt q
  by_cases hq : q < t.length
  · rw [if_pos hq]
    exact letter_ok (by omega)
  · rw [if_neg hq, ltr_ge (by omega)]; decide
theorem xwordBy_ok {v : Nat} (h : v ≤ 99) : f_X0_wordBy (nI v) = oW (wBy v) := by
  unfold f_X0_wordBy
  rw [isIn_in, in_nI (by omega) 1 19 1 19 rfl rfl, in_nI (by omega) 20 90 20 90 rfl rfl, show (10 : Int32) = nI 10 from rfl, gRem_nI (by omega) (by decide) (by decide), pk_div (by omega) (by decide) (by decide)]
  unfold wBy
  by_cases h1 : 1 ≤ v ∧ v ≤ 19
  · rw [if_pos h1, if_neg (by decide), if_pos h1]; rfl
  · rw [if_neg h1, if_pos rfl, if_neg h1]
    by_cases h3 : v % 10 = 0
    · rw [if_pos ((nI_eq0 (by omega)).mpr h3)]
      by_cases h2 : 20 ≤ v ∧ v ≤ 90
      · rw [if_pos h2, if_neg (by decide), if_pos ⟨h2.1, h3⟩, Nat.add_comm 18]; exact nI_add _ 18
      · rw [if_neg h2, if_pos rfl, if_neg (fun z => h2 ⟨z.1, by omega⟩)]; rfl
    · rw [if_neg (fun z => h3 ((nI_eq0 (by omega)).mp z)), if_neg (fun z => h3 z.2)]; rfl
/-- figures here -/
theorem number2_ok {G : gP} {t : List Nat} {q : Nat} (ht : tok t) (h : xTp G t q) (hd : isD (ltr t q) = true) : f_X0_readNumber G = some (if isD (ltr t (q + 1)) = true then (xpl G (q + 2), nI (10 * (ltr t q - 48) + (ltr t (q + 1) - 48))) else (xpl G (q + 1), nI (ltr t q - 48))) := by
  have hl := ht.1
  have b1 := (isD_iff _).mp hd
  have hqi := ht.in (p := q) (by omega)
  have h1 : xTp (xpl G (q + 1)) t (q + 1) := h.pl (by omega)
  have hz : nI (ltr t q - 48) = (10 : Int32) * 0 + nI (ltr t q) - 48 := by
    rw [show (10 : Int32) * 0 = nI 0 from rfl, nI_add, Nat.zero_add, show (48 : Int32) = nI 48 from rfl, pk_sub b1.1]
  have f : gFu = (gFu - 3) + 1 + 1 + 1 := by unfold gFu; rfl
  have s0 : f_X0_readNumber_b4 (G, (0 : Int32), (0 : Int32)) = some (Sum.inl (xpl G (q + 1), nI (ltr t q - 48), nI 1)) := by
    unfold f_X0_readNumber_b4
    simp only
    rw [if_neg (by decide), figure_ok ht h, hd, obind_some, if_neg (show ¬ bI true = 0 by decide), h.2.1, gIn_t (by omega) (by omega), gck_t, nI_clamp (by omega), h.at hqi, nI_1, ← hz]
    rfl
  unfold f_X0_readNumber
  cases hd2 : isD (ltr t (q + 1)) with
  | false =>
    have s1 : f_X0_readNumber_b4 (xpl G (q + 1), nI (ltr t q - 48), nI 1) = some (Sum.inr (xpl G (q + 1), nI (ltr t q - 48))) := by
      unfold f_X0_readNumber_b4
      simp only
      rw [if_neg (show ¬ (2 : Int32) ≤ nI 1 by decide), figure_ok ht h1, hd2, obind_some, if_pos (show bI false = 0 from rfl)]
    have : gloop (f_X0_readNumber_b4) gFu (G, (0 : Int32), (0 : Int32)) = some (xpl G (q + 1), nI (ltr t q - 48)) := by
      rw [f]
      show (f_X0_readNumber_b4 (G, (0 : Int32), (0 : Int32))).bind _ = _
      rw [s0, obind_some]
      show gloop (f_X0_readNumber_b4) ((gFu - 3) + 1 + 1) (xpl G (q + 1), nI (ltr t q - 48), nI 1) = _
      show (f_X0_readNumber_b4 (xpl G (q + 1), nI (ltr t q - 48), nI 1)).bind _ = _
      rw [s1]; rfl
    rw [this, if_neg (by decide)]; rfl
  | true =>
    have b2 := (isD_iff _).mp hd2
    have hqi2 := ht.in (p := q + 1) (by omega)
    have s1 : f_X0_readNumber_b4 (xpl G (q + 1), nI (ltr t q - 48), nI 1) = some (Sum.inl (xpl G (q + 2), nI (10 * (ltr t q - 48) + (ltr t (q + 1) - 48)), nI 2)) := by
      unfold f_X0_readNumber_b4
      simp only
      rw [if_neg (show ¬ (2 : Int32) ≤ nI 1 by decide), figure_ok ht h1, hd2, obind_some, if_neg (show ¬ bI true = 0 by decide), h1.2.1, gIn_t (by omega) (by omega), gck_t, nI_clamp (by omega), h1.at hqi2, nI_1, nI_1]
      simp only [gLet_e]
      have e2 : (10 : Int32) * nI (ltr t q - 48) + nI (ltr t (q + 1)) - 48 = nI (10 * (ltr t q - 48) + (ltr t (q + 1) - 48)) := by
        rw [show (10 : Int32) = nI 10 from rfl, pk_mul, nI_add, show (48 : Int32) = nI 48 from rfl, pk_sub (by omega)]
        apply nI_inj; omega
      rw [e2]
      show some (Sum.inl (xpl (xpl G (q + 1)) (q + 2), _, _)) = _
      rw [xpl_xpl]
    have s2 : ∀ v : Int32, f_X0_readNumber_b4 (xpl G (q + 2), v, nI 2) = some (Sum.inr (xpl G (q + 2), v)) := fun v => by
      unfold f_X0_readNumber_b4
      simp only
      rw [if_pos (show (2 : Int32) ≤ nI 2 by decide)]
    have : gloop (f_X0_readNumber_b4) gFu (G, (0 : Int32), (0 : Int32)) = some (xpl G (q + 2), nI (10 * (ltr t q - 48) + (ltr t (q + 1) - 48))) := by
      rw [f]
      show (f_X0_readNumber_b4 (G, (0 : Int32), (0 : Int32))).bind _ = _
      rw [s0, obind_some]
      show (f_X0_readNumber_b4 (xpl G (q + 1), nI (ltr t q - 48), nI 1)).bind _ = _
      rw [s1, obind_some]
      show (f_X0_readNumber_b4 (xpl G (q + 2), _, nI 2)).bind _ = _
      rw [s2]; rfl
    rw [this, if_pos rfl]; rfl
theorem xreadWord_ok {G : gP} {t : List Nat} {p : Nat} (ht : tok t) (h : xTp G t p) : match rdW t (skp t p) with
    | none => ∃ q', f_X0_readWord G = some (xpl G q', -4)
    | some (w, q') => f_X0_readWord G = some (xpl G q', nI w) := by
  have hle := skp_le h.2.2.2
  have h' := h.pl hle
  have hlt := ht.lt (skp t p)
  have hun : f_X0_readWord G = gLet (oW (ltW (ltr t (skp t p)))) fun x3 => if x3 < 0 then (if bI (isD (ltr t (skp t p))) = 0 then some (xpl G (skp t p), (-4 : Int32)) else (f_X0_readNumber (xpl G (skp t p))).bind fun q10 => some (q10.1, f_X0_wordBy q10.2)) else gLet (gS1 (xpl G (skp t p)) 0 12 ((gS (xpl G (skp t p)) 0 12) + (1 : Int32))) fun G12 => some (G12, x3) := by
    unfold f_X0_readWord
    rw [next_ok ht h, obind_some]
    simp only
    rw [xwordOf_ok ht, figure_ok ht h']
    rfl
  rw [hun]
  simp only [gLet_e]
  unfold rdW
  cases hd : isD (ltr t (skp t p)) with
  | false =>
    rw [if_neg (by decide)]
    cases hw : ltW (ltr t (skp t p)) with
    | none =>
      refine ⟨skp t p, ?_⟩
      rw [if_pos (show oW none < 0 by decide), if_pos (show bI false = 0 from rfl)]
    | some w =>
      have hwl := ltW_lt hw
      show (if nI w < 0 then _ else _) = _
      rw [if_neg (nI_pos (by omega)), h'.2.1, nI_1]
      show some (xpl (xpl G (skp t p)) (skp t p + 1), _) = _
      rw [xpl_xpl]; rfl
  | true =>
    have b1 := (isD_iff _).mp hd
    rw [if_pos rfl]
    have hw : ltW (ltr t (skp t p)) = none := by
      unfold ltW
      rw [if_neg (by omega), if_neg (by omega), if_neg (by omega), if_neg (by omega), if_neg (by omega)]
    rw [hw, if_pos (show oW none < 0 by decide), if_neg (show ¬ bI true = 0 by decide), number2_ok ht h' hd, obind_some]
    cases hd2 : isD (ltr t (skp t p + 1)) with
    | false =>
      rw [if_neg (by decide), if_neg (by decide), xpl_xpl]
      simp only
      rw [xwordBy_ok (by omega)]
      cases wBy (ltr t (skp t p) - 48) with
      | none => exact ⟨_, rfl⟩
      | some w => rfl
    | true =>
      have b2 := (isD_iff _).mp hd2
      rw [if_pos rfl, if_pos rfl, xpl_xpl]
      simp only
      rw [xwordBy_ok (by omega)]
      cases wBy (10 * (ltr t (skp t p) - 48) + (ltr t (skp t p + 1) - 48)) with
      | none => exact ⟨_, rfl⟩
      | some w => rfl
