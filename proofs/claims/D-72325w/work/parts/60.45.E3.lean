/-! the Model reads a tape -/
def mTp (G : gP) (t : List Nat) (p : Nat) : Prop := gS G 0 23 = nI t.length ∧ gS G 0 24 = nI p ∧ aL G 11 0 t ∧ p ≤ t.length
def plc (G : gP) (p : Nat) : gP := gS1 G 0 24 (nI p)
theorem pl_pl (G : gP) (p q : Nat) : plc (plc G p) q = plc G q := gS1_1
theorem mTp.pl {G : gP} {t : List Nat} {p q : Nat} (h : mTp G t p) (hq : q ≤ t.length) : mTp (plc G q) t q := ⟨by unfold plc; rw [gS_ne (by decide)]; exact h.1, gS_at, h.2.2.1.S1 (Or.inl (by decide)), hq⟩
theorem mTp.id {G : gP} {t : List Nat} {p : Nat} (h : mTp G t p) : plc G p = G := gS1_id h.2.1
theorem mTp.at {G : gP} {t : List Nat} {p : Nat} (h : mTp G t p) {j : Nat} (hj : j < t.length) : gS G 11 j = nI (ltr t j) := by
  have := h.2.2.1 j _ (ltr_at hj)
  rwa [Nat.zero_add] at this
theorem here_ok {G : gP} {t : List Nat} {p : Nat} (ht : tok t) (h : mTp G t p) : f_X11_here G = some (plc G (skp t p), nI (ltr t (skp t p))) := by
  have hl := ht.1
  have hloop : Ok (gloop (f_X11_here_b0) gFu G) (fun G' => G' = plc G (skp t p)) := by
    refine Ok.loop (fun n s => ∃ p', n + p' = t.length ∧ s = plc G p' ∧ skp t p' = skp t p) ?_ gFu (t.length - p) _ (by unfold gFu; omega) ⟨p, by have := h.2.2.2; omega, h.id.symm, rfl⟩
    rintro n s ⟨p', hn, rfl, hs⟩
    have h' : mTp (plc G p') t p' := h.pl (by omega)
    unfold f_X11_here_b0
    rw [h'.1, h'.2.1]
    cases n with
    | zero =>
      rw [if_pos (nI_le (by omega) (by omega))]
      refine ⟨_, rfl, ?_⟩
      simp only
      rw [← hs, skp_n (by rw [ltr_ge (by omega)]; decide)]
    | succ n =>
      have hlt := ht.lt p'
      rw [if_neg (nI_ge (by omega) (by omega)), gIn_t (by omega) (by omega), gck_t, nI_clamp (by omega), h'.at (by omega)]
      by_cases e : ltr t p' = 32
      · rw [e, if_pos (show nI 32 = 32 from rfl), nI_1]
        refine ⟨_, rfl, n, by omega, p' + 1, by omega, pl_pl G p' (p' + 1), ?_⟩
        rw [← skp_s (by omega) e]; exact hs
      · rw [if_neg (show ¬ nI (ltr t p') = 32 from fun z => e ((nI_eq (b := 32) (by omega) (by decide)).mp z))]
        refine ⟨_, rfl, ?_⟩
        simp only
        rw [← hs, skp_n e]
  obtain ⟨G', e, rfl⟩ := hloop
  unfold f_X11_here
  rw [e, obind_some]
  have hle := skp_le h.2.2.2
  have h' := h.pl hle
  rw [h'.1, h'.2.1]
  by_cases hq : skp t p < t.length
  · rw [if_neg (nI_ge hq (by omega)), gIn_t (by omega) (by omega), gck_t, nI_clamp (by omega), h'.at hq]
  · rw [if_pos (nI_le (by omega) (by omega)), ltr_ge (by omega)]; rfl
theorem has_ok {G : gP} {t : List Nat} {p c : Nat} (ht : tok t) (h : mTp G t p) (hc : c < 2 ^ 31) : f_X11_has G (nI c) = some (if ltr t (skp t p) = c then (plc G (skp t p + 1), 1) else (plc G (skp t p), 0)) := by
  unfold f_X11_has
  rw [here_ok ht h, obind_some]
  have hlt := ht.lt (skp t p)
  have h' := h.pl (skp_le h.2.2.2)
  simp only
  by_cases e : ltr t (skp t p) = c
  · rw [if_pos (nI_inj e), if_pos e]
    simp only [gLet_e]
    rw [h'.2.1, nI_1]
    show some (plc (plc G _) _, _) = _
    rw [pl_pl]
  · rw [if_neg (fun z => e ((nI_eq (by omega) hc).mp z)), if_neg e]
theorem isD_in {c : Nat} (h : c < 2 ^ 31) : f_X11_in (nI c).toInt64 48 57 = bI (isD c) := by
  rw [in_nI h 48 57 48 57 rfl rfl]
  by_cases e : 48 ≤ c ∧ c ≤ 57
  · rw [if_pos e, (isD_iff c).mpr e]; rfl
  · rw [if_neg e]
    cases he : isD c
    · rfl
    · exact (e ((isD_iff c).mp he)).elim
def oW (o : Option Nat) : Int32 := match o with
  | none => -4
  | some w => nI w
theorem letter_ok {c : Nat} (h : c ≤ 126) : f_X11_letterWord (nI c) = oW (ltW c) := by
  unfold f_X11_letterWord ltW
  have k : ∀ a : Nat, a < 2 ^ 31 → (nI c = nI a ↔ c = a) := fun a ha => nI_eq (by omega) ha
  rw [show (104 : Int32) = nI 104 from rfl, show (116 : Int32) = nI 116 from rfl, show (97 : Int32) = nI 97 from rfl, show (115 : Int32) = nI 115 from rfl, show (110 : Int32) = nI 110 from rfl]
  simp only [k 104 (by decide), k 116 (by decide), k 97 (by decide), k 115 (by decide), k 110 (by decide)]
  by_cases h1 : c = 104
  · rw [if_pos h1, if_pos h1]; rfl
  rw [if_neg h1, if_neg h1]
  by_cases h2 : c = 116
  · rw [if_pos h2, if_pos h2]; rfl
  rw [if_neg h2, if_neg h2]
  by_cases h3 : c = 97
  · rw [if_pos h3, if_pos h3]; rfl
  rw [if_neg h3, if_neg h3]
  by_cases h4 : c = 115
  · rw [if_pos h4, if_pos h4]; rfl
  rw [if_neg h4, if_neg h4]
  by_cases h5 : c = 110
  · rw [if_pos h5, if_pos h5]; rfl
  rw [if_neg h5, if_neg h5]; rfl
theorem wBy_ok {v : Nat} (h : v ≤ 99) : (if f_X11_in (nI v).toInt64 1 19 = 0 then if nI v ≤ 19 then (-4 : Int32) else if gRem (nI v) 10 = 0 then 18 + nI v / 10 else -4 else nI v) = oW (wBy v) := by
  rw [in_nI (by omega) 1 19 1 19 rfl rfl, show (10 : Int32) = nI 10 from rfl, gRem_nI (by omega) (by decide) (by decide), pk_div (by omega) (by decide) (by decide)]
  unfold wBy
  by_cases h1 : 1 ≤ v ∧ v ≤ 19
  · rw [if_pos h1, if_neg (by decide), if_pos h1]; rfl
  · rw [if_neg h1, if_pos rfl, if_neg h1]
    by_cases h2 : v ≤ 19
    · rw [if_pos (show nI v ≤ 19 from nI_le (b := 19) h2 (by decide)), if_neg (by omega)]; rfl
    · rw [if_neg (show ¬ nI v ≤ 19 from nI_ge (a := 19) (by omega) (by omega))]
      by_cases h3 : v % 10 = 0
      · rw [if_pos ((nI_eq0 (by omega)).mpr h3), if_pos ⟨by omega, h3⟩]; exact nI_add 18 _
      · rw [if_neg (fun z => h3 ((nI_eq0 (by omega)).mp z)), if_neg (fun z => h3 z.2)]; rfl
/-- what reading a word leaves -/
def wrR (G : gP) (q : Nat) (o : Option (Nat × Nat)) : gP × Int32 := match o with
  | none => (plc G q, -4)
  | some (w, q') => (plc G q', nI w)
theorem nI_m4 {w : Nat} (h : w < 2 ^ 31) : ¬ nI w = -4 := fun z => by
  have := congrArg Int32.toInt z
  rw [nI_toInt h] at this
  have e : ((-4 : Int32)).toInt = -4 := by decide
  omega
theorem wordRead_ok {G : gP} {t : List Nat} {p : Nat} (ht : tok t) (h : mTp G t p) : f_X11_wordRead G = some (wrR G (skp t p) (rdW t (skp t p))) := by
  unfold f_X11_wordRead
  have hle := skp_le h.2.2.2
  have hl := ht.1
  have h' := h.pl hle
  rw [here_ok ht h, obind_some]
  simp only
  generalize hq : skp t p = q at *
  have hqq : skp t q = q := by rw [← hq]; exact skp_id t p
  have hlt := ht.lt q
  rw [isD_in (by omega)]
  unfold rdW
  cases hd : isD (ltr t q) with
  | false =>
    rw [if_pos (show bI false = 0 from rfl), if_neg (by decide), here_ok ht h', hqq, pl_pl, obind_some]
    simp only [gLet_e]
    rw [letter_ok (by omega), h'.2.1]
    cases hw : ltW (ltr t q) with
    | none =>
      show some (gS1 (plc G q) 0 24 (nI q + (if (-4 : Int32) = -4 then 0 else 1)), (-4 : Int32)) = some (plc G q, -4)
      rw [if_pos rfl, show nI q + 0 = nI q from nI_add q 0]
      show some (plc (plc G q) q, _) = _
      rw [pl_pl]
    | some w =>
      have hwl := ltW_lt hw
      show some (gS1 (plc G q) 0 24 (nI q + (if nI w = -4 then 0 else 1)), nI w) = some (plc G (q + 1), nI w)
      rw [if_neg (nI_m4 (by omega)), nI_1]
      show some (plc (plc G q) (q + 1), _) = _
      rw [pl_pl]
  | true =>
    have b1 := (isD_iff _).mp hd
    have hqi := ht.in (p := q) (by omega)
    rw [if_neg (show ¬ bI true = 0 by decide), if_pos rfl]
    simp only [gLet_e]
    rw [h'.2.1, gIn_t (by omega) (by omega), gck_t, nI_clamp (by omega), h'.at hqi, show nI (ltr t q) - 48 = nI (ltr t q - 48) from pk_sub (b := 48) b1.1, nI_1]
    have h2 : mTp (plc G (q + 1)) t (q + 1) := h.pl (by omega)
    have e1 : gS1 (plc G q) 0 24 (nI (q + 1)) = plc G (q + 1) := pl_pl G q (q + 1)
    rw [e1, h2.1, h2.2.1]
    have fin : ∀ v q', v ≤ 99 → (if (if f_X11_in (nI v).toInt64 1 19 = 0 then if nI v ≤ 19 then (-4 : Int32) else if gRem (nI v) 10 = 0 then 18 + nI v / 10 else -4 else nI v) = -4 then some (gS1 (plc G q') 0 24 (nI q), (if f_X11_in (nI v).toInt64 1 19 = 0 then if nI v ≤ 19 then (-4 : Int32) else if gRem (nI v) 10 = 0 then 18 + nI v / 10 else -4 else nI v)) else some (gS1 (plc G q') 0 24 (gS (plc G q') 0 24), (if f_X11_in (nI v).toInt64 1 19 = 0 then if nI v ≤ 19 then (-4 : Int32) else if gRem (nI v) 10 = 0 then 18 + nI v / 10 else -4 else nI v))) = some (wrR G q ((wBy v).map (fun w => (w, q')))) := by
      intro v q' hv
      rw [wBy_ok hv]
      cases hw : wBy v with
      | none =>
        show (if (-4 : Int32) = -4 then some (gS1 (plc G q') 0 24 (nI q), (-4 : Int32)) else _) = some (plc G q, -4)
        rw [if_pos rfl]
        show some (plc (plc G q') q, _) = _
        rw [pl_pl]
      | some w =>
        have hwl := wBy_lt hv hw
        show (if nI w = -4 then _ else some (gS1 (plc G q') 0 24 (gS (plc G q') 0 24), nI w)) = some (plc G q', nI w)
        rw [if_neg (nI_m4 (by omega)), gS1_id rfl]
    by_cases hlast : q + 1 < t.length
    · have hlt2 := ht.lt (q + 1)
      rw [if_neg (nI_ge hlast (by omega)), gIn_t (by omega) (by omega), gck_t, nI_clamp (by omega), h2.at hlast, isD_in (by omega)]
      cases hd2 : isD (ltr t (q + 1)) with
      | false =>
        rw [if_pos (show bI false = 0 from rfl), if_neg (by decide), obind_some]
        exact fin _ _ (by omega)
      | true =>
        have b2 := (isD_iff _).mp hd2
        rw [if_neg (show ¬ bI true = 0 by decide), if_pos rfl, gck_t]
        have e2 : (10 : Int32) * nI (ltr t q - 48) + nI (ltr t (q + 1)) - 48 = nI (10 * (ltr t q - 48) + (ltr t (q + 1) - 48)) := by
          rw [show (10 : Int32) = nI 10 from rfl, pk_mul, nI_add, show (48 : Int32) = nI 48 from rfl, pk_sub (by omega)]
          apply nI_inj; omega
        rw [e2, nI_1, obind_some]
        have e3 : gS1 (plc G (q + 1)) 0 24 (nI (q + 1 + 1)) = plc G (q + 2) := pl_pl G (q + 1) (q + 2)
        rw [e3]
        exact fin _ _ (by omega)
    · rw [if_pos (nI_le (by omega) (by omega)), obind_some]
      have : isD (ltr t (q + 1)) = false := by rw [ltr_ge (by omega)]; rfl
      rw [this, if_neg (show ¬ false = true by decide)]
      exact fin (ltr t q - 48) (q + 1) (by omega)
