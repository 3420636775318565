/-! the ears -/
def xEr (G : gP) (k : Nat) (e : Er) : Prop := gS G k 0 = nI e.1 ∧ gS G k 1 = nI e.2.1 ∧ gS G k 2 = nI e.2.2.1 ∧ gS G k 3 = nI e.2.2.2.2.length ∧ gS G k 4 = bI e.2.2.2.1
/-- how far an ear behind so many words may be -/
def eG (e : Er) (k : Nat) : Prop := e.1 < 7 ∧ e.2.2.2.2.length + (if e.1 = 0 then 0 else 1) ≤ k
theorem eEnd_iff (e : Er) : eEnd e = true ↔ e.1 ≠ 0 ∧ e.1 ≠ 5 := by unfold eEnd; simp
theorem eStep_G {e e' : Er} {w k : Nat} (h : eG e k) (hs : eStep e w = some e') : eG e' (k + 1) ∧ e.2.2.2.2 <+: e'.2.2.2.2 := by
  obtain ⟨ph, sm, gr, th, ns⟩ := e
  obtain ⟨h1, h2⟩ := h
  simp only at h1 h2
  unfold eStep at hs
  simp only at hs
  by_cases w0 : w = 0
  · rw [if_pos w0] at hs; cases hs
    exact ⟨⟨h1, by simp only; omega⟩, List.prefix_rfl⟩
  rw [if_neg w0] at hs
  by_cases w28 : w = 28
  · rw [if_pos w28] at hs
    by_cases hp : ph = 1
    · rw [if_pos hp] at hs; cases hs
      rw [hp, if_neg (by decide)] at h2
      exact ⟨⟨by simp only; omega, by simp only; split <;> omega⟩, List.prefix_rfl⟩
    · rw [if_neg hp] at hs; cases hs
  rw [if_neg w28] at hs
  have hle : ns.length ≤ k := by omega
  by_cases w29 : w = 29
  · rw [if_pos w29] at hs
    split at hs
    · cases hs
      exact ⟨⟨by simp only; omega, by simp only; split <;> omega⟩, List.prefix_rfl⟩
    · cases hs
  rw [if_neg w29] at hs
  by_cases w30 : w = 30
  · rw [if_pos w30] at hs
    split at hs
    · cases hs
      exact ⟨⟨by simp only; omega, by simp only; split <;> omega⟩, List.prefix_rfl⟩
    · cases hs
  rw [if_neg w30] at hs
  by_cases w31 : w = 31
  · rw [if_pos w31] at hs
    split at hs
    · rename_i he
      have he' := ((eEnd_iff _).mp he).1
      simp only at he'
      rw [if_neg he'] at h2
      cases hs
      exact ⟨⟨by simp only; omega, by simp only [if_true, List.length_append, List.length_singleton]; omega⟩, List.prefix_append _ _⟩
    · cases hs
  rw [if_neg w31] at hs
  split at hs
  · cases hs
    refine ⟨⟨?_, ?_⟩, List.prefix_rfl⟩
    · simp only; split
      · decide
      · split <;> decide
    · simp only
      have : ∀ x : Nat, (if x = 0 then 0 else 1) ≤ 1 := fun x => by split <;> omega
      have := this (if (ph = 0 ∨ ph = 6) ∧ eU w = true then 1 else if 20 ≤ w then 2 else 3)
      omega
  · cases hs
theorem xEr.off {Z : Nat → Nat → Bool} {G G' : gP} {k : Nat} {e : Er} (h : xEr G k e) (hO : gOff Z G G') (hz : ∀ j, Z k j = false) : xEr G' k e := by
  obtain ⟨a, b, c, d, f⟩ := h
  refine ⟨?_, ?_, ?_, ?_, ?_⟩
  · rw [(hO k _ (hz _)).1]; exact a
  · rw [(hO k _ (hz _)).1]; exact b
  · rw [(hO k _ (hz _)).1]; exact c
  · rw [(hO k _ (hz _)).1]; exact d
  · rw [(hO k _ (hz _)).1]; exact f
theorem beg_ok (G : gP) (k : Nat) : Ok (f_X10_begin G k) (fun G' => gOff (fun a _ => decide (a = k)) G G' ∧ rSame G G' ∧ xEr G' k e0) := by
  unfold f_X10_begin
  simp only [gLet]
  refine ⟨_, rfl, ((((gOff.rf.S1 ?_).S1 ?_).S1 ?_).S1 ?_).S1 ?_, ((((rSame.rf.S1).S1).S1).S1).S1, ?_, ?_, ?_, ?_, ?_⟩
  · simp
  · simp
  · simp
  · simp
  · simp
  all_goals (simp only [gS_S1]; simp (config := { decide := true }) only [true_and, if_false, if_true]; try rfl)
theorem takeFrom_ok {G : gP} {k a : Nat} {e : Er} (h : xEr G a e) (hne : a ≠ k) : Ok (f_X10_takeFrom G k a) (fun G' => gOff (fun x _ => decide (x = k)) G G' ∧ rSame G G' ∧ xEr G' k e) := by
  obtain ⟨h0, h1, h2, h3, h4⟩ := h
  unfold f_X10_takeFrom
  simp only [gLet_e]
  have n : ∀ (X : gP) (i j : Nat) (v : Int32), gS (gS1 X k i v) a j = gS X a j := fun X i j v => gS_ne (fun z => hne z.1)
  simp only [n, h0, h1, h2, h3, h4, bI_Z, gck_t]
  refine ⟨_, rfl, ((((gOff.rf.S1 ?_).S1 ?_).S1 ?_).S1 ?_).S1 ?_, ((((rSame.rf.S1).S1).S1).S1).S1, ?_, ?_, ?_, ?_, ?_⟩
  · simp
  · simp
  · simp
  · simp
  · simp
  all_goals (simp only [gS_S1]; simp (config := { decide := true }) only [true_and, if_false, if_true])
theorem goOn_ok (G : gP) (k : Nat) (b : Bool) (p v : Int32) : f_X10_goOn G k (bI b) p v = some (if b = true then gS1 (gS1 G k 0 p) k 1 v else G, bI b) := by
  cases b
  · unfold f_X10_goOn
    rw [if_pos (by decide)]
    rfl
  · unfold f_X10_goOn
    rw [if_neg (by decide)]
    rfl
theorem unit_I {w : Nat} (h : w < 32) : f_X0_isUnit (nI w) = bI (eU w) := by
  unfold f_X0_isUnit
  rw [isIn_in, in_nI (by omega) 1 9 1 9 rfl rfl]
  by_cases h1 : 1 ≤ w ∧ w ≤ 9
  · rw [if_pos h1, (eU_iff w).mpr h1]; rfl
  · rw [if_neg h1]
    cases he : eU w
    · rfl
    · exact (h1 ((eU_iff w).mp he)).elim
theorem worth_I {w : Nat} (h0 : 0 < w) (h : w < 28) : xWorth w = nI (wo w) := by
  unfold xWorth wo
  by_cases h1 : w < 20
  · rw [if_pos h1, if_pos h1]
  · rw [if_neg h1, if_neg h1, if_pos h, if_pos h]
    apply nI_inj
    omega
theorem ite_I {a b : Nat} (ha : a < 2 ^ 31) (hb : b < 2 ^ 31) : (if nI a = nI b then (1 : Int32) else 0) = bI (decide (a = b)) := by
  by_cases h : a = b
  · rw [if_pos (nI_inj h), decide_eq_true h]; rfl
  · rw [if_neg (fun z => h ((nI_eq ha hb).mp z)), decide_eq_false h]; rfl
theorem mayEnd_I {G : gP} {k : Nat} {e : Er} (h : xEr G k e) (hp : e.1 < 7) : f_X10_mayEnd G k = bI (eEnd e) := by
  unfold f_X10_mayEnd
  rw [h.1]
  by_cases h0 : e.1 = 0
  · rw [h0, if_pos (show nI 0 = 0 from rfl)]
    have : eEnd e = false := by unfold eEnd; simp [h0]
    rw [this]; rfl
  · rw [if_neg (nI_ne0 (by omega) (by omega))]
    by_cases h5 : e.1 = 5
    · rw [h5, if_pos (show nI 5 = 5 from rfl)]
      have : eEnd e = false := by unfold eEnd; simp [h5]
      rw [this]; rfl
    · rw [if_neg (show ¬ nI e.1 = 5 from fun z => h5 ((nI_eq (b := 5) (by omega) (by decide)).mp z)), (eEnd_iff e).mpr ⟨h0, h5⟩]; rfl
/-- what an ear does with a word -/
def hrP (G : gP) (k : Nat) (e : Er) (w : Nat) (q : gP × Int32) : Prop :=
  gOff (fun a j => decide (a = k ∨ (a = 2 ∧ e.2.2.2.2.length ≤ j))) G q.1 ∧ rSame G q.1 ∧
  (match eStep e w with
   | none => q.2 = 0
   | some e' => q.2 = 1 ∧ xEr q.1 k e' ∧ aL q.1 2 0 e'.2.2.2.2)
theorem goOn_P {G G0 : gP} {k : Nat} {e : Er} {w : Nat} {b : Bool} {p v : Nat} (h3 : gS G k 3 = nI e.2.2.2.2.length) (hk : k ≠ 2) (ha : aL G 2 0 e.2.2.2.2) (hO : gOff (fun a j => decide (a = k ∨ (a = 2 ∧ e.2.2.2.2.length ≤ j))) G0 G) (hr : rSame G0 G) {g : Nat} {t : Bool} (hg : b = true → gS G k 2 = nI g ∧ gS G k 4 = bI t) (hs : eStep e w = if b = true then some ⟨p, v, g, t, e.2.2.2.2⟩ else none) :
    Ok ((f_X10_goOn G k (bI b) (nI p) (nI v)).bind fun q => some (q.1, q.2)) (hrP G0 k e w) := by
  rw [goOn_ok]
  refine ⟨_, rfl, ?_⟩
  unfold hrP
  rw [hs]
  cases b
  · exact ⟨hO, hr, rfl⟩
  · obtain ⟨g1, g2⟩ := hg rfl
    simp only [if_true]
    refine ⟨(hO.S1 (by simp)).S1 (by simp), (hr.S1).S1, rfl, ⟨?_, ?_, ?_, ?_, ?_⟩, ?_⟩
    · rw [gS_ne (by omega), gS_at]
    · rw [gS_at]
    · rw [gS_ne (by omega), gS_ne (by omega)]; exact g1
    · rw [gS_ne (by omega), gS_ne (by omega)]; exact h3
    · rw [gS_ne (by omega), gS_ne (by omega)]; exact g2
    · exact (ha.S1 (Or.inl hk)).S1 (Or.inl hk)
theorem end_ok {G : gP} {k : Nat} {e : Er} (h : xEr G k e) (hk : k ≠ 2) (ha : aL G 2 0 e.2.2.2.2) (h8 : e.2.2.2.2.length < 8) : Ok (f_X10_end G k) (fun G' => gOff (fun a j => decide (a = k ∨ (a = 2 ∧ e.2.2.2.2.length ≤ j))) G G' ∧ rSame G G' ∧ xEr G' k ⟨0, 0, 0, false, e.2.2.2.2 ++ [e.2.2.1 + e.2.1]⟩ ∧ aL G' 2 0 (e.2.2.2.2 ++ [e.2.2.1 + e.2.1])) := by
  obtain ⟨ph, sm, gr, th, ns⟩ := e
  obtain ⟨h0, h1, h2, h3, h4⟩ := h
  simp only at h0 h1 h2 h3 h4 ha h8 ⊢
  unfold f_X10_end
  have n : ∀ (X : gP) (i j : Nat) (v : Int32), gS (gS1 X 2 i v) k j = gS X k j := fun X i j v => gS_ne (fun z => hk z.1)
  rw [h3, gIn_t (by omega) (by omega), gck_t]
  simp only [gLet_e, n, h3, nI_clamp (show ns.length < 2 ^ 31 by omega)]
  rw [h1, h2, nI_add]
  refine ⟨_, rfl, (((((gOff.rf.S1 ?_).S1 ?_).S1 ?_).S1 ?_).S1 ?_).S1 ?_, (((((rSame.rf.S1).S1).S1).S1).S1).S1, ⟨?_, ?_, ?_, ?_, ?_⟩, ?_⟩
  · simp
  · simp
  · simp
  · simp
  · simp
  · simp
  · simp only [gS_S1]; simp (config := { decide := true }) only [true_and, if_false, if_true]; try rfl
  · simp only [gS_S1]; simp (config := { decide := true }) only [true_and, if_false, if_true]; try rfl
  · simp only [gS_S1]; simp (config := { decide := true }) only [true_and, if_false, if_true]; try rfl
  · simp only [gS_S1]; simp (config := { decide := true }) only [true_and, if_false, if_true]
    rw [nI_1, List.length_append, List.length_singleton]
  · simp only [gS_S1]; simp (config := { decide := true }) only [true_and, if_false, if_true]; try rfl
  · have := ha.push (v := gr + sm)
    rw [Nat.zero_add] at this
    exact ((((this.S1 (Or.inl hk)).S1 (Or.inl hk)).S1 (Or.inl hk)).S1 (Or.inl hk)).S1 (Or.inl hk)
theorem low_hear {G : gP} {k w : Nat} {e : Er} (h : xEr G k e) (hk : k ≠ 2) (ha : aL G 2 0 e.2.2.2.2) (hp : e.1 < 7) (h0 : 0 < w) (hw : w < 28) : Ok (f_X10_hearLow G k (nI w)) (hrP G k e w) := by
  obtain ⟨ph, sm, gr, th, ns⟩ := e
  have hx := h
  obtain ⟨x0, x1, x2, x3, x4⟩ := h
  simp only at x0 x1 x2 x3 x4 ha hp
  unfold f_X10_hearLow
  simp only [gLet_e]
  rw [gIn_t (by omega) (by omega), gck_t, unit_I (by omega), nI_clamp (by omega), worth_I h0 hw, x0, x1, nI_add]
  have e1 : (if nI ph = 0 then (1 : Int32) else if nI ph = 6 then (1 : Int32) else 0) = bI (decide (ph = 0 ∨ ph = 6)) := by
    by_cases a : ph = 0
    · subst a; rfl
    · rw [if_neg (nI_ne0 (by omega) (by omega))]
      by_cases b : ph = 6
      · subst b; rfl
      · rw [if_neg (show ¬ nI ph = 6 from fun z => b ((nI_eq (b := 6) (by omega) (by decide)).mp z)), decide_eq_false (by omega)]; rfl
  rw [e1]
  have e2 : (if bI (decide (ph = 0 ∨ ph = 6)) = 0 then if nI ph = 4 then (1 : Int32) else if nI ph = 5 then (1 : Int32) else if nI ph = 2 then if bI (eU w) = 0 then (0 : Int32) else 1 else 0 else 1) = bI (decide (ph = 0 ∨ ph = 6 ∨ ph = 4 ∨ ph = 5 ∨ (ph = 2 ∧ eU w = true))) := by
    have hc : ph = 0 ∨ ph = 1 ∨ ph = 2 ∨ ph = 3 ∨ ph = 4 ∨ ph = 5 ∨ ph = 6 := by omega
    rcases hc with rfl | rfl | rfl | rfl | rfl | rfl | rfl <;> cases eU w <;> decide
  rw [e2]
  have e3 : (if bI (decide (ph = 0 ∨ ph = 6)) = 0 then if nI w < 20 then (3 : Int32) else 2 else if bI (eU w) = 0 then if nI w < 20 then (3 : Int32) else 2 else 1) = nI (if (ph = 0 ∨ ph = 6) ∧ eU w = true then 1 else if 20 ≤ w then 2 else 3) := by
    have h20 : (if nI w < 20 then (3 : Int32) else 2) = nI (if 20 ≤ w then 2 else 3) := by
      by_cases a : 20 ≤ w
      · rw [if_neg (show ¬ nI w < 20 from fun z => by have := (nI_ltI (b := 20) (by omega) (by decide)).mp z; omega), if_pos a]; rfl
      · rw [if_pos (show nI w < 20 from (nI_ltI (b := 20) (by omega) (by decide)).mpr (by omega)), if_neg a]; rfl
    rw [h20]
    by_cases a : ph = 0 ∨ ph = 6
    · rw [decide_eq_true a, if_neg (by decide)]
      cases hu : eU w
      · rw [if_pos (show bI false = 0 from rfl), if_neg (show ¬ ((ph = 0 ∨ ph = 6) ∧ false = true) from fun z => by cases z.2)]
      · rw [if_neg (show ¬ bI true = 0 by decide), if_pos (show (ph = 0 ∨ ph = 6) ∧ true = true from ⟨a, rfl⟩)]; rfl
    · rw [decide_eq_false a, if_pos (show bI false = 0 from rfl), if_neg (show ¬ ((ph = 0 ∨ ph = 6) ∧ eU w = true) from fun z => a z.1)]
  rw [e3]
  refine goOn_P (e := ⟨ph, sm, gr, th, ns⟩) (g := gr) (t := th) x3 hk ha gOff.rf rSame.rf (fun _ => ⟨x2, x4⟩) ?_
  unfold eStep
  simp only
  rw [if_neg (by omega), if_neg (by omega), if_neg (by omega), if_neg (by omega), if_neg (by omega)]
  by_cases hc : ph = 0 ∨ ph = 6 ∨ ph = 4 ∨ ph = 5 ∨ (ph = 2 ∧ eU w = true)
  · rw [if_pos hc, decide_eq_true hc, if_pos rfl]
  · rw [if_neg hc, decide_eq_false hc, if_neg (by decide)]
theorem hear_w {G : gP} {k w : Nat} {e : Er} (h : xEr G k e) (hk : k ≠ 2) (ha : aL G 2 0 e.2.2.2.2) {i : Nat} (hi : i ≤ 8) (hG : eG e i) (hw : w < 32) : Ok (f_X10_hear G k (nI w)) (hrP G k e w) := by
  obtain ⟨hp, hl⟩ := hG
  have keq : ∀ a : Nat, a < 2 ^ 31 → (nI w = nI a ↔ w = a) := fun a ha => nI_eq (by omega) ha
  unfold f_X10_hear
  rw [nI_lit 28, nI_lit 29, nI_lit 30, nI_lit 31]
  by_cases w0 : w = 0
  · subst w0
    rw [if_pos (show nI 0 = 0 from rfl)]
    refine ⟨_, rfl, gOff.rf, rSame.rf, ?_⟩
    have : eStep e 0 = some e := by unfold eStep; rw [if_pos rfl]
    rw [this]
    exact ⟨rfl, h, ha⟩
  rw [if_neg (nI_ne0 (by omega) (by omega))]
  by_cases w28 : w = 28
  · rw [if_pos ((keq 28 (by decide)).mpr w28)]
    simp only [gLet_e]
    rw [h.1, h.2.1, show xWorth 28 = nI 100 from rfl, pk_mul]
    have e1 : (if nI e.1 = 1 then (1 : Int32) else 0) = bI (decide (e.1 = 1)) := ite_I (a := e.1) (b := 1) (by omega) (by decide)
    rw [e1]
    refine goOn_P (p := 4) (g := e.2.2.1) (t := e.2.2.2.1) h.2.2.2.1 hk ha gOff.rf rSame.rf (fun _ => ⟨h.2.2.1, h.2.2.2.2⟩) ?_
    unfold eStep
    rw [if_neg w0, if_pos w28]
    by_cases c : e.1 = 1
    · rw [if_pos c, decide_eq_true c, if_pos rfl]
    · rw [if_neg c, decide_eq_false c, if_neg (by decide)]
  rw [if_neg (fun z => w28 ((keq 28 (by decide)).mp z))]
  by_cases w29 : w = 29
  · rw [if_pos ((keq 29 (by decide)).mpr w29)]
    refine Ok.bind (Q := hrP G k e w) ?_ (fun q hq => ⟨_, rfl, hq⟩)
    unfold f_X10_hearThousand
    simp only [gLet_e]
    rw [mayEnd_I h hp, h.2.2.2.2, h.2.1, show xWorth 29 = nI 1000 from rfl, pk_mul]
    have e1 : (if bI (eEnd e) = 0 then (0 : Int32) else if bI e.2.2.2.1 = 0 then (1 : Int32) else 0) = bI (eEnd e && !e.2.2.2.1) := by
      cases eEnd e <;> cases e.2.2.2.1 <;> decide
    rw [e1]
    have hst : eStep e w = if (eEnd e && !e.2.2.2.1) = true then some ⟨6, 0, e.2.1 * 1000, true, e.2.2.2.2⟩ else none := by
      unfold eStep
      rw [if_neg w0, if_neg w28, if_pos w29]
    cases hb : (eEnd e && !e.2.2.2.1)
    · rw [hb] at hst
      rw [if_pos (show bI false = 0 from rfl)]
      exact goOn_P (p := 6) (v := 0) (g := 0) (t := false) h.2.2.2.1 hk ha gOff.rf rSame.rf (fun z => by cases z) (by rw [hst]; rfl)
    · rw [hb] at hst
      rw [if_neg (show ¬ bI true = 0 by decide)]
      refine goOn_P (p := 6) (v := 0) (g := e.2.1 * 1000) (t := true) ?_ hk ?_ ?_ ((rSame.rf.S1).S1) (fun _ => ⟨?_, gS_at⟩) hst
      · rw [gS_ne (by omega), gS_ne (by omega)]; exact h.2.2.2.1
      · exact (ha.S1 (Or.inl hk)).S1 (Or.inl hk)
      · exact (gOff.rf.S1 (by simp)).S1 (by simp)
      · rw [gS_ne (by omega), gS_at]
  rw [if_neg (fun z => w29 ((keq 29 (by decide)).mp z))]
  by_cases w30 : w = 30
  · rw [if_pos ((keq 30 (by decide)).mpr w30)]
    simp only [gLet_e]
    rw [h.1, h.2.1]
    have e1 : (if nI e.1 = 4 then (1 : Int32) else if nI e.1 = 6 then (1 : Int32) else 0) = bI (decide (e.1 = 4 ∨ e.1 = 6)) := by
      by_cases a : e.1 = 4
      · rw [a]; rfl
      · rw [if_neg (show ¬ nI e.1 = 4 from fun z => a ((nI_eq (b := 4) (by omega) (by decide)).mp z))]
        by_cases b : e.1 = 6
        · rw [b]; rfl
        · rw [if_neg (show ¬ nI e.1 = 6 from fun z => b ((nI_eq (b := 6) (by omega) (by decide)).mp z)), decide_eq_false (by omega)]; rfl
    rw [e1]
    refine goOn_P (p := 5) (g := e.2.2.1) (t := e.2.2.2.1) h.2.2.2.1 hk ha gOff.rf rSame.rf (fun _ => ⟨h.2.2.1, h.2.2.2.2⟩) ?_
    unfold eStep
    rw [if_neg w0, if_neg w28, if_neg w29, if_pos w30]
    by_cases c : e.1 = 4 ∨ e.1 = 6
    · rw [if_pos c, decide_eq_true c, if_pos rfl]
    · rw [if_neg c, decide_eq_false c, if_neg (by decide)]
  rw [if_neg (fun z => w30 ((keq 30 (by decide)).mp z))]
  by_cases w31 : w = 31
  · rw [if_pos ((keq 31 (by decide)).mpr w31)]
    unfold f_X10_hearStop
    rw [mayEnd_I h hp]
    simp only [gLet_e]
    have hst : eStep e w = if eEnd e = true then some ⟨0, 0, 0, false, e.2.2.2.2 ++ [e.2.2.1 + e.2.1]⟩ else none := by
      unfold eStep
      rw [if_neg w0, if_neg w28, if_neg w29, if_neg w30, if_pos w31]
    cases hb : eEnd e
    · rw [hb] at hst
      rw [if_pos (by decide)]
      refine ⟨(G, 0), rfl, gOff.rf, rSame.rf, ?_⟩
      rw [hst]; rfl
    · rw [hb, if_pos rfl] at hst
      rw [if_neg (by decide)]
      have hne := ((eEnd_iff e).mp hb).1
      rw [if_neg hne] at hl
      refine Ok.bind (Q := fun q => hrP G k e w q) ?_ (fun q hq => ⟨_, rfl, hq⟩)
      refine Ok.bind (end_ok h hk ha (by omega)) (fun G1 h1 => ?_)
      refine ⟨(G1, 1), rfl, h1.1, h1.2.1, ?_⟩
      rw [hst]
      exact ⟨rfl, h1.2.2.1, h1.2.2.2⟩
  rw [if_neg (fun z => w31 ((keq 31 (by decide)).mp z))]
  refine Ok.bind (low_hear h hk ha hp (by omega) (by omega)) (fun q hq => ⟨_, rfl, hq⟩)
