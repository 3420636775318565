/-! the component: how its cells hold a state -/
theorem obs {α : Type} (x : Option α) : (x.bind fun q => some q) = x := by cases x <;> rfl
def sgO (G : gP) (b j : Nat) : Nat := (gR G (b + 1) j).getD 0
/-- a lattice's slots are its own eight, each once -/
def xSg (G : gP) (b : Nat) : Prop := (∀ j, j < 8 → gR G (b + 1) j = some (sgO G b j) ∧ ∃ p, p < 8 ∧ sgO G b j = b + 2 + 3 * p) ∧ ∀ i j, i < 8 → j < 8 → sgO G b i = sgO G b j → i = j
def xSlt (G : gP) (s m : Nat) (w c : Nat → Nat) : Prop := gS G s 2 = nI m ∧ ∀ j, j < m → gS G (s + 1) j = nI (w j) ∧ gS G (s + 2) j = nI (c j)
def xLt (G : gP) (b : Nat) (L : Lt) : Prop := gS G b 1 = nI L.n ∧ gS G b 2 = nI L.kind ∧ gS G b 3 = nI L.slack ∧ gS G b 4 = nI L.draw ∧ ∀ i, i < L.n → xSlt G (sgO G b i) (L.m i) (L.w i) (L.c i)
/-- no reference has changed -/
def rSame (G G' : gP) : Prop := ∀ k j, gR G' k j = gR G k j
theorem rSame.rf {G : gP} : rSame G G := fun _ _ => rfl
theorem rSame.tr {G G1 G2 : gP} (h : rSame G G1) (h2 : rSame G1 G2) : rSame G G2 := fun k j => (h2 k j).trans (h k j)
theorem rSame.S1 {G G1 : gP} {k j : Nat} {v : Int32} (h : rSame G G1) : rSame G (gS1 G1 k j v) := fun a i => h a i
theorem rSame.L1 {G G1 : gP} {k j : Nat} {v : Int64} (h : rSame G G1) : rSame G (gL1 G1 k j v) := fun a i => h a i
theorem rSame.sg {G G' : gP} (h : rSame G G') (b j : Nat) : sgO G' b j = sgO G b j := by unfold sgO; rw [h]
theorem xSg.same {G G' : gP} {b : Nat} (h : xSg G b) (hr : rSame G G') : xSg G' b := by
  refine ⟨fun j hj => ?_, fun i j hi hj => ?_⟩
  · rw [hr.sg, hr]; exact h.1 j hj
  · rw [hr.sg, hr.sg]; exact h.2 i j hi hj
theorem xT_lat {i : Nat} (hi : i < 19) (r : Nat) (hr : r < 26) : xT (32 + 26 * i + r) = xTl r := by
  unfold xT
  rw [if_neg (by omega), if_pos (by omega)]
  congr 1
  omega
theorem xTl_slot {p : Nat} : (xTl (2 + 3 * p)).1 = 7 := by
  unfold xTl
  rw [if_neg (by omega), if_neg (by omega), if_pos (by omega)]
theorem xRef_slot {i p : Nat} (hi : i < 19) (hp : p < 8) : xRef (some (32 + 26 * i + 2 + 3 * p)) 7 = some (32 + 26 * i + 2 + 3 * p) := by
  unfold xRef
  show (if 32 + 26 * i + 2 + 3 * p < 526 ∧ (xT (32 + 26 * i + 2 + 3 * p)).1 = 7 then some (32 + 26 * i + 2 + 3 * p) else none) = _
  have e : 32 + 26 * i + 2 + 3 * p = 32 + 26 * i + (2 + 3 * p) := by omega
  rw [if_pos ⟨by omega, by rw [e, xT_lat hi _ (by omega), xTl_slot]⟩]
theorem xRef_lat {i : Nat} (hi : i < 19) : xRef (some (32 + 26 * i)) 6 = some (32 + 26 * i) := by
  unfold xRef
  show (if 32 + 26 * i < 526 ∧ (xT (32 + 26 * i)).1 = 6 then some (32 + 26 * i) else none) = _
  rw [if_pos ⟨by omega, by rw [show 32 + 26 * i = 32 + 26 * i + 0 from rfl, xT_lat hi 0 (by omega)]; rfl⟩]
theorem xSg.ref {G : gP} {i j : Nat} (hi : i < 19) (h : xSg G (32 + 26 * i)) (hj : j < 8) : xRef (gR G (32 + 26 * i + 1) j) 7 = some (sgO G (32 + 26 * i) j) := by
  obtain ⟨h1, p, hp, h2⟩ := h.1 j hj
  rw [h1, h2]
  exact xRef_slot hi hp
theorem xSg.ref0 {G : gP} {j : Nat} (h : xSg G 32) (hj : j < 8) : xRef (gR G 33 j) 7 = some (sgO G 32 j) := xSg.ref (i := 0) (by decide) h hj
theorem xSg.rng {G : gP} {b j : Nat} (h : xSg G b) (hj : j < 8) : b + 2 ≤ sgO G b j ∧ sgO G b j + 2 < b + 26 ∧ (sgO G b j - b) % 3 = 2 := by
  obtain ⟨-, p, hp, h2⟩ := h.1 j hj
  omega
theorem xSlt.off {Z : Nat → Nat → Bool} {G G' : gP} {s m : Nat} {w c : Nat → Nat} (h : xSlt G s m w c) (hO : gOff Z G G') (hz : ∀ k j, s ≤ k → k ≤ s + 2 → Z k j = false) : xSlt G' s m w c := by
  refine ⟨by rw [(hO s 2 (hz _ _ (by omega) (by omega))).1]; exact h.1, fun j hj => ⟨?_, ?_⟩⟩
  · rw [(hO (s + 1) j (hz _ _ (by omega) (by omega))).1]; exact (h.2 j hj).1
  · rw [(hO (s + 2) j (hz _ _ (by omega) (by omega))).1]; exact (h.2 j hj).2
theorem xLt.off {Z : Nat → Nat → Bool} {G G' : gP} {b : Nat} {L : Lt} (h : xLt G b L) (h8 : L.n ≤ 8) (hg : xSg G b) (hO : gOff Z G G') (hr : rSame G G') (hz : ∀ k j, b ≤ k → k < b + 26 → Z k j = false) : xLt G' b L := by
  obtain ⟨h1, h2, h3, h4, h5⟩ := h
  refine ⟨?_, ?_, ?_, ?_, fun i hi => ?_⟩
  · rw [(hO b 1 (hz _ _ (by omega) (by omega))).1]; exact h1
  · rw [(hO b 2 (hz _ _ (by omega) (by omega))).1]; exact h2
  · rw [(hO b 3 (hz _ _ (by omega) (by omega))).1]; exact h3
  · rw [(hO b 4 (hz _ _ (by omega) (by omega))).1]; exact h4
  · rw [hr.sg]
    have := hg.rng (j := i) (by omega)
    exact (h5 i hi).off hO (fun k j a b => hz k j (by omega) (by omega))
theorem gS_Sc (G : gP) (a sp b dp n k j : Nat) : gS (gSc G a sp b dp n) k j = if k = b ∧ dp ≤ j ∧ j < dp + n then gS G a (sp + (j - dp)) else gS G k j := by
  unfold gS gSc va_up va_cpy
  by_cases h : k = b
  · subst h
    simp
  · simp [h]
theorem gS_Sc_in {G : gP} {a sp b dp n k j : Nat} (h : k = b) (h1 : dp ≤ j) (h2 : j < dp + n) : gS (gSc G a sp b dp n) k j = gS G a (sp + (j - dp)) := by rw [gS_Sc, if_pos ⟨h, h1, h2⟩]
theorem gS_Sc_ne {G : gP} {a sp b dp n k j : Nat} (h : k ≠ b) : gS (gSc G a sp b dp n) k j = gS G k j := by rw [gS_Sc, if_neg (fun z => h z.1)]
theorem rSame.Sc {G G1 : gP} {a sp b dp n : Nat} (h : rSame G G1) : rSame G (gSc G1 a sp b dp n) := fun a i => h a i
theorem gOff.Sc {Z : Nat → Nat → Bool} {G G1 : gP} (h : gOff Z G G1) {a sp b dp n : Nat} (hz : ∀ j, dp ≤ j → j < dp + n → Z b j = true) : gOff Z G (gSc G1 a sp b dp n) := fun k j z => by
  refine ⟨?_, (h k j z).2.1, (h k j z).2.2⟩
  rw [gS_Sc, if_neg (fun q => by obtain ⟨rfl, h1, h2⟩ := q; rw [hz j h1 h2] at z; cases z)]
  exact (h k j z).1
theorem gS_Sa (G : gP) (k : Nat) (f : Nat → Int32) (a j : Nat) : gS (gSa G k f) a j = if a = k then f j else gS G a j := by
  unfold gS gSa va_up
  by_cases h : a = k
  · subst h; simp
  · simp [h]
theorem gS_La (G : gP) (k : Nat) (f : Nat → Int64) (a j : Nat) : gS (gLa G k f) a j = gS G a j := rfl
theorem gL_La (G : gP) (k : Nat) (f : Nat → Int64) (a j : Nat) : gL (gLa G k f) a j = if a = k then f j else gL G a j := by
  unfold gL gLa va_up
  by_cases h : a = k
  · subst h; simp
  · simp [h]
theorem gL_Sa (G : gP) (k : Nat) (f : Nat → Int32) (a j : Nat) : gL (gSa G k f) a j = gL G a j := rfl
theorem rSame.Sa {G G1 : gP} {k : Nat} {f : Nat → Int32} (h : rSame G G1) : rSame G (gSa G1 k f) := fun a i => h a i
theorem rSame.La {G G1 : gP} {k : Nat} {f : Nat → Int64} (h : rSame G G1) : rSame G (gLa G1 k f) := fun a i => h a i
theorem gOff.Sa {Z : Nat → Nat → Bool} {G G1 : gP} (h : gOff Z G G1) {k : Nat} {f : Nat → Int32} (hz : ∀ j, Z k j = true) : gOff Z G (gSa G1 k f) := fun a j z => by
  refine ⟨?_, (h a j z).2.1, (h a j z).2.2⟩
  rw [gS_Sa, if_neg (fun q => by subst q; rw [hz j] at z; cases z)]
  exact (h a j z).1
theorem gOff.La {Z : Nat → Nat → Bool} {G G1 : gP} (h : gOff Z G G1) {k : Nat} {f : Nat → Int64} (hz : ∀ j, Z k j = true) : gOff Z G (gLa G1 k f) := fun a j z => by
  refine ⟨(h a j z).1, ?_, (h a j z).2.2⟩
  rw [gL_La, if_neg (fun q => by subst q; rw [hz j] at z; cases z)]
  exact (h a j z).2.1
theorem xRk.same {G G' : gP} (h : xRk G) (hr : rSame G G') : xRk G' := fun k j n e => h k j n (by rw [← hr k j]; exact e)
theorem gDec_t {p : Prop} (h : p) : gDec p = true := by unfold gDec; exact @decide_eq_true p (Classical.propDecidable p) h
/-- isIn is the Model's in -/
theorem isIn_in : f_X0_isIn = f_X11_in := rfl
theorem isIn_rg (a : Int32) {x y : Int64} {lo hi : Nat} (hx : x.toInt = (lo : Int)) (hy : y.toInt = (hi : Int) - 1) : f_X0_isIn a.toInt64 x y = if (rg a lo hi).isSome then 1 else 0 := in_rg a hx hy
theorem xisSlot_rg {G : gP} {n : Nat} (hn : n ≤ 8) (h : gS G 32 1 = nI n) (a : Int32) : f_X0_isSlot G a = if (rg a 0 n).isSome then 1 else 0 := by
  unfold f_X0_isSlot
  rw [h]
  exact isIn_rg a (lo := 0) rfl (nI1_toInt64 (by omega))
theorem bI_t : bI true = 1 := rfl
theorem bI_f : bI false = 0 := rfl
theorem bI_1 (b : Bool) : bI b = 1 ↔ b = true := by cases b <;> decide
