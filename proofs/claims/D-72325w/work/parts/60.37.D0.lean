/-! the component's state; slots and lattices are copied -/
def paO (G : gP) (j : Nat) : Nat := (gR G 11 j).getD 0
def xPa (G : gP) : Prop := (∀ j, j < 8 → gR G 11 j = some (paO G j) ∧ ∃ p, p < 8 ∧ paO G j = 32 + 26 * (3 + p)) ∧ ∀ i j, i < 8 → j < 8 → paO G i = paO G j → i = j
def laT (k : Nat) : Nat := if k = 0 then 103 else if k = 1 then 104 else if k = 2 then 100 else 101
/-- what a row's item is worth -/
def shV (G : gP) (k r i : Nat) : Int64 := if k = 3 then gL G r i else (gS G r i).toInt64
def xSh (T : Nat → Nat × Nat) (G : gP) (s : Nat) (o : Option (Nat × List Int64)) : Prop := match o with
  | none => gR G (28 + s) 0 = none
  | some (k, l) => gR G (28 + s) 0 = some (539 + s) ∧ T (539 + s) = (laT k, l.length) ∧ ∀ i v, l[i]? = some v → shV G k (539 + s) i = v
def xKp (G : gP) (o : Option (Lt × List Lt)) : Prop := match o with
  | none => gS G 0 20 = 0
  | some (L, p) => gS G 0 20 = 1 ∧ gS G 0 19 = nI p.length ∧ xLt G 84 L ∧ ∀ i L', p[i]? = some L' → xLt G (32 + 26 * (11 + i)) L'
def xSt (S : St) (T : Nat → Nat × Nat) (G : gP) : Prop := (xRk G) ∧ (∀ i, i < 19 → xSg G (32 + 26 * i)) ∧ (xPa G) ∧ (∀ j, j < 8 → gR G 12 j = some (32 + 26 * (11 + j))) ∧ (xLt G 32 S.now) ∧ (gS G 0 16 = nI S.past.length) ∧ (∀ i L, S.past[i]? = some L → xLt G (paO G i) L) ∧ (xKp G S.kept) ∧ (gS G 0 11 = nI S.tape.length) ∧ (aL G 9 0 S.tape) ∧ (∀ s, s < 4 → xSh T G s (S.sh s))
theorem xSt.rk {S : St} {T : Nat → Nat × Nat} {G : gP} (h : xSt S T G) : (xRk G) := h.1
theorem xSt.sg {S : St} {T : Nat → Nat × Nat} {G : gP} (h : xSt S T G) : (∀ i, i < 19 → xSg G (32 + 26 * i)) := h.2.1
theorem xSt.pa {S : St} {T : Nat → Nat × Nat} {G : gP} (h : xSt S T G) : (xPa G) := h.2.2.1
theorem xSt.ka {S : St} {T : Nat → Nat × Nat} {G : gP} (h : xSt S T G) : (∀ j, j < 8 → gR G 12 j = some (32 + 26 * (11 + j))) := h.2.2.2.1
theorem xSt.now {S : St} {T : Nat → Nat × Nat} {G : gP} (h : xSt S T G) : (xLt G 32 S.now) := h.2.2.2.2.1
theorem xSt.un {S : St} {T : Nat → Nat × Nat} {G : gP} (h : xSt S T G) : (gS G 0 16 = nI S.past.length) := h.2.2.2.2.2.1
theorem xSt.past {S : St} {T : Nat → Nat × Nat} {G : gP} (h : xSt S T G) : (∀ i L, S.past[i]? = some L → xLt G (paO G i) L) := h.2.2.2.2.2.2.1
theorem xSt.kept {S : St} {T : Nat → Nat × Nat} {G : gP} (h : xSt S T G) : (xKp G S.kept) := h.2.2.2.2.2.2.2.1
theorem xSt.tp {S : St} {T : Nat → Nat × Nat} {G : gP} (h : xSt S T G) : (gS G 0 11 = nI S.tape.length) := h.2.2.2.2.2.2.2.2.1
theorem xSt.tape {S : St} {T : Nat → Nat × Nat} {G : gP} (h : xSt S T G) : (aL G 9 0 S.tape) := h.2.2.2.2.2.2.2.2.2.1
theorem xSt.sh {S : St} {T : Nat → Nat × Nat} {G : gP} (h : xSt S T G) : (∀ s, s < 4 → xSh T G s (S.sh s)) := h.2.2.2.2.2.2.2.2.2.2
theorem xSt.xn {S : St} {T : Nat → Nat × Nat} {G : gP} (h : xSt S T G) : xNow G S.now := ⟨h.now, h.sg 0 (by omega)⟩
theorem xPa.same {G G' : gP} (h : xPa G) (hr : rSame G G') : xPa G' := by
  have e : ∀ j, paO G' j = paO G j := fun j => by unfold paO; rw [hr]
  exact ⟨fun j hj => by rw [e, hr]; exact h.1 j hj, fun i j hi hj => by rw [e, e]; exact h.2 i j hi hj⟩
theorem xSh.off {Z : Nat → Nat → Bool} {T : Nat → Nat × Nat} {G G' : gP} {s : Nat} {o : Option (Nat × List Int64)} (h : xSh T G s o) (hO : gOff Z G G') (hr : gR G' (28 + s) 0 = gR G (28 + s) 0) (z : ∀ j, Z (539 + s) j = false) : xSh T G' s o := by
  cases o with
  | none => show gR G' _ _ = none; rw [hr]; exact h
  | some q =>
    obtain ⟨k, l⟩ := q
    obtain ⟨h1, h2, h3⟩ := h
    refine ⟨by rw [hr]; exact h1, h2, fun i v hi => ?_⟩
    have := h3 i v hi
    unfold shV at this ⊢
    rw [(hO (539 + s) i (z i)).1, (hO (539 + s) i (z i)).2.1]; exact this
/-- lattices lie apart -/
theorem xSt.frame {Z : Nat → Nat → Bool} {S : St} {T : Nat → Nat × Nat} {G G' : gP} {L : Lt} (h : xSt S T G) (hW : S.Wf) (hO : gOff Z G G') (hr : ∀ k j, k ≠ 33 → gR G' k j = gR G k j) (hs0 : xSg G' 32) (hk : xRk G') (z : ∀ k j, (k = 0 ∧ (j = 11 ∨ j = 16 ∨ j = 19 ∨ j = 20)) ∨ k = 9 ∨ (84 ≤ k ∧ k < 526) ∨ 539 ≤ k → Z k j = false) (hn : xLt G' 32 L) : xSt (St.of (L) (S.past) (S.kept) (S.tape) (S.sh)) T G' := by
  have hsgO : ∀ i j, 0 < i → sgO G' (32 + 26 * i) j = sgO G (32 + 26 * i) j := fun i j hi => by unfold sgO; rw [hr _ _ (by omega)]
  have hsg : ∀ i, i < 19 → xSg G' (32 + 26 * i) := by
    intro i hi
    by_cases h0 : i = 0
    · subst h0; exact hs0
    · refine ⟨fun j hj => ?_, fun a b ha hb => ?_⟩
      · rw [hsgO i j (by omega), hr _ _ (by omega)]; exact (h.sg i hi).1 j hj
      · rw [hsgO i a (by omega), hsgO i b (by omega)]; exact (h.sg i hi).2 a b ha hb
  have hl : ∀ i L, 2 ≤ i → i < 19 → L.n ≤ 8 → xLt G (32 + 26 * i) L → xLt G' (32 + 26 * i) L := by
    intro i L hi hi2 h8 hx
    obtain ⟨h1, h2, h3, h4, h5⟩ := hx
    refine ⟨?_, ?_, ?_, ?_, fun p hp => ?_⟩
    · rw [(hO _ 1 (z _ _ (by omega))).1]; exact h1
    · rw [(hO _ 2 (z _ _ (by omega))).1]; exact h2
    · rw [(hO _ 3 (z _ _ (by omega))).1]; exact h3
    · rw [(hO _ 4 (z _ _ (by omega))).1]; exact h4
    · rw [hsgO i p (by omega)]
      have := (h.sg i hi2).rng (j := p) (by omega)
      exact (h5 p hp).off hO (fun k j a b => z k j (by omega))
  have hpa : ∀ j, paO G' j = paO G j := fun j => by unfold paO; rw [hr _ _ (by omega)]
  refine ⟨hk, hsg, ⟨fun j hj => by rw [hpa, hr _ _ (by omega)]; exact h.pa.1 j hj, fun i j hi hj => by rw [hpa, hpa]; exact h.pa.2 i j hi hj⟩, fun j hj => by rw [hr _ _ (by omega)]; exact h.ka j hj, hn, ?_, fun i L' hi => ?_, ?_, ?_, ?_, fun s hs => ?_⟩
  · rw [(hO 0 16 (z _ _ (by omega))).1]; exact h.un
  · have hil : i < S.past.length := (List.getElem?_eq_some_iff.mp hi).1
    have hp8 := hW.p8
    rw [hpa]
    obtain ⟨-, p, hp, e⟩ := h.pa.1 i (by omega)
    have := h.past i L' hi
    rw [e] at this ⊢
    exact hl _ L' (by omega) (by omega) (hW.past L' (List.mem_of_getElem? hi)).n8 this
  · have hkk := h.kept
    show xKp G' S.kept
    cases hS : S.kept with
    | none => rw [hS] at hkk; show gS G' 0 20 = 0; rw [(hO 0 20 (z _ _ (by omega))).1]; exact hkk
    | some q =>
      obtain ⟨Lk, p⟩ := q
      rw [hS] at hkk
      obtain ⟨k1, k2, k3, k4⟩ := hkk
      obtain ⟨w1, w2, w3⟩ := hW.kept Lk p hS
      refine ⟨by rw [(hO 0 20 (z _ _ (by omega))).1]; exact k1, by rw [(hO 0 19 (z _ _ (by omega))).1]; exact k2, hl 2 Lk (by omega) (by omega) w1.n8 k3, fun i L' hi => ?_⟩
      have hil : i < p.length := (List.getElem?_eq_some_iff.mp hi).1
      exact hl (11 + i) L' (by omega) (by omega) (w2 L' (List.mem_of_getElem? hi)).n8 (k4 i L' hi)
  · rw [(hO 0 11 (z _ _ (by omega))).1]; exact h.tp
  · intro j v hj; rw [(hO 9 _ (z _ _ (by omega))).1]; exact h.tape j v hj
  · exact (h.sh s hs).off hO (hr _ _ (by omega)) (fun j => z _ _ (by omega))
theorem xSt.q {S : St} {T : Nat → Nat × Nat} {G G' : gP} (h : xSt S T G) (hW : S.Wf) (hq : qP G G') : xSt S T G' :=
  h.frame (L := S.now) hW hq.1 (fun k j _ => hq.2 k j) ((h.sg 0 (by omega)).same hq.2) (h.rk.same hq.2) (fun k j hk => by simp [cqZ, wZ, liZ]; omega) (hq.now hW.now h.xn).1
def nZ (k _ : Nat) : Bool := decide (32 ≤ k ∧ k < 58)
theorem xSt.now' {S : St} {T : Nat → Nat × Nat} {G G' : gP} {L : Lt} (h : xSt S T G) (hW : S.Wf) (hO : gOff nZ G G') (hr : rSame G G') (hn : xLt G' 32 L) : xSt (St.of (L) (S.past) (S.kept) (S.tape) (S.sh)) T G' :=
  h.frame hW hO (fun k j _ => hr k j) ((h.sg 0 (by omega)).same hr) (h.rk.same hr) (fun k j hk => by simp [nZ]; omega) hn
/-- a slot is copied -/
def sZ (s k _j : Nat) : Bool := decide (s ≤ k ∧ k ≤ s + 2)
theorem slotTake_ok {G : gP} {s t m : Nat} {w c : Nat → Nat} (h : xSlt G t m w c) (hm : m ≤ 4) (ha : s + 2 < t ∨ t + 2 < s) : Ok (f_X7_takeFrom G s t) (fun G' => gOff (sZ s) G G' ∧ rSame G G' ∧ xSlt G' s m w c) := by
  unfold f_X7_takeFrom
  simp only [gLet_e]
  refine ⟨_, rfl, ((gOff.rf.Sc (fun j _ _ => by simp [sZ])).Sc (fun j _ _ => by simp [sZ])).S1 (by simp [sZ]), ((rSame.rf.Sc).Sc).S1, ?_, fun j hj => ⟨?_, ?_⟩⟩
  · rw [gS_at, gS_Sc_ne (by omega), gS_Sc_ne (by omega)]; exact h.1
  · rw [gS_ne (by omega), gS_Sc_ne (by omega), gS_Sc_in rfl (by omega) (by omega), show 0 + (j - 0) = j by omega]; exact (h.2 j hj).1
  · rw [gS_ne (by omega), gS_Sc_in rfl (by omega) (by omega), gS_Sc_ne (by omega), show 0 + (j - 0) = j by omega]; exact (h.2 j hj).2
def lZ (b k _j : Nat) : Bool := decide (b ≤ k ∧ k < b + 26)
theorem latTake_ok {G : gP} {i j : Nat} {L : Lt} (hi : i < 19) (hj : j < 19) (hne : i ≠ j) (hgi : xSg G (32 + 26 * i)) (hgj : xSg G (32 + 26 * j)) (hL : L.Wf) (h : xLt G (32 + 26 * j) L) : Ok (f_X6_takeFrom G (32 + 26 * i) (32 + 26 * j)) (fun G' => gOff (lZ (32 + 26 * i)) G G' ∧ rSame G G' ∧ xLt G' (32 + 26 * i) L) := by
  have h8 := hL.n8
  unfold f_X6_takeFrom
  obtain ⟨h1, h2, h3, h4, h5⟩ := h
  refine Ok.bind (Q := fun G1 => gOff (fun k _ => decide (32 + 26 * i + 2 ≤ k ∧ k < 32 + 26 * i + 26)) G G1 ∧ rSame G G1 ∧ ∀ p, p < L.n → xSlt G1 (sgO G (32 + 26 * i) p) (L.m p) (L.w p) (L.c p)) ?_ (fun G1 q1 => ?_)
  · refine Ok.up (fun p s => s.2 = nI p ∧ gOff (fun k _ => decide (32 + 26 * i + 2 ≤ k ∧ k < 32 + 26 * i + 26)) G s.1 ∧ rSame G s.1 ∧ ∀ p', p' < p → xSlt s.1 (sgO G (32 + 26 * i) p') (L.m p') (L.w p') (L.c p')) L.n (by omega) ?_ ?_ ⟨rfl, gOff.rf, rSame.rf, fun p' hp => by omega⟩
    · rintro p ⟨G1, x⟩ hp ⟨hx, hO, hr, hs⟩
      simp only at hx hO hr hs
      subst hx
      unfold f_X6_takeFrom_b2
      simp only
      have e1 : gS G1 (32 + 26 * j) 1 = nI L.n := by rw [(hO _ 1 (by simp; omega)).1]; exact h1
      rw [e1, if_neg (nI_ge hp (by omega)), gIn_t (by omega) (by omega), gck_t, nI_clamp (by omega), (hgi.same hr).ref hi (by omega)]
      simp only [obind_some]
      rw [gck_t, (hgj.same hr).ref hj (by omega)]
      simp only [obind_some]
      rw [hr.sg, hr.sg]
      have ri := hgi.rng (j := p) (by omega)
      have rj := hgj.rng (j := p) (by omega)
      have hsrc : xSlt G1 (sgO G (32 + 26 * j) p) (L.m p) (L.w p) (L.c p) := (h5 p hp).off hO (fun k j' a b => by simp; omega)
      refine Ok.bind (slotTake_ok (s := sgO G (32 + 26 * i) p) hsrc (hL.m1 p hp).2 (by omega)) (fun G2 q2 => ?_)
      obtain ⟨hO2, hr2, hs2⟩ := q2
      refine ⟨_, rfl, nI_1 p, hO.tr (hO2.w (fun k j' z => by simp [sZ] at z ⊢; omega)), hr.tr hr2, fun p' hp' => ?_⟩
      simp only
      by_cases e : p' = p
      · subst e; exact hs2
      · refine (hs p' (by omega)).off hO2 (fun k j' a b => ?_)
        have rp := hgi.rng (j := p') (by omega)
        have hd : sgO G (32 + 26 * i) p' ≠ sgO G (32 + 26 * i) p := fun z => e (hgi.2 p' p (by omega) (by omega) z)
        simp [sZ]; omega
    · rintro ⟨G1, x⟩ ⟨hx, hO, hr, hs⟩
      simp only at hx hO hr hs
      subst hx
      unfold f_X6_takeFrom_b2
      simp only
      have e1 : gS G1 (32 + 26 * j) 1 = nI L.n := by rw [(hO _ 1 (by simp; omega)).1]; exact h1
      rw [e1, if_pos (nI_le (Nat.le_refl _) (by omega))]
      exact ⟨_, rfl, hO, hr, hs⟩
  · obtain ⟨hO, hr, hs⟩ := q1
    simp only [gLet_e]
    have n : ∀ (X : gP) (a b : Nat) (v : Int32), gS (gS1 X (32 + 26 * i) a v) (32 + 26 * j) b = gS X (32 + 26 * j) b := fun X a b v => gS_ne (by omega)
    have g : ∀ a, gS G1 (32 + 26 * j) a = gS G (32 + 26 * j) a := fun a => (hO _ a (by simp; omega)).1
    simp only [n, g, h1, h2, h3, h4]
    have hO' : gOff (fun k j' => decide (k = 32 + 26 * i)) G1 (gS1 (gS1 (gS1 (gS1 G1 (32 + 26 * i) 1 (nI L.n)) (32 + 26 * i) 2 (nI L.kind)) (32 + 26 * i) 3 (nI L.slack)) (32 + 26 * i) 4 (nI L.draw)) := (((gOff.rf.S1 (by simp)).S1 (by simp)).S1 (by simp)).S1 (by simp)
    refine ⟨_, rfl, (hO.w (fun k j' z => by simp [lZ] at z ⊢; omega)).tr (hO'.w (fun k j' z => by simp [lZ] at z ⊢; omega)), (((hr.S1).S1).S1).S1, ?_, ?_, ?_, ?_, fun p hp => ?_⟩
    · simp only [gS_S1]; simp (config := { decide := true }) only [true_and, if_false, if_true]
    · simp only [gS_S1]; simp (config := { decide := true }) only [true_and, if_false, if_true]
    · simp only [gS_S1]; simp (config := { decide := true }) only [true_and, if_false, if_true]
    · simp only [gS_S1]; simp (config := { decide := true }) only [true_and, if_false, if_true]
    · rw [((((hr.S1).S1).S1).S1).sg]
      have ri := hgi.rng (j := p) (by omega)
      exact (hs p hp).off hO' (fun k j' a b => by simp; omega)
