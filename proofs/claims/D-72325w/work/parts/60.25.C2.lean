/-! readings one behind the other: what the first slots tell -/
theorem lQ_app (m : Nat → Nat) : ∀ a i b, lQ m i (a + b) = lQ m i a * lQ m (i + a) b := by
  intro a
  induction a with
  | zero => intro i b; rw [Nat.zero_add, Nat.add_zero]; show _ = 1 * _; rw [Nat.one_mul]
  | succ a ih =>
    intro i b
    have e : a + 1 + b = (a + b) + 1 := by omega
    rw [e]
    show m i * lQ m (i + 1) (a + b) = m i * lQ m (i + 1) a * lQ m (i + (a + 1)) b
    rw [ih (i + 1) b, Nat.mul_assoc]
    have e2 : i + 1 + a = i + (a + 1) := by omega
    rw [e2]
theorem Lt.P_app (L : Lt) {i k : Nat} (h : i ≤ k) (hk : k ≤ L.n) : L.P i = lQ L.m i (k - i) * L.P k := by
  unfold Lt.P
  have e : L.n - i = (k - i) + (L.n - k) := by omega
  rw [e, lQ_app]
  have e2 : i + (k - i) = k := by omega
  rw [e2]
/-- the first picks are told by the number of the rest's block -/
theorem Lt.pk_pre (L : Lt) {r r' k : Nat} (hk : k ≤ L.n) (h : r / L.P k = r' / L.P k) {i : Nat} (hi : i < k) : L.pk r i = L.pk r' i := by
  unfold Lt.pk
  rw [L.P_app (show i + 1 ≤ k by omega) hk, Nat.mul_comm, ← Nat.div_div_eq_div_mul, ← Nat.div_div_eq_div_mul, h]
theorem Lt.cs_pre (L : Lt) {p p' : Nat → Nat} : ∀ k, (∀ i, i < k → p i = p' i) → L.cs p k = L.cs p' k := by
  intro k
  induction k with
  | zero => intro _; rfl
  | succ k ih =>
    intro h
    show L.cs p k + L.c k (p k) = L.cs p' k + L.c k (p' k)
    rw [ih (fun i hi => h i (by omega)), h k (by omega)]
/-- the ear behind the first words -/
def Lt.er (L : Lt) (r : Nat) : Nat → Option Er
  | 0 => some e0
  | k + 1 => (L.er r k).bind fun e => eStep e (L.w k (L.pk r k))
theorem Lt.er_pre (L : Lt) {r r' : Nat} : ∀ k, k ≤ L.n → (∀ i, i < k → L.pk r i = L.pk r' i) → L.er r k = L.er r' k := by
  intro k
  induction k with
  | zero => intro _ _; rfl
  | succ k ih =>
    intro hk h
    unfold Lt.er
    rw [ih (by omega) (fun i hi => h i (by omega)), h k (by omega)]
theorem Lt.er_run (L : Lt) (r : Nat) : ∀ k t, eRun e0 (L.wl (L.pk r) k ++ t) = (L.er r k).bind fun e => eRun e t := by
  intro k
  induction k with
  | zero => intro t; rfl
  | succ k ih =>
    intro t
    rw [L.wl_s, List.append_assoc, ih]
    show _ = ((L.er r k).bind fun e => eStep e (L.w k (L.pk r k))).bind fun e => eRun e t
    cases L.er r k with
    | none => rfl
    | some e => rfl
theorem Lt.ev_er (L : Lt) (r : Nat) : L.ev r = (L.er r L.n).bind eFin := by
  have h := L.er_run r L.n []
  rw [List.append_nil] at h
  exact h
theorem Lt.er_none (L : Lt) {r : Nat} : ∀ d k, L.er r k = none → L.er r (k + d) = none := by
  intro d
  induction d with
  | zero => intro k h; exact h
  | succ d ih =>
    intro k h
    show ((L.er r (k + d)).bind _) = none
    rw [ih k h]
    rfl
theorem Lt.er_G (L : Lt) (r : Nat) : ∀ k e, L.er r k = some e → eG e k := by
  intro k
  induction k with
  | zero => intro e h; cases h; exact ⟨by decide, by decide⟩
  | succ k ih =>
    intro e h
    unfold Lt.er at h
    cases he : L.er r k with
    | none => rw [he] at h; cases h
    | some e1 =>
      rw [he] at h
      exact (eStep_G (ih e1 he) h).1
/-- what the walk itself writes; what a listener may write -/
def wZ (k j : Nat) : Bool := decide (k = 2 ∨ k = 4 ∨ (19 ≤ k ∧ k ≤ 27) ∨ (k = 0 ∧ j = 5))
def liZ (k _ : Nat) : Bool := decide (k = 5 ∨ k = 6 ∨ k = 7 ∨ k = 10 ∨ (526 ≤ k ∧ k < 539))
def xwZ (i l : Nat) (k j : Nat) : Bool := decide ((k = 2 ∧ l ≤ j) ∨ (k = 4 ∧ i ≤ j) ∨ (19 + i < k ∧ k ≤ 27) ∨ (k = 0 ∧ j = 5)) || liZ k j
def cqZ (k j : Nat) : Bool := wZ k j || liZ k j
def xNow (G : gP) (L : Lt) : Prop := xLt G 32 L ∧ xSg G 32
theorem xNow.q {Z : Nat → Nat → Bool} {G G' : gP} {L : Lt} (h : xNow G L) (hL : L.Wf) (hO : gOff Z G G') (hr : rSame G G') (hz : ∀ k j, 32 ≤ k → k < 58 → Z k j = false) : xNow G' L :=
  ⟨h.1.off hL.n8 h.2 hO hr (fun k j a b => hz k j a (by omega)), h.2.same hr⟩
theorem xwZ_32 {i l k j : Nat} (h1 : 32 ≤ k) (h2 : k < 58) : xwZ i l k j = false := by simp [xwZ, liZ]; omega
theorem cqZ_32 {k j : Nat} (h1 : 32 ≤ k) (h2 : k < 58) : cqZ k j = false := by simp [cqZ, wZ, liZ]; omega
/-- the listeners' said, by the listener's id -/
def fSd (a3 : Nat) (G : gP) (c : Int32) : Option gP := if a3 = 526 then f_X13_said G c else if a3 = 529 then f_X14_said G c else if a3 = 531 then f_X15_said G c else if a3 = 532 then f_X16_said G c else if a3 = 533 then f_X17_said G c else if a3 = 534 then f_X18_said G c else none
/-- what is there when a reading is said -/
def sdP (L : Lt) (r : Nat) (ns : List Nat) (G : gP) : Prop := (xNow G L) ∧ (∀ k, k < L.n → gS G 4 k = nI (L.pk r k)) ∧ (aL G 2 0 ns) ∧ (gS G 0 5 = nI ns.length) ∧ (nsOk ns)
theorem sdP.now {L : Lt} {r : Nat} {ns : List Nat} {G : gP} (h : sdP L r ns G) : (xNow G L) := h.1
theorem sdP.pk {L : Lt} {r : Nat} {ns : List Nat} {G : gP} (h : sdP L r ns G) : (∀ k, k < L.n → gS G 4 k = nI (L.pk r k)) := h.2.1
theorem sdP.ns {L : Lt} {r : Nat} {ns : List Nat} {G : gP} (h : sdP L r ns G) : (aL G 2 0 ns) := h.2.2.1
theorem sdP.many {L : Lt} {r : Nat} {ns : List Nat} {G : gP} (h : sdP L r ns G) : (gS G 0 5 = nI ns.length) := h.2.2.2.1
theorem sdP.ok {L : Lt} {r : Nat} {ns : List Nat} {G : gP} (h : sdP L r ns G) : (nsOk ns) := h.2.2.2.2
def LsP (L : Lt) (a3 : Nat) (J : Nat → gP → Prop) : Prop := (∀ r ns G, r < L.N → L.ev r = some ns → J r G → sdP L r ns G → Ok (fSd a3 G (nI (L.cost r))) (fun G' => J (r + 1) G' ∧ gOff liZ G G' ∧ rSame G G')) ∧ (∀ r G, r < L.N → L.ev r = none → J r G → J (r + 1) G) ∧ (∀ r G G', J r G → gOff wZ G G' → rSame G G' → J r G')
theorem LsP.sd {L : Lt} {a3 : Nat} {J : Nat → gP → Prop} (h : LsP L a3 J) : (∀ r ns G, r < L.N → L.ev r = some ns → J r G → sdP L r ns G → Ok (fSd a3 G (nI (L.cost r))) (fun G' => J (r + 1) G' ∧ gOff liZ G G' ∧ rSame G G')) := h.1
theorem LsP.sk {L : Lt} {a3 : Nat} {J : Nat → gP → Prop} (h : LsP L a3 J) : (∀ r G, r < L.N → L.ev r = none → J r G → J (r + 1) G) := h.2.1
theorem LsP.fr {L : Lt} {a3 : Nat} {J : Nat → gP → Prop} (h : LsP L a3 J) : (∀ r G G', J r G → gOff wZ G G' → rSame G G' → J r G') := h.2.2
theorem LsP.skip {L : Lt} {a3 : Nat} {J : Nat → gP → Prop} (h : LsP L a3 J) {G : gP} : ∀ d a, a + d ≤ L.N → (∀ r, a ≤ r → r < a + d → L.ev r = none) → J a G → J (a + d) G := by
  intro d
  induction d with
  | zero => intro a _ _ hj; exact hj
  | succ d ih =>
    intro a hN hn hj
    exact h.sk (a + d) _ (by omega) (hn _ (by omega) (by omega)) (ih a (by omega) (fun r h1 h2 => hn r h1 (by omega)) hj)
theorem fin_eq (G : gP) (a1 : Nat) (a2 : Int32) (a3 : Nat) : f_X0_finish G a1 a2 a3 = if f_X10_mayEnd G a1 = 0 then some G else gck (gIn (gS G a1 3) 8) (fSd a3 (gS1 (gS1 G 2 (gS G a1 3).toNatClampNeg (gS G a1 2 + gS G a1 1)) 0 5 (gS (gS1 G 2 (gS G a1 3).toNatClampNeg (gS G a1 2 + gS G a1 1)) a1 3 + 1)) a2) := by
  unfold f_X0_finish fSd
  simp only [gLet_e, obs]
theorem nsOk_8 {ns : List Nat} {v : Nat} (h : ∀ v ∈ ns, v ≤ 999999) (h0 : 0 < ns.length) (h8 : ns.length ≤ 8) : nsOk ns := ⟨h0, h8, h⟩
theorem finish_ok {L : Lt} {a3 : Nat} {J : Nat → gP → Prop} (hL : L.Wf) (hS : LsP L a3 J) (hn : 0 < L.n) {r : Nat} (hr : r < L.N) {e : Er} {G : gP} (he : L.er r L.n = some e) (hJ : J r G) (hN : xNow G L) (hE : xEr G (19 + L.n) e) (ha : aL G 2 0 e.2.2.2.2) (hp : ∀ i, i < L.n → gS G 4 i = nI (L.pk r i)) :
    Ok (f_X0_finish G (19 + L.n) (nI (L.cost r)) a3) (fun G' => J (r + 1) G' ∧ gOff (xwZ L.n e.2.2.2.2.length) G G' ∧ rSame G G') := by
  have h8 := hL.n8
  have hG := L.er_G r _ _ he
  have hev := L.ev_er r
  rw [he] at hev
  rw [fin_eq, mayEnd_I hE hG.1]
  have hf : (some e : Option Er).bind eFin = if eEnd e then some (e.2.2.2.2 ++ [e.2.2.1 + e.2.1]) else none := rfl
  rw [hf] at hev
  cases hb : eEnd e
  · rw [hb] at hev
    rw [if_pos (show bI false = 0 from rfl)]
    exact ⟨_, rfl, hS.sk _ _ hr hev hJ, gOff.rf, rSame.rf⟩
  · rw [hb, if_pos rfl] at hev
    have hne := ((eEnd_iff e).mp hb).1
    have hl := hG.2
    rw [if_neg hne] at hl
    rw [if_neg (show ¬ bI true = 0 by decide), hE.2.2.2.1, gIn_t (by omega) (by omega), gck_t, nI_clamp (by omega), hE.2.2.1, hE.2.1, nI_add, gS_ne (show ¬ (19 + L.n = 2 ∧ 3 = _) by omega), hE.2.2.2.1, nI_1]
    have hOw : gOff wZ G (gS1 (gS1 G 2 e.2.2.2.2.length (nI (e.2.2.1 + e.2.1))) 0 5 (nI (e.2.2.2.2.length + 1))) := (gOff.rf.S1 (by simp [wZ])).S1 (by simp [wZ])
    have hOx : gOff (xwZ L.n e.2.2.2.2.length) G (gS1 (gS1 G 2 e.2.2.2.2.length (nI (e.2.2.1 + e.2.1))) 0 5 (nI (e.2.2.2.2.length + 1))) := (gOff.rf.S1 (by simp [xwZ])).S1 (by simp [xwZ])
    have hrr : rSame G (gS1 (gS1 G 2 e.2.2.2.2.length (nI (e.2.2.1 + e.2.1))) 0 5 (nI (e.2.2.2.2.length + 1))) := (rSame.rf.S1).S1
    have hpush := ha.push (v := e.2.2.1 + e.2.1)
    rw [Nat.zero_add] at hpush
    have ht := hL.tell_ok (hL.pk_ok r) hev
    refine (hS.sd r _ _ hr hev (hS.fr _ _ _ hJ hOw hrr) ⟨hN.q hL hOx hrr (fun k j => xwZ_32), fun i hi => ?_, hpush.S1 (Or.inl (by decide)), ?_, ⟨ht.2, ?_, ht.1⟩⟩).imp ?_
    · rw [gS_ne (by omega), gS_ne (by omega)]; exact hp i hi
    · rw [gS_at, List.length_append, List.length_singleton]
    · rw [List.length_append, List.length_singleton]; omega
    · rintro G' ⟨a, b, c⟩
      exact ⟨a, hOx.tr (b.w (fun k j z => by simp only [xwZ, Bool.or_eq_false_iff] at z; exact z.2)), hrr.tr c⟩
theorem walk_ok {L : Lt} {a3 : Nat} {J : Nat → gP → Prop} (hL : L.Wf) (hS : LsP L a3 J) (hn : 0 < L.n) : ∀ d k, k + d = L.n → ∀ dd, d < dd → ∀ q e G, (q + 1) * L.P k ≤ L.N → L.er (q * L.P k) k = some e → J (q * L.P k) G → xNow G L → xEr G (19 + k) e → aL G 2 0 e.2.2.2.2 → (∀ i, i < k → gS G 4 i = nI (L.pk (q * L.P k) i)) →
    Ok (f_X0_walk dd G (nI k) (nI (L.cs (L.pk (q * L.P k)) k)) a3) (fun G' => J ((q + 1) * L.P k) G' ∧ gOff (xwZ k e.2.2.2.2.length) G G' ∧ rSame G G') := by
  have h8 := hL.n8
  intro d
  induction d with
  | zero =>
    intro k hk dd hdd q e G hq he hJ hN hE ha hp
    have hkn : k = L.n := by omega
    subst hkn
    obtain ⟨dd, rfl⟩ : ∃ x, dd = x + 1 := ⟨dd - 1, by omega⟩
    unfold f_X0_walk
    rw [if_pos hN.1.1.symm, gIn_t (by omega) (by omega), gck_t, nI_clamp (by omega), obs]
    simp only [L.P_n, Nat.mul_one] at he hJ hp hq ⊢
    exact finish_ok hL hS hn (by omega) he hJ hN hE ha hp
  | succ d ih =>
    intro k hk dd hdd q e G hq he hJ hN hE ha hp
    obtain ⟨dd, rfl⟩ : ∃ x, dd = x + 1 := ⟨dd - 1, by omega⟩
    have hkn : k < L.n := by omega
    have hm := hL.m1 k hkn
    have hP1 := hL.Ppos (k + 1)
    have hPk := L.P_s hkn
    have hG := L.er_G _ _ _ he
    unfold f_X0_walk
    rw [hN.1.1, if_neg (fun z => by have := (nI_eq (by omega) (by omega)).mp z; omega), gIn_t (by omega) (by omega), gck_t, nI_clamp (by omega), hN.2.ref0 (by omega)]
    simp only [obind_some, obs]
    have hb0 : q * L.P k = (q * L.m k + 0) * L.P (k + 1) := by rw [hPk, ← Nat.mul_assoc]; rfl
    have hb1 : (q + 1) * L.P k = (q * L.m k + L.m k) * L.P (k + 1) := by rw [hPk, ← Nat.mul_assoc, Nat.succ_mul]
    have hdiv : ∀ c r, c < L.m k → r / L.P (k + 1) = q * L.m k + c → r / L.P k = q := by
      intro c r hc h
      rw [hPk, Nat.mul_comm, ← Nat.div_div_eq_div_mul, h, Nat.mul_comm, Nat.mul_add_div (by omega), Nat.div_eq_of_lt hc, Nat.add_zero]
    have hbq : q * L.P k / L.P k = q := Nat.mul_div_cancel _ (hL.Ppos k)
    have hpre : ∀ c r, c < L.m k → r / L.P (k + 1) = q * L.m k + c → ∀ i, i < k → L.pk r i = L.pk (q * L.P k) i := fun c r hc h i hi => L.pk_pre (by omega) ((hdiv c r hc h).trans hbq.symm) hi
    have hpk : ∀ c r, c < L.m k → r / L.P (k + 1) = q * L.m k + c → L.pk r k = c := by
      intro c r hc h
      unfold Lt.pk
      rw [h, Nat.mul_comm, Nat.mul_add_mod, Nat.mod_eq_of_lt hc]
    have hbase : ∀ c, (q * L.m k + c) * L.P (k + 1) / L.P (k + 1) = q * L.m k + c := fun c => Nat.mul_div_cancel _ hP1
    have her : ∀ c r, c < L.m k → r / L.P (k + 1) = q * L.m k + c → L.er r (k + 1) = eStep e (L.w k c) := by
      intro c r hc h
      show (L.er r k).bind _ = _
      rw [L.er_pre k (by omega) (hpre c r hc h), he, hpk c r hc h]
      rfl
    have hsr := hN.2.rng (j := k) (by omega)
    refine (Ok.up (P := fun G' => J ((q + 1) * L.P k) G' ∧ gOff (xwZ k e.2.2.2.2.length) G G' ∧ rSame G G') (fun c s => s.2 = nI c ∧ J ((q * L.m k + c) * L.P (k + 1)) s.1 ∧ gOff (xwZ k e.2.2.2.2.length) G s.1 ∧ rSame G s.1) (L.m k) (by omega) ?_ ?_ ⟨rfl, by rw [← hb0]; exact hJ, gOff.rf, rSame.rf⟩)
    · rintro c ⟨G1, x⟩ hc ⟨hx, hJ1, hO1, hr1⟩
      simp only at hx hJ1 hO1 hr1
      subst hx
      have hN1 : xNow G1 L := hN.q hL hO1 hr1 (fun k j => xwZ_32)
      have hsl := hN1.1.2.2.2.2 k hkn
      rw [hr1.sg] at hsl
      have hw := hL.w32 k c hkn hc
      have hcc := hL.c10 k c hkn hc
      unfold f_X0_walk_b38
      simp only
      rw [hsl.1, if_neg (nI_ge hc (by omega)), gIn_t (by omega) (by omega), gck_t, nI_1, gIn_t (show k + 1 < 2 ^ 31 by omega) (show k + 1 < 9 by omega), gIn_t (show k < 2 ^ 31 by omega) (show k < 9 by omega), nI_clamp (by omega), nI_clamp (show k + 1 < 2 ^ 31 by omega), gIn_t (show c < 2 ^ 31 by omega) (show c < 4 by omega), nI_clamp (show c < 2 ^ 31 by omega)]
      simp only [gLet_e, gck_t]
      have hE1 : xEr (gS1 G1 4 k (nI c)) (19 + k) e := hE.off (hO1.S1 (k := 4) (j := k) (v := nI c) (by simp [xwZ])) (fun j => by simp [xwZ, liZ]; omega)
      refine Ok.bind (takeFrom_ok (k := 19 + (k + 1)) hE1 (by omega)) (fun G2 h2 => ?_)
      obtain ⟨hO2, hr2, hE2⟩ := h2
      have hOw2 : gOff wZ G1 G2 := (gOff.rf.S1 (by simp [wZ])).tr (hO2.w (fun a j z => by simp [wZ] at z ⊢; omega))
      have hOx2 : gOff (xwZ k e.2.2.2.2.length) G G2 := (hO1.S1 (by simp [xwZ])).tr (hO2.w (fun a j z => by simp [xwZ, liZ] at z ⊢; omega))
      have hr02 : rSame G G2 := (hr1.S1).tr hr2
      have hr12 : rSame G1 G2 := (rSame.rf.S1).tr hr2
      have hN2 : xNow G2 L := hN.q hL hOx2 hr02 (fun k j => xwZ_32)
      have hsl2 := hN2.1.2.2.2.2 k hkn
      rw [hr02.sg] at hsl2
      have ha2 : aL G2 2 0 e.2.2.2.2 := by
        intro j v hj
        have hjl := (List.getElem?_eq_some_iff.mp hj).1
        rw [(hOx2 2 _ (by simp [xwZ, liZ]; omega)).1]
        exact ha j v hj
      rw [(hsl2.2 c hc).1]
      refine Ok.bind (hear_w hE2 (by omega) ha2 (i := k) (by omega) hG hw) (fun g3 h3 => ?_)
      obtain ⟨G3, y3⟩ := g3
      obtain ⟨hO3, hr3, h3⟩ := h3
      simp only at hO3 hr3 h3 ⊢
      have hOw3 : gOff wZ G1 G3 := hOw2.tr (hO3.w (fun a j z => by simp [wZ] at z ⊢; omega))
      have hOx3 : gOff (xwZ k e.2.2.2.2.length) G G3 := hOx2.tr (hO3.w (fun a j z => by simp [xwZ, liZ] at z ⊢; omega))
      have hr03 : rSame G G3 := hr02.tr hr3
      have hJ3 : J ((q * L.m k + c) * L.P (k + 1)) G3 := hS.fr _ _ _ hJ1 hOw3 (hr12.tr hr3)
      have hN3 : xNow G3 L := hN.q hL hOx3 hr03 (fun k j => xwZ_32)
      have hle : (q * L.m k + (c + 1)) * L.P (k + 1) ≤ L.N := by
        refine Nat.le_trans (Nat.mul_le_mul_right _ ?_) (hb1 ▸ hq)
        omega
      have hsucc : (q * L.m k + (c + 1)) * L.P (k + 1) = (q * L.m k + c) * L.P (k + 1) + L.P (k + 1) := by rw [← Nat.add_assoc, Nat.succ_mul]
      cases hs : eStep e (L.w k c) with
      | none =>
        rw [hs] at h3
        simp only at h3
        rw [h3, if_pos rfl]
        refine ⟨_, rfl, nI_1 c, ?_, hOx3, hr03⟩
        simp only
        rw [hsucc]
        refine hS.skip _ _ (by rw [← hsucc]; exact hle) (fun r h1 h2 => ?_) hJ3
        have hr : r / L.P (k + 1) = q * L.m k + c := by
          rw [Nat.div_eq_of_lt_le h1 (by rw [Nat.succ_mul]; exact h2)]
        have := her c r hc hr
        rw [hs] at this
        rw [L.ev_er, show L.n = (k + 1) + (L.n - (k + 1)) by omega, L.er_none _ _ this]
        rfl
      | some e' =>
        rw [hs] at h3
        simp only at h3
        obtain ⟨h3a, h3b, h3c⟩ := h3
        rw [h3a, if_neg (by decide)]
        have hsl3 := hN3.1.2.2.2.2 k hkn
        rw [hr03.sg] at hsl3
        rw [(hsl3.2 c hc).2, nI_add]
        have hcs : L.cs (L.pk (q * L.P k)) k + L.c k c = L.cs (L.pk ((q * L.m k + c) * L.P (k + 1))) (k + 1) := by
          show _ = L.cs _ k + L.c k (L.pk _ k)
          rw [hpk c _ hc (hbase c), L.cs_pre k (hpre c _ hc (hbase c))]
        rw [hcs]
        have hpre' := (eStep_G hG hs).2
        have hpl : e.2.2.2.2.length ≤ e'.2.2.2.2.length := hpre'.length_le
        refine Ok.bind (ih (k + 1) (by omega) dd (by omega) (q * L.m k + c) e' G3 ?_ ((her c _ hc (hbase c)).trans hs) hJ3 hN3 h3b h3c ?_) (fun G4 h4 => ?_)
        · rw [Nat.add_assoc]; exact hle
        · intro i hi
          by_cases hik : i = k
          · subst hik
            rw [hpk c _ hc (hbase c), (hO3 4 i (by simp; omega)).1, (hO2 4 i (by simp; omega)).1, gS_at]
          · rw [hpre c _ hc (hbase c) i (by omega), (hOx3 4 i (by simp [xwZ, liZ]; omega)).1]
            exact hp i (by omega)
        · obtain ⟨hJ4, hO4, hr4⟩ := h4
          refine ⟨_, rfl, nI_1 c, ?_, hOx3.tr (hO4.w (fun a j z => ?_)), hr03.tr hr4⟩
          · rw [Nat.add_assoc] at hJ4; exact hJ4
          · simp only [xwZ, Bool.or_eq_false_iff, decide_eq_false_iff_not] at z ⊢
            exact ⟨by omega, z.2⟩
    · rintro ⟨G1, x⟩ ⟨hx, hJ1, hO1, hr1⟩
      simp only at hx hJ1 hO1 hr1
      subst hx
      have hN1 : xNow G1 L := hN.q hL hO1 hr1 (fun k j => xwZ_32)
      have hsl := hN1.1.2.2.2.2 k hkn
      rw [hr1.sg] at hsl
      unfold f_X0_walk_b38
      simp only
      rw [hsl.1, if_pos (nI_le (Nat.le_refl _) (by omega))]
      exact ⟨_, rfl, by rw [hb1]; exact hJ1, hO1, hr1⟩
theorem listen_ok {L : Lt} {a3 : Nat} {J : Nat → gP → Prop} (hL : L.Wf) (hS : LsP L a3 J) {G : gP} (hN : xNow G L) (hJ : J 0 G) : Ok (f_X0_listen G a3) (fun G' => J L.N G' ∧ gOff cqZ G G' ∧ rSame G G') := by
  have h8 := hL.n8
  unfold f_X0_listen
  refine Ok.bind (beg_ok G 19) (fun G1 h1 => ?_)
  obtain ⟨hO1, hr1, hE1⟩ := h1
  rw [obs]
  have hOw : gOff wZ G G1 := hO1.w (fun a j z => by simp [wZ] at z ⊢; omega)
  have hOc : gOff cqZ G G1 := hOw.w (fun a j z => by simp only [cqZ, Bool.or_eq_false_iff] at z; exact z.1)
  have hJ1 := hS.fr _ _ _ hJ hOw hr1
  have hN1 : xNow G1 L := hN.q hL hOc hr1 (fun k j => cqZ_32)
  by_cases hn : L.n = 0
  · unfold f_X0_walk
    rw [hN1.1.1, hn, if_pos (show (0 : Int32) = nI 0 from rfl), show gIn 0 9 = true from gIn_t (k := 0) (n := 9) (by decide) (by decide), gck_t, obs, fin_eq]
    have hm : f_X10_mayEnd G1 (19 + (0 : Int32).toNatClampNeg) = 0 := by
      rw [show 19 + (0 : Int32).toNatClampNeg = 19 from rfl, mayEnd_I hE1 (by decide)]; rfl
    rw [if_pos hm]
    refine ⟨_, rfl, ?_, hOc, hr1⟩
    have : L.N = 0 := by unfold Lt.N; rw [if_pos hn]
    rw [this]; exact hJ1
  · have hNN : L.N = L.P 0 := by unfold Lt.N; rw [if_neg hn]
    have hw := walk_ok hL hS (by omega) L.n 0 (by omega) 9 (by omega) 0 e0 G1 (by rw [hNN]; omega) rfl (by rw [Nat.zero_mul]; exact hJ1) hN1 hE1 (fun j v h => by cases h) (fun i hi => by omega)
    refine Ok.imp hw ?_
    rintro G' ⟨a, b, c⟩
    refine ⟨?_, hOc.tr (b.w (fun k j z => ?_)), hr1.tr c⟩
    · rw [hNN]; rw [Nat.zero_add, Nat.one_mul] at a; exact a
    · simp [cqZ, xwZ, wZ, liZ] at z ⊢; omega
