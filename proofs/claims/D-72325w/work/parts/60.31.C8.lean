/-! those unlike the best in one slot; how many have which candidate -/
def ctR (f : Nat → Bool) (a : Nat) : Nat → Nat
  | 0 => 0
  | d + 1 => ctR f a d + if f (a + d) = true then 1 else 0
theorem ctR_add (f : Nat → Bool) (a d1 : Nat) : ∀ d2, ctR f a (d1 + d2) = ctR f a d1 + ctR f (a + d1) d2 := by
  intro d2
  induction d2 with
  | zero => rfl
  | succ d2 ih =>
    show ctR f a (d1 + d2) + (if f (a + (d1 + d2)) = true then 1 else 0) = ctR f a d1 + (ctR f (a + d1) d2 + if f (a + d1 + d2) = true then 1 else 0)
    rw [ih, show a + (d1 + d2) = a + d1 + d2 by omega, Nat.add_assoc]
theorem ctR_ext {f g : Nat → Bool} {a : Nat} : ∀ d, (∀ r, a ≤ r → r < a + d → f r = g r) → ctR f a d = ctR g a d := by
  intro d
  induction d with
  | zero => intro _; rfl
  | succ d ih =>
    intro h
    show ctR f a d + _ = ctR g a d + _
    rw [ih (fun r h1 h2 => h r h1 (by omega)), h (a + d) (by omega) (by omega)]
theorem ctR_z (a : Nat) : ∀ d, ctR (fun _ => false) a d = 0 := by
  intro d
  induction d with
  | zero => rfl
  | succ d ih => show ctR _ a d + 0 = 0; rw [ih]
theorem ctR_blk (f : Nat → Bool) (q m P : Nat) : ∀ c, ctR f (q * (m * P)) (c * P) = su (fun c => ctR f ((q * m + c) * P) P) c := by
  intro c
  induction c with
  | zero => rw [Nat.zero_mul]; rfl
  | succ c ih =>
    show _ = su _ c + ctR f ((q * m + c) * P) P
    rw [Nat.succ_mul, ctR_add, ih, show q * (m * P) + c * P = (q * m + c) * P by rw [← Nat.mul_assoc, Nat.add_mul]]
theorem su_one {g : Nat → Nat} {v j : Nat} : ∀ m, (∀ c, c < m → g c = if c = j then v else 0) → su g m = if j < m then v else 0 := by
  intro m
  induction m with
  | zero => intro _; rfl
  | succ m ih =>
    intro h
    show su g m + g m = _
    rw [ih (fun c hc => h c (by omega)), h m (by omega)]
    by_cases e : m = j
    · rw [if_neg (by omega), if_pos e, if_pos (by omega), Nat.zero_add]
    · rw [if_neg e]
      by_cases e2 : j < m
      · rw [if_pos e2, if_pos (by omega)]; rfl
      · rw [if_neg e2, if_neg (by omega)]
theorem Lt.wl_ext (L : Lt) {p p' : Nat → Nat} : ∀ n, (∀ i, i < n → p i = p' i) → L.wl p n = L.wl p' n := by
  intro n
  induction n with
  | zero => intro _; rfl
  | succ n ih =>
    intro h
    rw [L.wl_s, L.wl_s, ih (fun i hi => h i (by omega)), h n (by omega)]
theorem Lt.bad_ext {L : Lt} {p p' : Nat → Nat} (h : ∀ i, i < L.n → p i = p' i) : L.bad p = L.bad p' := by
  unfold Lt.bad Lt.tell
  rw [L.wl_ext L.n h]
/-- how many slots from k on are unlike -/
def Lt.hm (L : Lt) (p : Nat → Nat) (r : Nat) : Nat → Nat → Nat
  | _, 0 => 0
  | k, d + 1 => (if L.pk r k = p k then 0 else 1) + L.hm p r (k + 1) d
def Lt.ofN (L : Lt) (p : Nat → Nat) (r : Nat) : Nat → Nat
  | 0 => 0
  | i + 1 => L.ofN p r i + if L.pk r i = p i then 0 else 1
theorem Lt.of_hm (L : Lt) (p : Nat → Nat) (r : Nat) : ∀ d k, L.ofN p r (k + d) = L.ofN p r k + L.hm p r k d := by
  intro d
  induction d with
  | zero => intro k; rfl
  | succ d ih =>
    intro k
    rw [show k + (d + 1) = (k + 1) + d by omega, ih (k + 1)]
    show L.ofN p r k + _ + L.hm p r (k + 1) d = L.ofN p r k + (_ + L.hm p r (k + 1) d)
    rw [Nat.add_assoc]
theorem Lt.of_le (L : Lt) (p : Nat → Nat) (r : Nat) : ∀ i, L.ofN p r i ≤ i := by
  intro i
  induction i with
  | zero => exact Nat.le_refl _
  | succ i ih => show L.ofN p r i + _ ≤ _; split <;> omega
theorem Lt.blk_pk {L : Lt} (hL : L.Wf) {k q c r : Nat} (hk : k < L.n) (hc : c < L.m k) (h1 : (q * L.m k + c) * L.P (k + 1) ≤ r) (h2 : r < (q * L.m k + c) * L.P (k + 1) + L.P (k + 1)) : L.pk r k = c ∧ ∀ i, i < k → L.pk r i = L.pk (q * L.P k) i := by
  have hP := hL.Ppos (k + 1)
  have hd : r / L.P (k + 1) = q * L.m k + c := Nat.div_eq_of_lt_le h1 (by rw [Nat.succ_mul]; exact h2)
  refine ⟨?_, fun i hi => ?_⟩
  · unfold Lt.pk
    rw [hd, Nat.mul_comm, Nat.mul_add_mod, Nat.mod_eq_of_lt hc]
  · refine L.pk_pre (Nat.le_of_lt hk) ?_ hi
    rw [Nat.mul_div_cancel _ (hL.Ppos k), L.P_s hk, Nat.mul_comm, ← Nat.div_div_eq_div_mul, hd, Nat.mul_comm, Nat.mul_add_div (by omega), Nat.div_eq_of_lt hc, Nat.add_zero]
theorem Lt.spA {L : Lt} (hL : L.Wf) {p0 : Nat → Nat} (h0 : L.pOk p0) : ∀ d k, k + d = L.n → ∀ q p, (∀ i, i < k → p i = L.pk (q * L.P k) i) → (∀ i, k ≤ i → i < L.n → p i = p0 i) → ctR (fun r => decide (L.hm p0 r k d = 0) && L.bad (L.pk r)) (q * L.P k) (L.P k) = if L.bad p = true then 1 else 0 := by
  intro d
  induction d with
  | zero =>
    intro k hk q p h1 h2
    have e : k = L.n := by omega
    subst e
    rw [L.P_n, Nat.mul_one]
    rw [L.P_n, Nat.mul_one] at h1
    show 0 + (if (decide (0 = 0) && L.bad (L.pk (q + 0))) = true then 1 else 0) = _
    rw [Nat.add_zero, Nat.zero_add, L.bad_ext (p := p) (p' := L.pk q) h1]
    simp
  | succ d ih =>
    intro k hk q p h1 h2
    have hkn : k < L.n := by omega
    have hp := h0 k hkn
    rw [L.P_s hkn, ctR_blk]
    rw [su_one (v := if L.bad p = true then 1 else 0) (j := p0 k) (L.m k), if_pos hp]
    intro c hc
    by_cases e : c = p0 k
    · rw [if_pos e]
      have hb := fun r h1 h2 => L.blk_pk hL (q := q) (r := r) hkn hc h1 h2
      rw [← ih (k + 1) (by omega) (q * L.m k + c) p ?_ (fun i hi => h2 i (by omega))]
      · refine ctR_ext _ (fun r g1 g2 => ?_)
        show (decide ((if L.pk r k = p0 k then 0 else 1) + L.hm p0 r (k + 1) d = 0) && _) = _
        rw [(hb r g1 g2).1, if_pos e, Nat.zero_add]
      · intro i hi
        have hP := hL.Ppos (k + 1)
        have hbb := hb ((q * L.m k + c) * L.P (k + 1)) (Nat.le_refl _) (by omega)
        by_cases e2 : i = k
        · subst e2; rw [hbb.1, h2 i (Nat.le_refl _) hkn, e]
        · rw [hbb.2 i (by omega)]; exact h1 i (by omega)
    · rw [if_neg e]
      refine (ctR_ext (g := fun _ => false) _ (fun r g1 g2 => ?_)).trans (ctR_z _ _)
      show (decide ((if L.pk r k = p0 k then 0 else 1) + L.hm p0 r (k + 1) d = 0) && _) = _
      rw [(L.blk_pk hL (q := q) (r := r) hkn hc g1 g2).1, if_neg e, decide_eq_false (by omega), Bool.false_and]
def Lt.tS (L : Lt) (p : Nat → Nat) : Nat → Nat → Nat
  | _, 0 => 0
  | k, d + 1 => L.sp1 p k (L.m k) + L.tS p (k + 1) d
theorem Lt.sp_tS (L : Lt) (p : Nat → Nat) : ∀ d k, L.sp p (k + d) = L.sp p k + L.tS p k d := by
  intro d
  induction d with
  | zero => intro k; rfl
  | succ d ih =>
    intro k
    rw [show k + (d + 1) = (k + 1) + d by omega, ih (k + 1)]
    show L.sp p k + L.sp1 p k (L.m k) + L.tS p (k + 1) d = L.sp p k + (L.sp1 p k (L.m k) + L.tS p (k + 1) d)
    rw [Nat.add_assoc]
theorem Lt.spB {L : Lt} (hL : L.Wf) {p0 : Nat → Nat} (h0 : L.pOk p0) : ∀ d k, k + d = L.n → ∀ q, (∀ i, i < k → L.pk (q * L.P k) i = p0 i) → ctR (fun r => decide (L.hm p0 r k d = 1) && L.bad (L.pk r)) (q * L.P k) (L.P k) = L.tS p0 k d := by
  intro d
  induction d with
  | zero =>
    intro k hk q _
    refine (ctR_ext (g := fun _ => false) _ (fun r _ _ => ?_)).trans (ctR_z _ _)
    show (decide (0 = 1) && _) = false
    rfl
  | succ d ih =>
    intro k hk q h1
    have hkn : k < L.n := by omega
    have hp := h0 k hkn
    have hP := hL.Ppos (k + 1)
    rw [L.P_s hkn, ctR_blk]
    have key : ∀ m, m ≤ L.m k → su (fun c => ctR (fun r => decide (L.hm p0 r k (d + 1) = 1) && L.bad (L.pk r)) ((q * L.m k + c) * L.P (k + 1)) (L.P (k + 1))) m = L.sp1 p0 k m + if p0 k < m then L.tS p0 (k + 1) d else 0 := by
      intro m
      induction m with
      | zero => intro _; rfl
      | succ c ihc =>
        intro hc
        have hc' : c < L.m k := by omega
        have hb := fun r h1 h2 => L.blk_pk hL (q := q) (c := c) (r := r) hkn hc' h1 h2
        have hbb := hb ((q * L.m k + c) * L.P (k + 1)) (Nat.le_refl _) (by omega)
        show su _ c + ctR _ ((q * L.m k + c) * L.P (k + 1)) (L.P (k + 1)) = L.sp1 p0 k c + _ + _
        rw [ihc (by omega)]
        by_cases e : c = p0 k
        · have : ctR (fun r => decide (L.hm p0 r k (d + 1) = 1) && L.bad (L.pk r)) ((q * L.m k + c) * L.P (k + 1)) (L.P (k + 1)) = L.tS p0 (k + 1) d := by
            rw [← ih (k + 1) (by omega) (q * L.m k + c) ?_]
            · refine ctR_ext _ (fun r g1 g2 => ?_)
              show (decide ((if L.pk r k = p0 k then 0 else 1) + L.hm p0 r (k + 1) d = 1) && _) = _
              rw [(hb r g1 g2).1, if_pos e, Nat.zero_add]
            · intro i hi
              by_cases e2 : i = k
              · subst e2; rw [hbb.1, e]
              · rw [hbb.2 i (by omega)]; exact h1 i (by omega)
          rw [this, if_neg (show ¬ p0 k < c by omega), if_pos (show p0 k < c + 1 by omega), if_neg (show ¬ (p0 k ≠ c ∧ _) from fun z => z.1 e.symm)]
        · have : ctR (fun r => decide (L.hm p0 r k (d + 1) = 1) && L.bad (L.pk r)) ((q * L.m k + c) * L.P (k + 1)) (L.P (k + 1)) = if L.bad (setp p0 k c) = true then 1 else 0 := by
            rw [← L.spA hL h0 d (k + 1) (by omega) (q * L.m k + c) (setp p0 k c) ?_ ?_]
            · refine ctR_ext _ (fun r g1 g2 => ?_)
              show (decide ((if L.pk r k = p0 k then 0 else 1) + L.hm p0 r (k + 1) d = 1) && _) = _
              rw [(hb r g1 g2).1, if_neg e]
              congr 1
              by_cases e3 : L.hm p0 r (k + 1) d = 0
              · rw [decide_eq_true e3, decide_eq_true (by omega)]
              · rw [decide_eq_false e3, decide_eq_false (by omega)]
            · intro i hi
              unfold setp
              by_cases e2 : i = k
              · rw [if_pos e2, e2, hbb.1]
              · rw [if_neg e2, hbb.2 i (by omega)]; exact (h1 i (by omega)).symm
            · intro i hi hin
              unfold setp
              rw [if_neg (by omega)]
          rw [this]
          have e5 : (if p0 k < c then L.tS p0 (k + 1) d else 0) = if p0 k < c + 1 then L.tS p0 (k + 1) d else 0 := by
            by_cases e6 : p0 k < c
            · rw [if_pos e6, if_pos (by omega)]
            · rw [if_neg e6, if_neg (by omega)]
          have e7 : (if p0 k ≠ c ∧ L.bad (setp p0 k c) = true then 1 else 0) = if L.bad (setp p0 k c) = true then 1 else 0 := by
            by_cases e8 : L.bad (setp p0 k c) = true
            · rw [if_pos e8, if_pos ⟨fun z => e z.symm, e8⟩]
            · rw [if_neg e8, if_neg (fun z => e8 z.2)]
          rw [e5, e7]
          omega
    rw [key (L.m k) (Nat.le_refl _), if_pos hp]
    rfl
/-- so many of the first readings are unlike in one slot, said, not sound -/
def Lt.spN (L : Lt) (p : Nat → Nat) : Nat → Nat := ctR (fun r => decide (L.ofN p r L.n = 1) && L.bad (L.pk r)) 0
theorem Lt.spN_s (L : Lt) (p : Nat → Nat) (r : Nat) : L.spN p (r + 1) = L.spN p r + if (decide (L.ofN p r L.n = 1) && L.bad (L.pk r)) = true then 1 else 0 := by
  show ctR _ 0 r + (if (decide (L.ofN p (0 + r) L.n = 1) && L.bad (L.pk (0 + r))) = true then 1 else 0) = _
  rw [Nat.zero_add]; rfl
theorem Lt.spN_sp {L : Lt} (hL : L.Wf) {p : Nat → Nat} (h0 : L.pOk p) : L.spN p L.N = L.sp p L.n := by
  by_cases hn : L.n = 0
  · have : L.N = 0 := by unfold Lt.N; rw [if_pos hn]
    rw [this, hn]; rfl
  · have hN : L.N = L.P 0 := by unfold Lt.N; rw [if_neg hn]
    have h1 := L.sp_tS p L.n 0
    have h2 := L.spB hL h0 L.n 0 (by omega) 0 (fun i hi => by omega)
    rw [Nat.zero_add] at h1
    rw [h1, hN]
    rw [Nat.zero_mul] at h2
    show ctR _ 0 (L.P 0) = 0 + _
    rw [Nat.zero_add, ← h2]
    refine ctR_ext _ (fun r _ _ => ?_)
    have h3 := L.of_hm p r L.n 0
    rw [Nat.zero_add] at h3
    have h00 : L.ofN p r 0 = 0 := rfl
    have h4 : L.ofN p r L.n = L.hm p r 0 L.n := by omega
    show (decide (L.ofN p r L.n = 1) && _) = _
    rw [h4]
def pJ (L : Lt) (b r : Nat) (G : gP) : Prop := (fJ L L.N G) ∧ (gS G 533 2 = nI (L.spN (L.pk b) r))
theorem pJ.f {L : Lt} {b r : Nat} {G : gP} (h : pJ L b r G) : (fJ L L.N G) := h.1
theorem pJ.many {L : Lt} {b r : Nat} {G : gP} (h : pJ L b r G) : (gS G 533 2 = nI (L.spN (L.pk b) r)) := h.2
theorem off_ok {L : Lt} (hL : L.Wf) {b r : Nat} {ns : List Nat} {G : gP} (hB : L.B = some b) (hf : fJ L L.N G) (hs : sdP L r ns G) : Ok (gloop (f_X17_said_b4 G) gFu ((0 : Int32), (0 : Int32))) (fun x => x = nI (L.ofN (L.pk b) r L.n)) := by
  have h8 := hL.n8
  obtain ⟨-, b2, -⟩ := hf.bn hB
  refine Ok.up (fun i s => s = (nI (L.ofN (L.pk b) r i), nI i)) L.n (by omega) ?_ ?_ rfl
  · rintro i s hi rfl
    unfold f_X17_said_b4
    have hp := hL.pk_lt (r := r) hi
    have hp2 := hL.pk_lt (r := b) hi
    have hm := hL.m1 i hi
    simp only
    rw [hs.now.1.1, if_neg (nI_ge hi (by omega)), gIn_t (by omega) (by omega), gck_t, gck_t, nI_clamp (by omega), hs.pk i hi, b2 i hi]
    simp only [gLet_e]
    have e : (if nI (L.pk r i) = nI (L.pk b i) then (0 : Int32) else 1) = nI (if L.pk r i = L.pk b i then 0 else 1) := by
      by_cases h : L.pk r i = L.pk b i
      · rw [if_pos (nI_inj h), if_pos h]; rfl
      · rw [if_neg (fun z => h ((nI_eq (by omega) (by omega)).mp z)), if_neg h]; rfl
    rw [e, nI_add, nI_1]
    exact ⟨_, rfl, rfl⟩
  · rintro s rfl
    unfold f_X17_said_b4
    simp only
    rw [hs.now.1.1, if_pos (nI_le (Nat.le_refl _) (by omega))]
    exact ⟨_, rfl, rfl⟩
theorem spoilt_LS {L : Lt} (hL : L.Wf) {b : Nat} (hB : L.B = some b) : LsP L 533 (pJ L b) := by
  refine ⟨fun r ns G hr hev hJ hs => ?_, fun r G _ he hJ => ⟨hJ.f, ?_⟩, fun r G G' hJ hO _ => ⟨hJ.f.off hO (fun k j hk => by simp [wZ]; omega), by rw [(hO 533 2 (by simp [wZ])).1]; exact hJ.many⟩⟩
  · unfold fSd
    rw [if_neg (by decide), if_neg (by decide), if_neg (by decide), if_neg (by decide), if_pos rfl]
    unfold f_X17_said
    have h8 := hL.n8
    have hof := L.of_le (L.pk b) r L.n
    refine Ok.bind (off_ok hL hB hJ.f hs) (fun x hx => ?_)
    subst hx
    have hbad : L.bad (L.pk r) = !L.so r := by
      unfold Lt.bad Lt.so
      show (match L.ev r with | none => false | some ns => !sound L.kind ns) = _
      rw [hev]
    have put : ∀ v : Nat, L.spN (L.pk b) (r + 1) = L.spN (L.pk b) r + v → Ok (some (gS1 G 533 2 (gS G 533 2 + nI v))) (fun G' => pJ L b (r + 1) G' ∧ gOff liZ G G' ∧ rSame G G') := by
      intro v hv
      refine ⟨_, rfl, ⟨hJ.f.off (Z := fun k _ => decide (k = 533)) (gOff.rf.S1 (by simp)) (fun k j hk => by simp; omega), ?_⟩, gOff.rf.S1 (by simp [liZ]), rSame.rf.S1⟩
      rw [gS_at, hJ.many, nI_add, hv]
    have hsp := L.spN_s (L.pk b) r
    rw [hbad] at hsp
    simp only [gLet_e]
    by_cases h1 : L.ofN (L.pk b) r L.n = 1
    · rw [if_pos (show nI (L.ofN (L.pk b) r L.n) = 1 by rw [h1]; rfl), snd533]
      rw [decide_eq_true h1, Bool.true_and] at hsp
      refine Ok.bind (hs.so hL hev) (fun y hy => ?_)
      subst hy
      cases hso : L.so r with
      | false =>
        rw [if_pos (show bI false = 0 from rfl)]
        rw [hso] at hsp
        exact put 1 hsp
      | true =>
        rw [if_neg (show ¬ bI true = 0 by decide)]
        rw [hso] at hsp
        exact put 0 hsp
    · rw [if_neg (show ¬ nI (L.ofN (L.pk b) r L.n) = 1 from fun z => h1 ((nI_eq (b := 1) (by omega) (by decide)).mp z))]
      rw [decide_eq_false h1, Bool.false_and] at hsp
      exact put 0 hsp
  · rw [L.spN_s]
    have : L.bad (L.pk r) = false := by
      unfold Lt.bad
      show (match L.ev r with | none => false | some ns => !sound L.kind ns) = _
      rw [he]
    rw [this, Bool.and_false, if_neg (by decide), Nat.add_zero]; exact hJ.many
theorem xspoilt_ok {G : gP} {L : Lt} (hL : L.Wf) (hN : xNow G L) (hK : xRk G) : Ok (f_X0_spoiltMany G) (qA G L.spo) := by
  unfold f_X0_spoiltMany Lt.spo
  refine Ok.bind (first_ok hL hN hK) (fun G1 h1 => ?_)
  obtain ⟨hf1, hq1⟩ := h1
  rw [isAny_I hL hf1, gDec_t (hK.same hq1.2), gck_t]
  cases hB : L.B with
  | none => rw [if_pos (show bI (none : Option Nat).isSome = 0 from rfl)]; exact ⟨_, rfl, hq1, rfl⟩
  | some b =>
    rw [if_neg (show ¬ bI (some b).isSome = 0 by show ¬ bI true = 0; decide)]
    simp only [gLet_e]
    have hq2 : qP G1 (xMk17 G1) := by unfold xMk17; exact ⟨gOff.rf.Sa (fun j => by simp [cqZ, liZ]), rSame.rf.Sa⟩
    have hJ0 : pJ L b 0 (xMk17 G1) := by
      refine ⟨?_, ?_⟩
      · unfold xMk17
        exact hf1.off (Z := fun k _ => decide (k = 533)) (gOff.rf.Sa (fun j => by simp)) (fun k j hk => by simp; omega)
      · unfold xMk17
        rw [gS_Sa, if_pos rfl]
        rfl
    refine Ok.bind (listen_ok hL (spoilt_LS hL hB) (hq2.now hL (hq1.now hL hN)) hJ0) (fun G2 h2 => ?_)
    obtain ⟨hJ, hO, hr⟩ := h2
    refine ⟨_, rfl, (hq1.tr hq2).tr ⟨hO, hr⟩, ?_⟩
    simp only
    rw [hJ.many, L.spN_sp hL (hL.pk_ok b)]
