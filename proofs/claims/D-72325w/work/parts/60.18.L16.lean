/-! the Model: spoilt, likely, slot, count -/
def setp (p : Nat → Nat) (k c : Nat) : Nat → Nat := fun i => if i = k then c else p i
def Lt.bad (L : Lt) (p : Nat → Nat) : Bool := match L.tell p with
  | none => false
  | some ns => !sound L.kind ns
def Lt.sp1 (L : Lt) (p : Nat → Nat) (k : Nat) : Nat → Nat
  | 0 => 0
  | c + 1 => L.sp1 p k c + if p k ≠ c ∧ L.bad (setp p k c) = true then 1 else 0
def Lt.sp (L : Lt) (p : Nat → Nat) : Nat → Nat
  | 0 => 0
  | k + 1 => L.sp p k + L.sp1 p k (L.m k)
theorem Lt.sp1_le (L : Lt) (p : Nat → Nat) (k : Nat) : ∀ c, L.sp1 p k c ≤ c := by
  intro c
  induction c with
  | zero => exact Nat.le_refl _
  | succ c ih => unfold Lt.sp1; split <;> omega
theorem Lt.Wf.sp_le {L : Lt} (hL : L.Wf) (p : Nat → Nat) : ∀ k, k ≤ L.n → L.sp p k ≤ 4 * k := by
  intro k
  induction k with
  | zero => intro _; exact Nat.le_refl _
  | succ k ih =>
    intro hk
    have := ih (by omega)
    have h1 := L.sp1_le p k (L.m k)
    have h2 := hL.m1 k (by omega)
    unfold Lt.sp; omega
def Lt.spo (L : Lt) : Int32 := match L.B with
  | none => -4
  | some b => nI (L.sp (L.pk b) L.n)
theorem spoilt_ok {G : gP} {L : Lt} (hL : L.Wf) (hR : mRow G 1 0 L) : Ok (f_X11_spoilt G) (fun q => gOff qZ G q.1 ∧ q.2 = L.spo) := by
  unfold f_X11_spoilt Lt.spo
  have h8 := hL.n8
  have hN := hL.N_le
  refine Ok.bind (finds_ok hL hR) (fun G1 h1 => ?_)
  obtain ⟨hO, hF⟩ := h1
  have hO' := hO.w (fun k j => qZ_f)
  rw [hF.best]
  cases hb : L.B with
  | none => unfold Lt.B at hb; rw [hb, rI_none, if_pos rfl]; exact ⟨_, rfl, hO', rfl⟩
  | some b =>
    have hbl := L.B_lt hb
    unfold Lt.B at hb
    rw [hb, if_neg (rI_ne (by omega))]
    obtain ⟨nb, heb, hsb⟩ := L.so_ev hbl.2
    refine Ok.bind (Q := fun q => gOff qZ G q.1 ∧ q.2 = nI (L.sp (L.pk b) L.n)) ?_ (fun q hq => ⟨_, rfl, hq⟩)
    have hpb := hL.pk_ok b
    refine Ok.up (fun k s => gOff qZ G s.1 ∧ gS s.1 0 10 = nI b ∧ s.2 = (nI (L.sp (L.pk b) k), nI k)) L.n (by omega) ?_ ?_ ⟨hO', by rw [hF.best, hb]; rfl, rfl⟩
    · rintro k ⟨G2, z⟩ hk ⟨hO2, h10, hz⟩
      simp only at hO2 h10 hz
      subst hz
      unfold f_X11_spoilt_b20
      have hR2 := hR.q hO2
      have hspk := hL.sp_le (L.pk b) k (by omega)
      have hm := hL.m1 k hk
      simp (disch := omega) only [nLit, neg_nI, nI_add, pk_mul, nI_sub1, nI_clamp, gIn_t, gck_t, gLet_e, nI_leI, nI_ltJ, nI_eq, nI_nM_eq, nM_nI_eq, nM_eq, nM_nI_le, nI_nM_le, nM_nI_lt, nI_nM_lt, at_nI, gS_at, gS_ne', obind_some, iteT, iteF, ite_p, ite_n, hR2.1]
      refine Ok.bind (Q := fun q => gOff qZ G q.1 ∧ gS q.1 0 10 = nI b ∧ q.2 = nI (L.sp (L.pk b) (k + 1))) ?_ (fun q hq => ⟨_, rfl, hq.1, hq.2.1, by simp only; rw [hq.2.2]⟩)
      refine Ok.up (fun c s => gOff qZ G s.1 ∧ gS s.1 0 10 = nI b ∧ s.2 = (nI (L.sp (L.pk b) k + L.sp1 (L.pk b) k c), nI c)) (L.m k) (by omega) ?_ ?_ ⟨hO2, h10, rfl⟩
      · rintro c ⟨G3, z⟩ hc ⟨hO3, h10, hz⟩
        simp only at hO3 h10 hz
        subst hz
        have hR3 := hR.q hO3
        have e0 := (hR3.2.2.2.2 k hk).1
        rw [show 0 + 4 + 9 * k = 4 + 9 * k by omega] at e0
        have hs1 := L.sp1_le (L.pk b) k c
        unfold f_X11_spoilt_b32
        simp (disch := omega) only [nLit, neg_nI, nI_add, pk_mul, nI_sub1, nI_clamp, gIn_t, gck_t, gLet_e, nI_leI, nI_ltJ, nI_eq, nI_nM_eq, nM_nI_eq, nM_eq, nM_nI_le, nI_nM_le, nM_nI_lt, nI_nM_lt, at_nI, gS_at, gS_ne', obind_some, iteT, iteF, ite_p, ite_n, e0, h10]
        refine Ok.bind (takes_ok hL hR3 (show b < 2 ^ 31 by omega)) (fun q hq => ?_)
        obtain ⟨hO4, hp, hcs, hmm⟩ := hq
        rw [heb] at hmm
        obtain ⟨hm1, -⟩ := hmm
        have hO5 := hO3.tr (hO4.w (fun k j => qZ_t))
        have q10 : gS q.1 0 10 = nI b := by rw [(hO4 0 10 rfl).1]; exact h10
        have hpl := hL.pk_lt (r := b) hk
        have hsp : mPk (gS1 q.1 2 k (nI c)) L.n (setp (L.pk b) k c) := by
          intro i hi
          unfold setp
          by_cases e : i = k
          · subst e; rw [gS_at, if_pos rfl]
          · rw [gS_ne (by omega), if_neg e]; exact hp i hi
        have hpo : L.pOk (setp (L.pk b) k c) := by
          intro i hi
          unfold setp
          by_cases e : i = k
          · subst e; rw [if_pos rfl]; exact hc
          · rw [if_neg e]; exact hpb i hi
        have hO6 : gOff qZ G (gS1 q.1 2 k (nI c)) := hO5.S1 (by simp [qZ])
        have g10 : gS (gS1 q.1 2 k (nI c)) 0 10 = nI b := by rw [gS_ne (by omega)]; exact q10
        rw [hm1]
        simp (disch := omega) only [nLit, neg_nI, nI_add, pk_mul, nI_sub1, nI_clamp, gIn_t, gck_t, gLet_e, nI_leI, nI_ltJ, nI_eq, nI_nM_eq, nM_nI_eq, nM_eq, nM_nI_le, nI_nM_le, nM_nI_lt, nI_nM_lt, at_nI, gS_at, gS_ne', obind_some, iteT, iteF, ite_p, ite_n, hp k hk]
        by_cases hoth : L.pk b k = c
        · simp (disch := omega) only [nLit, neg_nI, nI_add, pk_mul, nI_sub1, nI_clamp, gIn_t, gck_t, gLet_e, nI_leI, nI_ltJ, nI_eq, nI_nM_eq, nM_nI_eq, nM_eq, nM_nI_le, nI_nM_le, nM_nI_lt, nI_nM_lt, at_nI, gS_at, gS_ne', obind_some, iteT, iteF, ite_p, ite_n]
          refine ⟨_, rfl, hO6, g10, ?_⟩
          simp only [Lt.sp1]
          rw [if_neg (fun z => z.1 hoth)]; rfl
        · simp (disch := omega) only [nLit, neg_nI, nI_add, pk_mul, nI_sub1, nI_clamp, gIn_t, gck_t, gLet_e, nI_leI, nI_ltJ, nI_eq, nI_nM_eq, nM_nI_eq, nM_eq, nM_nI_le, nI_nM_le, nM_nI_lt, nI_nM_lt, at_nI, gS_at, gS_ne', obind_some, iteT, iteF, ite_p, ite_n]
          refine Ok.bind (Q := fun r : gP × Int32 => gOff qZ G r.1 ∧ gS r.1 0 10 = nI b ∧ r.2 = nI (if L.bad (setp (L.pk b) k c) = true then 1 else 0)) ?_ (fun r hr => ?_)
          · refine Ok.bind (takesPicked_ok hL (hR.q hO6) hpo hsp) (fun r hr => ?_)
            obtain ⟨hO7, hc7, hm7⟩ := hr
            have hO8 : gOff qZ G r.1 := hO6.tr (hO7.w (fun k j h => by simp [qZ] at h; simp; omega))
            have r10 : gS r.1 0 10 = nI b := by rw [(hO7 0 10 rfl).1]; exact g10
            cases ht : L.tell (setp (L.pk b) k c) with
            | none =>
              rw [ht] at hm7
              simp only at hm7
              rw [hm7, if_pos (by decide)]
              exact ⟨_, rfl, hO8, r10, by unfold Lt.bad; rw [ht]; rfl⟩
            | some ns =>
              rw [ht] at hm7
              rw [hm7.1, if_neg (by decide)]
              have hok := hm7.2.ok hL hpo ht
              refine Ok.bind (holds_ok hL (hR.q hO8) hm7.2 hok) (fun y hy => ?_)
              rw [hy]
              have ebad : L.bad (setp (L.pk b) k c) = !sound L.kind ns := by unfold Lt.bad; rw [ht]
              rw [ebad]
              cases sound L.kind ns with
              | false => rw [if_pos (by decide)]; exact ⟨_, rfl, hO8, r10, rfl⟩
              | true => rw [if_neg (by decide)]; exact ⟨_, rfl, hO8, r10, rfl⟩
          · obtain ⟨h1, h2, h3⟩ := hr
            rw [h3]
            simp (disch := omega) only [nLit, neg_nI, nI_add, pk_mul, nI_sub1, nI_clamp, gIn_t, gck_t, gLet_e, nI_leI, nI_ltJ, nI_eq, nI_nM_eq, nM_nI_eq, nM_eq, nM_nI_le, nI_nM_le, nM_nI_lt, nI_nM_lt, at_nI, gS_at, gS_ne', obind_some, iteT, iteF, ite_p, ite_n]
            refine ⟨_, rfl, h1, h2, ?_⟩
            simp only [Lt.sp1]
            by_cases hbd : L.bad (setp (L.pk b) k c) = true
            · rw [if_pos hbd, if_pos ⟨hoth, hbd⟩, Nat.add_assoc]
            · rw [if_neg hbd, if_neg (fun z => hbd z.2), Nat.add_assoc]
      · rintro ⟨G3, z⟩ ⟨hO3, h10, hz⟩
        simp only at hO3 h10 hz
        subst hz
        have hR3 := hR.q hO3
        have e0 := (hR3.2.2.2.2 k hk).1
        rw [show 0 + 4 + 9 * k = 4 + 9 * k by omega] at e0
        unfold f_X11_spoilt_b32
        simp (disch := omega) only [nLit, neg_nI, nI_add, pk_mul, nI_sub1, nI_clamp, gIn_t, gck_t, gLet_e, nI_leI, nI_ltJ, nI_eq, nI_nM_eq, nM_nI_eq, nM_eq, nM_nI_le, nI_nM_le, nM_nI_lt, nI_nM_lt, at_nI, gS_at, gS_ne', obind_some, iteT, iteF, ite_p, ite_n, e0]
        exact ⟨_, rfl, hO3, h10, rfl⟩
    · rintro ⟨G2, z⟩ ⟨hO2, h10, hz⟩
      simp only at hO2 h10 hz
      subst hz
      unfold f_X11_spoilt_b20
      simp (disch := omega) only [nLit, neg_nI, nI_add, pk_mul, nI_sub1, nI_clamp, gIn_t, gck_t, gLet_e, nI_leI, nI_ltJ, nI_eq, nI_nM_eq, nM_nI_eq, nM_eq, nM_nI_le, nI_nM_le, nM_nI_lt, nI_nM_lt, at_nI, gS_at, gS_ne', obind_some, iteT, iteF, ite_p, ite_n, (hR.q hO2).1]
      exact ⟨_, rfl, hO2, rfl⟩
/-- longs by their number -/
def iL (n : Nat) : Int64 := Int64.ofNat n
theorem iL_add (a b : Nat) : iL a + iL b = iL (a + b) := (Int64.ofNat_add a b).symm
theorem iL_mul (a b : Nat) : iL a * iL b = iL (a * b) := (Int64.ofNat_mul a b).symm
theorem iL_toInt {n : Nat} (h : n < 2 ^ 63) : (iL n).toInt = (n : Int) := Int64.toInt_ofNat_of_lt h
theorem iL_0 {n : Nat} (h : n < 2 ^ 63) : iL n = 0 ↔ n = 0 := by
  rw [← Int64.toInt_inj, iL_toInt h]
  show (n : Int) = 0 ↔ _
  omega
theorem iL_div {a b : Nat} (ha : a < 2 ^ 63) (hb : b < 2 ^ 63) : iL a / iL b = iL (a / b) := by
  have h1 : a / b ≤ a := Nat.div_le_self _ _
  rw [← Int64.toInt_inj, Int64.toInt_div_of_ne_left _ _ (fun z => by
    have := congrArg Int64.toInt z
    rw [iL_toInt ha] at this
    have e : Int64.minValue.toInt = -9223372036854775808 := by decide
    omega), iL_toInt ha, iL_toInt hb, iL_toInt (by omega)]
  rw [Int.ofNat_tdiv]
theorem iL_rem {a b : Nat} (ha : a < 2 ^ 63) (hb : b < 2 ^ 63) (h0 : 0 < b) : gRemL (iL a) (iL b) = iL (a % b) := by
  unfold gRemL
  rw [iL_div ha hb, iL_mul]
  have h1 : a / b * b + a % b = a := Nat.div_add_mod' a b
  have h2 : iL a = iL (a % b) + iL (a / b * b) := by rw [iL_add, Nat.add_comm, h1]
  rw [h2, Int64.add_sub_cancel]
/-- what a reading weighs -/
def Lt.wt (L : Lt) (p : Nat → Nat) : Nat → Nat
  | 0 => 1
  | i + 1 => L.wt p i * (10 - L.c i (p i))
def Lt.lst (L : Lt) (r : Nat) : Nat := ((L.ev r).getD []).getLastD 0
def Lt.wB (L : Lt) : Nat → Nat
  | 0 => 0
  | t + 1 => if L.so t = true then L.wB t + L.wt (L.pk t) L.n else L.wB t
def Lt.wA (L : Lt) (v : Nat) : Nat → Nat
  | 0 => 0
  | t + 1 => if L.so t = true ∧ L.lst t = v then L.wA v t + L.wt (L.pk t) L.n else L.wA v t
theorem Lt.wt_le (L : Lt) (p : Nat → Nat) : ∀ i, L.wt p i ≤ 10 ^ i := by
  intro i
  induction i with
  | zero => exact Nat.le_refl _
  | succ i ih => unfold Lt.wt; rw [Nat.pow_succ]; exact Nat.mul_le_mul ih (by omega)
theorem Lt.Wf.wt8 {L : Lt} (hL : L.Wf) (p : Nat → Nat) : L.wt p L.n ≤ 100000000 := by
  have h1 := L.wt_le p L.n
  have h2 : 10 ^ L.n ≤ 10 ^ 8 := Nat.pow_le_pow_right (by decide) hL.n8
  omega
theorem Lt.Wf.wB_le {L : Lt} (hL : L.Wf) : ∀ t, L.wB t ≤ 100000000 * t := by
  intro t
  induction t with
  | zero => exact Nat.le_refl _
  | succ t ih =>
    have := hL.wt8 (L.pk t)
    unfold Lt.wB
    split <;> omega
theorem Lt.wA_le (L : Lt) (v : Nat) : ∀ t, L.wA v t ≤ L.wB t := by
  intro t
  induction t with
  | zero => exact Nat.le_refl _
  | succ t ih =>
    unfold Lt.wB Lt.wA
    by_cases h1 : L.so t = true
    · rw [if_pos h1]
      split <;> omega
    · rw [if_neg h1, if_neg (fun z => h1 z.1)]; exact ih
def sLikely (L : Lt) (a w : Int32) : Int64 := match rg a 0 1000000 with
  | none => -1
  | some v => match rg w 0 2 with
    | none => -1
    | some w => if L.wB L.N = 0 then -4 else if w = 0 then iL (L.wA v L.N / Nat.gcd (L.wA v L.N) (L.wB L.N)) else iL (L.wB L.N / Nat.gcd (L.wA v L.N) (L.wB L.N))
theorem gcd_ok {a b : Nat} (ha : a < 2 ^ 63) (hb : b < 2 ^ 63) {f : Int64 × Int64 → Option ((Int64 × Int64) ⊕ Int64)} (hf : f = f_X11_likely_b171) : Ok (gloop f gFu (iL a, iL b)) (fun r => r = iL (Nat.gcd a b)) := by
  subst hf
  refine Ok.loop (fun n s => ∃ x, x < 2 ^ 63 ∧ n < 2 ^ 63 ∧ s = (iL x, iL n) ∧ Nat.gcd x n = Nat.gcd a b) ?_ gFu b _ (by unfold gFu; omega) ⟨a, ha, hb, rfl, rfl⟩
  rintro n s ⟨x, hx, hn, rfl, hg⟩
  unfold f_X11_likely_b171
  simp only
  by_cases h0 : n = 0
  · subst h0
    rw [if_pos (show iL 0 = 0 from rfl)]
    refine ⟨_, rfl, ?_⟩
    simp only
    rw [← hg, Nat.gcd_zero_right]
  · have hne : ¬ iL n = 0 := fun z => h0 ((iL_0 hn).mp z)
    rw [if_neg hne]
    refine Ok.ck (decide_eq_true hne) ?_
    rw [iL_rem hx hn (by omega)]
    have hml := Nat.mod_lt x (show 0 < n by omega)
    refine ⟨_, rfl, x % n, hml, n, hn, by omega, rfl, ?_⟩
    rw [← hg, Nat.gcd_comm n, ← Nat.gcd_rec, Nat.gcd_comm]
theorem c10_L {c : Nat} (h : c < 10) : ((10 : Int32) - nI c).toInt64 = iL (10 - c) := by
  have : ∀ c : Fin 10, ((10 : Int32) - nI c.val).toInt64 = iL (10 - c.val) := by decide
  exact this ⟨c, h⟩
theorem likely_ok {G : gP} {L : Lt} (hL : L.Wf) (hR : mRow G 1 0 L) (a w : Int32) : Ok (f_X11_likely G a w) (fun q => gOff qZ G q.1 ∧ q.2 = sLikely L a w) := by
  unfold f_X11_likely sLikely
  have h8 := hL.n8
  have hN := hL.N_le
  rw [in_rg a (lo := 0) (hi := 1000000) rfl rfl]
  cases ha : rg a 0 1000000 with
  | none => exact ⟨_, rfl, gOff.rf, rfl⟩
  | some v =>
    obtain ⟨-, hv, rfl⟩ := rg_some ha
    simp only [Option.isSome_some, if_true]
    rw [if_neg (by decide), in_rg w (lo := 0) (hi := 2) rfl rfl]
    cases hw : rg w 0 2 with
    | none => exact ⟨_, rfl, gOff.rf, rfl⟩
    | some wn =>
      obtain ⟨-, hwn, rfl⟩ := rg_some hw
      simp only [Option.isSome_some, if_true]
      rw [if_neg (by decide)]
      refine Ok.bind (readings_ok hL hR) (fun y hy => ?_)
      subst hy
      refine Ok.bind (Q := fun q => gOff qZ G q.1 ∧ q.2 = (iL (L.wA v L.N), iL (L.wB L.N))) ?_ (fun q hq => ?_)
      · refine Ok.up (fun t s => gOff qZ G s.1 ∧ s.2 = (iL (L.wA v t), iL (L.wB t), nI t)) L.N (by omega) ?_ ?_ ⟨gOff.rf, rfl⟩
        · rintro t ⟨G1, z⟩ ht ⟨hO, hz⟩
          simp only at hO hz
          subst hz
          unfold f_X11_likely_b40
          simp (disch := omega) only [nLit, neg_nI, nI_add, pk_mul, nI_sub1, nI_clamp, gIn_t, gck_t, gLet_e, nI_leI, nI_ltJ, nI_eq, nI_nM_eq, nM_nI_eq, nM_eq, nM_nI_le, nI_nM_le, nM_nI_lt, nI_nM_lt, at_nI, gS_at, gS_ne', obind_some, iteT, iteF, ite_p, ite_n]
          refine Ok.bind (takes_ok hL (hR.q hO) (show t < 2 ^ 31 by omega)) (fun q hq => ?_)
          obtain ⟨hO2, hp, hc, hm⟩ := hq
          have hO3 := hO.tr (hO2.w (fun k j => qZ_t))
          cases he : L.ev t with
          | none =>
            rw [he] at hm
            simp only at hm
            have eso : L.so t = false := by unfold Lt.so; rw [he]
            rw [hm, if_pos (by decide)]
            refine ⟨_, rfl, hO3, ?_⟩
            simp only
            rw [Lt.wA, Lt.wB, eso, if_neg (fun z => by cases z.1), if_neg (by decide)]
          | some ns =>
            rw [he] at hm
            obtain ⟨hm1, hm2⟩ := hm
            have hok := hm2.ok hL (hL.pk_ok t) he
            rw [hm1, if_neg (by decide)]
            refine Ok.bind (holds_ok hL (hR.q hO3) hm2 hok) (fun y hy => ?_)
            have eso : L.so t = sound L.kind ns := by unfold Lt.so; rw [he]
            rw [hy, ← eso]
            cases hs : L.so t with
            | false =>
              rw [if_pos (by decide)]
              refine ⟨_, rfl, hO3, ?_⟩
              simp only
              rw [Lt.wA, Lt.wB, hs, if_neg (fun z => by cases z.1), if_neg (by decide)]
            | true =>
              rw [if_neg (by decide)]
              have hR3 := hR.q hO3
              refine Ok.bind (Q := fun x => x = iL (L.wt (L.pk t) L.n)) ?_ (fun x hx => ?_)
              · refine Ok.up (fun i s => s = (iL (L.wt (L.pk t) i), nI i)) L.n (by omega) ?_ ?_ rfl
                · rintro i s hi rfl
                  unfold f_X11_likely_b69
                  have hpl := hL.pk_lt (r := t) hi
                  have hm4 := hL.m1 i hi
                  have hc10 := hL.c10 i _ hi hpl
                  have e1 := ((hR3.2.2.2.2 i hi).2 _ hpl).2
                  rw [show 0 + 9 + 9 * i + L.pk t i = 4 + 9 * i + 5 + L.pk t i by omega] at e1
                  simp (disch := omega) only [nLit, neg_nI, nI_add, pk_mul, nI_sub1, nI_clamp, gIn_t, gck_t, gLet_e, nI_leI, nI_ltJ, nI_eq, nI_nM_eq, nM_nI_eq, nM_eq, nM_nI_le, nI_nM_le, nM_nI_lt, nI_nM_lt, at_nI, gS_at, gS_ne', obind_some, iteT, iteF, ite_p, ite_n, hR3.1, hp i hi, e1]
                  refine ⟨_, rfl, ?_⟩
                  have e10 : (nI 10 - nI (L.c i (L.pk t i))).toInt64 = iL (10 - L.c i (L.pk t i)) := c10_L hc10
                  simp only [e10, iL_mul, Lt.wt]
                · rintro s rfl
                  unfold f_X11_likely_b69
                  simp (disch := omega) only [nLit, neg_nI, nI_add, pk_mul, nI_sub1, nI_clamp, gIn_t, gck_t, gLet_e, nI_leI, nI_ltJ, nI_eq, nI_nM_eq, nM_nI_eq, nM_eq, nM_nI_le, nI_nM_le, nM_nI_lt, nI_nM_lt, at_nI, gS_at, gS_ne', obind_some, iteT, iteF, ite_p, ite_n, hR3.1]
                  exact ⟨_, rfl, rfl⟩
              · subst hx
                have hl8 := hok.2.1
                have hl1 := hok.1
                have e5 := nsF_aL hm2.2.1 (j := ns.length - 1) (by omega)
                rw [Nat.zero_add] at e5
                have hle := nsF_le hok (ns.length - 1)
                have hlst : L.lst t = nsF ns (ns.length - 1) := by
                  unfold Lt.lst nsF
                  rw [he]
                  show ns.getLastD 0 = _
                  rw [List.getD_eq_getElem?_getD, List.getLastD_eq_getLast?, List.getLast?_eq_getElem?]
                simp (disch := omega) only [nLit, neg_nI, nI_add, pk_mul, nI_sub1, nI_clamp, gIn_t, gck_t, gLet_e, nI_leI, nI_ltJ, nI_eq, nI_nM_eq, nM_nI_eq, nM_eq, nM_nI_le, nI_nM_le, nM_nI_lt, nI_nM_lt, at_nI, gS_at, gS_ne', obind_some, iteT, iteF, ite_p, ite_n, hm2.1, e5, ← hlst]
                have eB : L.wB (t + 1) = L.wB t + L.wt (L.pk t) L.n := by rw [Lt.wB, if_pos hs]
                by_cases hvl : L.lst t = v
                · have eA : L.wA v (t + 1) = L.wA v t + L.wt (L.pk t) L.n := by rw [Lt.wA, if_pos ⟨hs, hvl⟩]
                  rw [if_pos hvl, iL_add, iL_add]
                  exact ⟨_, rfl, hO3, by rw [eA, eB]⟩
                · have eA : L.wA v (t + 1) = L.wA v t := by rw [Lt.wA, if_neg (fun z => hvl z.2)]
                  rw [if_neg hvl, iL_add]
                  exact ⟨_, rfl, hO3, by rw [eA, eB]; simp only [show (0 : Int64) = iL 0 from rfl, iL_add, Nat.add_zero]⟩
        · rintro ⟨G1, z⟩ ⟨hO, hz⟩
          simp only at hO hz
          subst hz
          unfold f_X11_likely_b40
          simp (disch := omega) only [nLit, neg_nI, nI_add, pk_mul, nI_sub1, nI_clamp, gIn_t, gck_t, gLet_e, nI_leI, nI_ltJ, nI_eq, nI_nM_eq, nM_nI_eq, nM_eq, nM_nI_le, nI_nM_le, nM_nI_lt, nI_nM_lt, at_nI, gS_at, gS_ne', obind_some, iteT, iteF, ite_p, ite_n]
          exact ⟨_, rfl, hO, rfl⟩
      · obtain ⟨hO, hq2⟩ := hq
        have hBl := hL.wB_le L.N
        have hAl := L.wA_le v L.N
        rw [hq2]
        simp only
        by_cases h0 : L.wB L.N = 0
        · rw [if_pos h0, if_pos (by rw [h0]; rfl)]; exact ⟨_, rfl, hO, rfl⟩
        · rw [if_neg h0, if_neg (fun z => h0 ((iL_0 (by omega)).mp z))]
          refine Ok.bind (gcd_ok (by omega) (by omega) rfl) (fun r hr => ?_)
          subst hr
          have hg0 : 0 < Nat.gcd (L.wA v L.N) (L.wB L.N) := Nat.gcd_pos_of_pos_right _ (by omega)
          have hgl : Nat.gcd (L.wA v L.N) (L.wB L.N) ≤ L.wB L.N := Nat.gcd_le_right _ (by omega)
          have hgz : gNzL (iL (Nat.gcd (L.wA v L.N) (L.wB L.N))) = true := decide_eq_true (fun z => by have := (iL_0 (by omega)).mp z; omega)
          rw [hgz]
          simp (disch := omega) only [nLit, neg_nI, nI_add, pk_mul, nI_sub1, nI_clamp, gIn_t, gck_t, gLet_e, nI_leI, nI_ltJ, nI_eq, nI_nM_eq, nM_nI_eq, nM_eq, nM_nI_le, nI_nM_le, nM_nI_lt, nI_nM_lt, at_nI, gS_at, gS_ne', obind_some, iteT, iteF, ite_p, ite_n]
          rw [iL_div (by omega) (by omega), iL_div (by omega) (by omega)]
          by_cases hw0 : wn = 0
          · rw [if_pos hw0, if_pos hw0]; exact ⟨_, rfl, hO, rfl⟩
          · rw [if_neg hw0, if_neg hw0]; exact ⟨_, rfl, hO, rfl⟩
/-- a slot told -/
def sSlot (L : Lt) (a k w : Int32) : Int32 := match rg a 0 L.n with
  | none => -1
  | some s => if k < -1 then -1 else match rg w 0 2 with
    | none => -1
    | some w => if k = -1 then nI (L.m s) else match rg k 0 (L.m s) with
      | none => -4
      | some j => if w = 0 then nI (L.w s j) else nI (L.c s j)
theorem slot_ok {G : gP} {L : Lt} (hL : L.Wf) (hR : mRow G 1 0 L) (a k w : Int32) : Ok (f_X11_slot G a k w) (fun r => r = sSlot L a k w) := by
  unfold f_X11_slot sSlot
  have h8 := hL.n8
  rw [isSlot_rg hL.n8 hR.1]
  cases ha : rg a 0 L.n with
  | none => exact ⟨_, rfl, rfl⟩
  | some s =>
    obtain ⟨-, hs, rfl⟩ := rg_some ha
    simp only [Option.isSome_some, if_true]
    rw [if_neg (by decide)]
    by_cases hk1 : k < -1
    · rw [if_pos hk1, if_pos hk1]; exact ⟨_, rfl, rfl⟩
    · rw [if_neg hk1, if_neg hk1, in_rg w (lo := 0) (hi := 2) rfl rfl]
      cases hw : rg w 0 2 with
      | none => exact ⟨_, rfl, rfl⟩
      | some wn =>
        obtain ⟨-, hwn, rfl⟩ := rg_some hw
        simp only [Option.isSome_some, if_true]
        rw [if_neg (by decide)]
        have hm := hL.m1 s hs
        have e0 := (hR.2.2.2.2 s hs).1
        rw [show 0 + 4 + 9 * s = 4 + 9 * s by omega] at e0
        by_cases hkm : k = -1
        · rw [if_pos hkm, if_pos hkm]
          simp (disch := omega) only [nLit, neg_nI, nI_add, pk_mul, nI_sub1, nI_clamp, gIn_t, gck_t, gLet_e, nI_leI, nI_ltJ, nI_eq, nI_nM_eq, nM_nI_eq, nM_eq, nM_nI_le, nI_nM_le, nM_nI_lt, nI_nM_lt, at_nI, gS_at, gS_ne', obind_some, iteT, iteF, ite_p, ite_n, e0]; exact ⟨_, rfl, rfl⟩
        · rw [if_neg hkm, if_neg hkm]
          have hk0 : 0 ≤ k.toInt := by
            have x1 : ¬ k.toInt < (-1 : Int32).toInt := fun z => hk1 (Int32.lt_iff_toInt_lt.mpr z)
            have x2 : k.toInt ≠ -1 := fun z => hkm (Int32.toInt_inj.mp (z.trans (by decide)))
            have x4 : ((-1 : Int32)).toInt = -1 := by decide
            omega
          have hra : k = nI k.toInt.toNat := nJ_of (by omega)
          have hal : k.toInt.toNat < 2 ^ 31 := by have := k.toInt_lt; omega
          generalize k.toInt.toNat = j at *
          subst hra
          simp only [rg_nI hal]
          by_cases hj : j < L.m s
          · have e1 := ((hR.2.2.2.2 s hs).2 j hj).1
            have e2 := ((hR.2.2.2.2 s hs).2 j hj).2
            by_cases hw0 : wn = 0
            · subst hw0
              rw [show 0 + 5 + 9 * s + j = 4 + 9 * s + 1 + 4 * 0 + j by omega] at e1
              simp (disch := omega) only [nLit, neg_nI, nI_add, pk_mul, nI_sub1, nI_clamp, gIn_t, gck_t, gLet_e, nI_leI, nI_ltJ, nI_eq, nI_nM_eq, nM_nI_eq, nM_eq, nM_nI_le, nI_nM_le, nM_nI_lt, nI_nM_lt, at_nI, gS_at, gS_ne', obind_some, iteT, iteF, ite_p, ite_n, e0, e1]; exact ⟨_, rfl, rfl⟩
            · have hw1 : wn = 1 := by omega
              subst hw1
              rw [show 0 + 9 + 9 * s + j = 4 + 9 * s + 1 + 4 * 1 + j by omega] at e2
              simp (disch := omega) only [nLit, neg_nI, nI_add, pk_mul, nI_sub1, nI_clamp, gIn_t, gck_t, gLet_e, nI_leI, nI_ltJ, nI_eq, nI_nM_eq, nM_nI_eq, nM_eq, nM_nI_le, nI_nM_le, nM_nI_lt, nI_nM_lt, at_nI, gS_at, gS_ne', obind_some, iteT, iteF, ite_p, ite_n, e0, e2]; exact ⟨_, rfl, rfl⟩
          · simp (disch := omega) only [nLit, neg_nI, nI_add, pk_mul, nI_sub1, nI_clamp, gIn_t, gck_t, gLet_e, nI_leI, nI_ltJ, nI_eq, nI_nM_eq, nM_nI_eq, nM_eq, nM_nI_le, nI_nM_le, nM_nI_lt, nI_nM_lt, at_nI, gS_at, gS_ne', obind_some, iteT, iteF, ite_p, ite_n, e0]; exact ⟨_, rfl, rfl⟩
noncomputable def sCount (L : Lt) (u : Nat) (a : Int32) : Int32 :=
  if a = 0 then nI L.n else if a = 1 then nI L.kind else if a = 2 then nI L.slack else if a = 3 then nI (L.saidN L.N) else if a = 4 then nI (L.soundN L.N) else if a = 5 then nI L.C.length
  else if a = 6 then rI (lk (fun k => mx (L.hv L.C k) 32) L.C.length L.n).1 else if a = 7 then L.qs else if a = 8 then (if L.nx L.N = 9999 then -4 else nI (L.nx L.N)) else if a = 9 then L.spo else if a = 10 then nI u else -1
theorem count_ok {G : gP} {L : Lt} (hL : L.Wf) (hR : mRow G 1 0 L) {u : Nat} (hu : gS G 0 29 = nI u) (a : Int32) : Ok (f_X11_count G a) (fun q => gOff qZ G q.1 ∧ q.2 = sCount L u a) := by
  unfold f_X11_count sCount
  have hN := hL.N_le
  have hCl : L.C.length ≤ L.N := L.cl_len L.N
  refine Ok.ite (fun h => ?_) (fun h => ?_)
  · rw [if_pos h]; exact ⟨_, rfl, gOff.rf, hR.1⟩
  rw [if_neg h]; clear h
  refine Ok.ite (fun h => ?_) (fun h => ?_)
  · rw [if_pos h]; exact ⟨_, rfl, gOff.rf, hR.2.1⟩
  rw [if_neg h]; clear h
  refine Ok.ite (fun h => ?_) (fun h => ?_)
  · rw [if_pos h]; exact ⟨_, rfl, gOff.rf, hR.2.2.1⟩
  rw [if_neg h]; clear h
  refine Ok.ite (fun h => ?_) (fun h => ?_)
  · rw [if_pos h]; exact Ok.bind (finds_ok hL hR) (fun G1 h1 => ⟨_, rfl, h1.1.w (fun k j => qZ_f), h1.2.said⟩)
  rw [if_neg h]; clear h
  refine Ok.ite (fun h => ?_) (fun h => ?_)
  · rw [if_pos h]; exact Ok.bind (finds_ok hL hR) (fun G1 h1 => ⟨_, rfl, h1.1.w (fun k j => qZ_f), h1.2.snd⟩)
  rw [if_neg h]; clear h
  refine Ok.ite (fun h => ?_) (fun h => ?_)
  · rw [if_pos h]; exact Ok.bind (counts_ok hL hR) (fun G1 h1 => ⟨_, rfl, h1.1.w (fun k j => qZ_c), h1.2.many⟩)
  rw [if_neg h]; clear h
  refine Ok.ite (fun h => ?_) (fun h => ?_)
  · rw [if_pos h]
    refine Ok.bind (counts_ok hL hR) (fun G1 h1 => ?_)
    have hO' := h1.1.w (fun k j => qZ_c)
    rw [h1.2.many]
    refine Ok.bind (look_ok hL (hR.q hO').1 (h := fun k w => L.hv L.C k w) (fun k w => ?_) h1.2.have' (by omega)) (fun r hr => ⟨_, rfl, hO', hr⟩)
    have := L.hv_le L.C k w
    omega
  rw [if_neg h]; clear h
  refine Ok.ite (fun h => ?_) (fun h => ?_)
  · rw [if_pos h]; exact Ok.bind (questions_ok hL hR) (fun q hq => ⟨_, rfl, hq⟩)
  rw [if_neg h]; clear h
  refine Ok.ite (fun h => ?_) (fun h => ?_)
  · rw [if_pos h]
    refine Ok.bind (counts_ok hL hR) (fun G1 h1 => ?_)
    have hO' := h1.1.w (fun k j => qZ_c)
    have hnx := Lt.nx_le hL L.N
    simp (disch := omega) only [nLit, neg_nI, nI_add, pk_mul, nI_sub1, nI_clamp, gIn_t, gck_t, gLet_e, nI_leI, nI_ltJ, nI_eq, nI_nM_eq, nM_nI_eq, nM_eq, nM_nI_le, nI_nM_le, nM_nI_lt, nI_nM_lt, at_nI, gS_at, gS_ne', obind_some, iteT, iteF, ite_p, ite_n, h1.2.next]
    by_cases h9 : L.nx L.N = 9999
    · rw [if_pos h9, if_pos h9]; exact ⟨_, rfl, hO', rfl⟩
    · rw [if_neg h9, if_neg h9]; exact ⟨_, rfl, hO', rfl⟩
  rw [if_neg h]; clear h
  refine Ok.ite (fun h => ?_) (fun h => ?_)
  · rw [if_pos h]; exact Ok.bind (spoilt_ok hL hR) (fun q hq => ⟨_, rfl, hq⟩)
  rw [if_neg h]; clear h
  refine Ok.ite (fun h => ?_) (fun h => ?_)
  · rw [if_pos h]; exact ⟨_, rfl, gOff.rf, hu⟩
  · rw [if_neg h]; exact ⟨_, rfl, gOff.rf, rfl⟩
