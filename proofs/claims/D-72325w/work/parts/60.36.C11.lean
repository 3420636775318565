/-! questions, by the component; count -/
theorem Lt.rd_ev {L : Lt} {t : Nat} (h : t < L.C.length) : ∃ ns, L.ev (L.rd t) = some ns := L.cnt_ev (L.rd_lt h).2
theorem Lt.sm_f1 {L : Lt} {x : Int64} {t0 : Nat} (h0 : t0 < L.C.length) (hb : bt x t0 = true) (hn : ∀ j, j < t0 → bt x j = false) : ∀ t, t ≤ L.C.length → (L.f1 x t = if t ≤ t0 then none else L.ev (L.rd t0)) ∧ (L.sm x t = true ↔ ∀ j, j < t → bt x j = true → L.ev (L.rd j) = L.ev (L.rd t0)) := by
  intro t
  induction t with
  | zero => intro _; exact ⟨by rw [if_pos (Nat.zero_le _)]; rfl, fun _ j hj => by omega, fun _ => rfl⟩
  | succ t ih =>
    intro ht
    obtain ⟨ih1, ih2⟩ := ih (by omega)
    obtain ⟨ns, hns⟩ := L.rd_ev h0
    have hf : L.f1 x (t + 1) = if t + 1 ≤ t0 then none else L.ev (L.rd t0) := by
      show (match L.f1 x t with | some a => some a | none => if bt x t = true then L.ev (L.rd t) else none) = _
      rw [ih1]
      by_cases h1 : t ≤ t0
      · rw [if_pos h1]
        simp only
        by_cases h2 : t = t0
        · subst h2; rw [if_pos hb, if_neg (by omega)]
        · rw [if_neg (by rw [hn t (by omega)]; decide), if_pos (by omega)]
      · rw [if_neg h1, if_neg (show ¬ t + 1 ≤ t0 by omega), hns]
    refine ⟨hf, ?_⟩
    show (if bt x t = true then L.sm x t && decide (L.ev (L.rd t) = L.f1 x (t + 1)) else L.sm x t) = true ↔ _
    by_cases hbt : bt x t = true
    · rw [if_pos hbt, hf]
      have hge : ¬ t + 1 ≤ t0 := fun z => by rw [hn t (by omega)] at hbt; cases hbt
      rw [if_neg hge, Bool.and_eq_true, ih2]
      constructor
      · rintro ⟨a, b⟩ j hj hbj
        by_cases e : j = t
        · subst e; exact of_decide_eq_true b
        · exact a j (by omega) hbj
      · intro a
        exact ⟨fun j hj hbj => a j (by omega) hbj, decide_eq_true (a t (by omega) hbt)⟩
    · rw [if_neg hbt, ih2]
      constructor
      · intro a j hj hbj
        by_cases e : j = t
        · subst e; exact (hbt hbj).elim
        · exact a j (by omega) hbj
      · intro a j hj hbj
        exact a j (by omega) hbj
theorem settled_ok {L : Lt} {G : gP} (hS : kS L G) (h60 : L.C.length ≤ 60) {x : Int64} (h1 : L.qN x ≠ 0) : Ok (f_X14_isSettled G x) (fun y => y = bI (L.sm x L.C.length)) := by
  have hex : ∃ t, t < L.C.length ∧ bt x t = true := by
    apply Classical.byContradiction
    intro z
    apply h1
    rw [L.qN_0]
    intro i hi
    cases hb : bt x i with
    | false => rfl
    | true => exact (z ⟨i, hi, hb⟩).elim
  obtain ⟨t0, ⟨h0, hb⟩, hmin⟩ := pk_least (fun t => t < L.C.length ∧ bt x t = true) hex
  have hn : ∀ j, j < t0 → bt x j = false := fun j hj => by
    cases hc : bt x j with
    | false => rfl
    | true => exact (hmin j hj ⟨by omega, hc⟩).elim
  obtain ⟨-, hsm⟩ := L.sm_f1 h0 hb hn L.C.length (Nat.le_refl _)
  unfold f_X14_isSettled
  rw [ntz64 (by omega) hb hn]
  simp only [gLet_e]
  refine Ok.bind (Q := fun y => y = bI (L.sm x L.C.length)) ?_ (fun y hy => by subst hy; rw [bI_Z, gck_t]; exact ⟨_, rfl, rfl⟩)
  have hl := cmpL (f := f_X14_isSettled_b11 G x (nI t0)) (a := t0) (N := L.C.length - t0) (c := fun k => !bt x (t0 + k) || decide (L.ev (L.rd t0) = L.ev (L.rd (t0 + k)))) (by omega) (fun bb k hk => ?_) (fun bb => ?_) true
  · refine hl.imp ?_
    rintro y rfl
    congr 1
    rw [Bool.true_and]
    have key : allB (fun k => !bt x (t0 + k) || decide (L.ev (L.rd t0) = L.ev (L.rd (t0 + k)))) (L.C.length - t0) = true ↔ L.sm x L.C.length = true := by
      rw [allB_iff, hsm]
      constructor
      · intro h j hj hbj
        have hge : t0 ≤ j := Nat.le_of_not_lt (fun z => by rw [hn j z] at hbj; cases hbj)
        have := h (j - t0) (by omega)
        rw [show t0 + (j - t0) = j by omega, hbj] at this
        have h3 : L.ev (L.rd t0) = L.ev (L.rd j) := by simpa using this
        exact h3.symm
      · intro h k hk
        cases hbk : bt x (t0 + k) with
        | false => rfl
        | true =>
          have := h (t0 + k) (by omega) hbk
          rw [decide_eq_true this.symm]; rfl
    cases hA : allB (fun k => !bt x (t0 + k) || decide (L.ev (L.rd t0) = L.ev (L.rd (t0 + k)))) (L.C.length - t0) with
    | true => exact (key.mp hA).symm
    | false =>
      cases hB : L.sm x L.C.length with
      | false => rfl
      | true => rw [key.mpr hB] at hA; cases hA
  · unfold f_X14_isSettled_b11
    simp only
    rw [hS.many, if_neg (nI_ge (show t0 + k < L.C.length by omega) (by omega))]
    cases bb
    · rw [if_pos (show bI false = 0 from rfl), if_neg (by decide)]
    · rw [if_neg (show ¬ bI true = 0 by decide), if_pos rfl]
      cases hbk : bt x (t0 + k) with
      | false =>
        rw [if_pos ((tst_0 x (by omega)).mpr hbk), nI_1]; rfl
      | true =>
        rw [if_neg (fun z => by rw [tst_0 x (by omega), hbk] at z; cases z), areSame_ok hS h60 h0 (show t0 + k < L.C.length by omega)]
        by_cases e : L.ev (L.rd t0) = L.ev (L.rd (t0 + k))
        · rw [decide_eq_true e, nI_1]; rfl
        · rw [decide_eq_false e, nI_1]; rfl
  · unfold f_X14_isSettled_b11
    simp only
    rw [hS.many, if_pos (nI_le (by omega) (by omega))]
theorem xask_ok {L : Lt} {G : gP} (hL : L.Wf) (hS : kS L G) (h60 : L.C.length ≤ 60) : ∀ n x, L.sub x → L.qN x ≠ 0 → L.qN x ≤ n → ∀ dd, n < dd → Ok (f_X14_ask dd G x) (fun y => y = nI (L.ask x)) := by
  have h8 := hL.n8
  intro n
  induction n with
  | zero => intro x _ h1 h2; omega
  | succ n ih =>
    intro x hs h1 h2 dd hdd
    obtain ⟨dd, rfl⟩ : ∃ d, dd = d + 1 := ⟨dd - 1, by omega⟩
    unfold f_X14_ask
    refine Ok.bind (settled_ok hS h60 h1) (fun y hy => ?_)
    subst hy
    rw [L.ask_eq hL h60 x]
    cases hsm : L.sm x L.C.length with
    | true =>
      rw [if_neg (show ¬ bI true = 0 by decide), if_pos rfl, obind_some, if_neg m4_neg]
      exact ⟨_, rfl, rfl⟩
    | false =>
      rw [if_pos (show bI false = 0 from rfl), if_neg (by decide), obs]
      refine Ok.bind (lookS_ok hL hS h60 hs) (fun y hy => ?_)
      subst hy
      cases hq : L.qL x with
      | none =>
        rw [rI_none, if_neg m4_neg]
        exact ⟨_, rfl, rfl⟩
      | some k =>
        have hk : k < L.n := (lk_some _ _ _ _ hq).1
        have hm := hL.m1 k hk
        have er : rI (some k) = nI k := rfl
        rw [er, if_pos (nI_pos' (by omega))]
        simp only
        refine Ok.bind (Q := fun y => y = nI (mx (fun c => if L.qW x k (L.w k c) = 0 then 0 else L.ask (L.qW x k (L.w k c))) (L.m k))) ?_ (fun y hy => ⟨_, rfl, by subst hy; rw [nI_1]⟩)
        refine Ok.up (fun j s => s = (nI (mx (fun c => if L.qW x k (L.w k c) = 0 then 0 else L.ask (L.qW x k (L.w k c))) j), nI j)) (L.m k) (by omega) ?_ ?_ rfl
        · rintro j s hj rfl
          unfold f_X14_ask_b31
          simp only
          have hsl := hS.now.1.2.2.2.2 k hk
          have hwj := hL.w32 k j hk hj
          rw [gIn_t (by omega) (by omega), gck_t, nI_clamp (by omega), hS.now.2.ref0 (by omega)]
          simp only [obind_some]
          rw [hsl.1, if_neg (nI_ge hj (by omega)), gck_t, gIn_t (by omega) (by omega), gck_t, nI_clamp (by omega), (hsl.2 j hj).1]
          refine Ok.bind (with_ok hL hS h60 x hk hwj) (fun y hy => ?_)
          subst hy
          have hstep : mx (fun c => if L.qW x k (L.w k c) = 0 then 0 else L.ask (L.qW x k (L.w k c))) (j + 1) = if mx (fun c => if L.qW x k (L.w k c) = 0 then 0 else L.ask (L.qW x k (L.w k c))) j < (if L.qW x k (L.w k j) = 0 then 0 else L.ask (L.qW x k (L.w k j))) then (if L.qW x k (L.w k j) = 0 then 0 else L.ask (L.qW x k (L.w k j))) else mx (fun c => if L.qW x k (L.w k c) = 0 then 0 else L.ask (L.qW x k (L.w k c))) j := rfl
          by_cases h0 : L.qW x k (L.w k j) = 0
          · rw [if_pos h0] at hstep
            rw [if_pos h0]
            refine ⟨_, rfl, ?_⟩
            simp only
            rw [hstep, if_neg (Nat.not_lt_zero _), nI_1]
          · rw [if_neg h0] at hstep
            rw [if_neg h0]
            have hlt := L.W_lt h60 (w := L.w k j) hq hwj
            have hne : L.qN (L.qW x k (L.w k j)) ≠ 0 := fun z => h0 ((L.W_0 h60 x k _).mpr z)
            refine Ok.bind (ih _ (L.W_sub h60 x k _) hne (by omega) dd (by omega)) (fun y hy => ?_)
            subst hy
            have ha : ∀ z, L.ask z ≤ 60 := fun z => L.ask_le hL h60 60 z (Nat.le_trans (L.qN_le z) h60)
            have haj := ha (L.qW x k (L.w k j))
            have hmx : mx (fun c => if L.qW x k (L.w k c) = 0 then 0 else L.ask (L.qW x k (L.w k c))) j ≤ 60 := mx_le j (fun c _ => by
              show (if L.qW x k (L.w k c) = 0 then 0 else L.ask (L.qW x k (L.w k c))) ≤ 60
              split
              · omega
              · exact ha _)
            refine ⟨_, rfl, ?_⟩
            simp only
            rw [hstep, gMax_I (by omega) (by omega), nI_1]
        · rintro s rfl
          unfold f_X14_ask_b31
          simp only
          have hsl := hS.now.1.2.2.2.2 k hk
          rw [gIn_t (by omega) (by omega), gck_t, nI_clamp (by omega), hS.now.2.ref0 (by omega)]
          simp only [obind_some]
          rw [hsl.1, if_pos (nI_le (Nat.le_refl _) (by omega))]
          exact ⟨_, rfl, rfl⟩
/-- all that count -/
theorem Lt.all_bt {L : Lt} (h60 : L.C.length ≤ 60) {i : Nat} (hi : i < 64) : bt (gShlL 1 (nI L.C.length) - 1) i = decide (i < L.C.length) := msk_b (by omega) hi
theorem Lt.all_sub {L : Lt} (h60 : L.C.length ≤ 60) : L.sub (gShlL 1 (nI L.C.length) - 1) := fun t ht h => by
  rw [L.all_bt h60 ht] at h
  exact of_decide_eq_true h
theorem Lt.rs_all {L : Lt} {x : Int64} : ∀ t, t ≤ L.C.length → (∀ j, j < t → bt x j = true) → L.rs x t = L.C.take t := by
  intro t
  induction t with
  | zero => intro _ _; rfl
  | succ t ih =>
    intro ht h
    show (if bt x t = true then L.rs x t ++ [L.rd t] else L.rs x t) = _
    rw [if_pos (h t (by omega)), ih (by omega) (fun j hj => h j (by omega)), List.take_add_one, L.rd_C (by omega)]
    rfl
theorem Lt.rs_C {L : Lt} (h60 : L.C.length ≤ 60) : L.rs (gShlL 1 (nI L.C.length) - 1) L.C.length = L.C := by
  rw [L.rs_all _ (Nat.le_refl _) (fun j hj => by rw [L.all_bt h60 (by omega), decide_eq_true hj]), List.take_length]
theorem xall {L : Lt} {G : gP} (h : gS G 529 2 = nI L.C.length) : f_X14_all G = gShlL 1 (nI L.C.length) - 1 := by
  unfold f_X14_all
  rw [h]
theorem xquestions_ok {G : gP} {L : Lt} (hL : L.Wf) (hN : xNow G L) (hK : xRk G) : Ok (f_X0_questions G) (qA G L.qs) := by
  unfold f_X0_questions Lt.qs
  have hNl := hL.N_le
  have hCl : L.C.length ≤ L.N := L.cl_len L.N
  refine Ok.bind (countedOnes_ok hL hN hK _) (fun G1 h1 => ?_)
  obtain ⟨hJ, hq⟩ := h1
  have hm : gS G1 529 2 = nI L.C.length := hJ.many
  rw [xall hm, hm]
  by_cases h0 : L.C.length = 0
  · rw [if_pos ((nI_eq0 (by omega)).mpr h0), if_pos (Or.inl h0)]
    exact ⟨_, rfl, hq, rfl⟩
  · rw [if_neg (fun z => h0 ((nI_eq0 (by omega)).mp z))]
    by_cases h60 : L.C.length ≤ 60
    · rw [if_pos (show nI L.C.length ≤ 60 from nI_le (b := 60) h60 (by decide)), if_neg (by omega)]
      have hne : L.qN (gShlL 1 (nI L.C.length) - 1) ≠ 0 := by
        unfold Lt.qN; rw [L.rs_C h60]; exact h0
      refine Ok.bind (xask_ok hL (kS.of hJ (hq.now hL hN) h60) h60 60 _ (L.all_sub h60) hne (Nat.le_trans (L.qN_le _) h60) 61 (by decide)) (fun y hy => ⟨_, rfl, hq, hy⟩)
    · rw [if_neg (show ¬ nI L.C.length ≤ 60 from nI_ge (a := 60) (by omega) (by omega)), if_pos (Or.inr (by omega))]
      exact ⟨_, rfl, hq, rfl⟩
theorem xlook_ok {G : gP} {L : Lt} (hL : L.Wf) (hN : xNow G L) (hK : xRk G) : Ok (f_X0_look G) (qA G (rI (lk (fun k => mx (L.hv L.C k) 32) L.C.length L.n).1)) := by
  unfold f_X0_look
  have hNl := hL.N_le
  have hCl : L.C.length ≤ L.N := L.cl_len L.N
  refine Ok.bind (countedOnes_ok hL hN hK _) (fun G1 h1 => ?_)
  obtain ⟨hJ, hq⟩ := h1
  have hm : gS G1 529 2 = nI L.C.length := hJ.many
  rw [xall hm, hm]
  by_cases h60 : 60 < L.C.length
  · rw [if_pos (show (60 : Int32) < nI L.C.length from nI_lt (a := 60) h60 (by omega))]
    cases hB : L.B with
    | none => rw [L.C_none hL hB] at h60; simp at h60
    | some b =>
      refine Ok.bind (lookMany_ok hL (hq.now hL hN) (hK.same hq.2) hB) (fun q h2 => ⟨_, rfl, hq.tr h2.1, h2.2⟩)
  · rw [if_neg (show ¬ (60 : Int32) < nI L.C.length from nI_nlt (b := L.C.length) (a := 60) (by omega) (by decide))]
    refine Ok.bind (lookS_ok hL (kS.of hJ (hq.now hL hN) (by omega)) (by omega) (L.all_sub (by omega))) (fun y hy => ⟨_, rfl, hq, ?_⟩)
    simp only
    rw [hy]
    unfold Lt.qL Lt.mo Lt.qN
    rw [L.rs_C (by omega)]
theorem xcount_ok {G : gP} {L : Lt} (hL : L.Wf) (hN : xNow G L) (hK : xRk G) {u : Nat} (hu : gS G 0 16 = nI u) (a : Int32) : Ok (f_X0_count G a) (qA G (sCount L u a)) := by
  unfold f_X0_count sCount
  refine Ok.ite (fun h => ?_) (fun h => ?_)
  · rw [if_pos h]; exact ⟨_, rfl, qP.rf, hN.1.1⟩
  rw [if_neg h]; clear h
  refine Ok.ite (fun h => ?_) (fun h => ?_)
  · rw [if_pos h]; exact ⟨_, rfl, qP.rf, hN.1.2.1⟩
  rw [if_neg h]; clear h
  refine Ok.ite (fun h => ?_) (fun h => ?_)
  · rw [if_pos h]; exact ⟨_, rfl, qP.rf, hN.1.2.2.1⟩
  rw [if_neg h]; clear h
  refine Ok.ite (fun h => ?_) (fun h => ?_)
  · rw [if_pos h]; exact Ok.bind (first_ok hL hN hK) (fun G1 h1 => ⟨_, rfl, h1.2, h1.1.said⟩)
  rw [if_neg h]; clear h
  refine Ok.ite (fun h => ?_) (fun h => ?_)
  · rw [if_pos h]; exact Ok.bind (first_ok hL hN hK) (fun G1 h1 => ⟨_, rfl, h1.2, h1.1.snd⟩)
  rw [if_neg h]; clear h
  refine Ok.ite (fun h => ?_) (fun h => ?_)
  · rw [if_pos h]; exact Ok.bind (countedOnes_ok hL hN hK _) (fun G1 h1 => ⟨_, rfl, h1.2, h1.1.many⟩)
  rw [if_neg h]; clear h
  refine Ok.ite (fun h => ?_) (fun h => ?_)
  · rw [if_pos h]; exact Ok.bind (xlook_ok hL hN hK) (fun q hq => ⟨_, rfl, hq.1, hq.2⟩)
  rw [if_neg h]; clear h
  refine Ok.ite (fun h => ?_) (fun h => ?_)
  · rw [if_pos h]; exact Ok.bind (xquestions_ok hL hN hK) (fun q hq => ⟨_, rfl, hq.1, hq.2⟩)
  rw [if_neg h]; clear h
  refine Ok.ite (fun h => ?_) (fun h => ?_)
  · rw [if_pos h]; exact Ok.bind (xnext_ok hL hN hK) (fun q hq => ⟨_, rfl, hq.1, hq.2⟩)
  rw [if_neg h]; clear h
  refine Ok.ite (fun h => ?_) (fun h => ?_)
  · rw [if_pos h]; exact Ok.bind (xspoilt_ok hL hN hK) (fun q hq => ⟨_, rfl, hq.1, hq.2⟩)
  rw [if_neg h]; clear h
  refine Ok.ite (fun h => ?_) (fun h => ?_)
  · rw [if_pos h]; exact ⟨_, rfl, qP.rf, hu⟩
  rw [if_neg h]
  exact ⟨_, rfl, qP.rf, rfl⟩
theorem xslot_ok {G : gP} {L : Lt} (hL : L.Wf) (hN : xNow G L) (a k w : Int32) : Ok (f_X0_slot G a k w) (fun r => r = sSlot L a k w) := by
  unfold f_X0_slot sSlot
  have h8 := hL.n8
  rw [xisSlot_rg h8 hN.1.1, isIn_rg w (lo := 0) (hi := 2) rfl rfl]
  cases ha : rg a 0 L.n with
  | none => exact ⟨_, rfl, rfl⟩
  | some s =>
    obtain ⟨-, hs, rfl⟩ := rg_some ha
    simp only [Option.isSome_some, if_true]
    rw [if_neg (by decide)]
    by_cases hk : k < -1
    · rw [if_pos hk, if_pos hk]; exact ⟨_, rfl, rfl⟩
    rw [if_neg hk, if_neg hk]
    cases hw : rg w 0 2 with
    | none => exact ⟨_, rfl, rfl⟩
    | some wn =>
      obtain ⟨-, hwn, rfl⟩ := rg_some hw
      simp only [Option.isSome_some, if_true]
      rw [if_neg (by decide), gIn_t (by omega) (by omega), gck_t, nI_clamp (by omega), hN.2.ref0 (by omega)]
      simp only [obind_some]
      have hsl := hN.1.2.2.2.2 s hs
      have hm := hL.m1 s hs
      rw [hsl.1]
      by_cases h0 : 0 ≤ k
      · rw [if_pos h0]
        have hnk : ¬ k < 0 := by
          intro z
          have x1 := Int32.le_iff_toInt_le.mp h0
          have x2 := Int32.lt_iff_toInt_lt.mp z
          omega
        obtain ⟨j, hj, rfl⟩ := nI_of hnk
        rw [if_neg (show ¬ nI j = -1 from fun z => by
          have := congrArg Int32.toInt z
          rw [nI_toInt hj] at this
          have e : ((-1 : Int32)).toInt = -1 := by decide
          omega), rg_nI hj]
        by_cases hjm : j < L.m s
        · rw [if_pos (nI_lt hjm (by omega)), if_pos (show 0 ≤ j ∧ j < L.m s from ⟨by omega, hjm⟩), gIn_t hj (show j < 4 by omega), gck_t, gck_t, nI_clamp hj, (hsl.2 j hjm).1, (hsl.2 j hjm).2]
          simp only
          by_cases w0 : wn = 0
          · subst w0
            rw [if_pos (show nI 0 = 0 from rfl), if_pos rfl]; exact ⟨_, rfl, rfl⟩
          · rw [if_neg (nI_ne0 (by omega) (by omega)), if_neg w0]; exact ⟨_, rfl, rfl⟩
        · rw [if_neg (nI_nlt (by omega) hj), if_neg (fun z => hjm z.2)]
          exact ⟨_, rfl, rfl⟩
      · rw [if_neg h0]
        have : k = -1 := by
          apply Int32.toInt_inj.mp
          have x1 : ¬ (0 : Int) ≤ k.toInt := fun z => h0 (Int32.le_iff_toInt_le.mpr z)
          have x2 : ¬ k.toInt < -1 := fun z => hk (Int32.lt_iff_toInt_lt.mpr z)
          show k.toInt = -1
          omega
        rw [if_pos this]
        exact ⟨_, rfl, rfl⟩
