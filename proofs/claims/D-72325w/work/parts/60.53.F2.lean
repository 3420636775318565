/-! the component's sheets: drop, meant, film -/
theorem laT_k {k : Nat} (h : k < 4) : laT k = 100 ∨ laT k = 101 ∨ laT k = 103 ∨ laT k = 104 := by
  have hc : k = 0 ∨ k = 1 ∨ k = 2 ∨ k = 3 := by omega
  rcases hc with rfl | rfl | rfl | rfl <;> decide
theorem xSt.setSh {S : St} {T T' : Nat → Nat × Nat} {G G' : gP} {s : Nat} {o : Option (Nat × List Int64)} (hW : S.Wf) (h : xSt S T G) (hT : ∀ x, x ≠ 539 + s → T' x = T x) (hO : gOff (fun k j => decide (k = 28 + s ∨ k = 539 + s)) G G') (hs : s < 4) (hr : ∀ k j, k ≠ 28 + s → gR G' k j = gR G k j) (hrk : xRk G') (hx : xSh T' G' s o) : xSt (S.setSh s o) T' G' := by
  have hsg : ∀ i, i < 19 → xSg G' (32 + 26 * i) := fun i hi => by
    have e : ∀ j, sgO G' (32 + 26 * i) j = sgO G (32 + 26 * i) j := fun j => by unfold sgO; rw [hr _ _ (by omega)]
    exact ⟨fun j hj => by rw [e, hr _ _ (by omega)]; exact (h.sg i hi).1 j hj, fun a b ha hb => by rw [e, e]; exact (h.sg i hi).2 a b ha hb⟩
  have hlt : ∀ i L, i < 19 → L.n ≤ 8 → xLt G (32 + 26 * i) L → xLt G' (32 + 26 * i) L := by
    intro i L hi h8 hx
    obtain ⟨h1, h2, h3, h4, h5⟩ := hx
    refine ⟨?_, ?_, ?_, ?_, fun p hp => ?_⟩
    · rw [(hO _ 1 (by simp; omega)).1]; exact h1
    · rw [(hO _ 2 (by simp; omega)).1]; exact h2
    · rw [(hO _ 3 (by simp; omega)).1]; exact h3
    · rw [(hO _ 4 (by simp; omega)).1]; exact h4
    · have e : sgO G' (32 + 26 * i) p = sgO G (32 + 26 * i) p := by unfold sgO; rw [hr _ _ (by omega)]
      rw [e]
      have := (h.sg i hi).rng (j := p) (by omega)
      exact (h5 p hp).off hO (fun k j a b => by simp; omega)
  have hpa : ∀ j, paO G' j = paO G j := fun j => by unfold paO; rw [hr _ _ (by omega)]
  refine ⟨hrk, hsg, ⟨fun j hj => by rw [hpa, hr _ _ (by omega)]; exact h.pa.1 j hj, fun i j hi hj => by rw [hpa, hpa]; exact h.pa.2 i j hi hj⟩, fun j hj => by rw [hr _ _ (by omega)]; exact h.ka j hj, hlt 0 _ (by omega) hW.now.n8 h.now, ?_, fun i L' hi => ?_, ?_, ?_, ?_, fun x hx4 => ?_⟩
  · rw [(hO 0 16 (by simp; omega)).1]; exact h.un
  · have hil : i < S.past.length := (List.getElem?_eq_some_iff.mp hi).1
    have hp8 := hW.p8
    rw [hpa]
    obtain ⟨-, p, hp, e⟩ := h.pa.1 i (by omega)
    have := h.past i L' hi
    rw [e] at this ⊢
    exact hlt _ L' (by omega) (hW.past L' (List.mem_of_getElem? hi)).n8 this
  · have hkk : xKp G S.kept := h.kept
    show xKp G' S.kept
    cases hSk : S.kept with
    | none => rw [hSk] at hkk; show gS G' 0 20 = 0; rw [(hO 0 20 (by simp; omega)).1]; exact hkk
    | some z =>
      obtain ⟨Lk, pk⟩ := z
      rw [hSk] at hkk
      obtain ⟨k1, k2, k3, k4⟩ := hkk
      obtain ⟨w1, w2, w3⟩ := hW.kept Lk pk hSk
      refine ⟨by rw [(hO 0 20 (by simp; omega)).1]; exact k1, by rw [(hO 0 19 (by simp; omega)).1]; exact k2, hlt 2 Lk (by omega) w1.n8 k3, fun i L' hi => ?_⟩
      have hil : i < pk.length := (List.getElem?_eq_some_iff.mp hi).1
      exact hlt (11 + i) L' (by omega) (w2 L' (List.mem_of_getElem? hi)).n8 (k4 i L' hi)
  · rw [(hO 0 11 (by simp; omega)).1]; exact h.tp
  · intro j v hj; rw [(hO 9 _ (by simp; omega)).1]; exact h.tape j v hj
  · show xSh T' G' x (if x = s then o else S.sh x)
    by_cases e : x = s
    · subst e; rw [if_pos rfl]; exact hx
    · rw [if_neg e]
      have hh := h.sh x hx4
      cases hS : S.sh x with
      | none => rw [hS] at hh; show gR G' _ _ = none; rw [hr _ _ (by omega)]; exact hh
      | some q =>
        obtain ⟨k, l⟩ := q
        rw [hS] at hh
        obtain ⟨a1, a2, a3⟩ := hh
        refine ⟨by rw [hr _ _ (by omega)]; exact a1, by rw [hT _ (by omega)]; exact a2, fun i v hi => ?_⟩
        have := a3 i v hi
        unfold shV at this ⊢
        rw [(hO (539 + x) i (by simp; omega)).1, (hO (539 + x) i (by simp; omega)).2.1]; exact this
theorem xRq_ok {S : St} {T : Nat → Nat × Nat} {G : gP} (hW : S.Wf) (h : xSt S T G) {s : Nat} (hs : s < 4) : xRq T (gR G (28 + s) 0) = true := by
  have hh := h.sh s hs
  cases hS : S.sh s with
  | none => rw [hS] at hh; rw [show gR G (28 + s) 0 = none from hh]; rfl
  | some q =>
    obtain ⟨k, l⟩ := q
    rw [hS] at hh
    rw [hh.1]
    show xRw T (539 + s) = true
    unfold xRw
    apply decide_eq_true
    rw [hh.2.1]
    exact ⟨by omega, laT_k (hW.sh s k l hS).1⟩
theorem xlane_ok {S : St} {T : Nat → Nat × Nat} {G : gP} (hW : S.Wf) (h : xSt S T G) {s k : Nat} {l : List Int64} (hs : s < 4) (hS : S.sh s = some (k, l)) : f_X9_lane T G (28 + s) = some (nI k) ∧ f_X9_size T G (28 + s) = some (nI l.length) ∧ ∀ i, i < l.length → f_X9_get T G (28 + s) (nI i) = some (l.getD i 0) := by
  have hq := xRq_ok hW h hs
  have hh := h.sh s hs
  rw [hS] at hh
  obtain ⟨a1, a2, a3⟩ := hh
  have hw := hW.sh s k l hS
  have i1 : ∀ t, xIs T (some (539 + s)) t = if laT k = t then 1 else 0 := fun t => by
    show (if (T (539 + s)).1 = t then (1 : Int32) else 0) = _
    rw [a2]
  have c1 : xCa T (some (539 + s)) (laT k) = some (539 + s) := by
    show (if 539 ≤ 539 + s ∧ (T (539 + s)).1 = laT k then some (539 + s) else none) = _
    rw [a2, if_pos ⟨by omega, rfl⟩]
  have t2 : (T (539 + s)).2 = l.length := by rw [a2]
  unfold f_X9_lane f_X9_size f_X9_get
  rw [hq, a1]
  simp only [gck_t, i1]
  have hc : k = 0 ∨ k = 1 ∨ k = 2 ∨ k = 3 := by omega
  rcases hc with rfl | rfl | rfl | rfl
  · have e : laT 0 = 103 := rfl
    rw [e] at c1 ⊢
    simp (config := { decide := true }) only [if_true, if_false]
    rw [c1, obind_some, t2]
    refine ⟨trivial, rfl, fun i hi => ?_⟩
    rw [obind_some, t2, gIn_t (by omega) hi, gck_t, nI_clamp (by omega)]
    exact congrArg some (a3 i _ (getD_mem 0 hi))
  · have e : laT 1 = 104 := rfl
    rw [e] at c1 ⊢
    simp (config := { decide := true }) only [if_true, if_false]
    rw [c1, obind_some, t2]
    refine ⟨trivial, rfl, fun i hi => ?_⟩
    rw [obind_some, t2, gIn_t (by omega) hi, gck_t, nI_clamp (by omega)]
    exact congrArg some (a3 i _ (getD_mem 0 hi))
  · have e : laT 2 = 100 := rfl
    rw [e] at c1 ⊢
    simp (config := { decide := true }) only [if_true, if_false]
    rw [c1, obind_some, t2]
    refine ⟨trivial, rfl, fun i hi => ?_⟩
    rw [obind_some, t2, gIn_t (by omega) hi, gck_t, nI_clamp (by omega)]
    exact congrArg some (a3 i _ (getD_mem 0 hi))
  · have e : laT 3 = 101 := rfl
    rw [e] at c1 ⊢
    simp (config := { decide := true }) only [if_true, if_false]
    rw [c1, obind_some, t2]
    refine ⟨trivial, rfl, fun i hi => ?_⟩
    rw [obind_some, t2, gIn_t (by omega) hi, gck_t, nI_clamp (by omega)]
    exact congrArg some (a3 i _ (getD_mem 0 hi))
theorem lacks_ok {S : St} {T : Nat → Nat × Nat} {G : gP} (hW : S.Wf) (h : xSt S T G) {s k : Nat} (hs : s < 4) (hk : k < 4) (a : Int32) {n : Nat} (hn : n < 2 ^ 30) : f_X0_lacks T G (nI s) (nI k) a (nI n) = some (whyS (S.sh s) k a n) := by
  unfold f_X0_lacks whyS
  rw [gIn_t (by omega) hs, gck_t, nI_clamp (by omega), xRq_ok hW h hs, gck_t]
  have hh := h.sh s hs
  cases hS : S.sh s with
  | none =>
    rw [hS] at hh
    rw [if_pos (show gR G (28 + s) 0 = none from hh)]
  | some q =>
    obtain ⟨k', l⟩ := q
    rw [hS] at hh
    have hw := hW.sh s k' l hS
    obtain ⟨l1, l2, -⟩ := xlane_ok hW h hs hS
    rw [if_neg (show ¬ gR G (28 + s) 0 = none by rw [hh.1]; simp), l1, l2, obind_some, obind_some]
    simp only
    by_cases e : k' = k
    · rw [if_pos (nI_inj e), if_pos e]
      by_cases ha : a < 0
      · have : a.toInt < 0 := (lt0_I a).mp ha
        rw [if_pos ha, if_neg (by omega)]
      · rw [if_neg ha]
        obtain ⟨j, hj, rfl⟩ := nI_of ha
        rw [nI_toInt hj]
        have hc : nI j ≤ nI l.length - nI n ↔ (j : Int) + (n : Int) ≤ (l.length : Int) := by
          rw [Int32.le_iff_toInt_le, nI_toInt hj, pk_sub_toInt (by omega) (by omega)]; omega
        by_cases h2 : (j : Int) + (n : Int) ≤ (l.length : Int)
        · rw [if_pos (hc.mpr h2), if_pos ⟨by omega, h2⟩]
        · rw [if_neg (fun z => h2 (hc.mp z)), if_neg (fun z => h2 z.2)]
    · rw [if_neg (fun z => e ((nI_eq (by omega) (by omega)).mp z)), if_neg e]
theorem xisSheet_rg {a b : Int32} : f_X0_isSheet a b = if (rg a 0 4).isSome && (rg b 0 4).isSome then 1 else 0 := by
  unfold f_X0_isSheet
  rw [isIn_rg a (lo := 0) (hi := 4) rfl rfl, isIn_rg b (lo := 0) (hi := 4) rfl rfl]
  cases (rg a 0 4).isSome <;> cases (rg b 0 4).isSome <;> rfl
theorem xdrop_ok {S : St} {T : Nat → Nat × Nat} {G : gP} (hW : S.Wf) (h : xSt S T G) (a : Int32) : Ok (f_X0_drop T G a) (xA T (sDrop S a)) := by
  unfold f_X0_drop sDrop
  rw [xisSheet_rg, show (0 : Int32) = nI 0 from rfl, rg_nI (lo := 0) (hi := 4) (k := 0) (by decide), if_pos (show 0 ≤ 0 ∧ 0 < 4 by decide)]
  cases ha : rg a 0 4 with
  | none => exact ⟨_, rfl, h, rfl⟩
  | some s =>
    obtain ⟨-, hs, rfl⟩ := rg_some ha
    simp only [Option.isSome_some, Bool.and_self, if_true]
    rw [if_neg (by decide), gIn_t (by omega) hs, gck_t, nI_clamp (by omega), xRq_ok hW h hs, gck_t]
    have hh := h.sh s hs
    cases hS : S.sh s with
    | none =>
      rw [hS] at hh
      rw [if_pos (show gR G (28 + s) 0 = none from hh)]
      exact ⟨_, rfl, h, rfl⟩
    | some q =>
      obtain ⟨k, l⟩ := q
      rw [hS] at hh
      obtain ⟨l1, l2, -⟩ := xlane_ok hW h hs hS
      rw [if_neg (show ¬ gR G (28 + s) 0 = none by rw [hh.1]; simp), gck_t, l2, obind_some]
      simp only [gck_t, gLet_e]
      refine ⟨_, rfl, h.setSh hW (fun _ _ => rfl) (gOff.rf.R1 (by simp)) hs (fun k j hk => ?_) (fun k j n hn => ?_) ?_, rfl⟩
      · rw [gR_R1, if_neg (fun z => hk z.1)]
      · rw [gR_R1] at hn
        split at hn
        · cases hn
        · exact h.rk _ _ _ hn
      · show gR _ (28 + s) 0 = none
        rw [gR_R1, if_pos ⟨rfl, rfl⟩]
theorem xSh.q {T : Nat → Nat × Nat} {G G' : gP} {s : Nat} {o : Option (Nat × List Int64)} (h : xSh T G s o) (hq : qP G G') : xSh T G' s o := h.off hq.1 (hq.2 _ _) (fun j => by simp [cqZ, wZ, liZ]; omega)
theorem isSo_ok {S : St} {T : Nat → Nat × Nat} {G : gP} (hW : S.Wf) (h : xSt S T G) {s k i n : Nat} {l : List Int64} (hs : s < 4) (hS : S.sh s = some (k, l)) (hn0 : 1 ≤ n) (hn : n < 7) (hil : i + n ≤ l.length) : Ok (f_X0_isSo T G (28 + s) (nI i) (nI n)) (qA G (bI (mnB S.now l i n))) := by
  unfold f_X0_isSo
  have hL := hW.now
  have hw := hW.sh s k l hS
  refine Ok.bind (first_ok hL h.xn h.rk) (fun G1 h1 => ?_)
  obtain ⟨hf, hq⟩ := h1
  have hx1 : xSt S T G1 := h.q hW hq
  obtain ⟨-, -, hget⟩ := xlane_ok hW hx1 hs hS
  simp only [gLet_e]
  rw [isAny_I hL hf]
  refine Ok.bind (Q := fun y => y = bI (mnB S.now l i n)) ?_ (fun y hy => by subst hy; rw [bI_Z, gck_t]; exact ⟨_, rfl, hq, rfl⟩)
  unfold mnB
  have hfalse : (decide (S.now.bn.length = n) = false) → Ok (gloop (f_X0_isSo_b33 (nI n) T G1 (28 + s) (nI i)) gFu (bI false, (0 : Int32))) (fun y => y = bI (decide (S.now.bn.length = n) && allB (fun k => decide ((nI (nsF S.now.bn k)).toInt64 = l.getD (i + k) 0)) n)) := by
    intro hd
    rw [hd, Bool.false_and]
    refine Ok.out (r := bI false) ?_ rfl
    unfold f_X0_isSo_b33
    simp only
    rw [if_neg (show ¬ nI n ≤ 0 from nI_nle (by omega) (by omega)), if_pos (show bI false = 0 from rfl)]
  cases hB : S.now.B with
  | none =>
    rw [if_pos (show bI (none : Option Nat).isSome = 0 from rfl)]
    exact hfalse (decide_eq_false (by rw [S.now.bn_none hB]; simp; omega))
  | some b =>
    rw [if_neg (show ¬ bI (some b).isSome = 0 by show ¬ bI true = 0; decide)]
    obtain ⟨b1, b2, b3, b4, b5, b6⟩ := hf.bn hB
    have hb8 := b5.2.1
    have e0 : (if gS G1 526 6 = nI n then (1 : Int32) else 0) = bI (decide (S.now.bn.length = n)) := by rw [b3]; exact ite_I (by omega) (by omega)
    rw [e0]
    by_cases hl2 : S.now.bn.length = n
    · rw [decide_eq_true hl2]
      refine cmpL (a := 0) (N := n) (c := fun k => decide ((nI (nsF S.now.bn k)).toInt64 = l.getD (i + k) 0)) (by omega) (fun bb k hk => ?_) (fun bb => ?_) true
      · rw [Nat.zero_add]
        unfold f_X0_isSo_b33
        simp only
        rw [if_neg (nI_ge hk (by omega))]
        cases bb
        · rw [if_pos (show bI false = 0 from rfl), if_neg (by decide)]
        · have gk := nsF_aL b4 (show k < S.now.bn.length by omega)
          rw [Nat.zero_add] at gk
          rw [if_neg (show ¬ bI true = 0 by decide), nI_add, hget (i + k) (by omega), obind_some, gIn_t (by omega) (by omega), gck_t, nI_clamp (by omega), gk, if_pos rfl, nI_1]
          by_cases e : (nI (nsF S.now.bn k)).toInt64 = l.getD (i + k) 0
          · rw [if_pos e.symm, decide_eq_true e]; rfl
          · rw [if_neg (fun z => e z.symm), decide_eq_false e]; rfl
      · rw [Nat.zero_add]
        unfold f_X0_isSo_b33
        simp only
        rw [if_pos (nI_le (Nat.le_refl _) (by omega))]
    · have hd := decide_eq_false hl2
      have := hfalse hd
      rw [hd]
      rw [hd] at this
      exact this
theorem kd_S (S : St) : ((St.of (S.now.kd S.now.kind) (S.past) (S.kept) (S.tape) (S.sh)) : St) = S := rfl
theorem xSt.kd {S : St} {T : Nat → Nat × Nat} {G : gP} (hW : S.Wf) {kd v : Nat} (hkd : kd < 5) (h : xSt (St.of (S.now.kd kd) (S.past) (S.kept) (S.tape) (S.sh)) T G) : xSt (St.of (S.now.kd v) (S.past) (S.kept) (S.tape) (S.sh)) T (gS1 G 32 2 (nI v)) := by
  have hL := hW.now
  have h8 := hL.n8
  have hnk : xNow G (S.now.kd kd) := h.xn
  refine h.now' (L := S.now.kd v) (hW.nowp (hL.kd hkd)) (gOff.rf.S1 (by simp [nZ])) (rSame.rf.S1) ⟨?_, gS_at, ?_, ?_, fun p hp => ?_⟩
  · rw [gS_ne (by decide)]; exact hnk.1.1
  · rw [gS_ne (by decide)]; exact hnk.1.2.2.1
  · rw [gS_ne (by decide)]; exact hnk.1.2.2.2.1
  · have hp' : p < S.now.n := hp
    have rp := hnk.2.rng (j := p) (by omega)
    exact (hnk.1.2.2.2.2 p hp).off (Z := fun k _ => decide (k = 32)) (gOff.rf.S1 (by simp)) (fun k j a b => by simp; omega)
theorem xmeant_ok {S : St} {T : Nat → Nat × Nat} {G : gP} (hW : S.Wf) (h : xSt S T G) (a b i n : Int32) : Ok (f_X0_meant T G a b i n) (fun q => xSt S T q.1 ∧ q.2 = sMeant S a b i n) := by
  unfold f_X0_meant sMeant
  rw [xisSheet_rg, isIn_rg n (lo := 1) (hi := 7) rfl rfl]
  cases ha : rg a 0 4 with
  | none => exact ⟨_, rfl, h, rfl⟩
  | some s =>
    obtain ⟨-, hs, rfl⟩ := rg_some ha
    cases hb : rg b 0 4 with
    | none => exact ⟨_, rfl, h, rfl⟩
    | some k =>
      obtain ⟨-, hk, rfl⟩ := rg_some hb
      simp only [Option.isSome_some, Bool.and_self, if_true]
      rw [if_neg (by decide)]
      cases hn : rg n 1 7 with
      | none => exact ⟨_, rfl, h, rfl⟩
      | some nn =>
        obtain ⟨hn1, hn7, rfl⟩ := rg_some hn
        simp only [Option.isSome_some, if_true]
        rw [if_neg (by decide), lacks_ok hW h hs hk i (by omega), obind_some]
        by_cases h0 : whyS (S.sh s) k i nn = 0
        · rw [if_pos (whyS_n.mpr h0), if_pos h0]
          obtain ⟨l, hS, h1, h2⟩ := whyS_0 h0
          have hi : i = nI i.toInt.toNat := nJ_of (by omega)
          have hsl : shL S s = l := by unfold shL; rw [hS]
          have hw := hW.sh s k l hS
          have hil : i.toInt.toNat + nn ≤ l.length := by omega
          generalize i.toInt.toNat = ii at *
          subst hi
          have hL := hW.now
          simp only [gLet_e]
          rw [h.now.2.1, hsl]
          refine Ok.bind (Q := fun z => (∃ kd, kd < 5 ∧ xSt (St.of (S.now.kd kd) (S.past) (S.kept) (S.tape) (S.sh)) T z.1) ∧ z.2 = mnS S.now l ii nn 5) ?_ (fun z hz => ?_)
          · refine Ok.loop (fun f z => ∃ v, f + v = 5 ∧ z.2.2 = nI v ∧ (∃ kd, kd < 5 ∧ xSt (St.of (S.now.kd kd) (S.past) (S.kept) (S.tape) (S.sh)) T z.1) ∧ z.2.1 = mnS S.now l ii nn v) ?_ 6 5 _ (by omega) ⟨0, by omega, rfl, ⟨S.now.kind, hL.k5, (show xSt (St.of (S.now.kd S.now.kind) (S.past) (S.kept) (S.tape) (S.sh)) T G from h)⟩, rfl⟩
            rintro f ⟨G1, x, y⟩ ⟨v, hfv, hy, ⟨kd, hkd, hx1⟩, hx⟩
            simp only at hy hx1 hx
            subst hy hx
            unfold f_X0_meant_b57
            simp only
            cases f with
            | zero =>
              have : v = 5 := by omega
              subst this
              rw [if_pos (show (5 : Int32) ≤ nI 5 by decide)]
              exact ⟨_, rfl, ⟨kd, hkd, hx1⟩, rfl⟩
            | succ f =>
              have hv : v < 5 := by omega
              rw [if_neg (show ¬ (5 : Int32) ≤ nI v from nI_ge (b := 5) hv (by decide))]
              simp only [gLet_e]
              have hWk : ((St.of (S.now.kd v) (S.past) (S.kept) (S.tape) (S.sh)) : St).Wf := hW.nowp (hL.kd hv)
              have hx2 : xSt (St.of (S.now.kd v) (S.past) (S.kept) (S.tape) (S.sh)) T (gS1 G1 32 2 (nI v)) := hx1.kd hW hkd
              rw [gIn_t (by omega) hs, gck_t, nI_clamp (by omega)]
              generalize gS1 G1 32 2 (nI v) = G2 at *
              refine Ok.bind (isSo_ok hWk hx2 hs (k := k) (l := l) hS hn1 hn7 hil) (fun q hq => ?_)
              obtain ⟨G3, y3⟩ := q
              obtain ⟨hq1, hq2⟩ := hq
              simp only at hq1 hq2
              subst hq2
              refine ⟨_, rfl, f, by omega, v + 1, by omega, nI_1 v, ⟨v, hv, hx2.q hWk hq1⟩, ?_⟩
              simp only
              show _ = mnS S.now l ii nn v ||| (if mnB (S.now.kd v) l ii nn = true then gShl 1 (nI v) else 0)
              show mnS S.now l ii nn v ||| (if bI (mnB (S.now.kd v) l ii nn) = 0 then 0 else gShl 1 (nI v)) = _
              cases mnB (S.now.kd v) l ii nn
              · rw [if_pos (show bI false = 0 from rfl), if_neg (by decide)]
              · rw [if_neg (show ¬ bI true = 0 by decide), if_pos rfl]
          · obtain ⟨G1, x⟩ := z
            obtain ⟨⟨kd, hkd, hx1⟩, hx⟩ := hz
            simp only at hx1 hx
            refine ⟨_, rfl, ?_, hx⟩
            exact hx1.kd (v := S.now.kind) hW hkd
        · rw [if_neg (fun z => h0 (whyS_n.mp z)), if_neg h0]; exact ⟨_, rfl, h, rfl⟩
theorem lay_sh {S : St} {T : Nat → Nat × Nat} {G : gP} (hW : S.Wf) (h : xSt S T G) {s k i : Nat} {l : List Int64} (hs : s < 4) (hS : S.sh s = some (k, l)) (hi : i < l.length) (v : Int64) : Ok (f_X9_lay T G (28 + s) (nI k) (nI i) v) (fun G' => gOff (fun a j => decide (a = 539 + s ∧ j = i)) G G' ∧ rSame G G' ∧ shV G' k (539 + s) i = cutL k v) := by
  have hq := xRq_ok hW h hs
  have hh := h.sh s hs
  rw [hS] at hh
  obtain ⟨a1, a2, a3⟩ := hh
  have hw := hW.sh s k l hS
  have c1 : xCa T (some (539 + s)) (laT k) = some (539 + s) := by
    show (if 539 ≤ 539 + s ∧ (T (539 + s)).1 = laT k then some (539 + s) else none) = _
    rw [a2, if_pos ⟨by omega, rfl⟩]
  have t2 : (T (539 + s)).2 = l.length := by rw [a2]
  unfold f_X9_lay
  rw [hq, a1]
  simp only [gck_t]
  have hc : k = 0 ∨ k = 1 ∨ k = 2 ∨ k = 3 := by omega
  rcases hc with rfl | rfl | rfl | rfl
  · have e : laT 0 = 103 := rfl
    rw [e] at c1
    rw [if_pos (show nI 0 = 0 from rfl), c1, obind_some, t2, gIn_t (by omega) hi, gck_t, nI_clamp (by omega)]
    refine ⟨_, rfl, gOff.rf.S1 (by simp), rSame.rf.S1, ?_⟩
    unfold shV cutL
    rw [if_neg (by decide), gS_at, if_pos rfl, pk_vb]
  · have e : laT 1 = 104 := rfl
    rw [e] at c1
    rw [if_neg (by decide), if_pos (show nI 1 = 1 from rfl), c1, obind_some, t2, gIn_t (by omega) hi, gck_t, nI_clamp (by omega)]
    refine ⟨_, rfl, gOff.rf.S1 (by simp), rSame.rf.S1, ?_⟩
    unfold shV cutL
    rw [if_neg (by decide), gS_at, if_neg (by decide), if_pos rfl, pk_vs]
  · have e : laT 2 = 100 := rfl
    rw [e] at c1
    rw [if_neg (by decide), if_neg (by decide), if_pos (show nI 2 = 2 from rfl), c1, obind_some, t2, gIn_t (by omega) hi, gck_t, nI_clamp (by omega)]
    refine ⟨_, rfl, gOff.rf.S1 (by simp), rSame.rf.S1, ?_⟩
    unfold shV cutL
    rw [if_neg (by decide), gS_at, if_neg (by decide), if_neg (by decide), if_pos rfl]
  · have e : laT 3 = 101 := rfl
    rw [e] at c1
    rw [if_neg (by decide), if_neg (by decide), if_neg (by decide), c1, obind_some, t2, gIn_t (by omega) hi, gck_t, nI_clamp (by omega)]
    refine ⟨_, rfl, gOff.rf.L1 (by simp), rSame.rf.L1, ?_⟩
    unfold shV cutL
    rw [if_pos rfl, gL_at, if_neg (by decide), if_neg (by decide), if_neg (by decide)]
theorem shV_off {Z : Nat → Nat → Bool} {G G' : gP} {k r i : Nat} (hO : gOff Z G G') (hz : Z r i = false) : shV G' k r i = shV G k r i := by
  unfold shV
  rw [(hO r i hz).1, (hO r i hz).2.1]
theorem St.Wf.setSh {S : St} (h : S.Wf) {s k : Nat} {l : List Int64} (hk : k < 4) (hl : l.length ≤ 24) : (S.setSh s (some (k, l))).Wf := by
  refine ⟨h.now, h.past, h.p8, h.kept, h.tape, fun x k' l' e => ?_⟩
  have e' : (if x = s then some (k, l) else S.sh x) = some (k', l') := e
  by_cases hx : x = s
  · rw [if_pos hx] at e'; cases e'; exact ⟨hk, hl⟩
  · rw [if_neg hx] at e'; exact h.sh x k' l' e'
theorem St.Wf.setSh0 {S : St} (h : S.Wf) {s : Nat} : (S.setSh s none).Wf := by
  refine ⟨h.now, h.past, h.p8, h.kept, h.tape, fun x k' l' e => ?_⟩
  have e' : (if x = s then none else S.sh x) = some (k', l') := e
  by_cases hx : x = s
  · rw [if_pos hx] at e'; cases e'
  · rw [if_neg hx] at e'; exact h.sh x k' l' e'
theorem xfilm_ok {S : St} {T : Nat → Nat × Nat} {G : gP} (hW : S.Wf) (h : xSt S T G) (a b i : Int32) : Ok (f_X0_film T G a b i) (xA T (sFilm S a b i)) := by
  unfold f_X0_film sFilm
  rw [xisSheet_rg]
  cases ha : rg a 0 4 with
  | none => exact ⟨_, rfl, h, rfl⟩
  | some s =>
    obtain ⟨-, hs, rfl⟩ := rg_some ha
    cases hb : rg b 0 4 with
    | none => exact ⟨_, rfl, h, rfl⟩
    | some k =>
      obtain ⟨-, hk, rfl⟩ := rg_some hb
      simp only [Option.isSome_some, Bool.and_self, if_true]
      rw [if_neg (by decide)]
      have hL := hW.now
      refine Ok.bind (first_ok hL h.xn h.rk) (fun G1 h1 => ?_)
      obtain ⟨hf, hq⟩ := h1
      have hx1 : xSt S T G1 := h.q hW hq
      rw [isAny_I hL hf]
      cases hB : S.now.B with
      | none => rw [if_pos (show bI (none : Option Nat).isSome = 0 from rfl)]; exact ⟨_, rfl, hx1, rfl⟩
      | some bb =>
        obtain ⟨b1, b2, b3, b4, b5, b6⟩ := hf.bn hB
        have hb8 := b5.2.1
        rw [if_neg (show ¬ bI (some bb).isSome = 0 by show ¬ bI true = 0; decide), b3, lacks_ok hW hx1 hs hk i (by omega), obind_some]
        simp only
        by_cases h0 : whyS (S.sh s) k i S.now.bn.length = 0
        · rw [if_pos (whyS_n.mpr h0), if_pos h0]
          obtain ⟨l, hS, h1, h2⟩ := whyS_0 h0
          have hw := hW.sh s k l hS
          have hi : i = nI i.toInt.toNat := nJ_of (by omega)
          have hsl : shL S s = l := by unfold shL; rw [hS]
          have hil : i.toInt.toNat + S.now.bn.length ≤ l.length := by omega
          rw [hsl]
          generalize i.toInt.toNat = ii at *
          subst hi
          have hh := hx1.sh s hs
          rw [hS] at hh
          obtain ⟨a1, a2, a3⟩ := hh
          refine Ok.bind (Q := fun G2 => gOff (fun k x => decide (k = 539 + s ∧ ii ≤ x ∧ x < ii + S.now.bn.length)) G1 G2 ∧ rSame G1 G2 ∧ ∀ x, x < S.now.bn.length → shV G2 k (539 + s) (ii + x) = cutL k ((nI (nsF S.now.bn x)).toInt64)) ?_ (fun G2 h3 => ?_)
          · refine Ok.up (fun t z => z.2 = nI t ∧ gOff (fun k x => decide (k = 539 + s ∧ ii ≤ x ∧ x < ii + S.now.bn.length)) G1 z.1 ∧ rSame G1 z.1 ∧ ∀ x, x < t → shV z.1 k (539 + s) (ii + x) = cutL k ((nI (nsF S.now.bn x)).toInt64)) S.now.bn.length (by omega) ?_ ?_ ⟨rfl, gOff.rf, rSame.rf, fun x hx => by omega⟩
            · rintro t ⟨G2, x⟩ ht ⟨hx, hO, hr, hc⟩
              simp only at hx hO hr hc
              subst hx
              unfold f_X0_film_b52
              simp only
              have gk := nsF_aL b4 ht
              rw [Nat.zero_add] at gk
              rw [(hO 526 6 (by simp; omega)).1, b3, if_neg (nI_ge ht (by omega)), gIn_t (show s < 2 ^ 31 by omega) hs, gck_t, gIn_t (show t < 2 ^ 31 by omega) (by omega), gck_t, nI_clamp (by omega), nI_clamp (by omega), nI_add, (hO 528 t (by simp; omega)).1, gk]
              -- the state between: some list lies there
              have hx2 : xSt (S.setSh s (some (k, lF l.length (fun x => shV G2 k (539 + s) x)))) T G2 := hx1.setSh hW (fun _ _ => rfl) (hO.w (fun k j z => by simp at z ⊢; omega)) hs (fun k j _ => hr k j) (hx1.rk.same hr) ⟨by rw [hr]; exact a1, by rw [lF_len]; exact a2, fun x v hx => by obtain ⟨-, rfl⟩ := lF_get hx; rfl⟩
              have hW2 : (S.setSh s (some (k, lF l.length (fun x => shV G2 k (539 + s) x)))).Wf := hW.setSh hk (by rw [lF_len]; exact hw.2)
              have hS2 : (S.setSh s (some (k, lF l.length (fun x => shV G2 k (539 + s) x)))).sh s = some (k, lF l.length (fun x => shV G2 k (539 + s) x)) := by
                show (if s = s then _ else _) = _
                rw [if_pos rfl]
              refine Ok.bind (lay_sh hW2 hx2 hs hS2 (by rw [lF_len]; omega) _) (fun G3 h3 => ?_)
              obtain ⟨hO3, hr3, hv3⟩ := h3
              refine ⟨_, rfl, nI_1 t, hO.tr (hO3.w (fun k j z => by simp at z ⊢; omega)), hr.tr hr3, fun y hy => ?_⟩
              simp only
              by_cases e : y = t
              · subst e; exact hv3
              · rw [shV_off hO3 (by simp; omega)]; exact hc y (by omega)
            · rintro ⟨G2, x⟩ ⟨hx, hO, hr, hc⟩
              simp only at hx hO hr hc
              subst hx
              unfold f_X0_film_b52
              simp only
              rw [(hO 526 6 (by simp; omega)).1, b3, if_pos (nI_le (Nat.le_refl _) (by omega))]
              exact ⟨_, rfl, hO, hr, hc⟩
          · obtain ⟨hO2, hr2, hc2⟩ := h3
            refine ⟨_, rfl, hx1.setSh hW (fun _ _ => rfl) (hO2.w (fun k j z => by simp at z ⊢; omega)) hs (fun k j _ => hr2 k j) (hx1.rk.same hr2) ⟨by rw [hr2]; exact a1, by rw [lF_len]; exact a2, fun x v hx => ?_⟩, ?_⟩
            · obtain ⟨hx1', rfl⟩ := lF_get hx
              by_cases e : ii ≤ x ∧ x < ii + S.now.bn.length
              · rw [if_pos e, ← hc2 (x - ii) (by omega), show ii + (x - ii) = x by omega]
              · rw [if_neg e, shV_off hO2 (by simp; omega)]
                exact a3 x _ (getD_mem 0 hx1')
            · simp only
              rw [(hO2 526 6 (by simp; omega)).1]; exact b3
        · rw [if_neg (fun z => h0 (whyS_n.mp z)), if_neg h0]; exact ⟨_, rfl, hx1, rfl⟩
