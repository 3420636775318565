/-! the Model: whether all of a set tell the same -/
def Lt.f1 (L : Lt) (x : Int64) : Nat → Option (List Nat)
  | 0 => none
  | t + 1 => match L.f1 x t with
    | some a => some a
    | none => if bt x t = true then L.ev (L.rd t) else none
def Lt.sm (L : Lt) (x : Int64) : Nat → Bool
  | 0 => true
  | t + 1 => if bt x t = true then L.sm x t && decide (L.ev (L.rd t) = L.f1 x (t + 1)) else L.sm x t
def tsZ (k j : Nat) : Bool := tZ k j || decide (k = 6 ∨ k = 10 ∨ (k = 0 ∧ j = 21))
theorem tsZ_t {k j : Nat} (h : tsZ k j = false) : tZ k j = false := by unfold tsZ at h; rw [Bool.or_eq_false_iff] at h; exact h.1
theorem tsZ_6 {k j : Nat} (h : tsZ k j = false) : decide (k = 6) = false := by unfold tsZ at h; rw [Bool.or_eq_false_iff] at h; have := h.2; simp at this ⊢; omega
theorem tsZ_10 {k j : Nat} (h : tsZ k j = false) : decide (k = 10) = false := by unfold tsZ at h; rw [Bool.or_eq_false_iff] at h; have := h.2; simp at this ⊢; omega
theorem sQ.ts {L : Lt} {G G' : gP} (h : sQ L G) (hO : gOff tsZ G G') : sQ L G' := h.off hO (fun k j h => by simp [tsZ, tZ]; omega)
theorem Lt.f1_none {L : Lt} {x : Int64} (hev : ∀ t, t < L.C.length → ∃ ns, L.ev (L.rd t) = some ns) : ∀ t, t ≤ L.C.length → (L.f1 x t = none ↔ L.rs x t = []) := by
  intro t
  induction t with
  | zero => intro _; exact ⟨fun _ => rfl, fun _ => rfl⟩
  | succ t ih =>
    intro ht
    have ih := ih (by omega)
    rw [Lt.f1, Lt.rs]
    cases hf : L.f1 x t with
    | some a =>
      have : L.rs x t ≠ [] := fun z => by rw [ih.mpr z] at hf; cases hf
      constructor
      · intro z; cases z
      · intro z
        exfalso
        split at z
        · simp at z
        · exact this z
    | none =>
      have := ih.mp hf
      obtain ⟨ns, he⟩ := hev t (by omega)
      cases hb : bt x t
      · simp [this]
      · simp [he]
/-- the numbers of the first one, laid away -/
def f1P (G : gP) (a : List Nat) : Prop := aL G 10 0 a ∧ nsOk a
theorem cp10_ok {G : gP} {a : List Nat} (h6 : gS G 0 6 = nI a.length) (h4 : aL G 4 0 a) (hok : nsOk a) : Ok (gloop f_X11_tellsSame_b94 gFu (G, (0 : Int32))) (fun G' => gOff (fun k _ => decide (k = 10)) G G' ∧ aL G' 10 0 a) := by
  have hl := hok.2.1
  refine Ok.up (fun i s => s.2 = nI i ∧ gOff (fun k _ => decide (k = 10)) G s.1 ∧ ∀ j, j < i → gS s.1 10 j = nI (nsF a j)) a.length (by omega) ?_ ?_ ⟨rfl, gOff.rf, fun j hj => by omega⟩
  · rintro i ⟨G1, x⟩ hi ⟨hx, hO, hz⟩
    simp only at hx hO hz
    subst hx
    unfold f_X11_tellsSame_b94
    have e4 := nsF_aL h4 hi
    rw [Nat.zero_add] at e4
    simp (disch := omega) only [nLit, neg_nI, nI_add, pk_mul, nI_sub1, nI_clamp, gIn_t, gck_t, gLet_e, nI_leI, nI_ltJ, nI_eq, nI_nM_eq, nM_nI_eq, nM_eq, nM_nI_le, nI_nM_le, nM_nI_lt, nI_nM_lt, at_nI, gS_at, gS_ne', obind_some, iteT, iteF, ite_p, ite_n, (hO 0 6 rfl).1, h6, (hO 4 i rfl).1, e4]
    refine ⟨_, rfl, rfl, hO.S1 rfl, fun j hj => ?_⟩
    simp only
    rw [gS_S1]
    by_cases e : j = i
    · rw [if_pos ⟨rfl, e⟩, e]
    · rw [if_neg (fun z => e z.2)]; exact hz j (by omega)
  · rintro ⟨G1, x⟩ ⟨hx, hO, hz⟩
    simp only at hx hO hz
    subst hx
    unfold f_X11_tellsSame_b94
    simp (disch := omega) only [nLit, neg_nI, nI_add, pk_mul, nI_sub1, nI_clamp, gIn_t, gck_t, gLet_e, nI_leI, nI_ltJ, nI_eq, nI_nM_eq, nM_nI_eq, nM_eq, nM_nI_le, nI_nM_le, nM_nI_lt, nI_nM_lt, at_nI, gS_at, gS_ne', obind_some, iteT, iteF, ite_p, ite_n, (hO 0 6 rfl).1, h6]
    refine ⟨_, rfl, hO, fun j v hj => ?_⟩
    have hjl : j < a.length := (List.getElem?_eq_some_iff.mp hj).1
    rw [Nat.zero_add, hz j hjl]
    unfold nsF
    rw [List.getD_eq_getElem?_getD, hj]; rfl
/-- two lists in cells: whether they are the same -/
theorem cmp_ok {G : gP} {a b : List Nat} {y : Int32} (ha : nsOk a) (hb : nsOk b) (h4 : aL G 4 0 a) (h10 : aL G 10 0 b) (s : Bool) (hs : s = true → a.length = b.length) (hy : y = nI b.length) : Ok (gloop (f_X11_tellsSame_b145 (G, y)) gFu (bI s, (0 : Int32))) (fun r => r = bI (s && decide (a = b))) := by
  subst hy
  have hl := hb.2.1
  have hla := ha.2.1
  refine Ok.loop (fun n r => n ≤ b.length ∧ r = (bI (s && alike a b (b.length - n)), nI (b.length - n))) ?_ gFu b.length _ (by unfold gFu; omega) ⟨Nat.le_refl _, ?_⟩
  · rintro n r ⟨hn, rfl⟩
    unfold f_X11_tellsSame_b145
    simp only
    by_cases hn0 : n = 0
    · subst hn0
      rw [Nat.sub_zero, alike_eq (Or.inr trivial)]
      simp (disch := omega) only [nLit, neg_nI, nI_add, pk_mul, nI_sub1, nI_clamp, gIn_t, gck_t, gLet_e, nI_leI, nI_ltJ, nI_eq, nI_nM_eq, nM_nI_eq, nM_eq, nM_nI_le, nI_nM_le, nM_nI_lt, nI_nM_lt, at_nI, gS_at, gS_ne', obind_some, iteT, iteF, ite_p, ite_n]; exact ⟨_, rfl, rfl⟩
    · cases hc : (s && alike a b (b.length - n)) with
      | false =>
        rw [if_neg (nI_ge (by omega) (by omega)), if_pos (by decide)]
        refine ⟨_, rfl, ?_⟩
        simp only
        congr 1
        cases hs1 : s with
        | false => rfl
        | true =>
          rw [hs1, Bool.true_and] at hc
          symm
          rw [Bool.true_and]
          apply decide_eq_false
          intro e
          subst e
          rw [(alike_iff a a (a.length - n)).mpr ⟨rfl, fun _ _ => rfl⟩] at hc
          cases hc
      | true =>
        rw [if_neg (nI_ge (by omega) (by omega)), if_neg (by decide)]
        rw [Bool.and_eq_true] at hc
        obtain ⟨hc1, hc2⟩ := hc
        have hA := (alike_iff _ _ _).mp hc2
        have g4 := nsF_aL h4 (j := b.length - n) (by omega)
        have g5 := nsF_aL h10 (j := b.length - n) (by omega)
        rw [Nat.zero_add] at g4 g5
        have f4 := nsF_le ha (b.length - n)
        have f5 := nsF_le hb (b.length - n)
        have e1 : b.length - n + 1 = b.length - (n - 1) := by omega
        have e2 : alike a b (b.length - (n - 1)) = (alike a b (b.length - n) && decide (nsF a (b.length - n) = nsF b (b.length - n))) := by
          rw [← e1]; rfl
        simp (disch := omega) only [nLit, neg_nI, nI_add, pk_mul, nI_sub1, nI_clamp, gIn_t, gck_t, gLet_e, nI_leI, nI_ltJ, nI_eq, nI_nM_eq, nM_nI_eq, nM_eq, nM_nI_le, nI_nM_le, nM_nI_lt, nI_nM_lt, at_nI, gS_at, gS_ne', obind_some, iteT, iteF, ite_p, ite_n, g4, g5]
        by_cases he : nsF a (b.length - n) = nsF b (b.length - n)
        · simp (disch := omega) only [nLit, neg_nI, nI_add, pk_mul, nI_sub1, nI_clamp, gIn_t, gck_t, gLet_e, nI_leI, nI_ltJ, nI_eq, nI_nM_eq, nM_nI_eq, nM_eq, nM_nI_le, nI_nM_le, nM_nI_lt, nI_nM_lt, at_nI, gS_at, gS_ne', obind_some, iteT, iteF, ite_p, ite_n]; exact ⟨_, rfl, n - 1, by omega, by omega, by rw [hc1, e2, hc2, decide_eq_true he, e1]; rfl⟩
        · simp (disch := omega) only [nLit, neg_nI, nI_add, pk_mul, nI_sub1, nI_clamp, gIn_t, gck_t, gLet_e, nI_leI, nI_ltJ, nI_eq, nI_nM_eq, nM_nI_eq, nM_eq, nM_nI_le, nI_nM_le, nM_nI_lt, nI_nM_lt, at_nI, gS_at, gS_ne', obind_some, iteT, iteF, ite_p, ite_n]; exact ⟨_, rfl, n - 1, by omega, by omega, by rw [hc1, e2, hc2, decide_eq_false he, e1]; rfl⟩
  · rw [Nat.sub_self]
    cases s with
    | false => rfl
    | true =>
      show _ = (bI (decide (a.length = b.length)), _)
      rw [decide_eq_true (hs rfl)]; rfl
theorem tellsSame_ok {G : gP} {L : Lt} (hL : L.Wf) (hS : sQ L G) (h60 : L.C.length ≤ 60) (x : Int64) : Ok (f_X11_tellsSame G x) (fun q => gOff tsZ G q.1 ∧ q.2 = bI (L.sm x L.C.length) ∧ gS q.1 0 21 = nI (L.qN x) ∧ ∀ k w, k < L.n → w < 32 → gS q.1 6 (32 * k + w) = nI (L.hv (L.rs x L.C.length) k w)) := by
  unfold f_X11_tellsSame
  have h8 := hL.n8
  have hN := hL.N_le
  have hev : ∀ t, t < L.C.length → ∃ ns, L.ev (L.rd t) = some ns := fun t ht => L.cnt_ev (L.rd_lt ht).2
  refine Ok.bind (show Ok (gloop f_X11_tellsSame_b11 gFu (G, (0 : Int32))) _ from counts_b18_ok) (fun G1 h1 => ?_)
  obtain ⟨hO1, hz⟩ := h1
  have hO1' : gOff tsZ G G1 := hO1.w (fun k j => tsZ_6)
  refine Ok.bind (Q := fun q => gOff tsZ G q.1 ∧ q.2 = (bI (L.sm x L.C.length), nI (L.qN x)) ∧ ∀ k w, k < L.n → w < 32 → gS q.1 6 (32 * k + w) = nI (L.hv (L.rs x L.C.length) k w)) ?_ (fun q hq => ?_)
  · refine Ok.up (fun t s => gOff tsZ G s.1 ∧ (∀ k w, k < L.n → w < 32 → gS s.1 6 (32 * k + w) = nI (L.hv (L.rs x t) k w)) ∧ (∃ y, s.2 = (bI (L.sm x t), nI (L.rs x t).length, y, nI t) ∧ ∀ a, L.f1 x t = some a → y = nI a.length ∧ aL s.1 10 0 a ∧ nsOk a)) L.C.length (by omega) ?_ ?_ ?_
    · rintro t ⟨G2, z⟩ ht ⟨hO, hh, y, hz2, hf⟩
      simp only at hO hh hz2 hf
      subst hz2
      have hS1 := hS.ts hO
      unfold f_X11_tellsSame_b36
      simp (disch := omega) only [nLit, neg_nI, nI_add, pk_mul, nI_sub1, nI_clamp, gIn_t, gck_t, gLet_e, nI_leI, nI_ltJ, nI_eq, nI_nM_eq, nM_nI_eq, nM_eq, nM_nI_le, nI_nM_le, nM_nI_lt, nI_nM_lt, at_nI, gS_at, gS_ne', obind_some, iteT, iteF, ite_p, ite_n, hS1.many]
      have hrd := L.rd_lt ht
      have hlen := L.rs_len x t
      have etst := tst_1 x (show t < 64 by omega)
      cases hb : bt x t with
      | false =>
        rw [if_neg (by rw [etst, hb]; decide)]
        have e1 : L.rs x (t + 1) = L.rs x t := by rw [Lt.rs, hb]; rfl
        have e2 : L.sm x (t + 1) = L.sm x t := by rw [Lt.sm, hb]; rfl
        have e3 : ∀ a, L.f1 x (t + 1) = some a → L.f1 x t = some a := by
          intro a h
          rw [Lt.f1, hb] at h
          cases hf1 : L.f1 x t with
          | none => rw [hf1] at h; cases h
          | some b => rw [hf1] at h; exact h
        refine ⟨_, rfl, hO, ?_, y, ?_, ?_⟩
        · rw [e1]; exact hh
        · rw [e1, e2]
        · intro a ha; exact hf a (e3 a ha)
      | true =>
        rw [if_pos (by rw [etst, hb])]
        simp (disch := omega) only [nLit, neg_nI, nI_add, pk_mul, nI_sub1, nI_clamp, gIn_t, gck_t, gLet_e, nI_leI, nI_ltJ, nI_eq, nI_nM_eq, nM_nI_eq, nM_eq, nM_nI_le, nI_nM_le, nM_nI_lt, nI_nM_lt, at_nI, gS_at, gS_ne', obind_some, iteT, iteF, ite_p, ite_n, hS1.list t ht]
        refine Ok.bind (takes_ok hL hS1.row (show L.rd t < 2 ^ 31 by omega)) (fun q hq => ?_)
        obtain ⟨hO2, hp, hc, hm⟩ := hq
        obtain ⟨ns, he⟩ := L.cnt_ev hrd.2
        rw [he] at hm
        obtain ⟨hm1, hm2⟩ := hm
        have hok := hm2.ok hL (hL.pk_ok _) he
        have hl8 := hok.2.1
        have hOq : gOff tsZ G q.1 := hO.tr (hO2.w (fun k j => tsZ_t))
        have e1 : L.rs x (t + 1) = L.rs x t ++ [L.rd t] := by rw [Lt.rs, hb]; rfl
        rw [hm1]
        have esame : (if (1 : Int32) = nI 0 then nI 0 else if bI (L.sm x t) = nI 0 then nI 0 else nI 1) = bI (L.sm x t) := by
          rw [if_neg (by decide)]
          cases L.sm x t <;> decide
        -- the first one
        refine Ok.bind (Q := fun z : gP × Int32 => gOff tsZ G z.1 ∧ gOff (fun k _ => decide (k = 10)) q.1 z.1 ∧ ∃ a, L.f1 x (t + 1) = some a ∧ z.2 = nI a.length ∧ aL z.1 10 0 a ∧ nsOk a) ?_ (fun z hz => ?_)
        · cases hf1 : L.f1 x t with
          | none =>
            have hnil := (L.f1_none hev t (by omega)).mp hf1
            rw [hnil, if_pos List.length_nil]
            show Ok (Option.bind _ _) _
            refine Ok.bind (cp10_ok hm2.1 hm2.2.1 hok) (fun G3 h3 => ?_)
            refine ⟨_, rfl, hOq.tr (h3.1.w (fun k j => tsZ_10)), h3.1, ns, ?_, hm2.1, h3.2, hok⟩
            rw [Lt.f1, hf1, hb, ← he]; rfl
          | some a =>
            have hne : (L.rs x t).length ≠ 0 := fun z => by
              rw [(L.f1_none hev t (by omega)).mpr (List.length_eq_zero_iff.mp z)] at hf1; cases hf1
            simp (disch := omega) only [nLit, neg_nI, nI_add, pk_mul, nI_sub1, nI_clamp, gIn_t, gck_t, gLet_e, nI_leI, nI_ltJ, nI_eq, nI_nM_eq, nM_nI_eq, nM_eq, nM_nI_le, nI_nM_le, nM_nI_lt, nI_nM_lt, at_nI, gS_at, gS_ne', obind_some, iteT, iteF, ite_p, ite_n]
            obtain ⟨hy, ha10, hoka⟩ := hf a hf1
            refine ⟨_, rfl, hOq, gOff.rf, a, ?_, hy, ?_, hoka⟩
            · rw [Lt.f1, hf1]
            · intro j v hj
              rw [(hO2 10 _ rfl).1]; exact ha10 j v hj
        · obtain ⟨hO3, hO4, a, hfa, hza, ha10, hoka⟩ := hz
          have hla := hoka.2.1
          have z6 : gS z.1 0 6 = nI ns.length := by rw [(hO4 0 6 rfl).1]; exact hm2.1
          have esm : (if bI (L.sm x t) = nI 0 then nI 0 else if nI ns.length = nI a.length then nI 1 else nI 0) = bI (L.sm x t && decide (ns.length = a.length)) := by
            cases L.sm x t with
            | false => rfl
            | true =>
              rw [if_neg (by decide)]
              by_cases e : ns.length = a.length
              · rw [if_pos (by rw [e]), decide_eq_true e]; rfl
              · rw [if_neg (fun z => e ((nI_eq (by omega) (by omega)).mp z)), decide_eq_false e]; rfl
          rw [z6, hza]
          rw [show (if (if (1 : Int32) = nI 0 then nI 0 else if bI (L.sm x t) = nI 0 then nI 0 else nI 1) = nI 0 then nI 0 else if nI ns.length = nI a.length then nI 1 else nI 0) = bI (L.sm x t && decide (ns.length = a.length)) by rw [esame]; exact esm]
          have h4z : aL z.1 4 0 ns := fun j v hj => by rw [(hO4 4 _ rfl).1]; exact hm2.2.1 j v hj
          refine Ok.bind (show Ok (gloop (f_X11_tellsSame_b145 z) gFu _) _ from cmp_ok hok hoka h4z ha10 _ (fun h => by rw [Bool.and_eq_true] at h; exact of_decide_eq_true h.2) hza) (fun r hr => ?_)
          have hpz : mPk z.1 L.n (L.pk (L.rd t)) := fun k hk => by rw [(hO4 2 k rfl).1]; exact hp k hk
          have hhz : ∀ k w, k < L.n → w < 32 → gS z.1 6 (32 * k + w) = nI (L.hv (L.rs x t) k w) := fun k w hk hw => by
            rw [(hO4 6 _ rfl).1, (hO2 6 _ rfl).1]; exact hh k w hk hw
          refine Ok.bind (show Ok (gloop f_X11_tellsSame_b188 gFu (z.1, nI 0)) _ from having_ok rfl hL (hS.ts hO3).row hpz (by omega) hhz) (fun G5 h5 => ?_)
          obtain ⟨hO5, hh5⟩ := h5
          refine ⟨_, rfl, hO3.tr (hO5.w (fun k j => tsZ_6)), ?_, nI a.length, ?_, ?_⟩
          · rw [e1]; exact hh5
          · rw [e1, hr, List.length_append, List.length_singleton]
            congr 1
            congr 1
            rw [Lt.sm, if_pos hb, hfa, he]
            cases L.sm x t with
            | false => rfl
            | true =>
              by_cases e : ns = a
              · subst e; simp
              · simp [e]
          · intro a' ha'
            rw [hfa] at ha'
            cases ha'
            refine ⟨rfl, fun j v hj => ?_, hoka⟩
            rw [(hO5 10 _ rfl).1]; exact ha10 j v hj
    · rintro ⟨G2, z⟩ ⟨hO, hh, y, hz2, hf⟩
      simp only at hO hh hz2 hf
      subst hz2
      have hS1 := hS.ts hO
      unfold f_X11_tellsSame_b36
      simp (disch := omega) only [nLit, neg_nI, nI_add, pk_mul, nI_sub1, nI_clamp, gIn_t, gck_t, gLet_e, nI_leI, nI_ltJ, nI_eq, nI_nM_eq, nM_nI_eq, nM_eq, nM_nI_le, nI_nM_le, nM_nI_lt, nI_nM_lt, at_nI, gS_at, gS_ne', obind_some, iteT, iteF, ite_p, ite_n, hS1.many]
      exact ⟨_, rfl, hO, rfl, hh⟩
    · exact ⟨hO1', fun k w hk hw => hz _ (by omega), 0, rfl, fun a ha => by cases ha⟩
  · obtain ⟨hO, hq2, hh⟩ := hq
    rw [hq2]
    simp only [gLet]
    refine Ok.ck (bI_Z _) ⟨_, rfl, hO.S1 rfl, rfl, gS_at, fun k w hk hw => ?_⟩
    simp only
    rw [gS_ne (by omega)]; exact hh k w hk hw
