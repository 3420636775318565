/-! the Model: open; sets of those that are counted -/
def sOpen (L : Lt) (a : Int32) : Int64 := match rg a 0 L.n with
  | none => -1
  | some k => bS (fun w => decide (0 < L.hv L.C k w)) 32
theorem open_ok {G : gP} {L : Lt} (hL : L.Wf) (hR : mRow G 1 0 L) (a : Int32) : Ok (f_X11_open G a) (fun q => gOff qZ G q.1 ∧ q.2 = sOpen L a) := by
  unfold f_X11_open sOpen
  have h8 := hL.n8
  rw [isSlot_rg hL.n8 hR.1]
  cases ha : rg a 0 L.n with
  | none => exact ⟨_, rfl, gOff.rf, rfl⟩
  | some k =>
    obtain ⟨-, hk, rfl⟩ := rg_some ha
    simp only [Option.isSome_some, if_true]
    rw [if_neg (by decide)]
    refine Ok.bind (counts_ok hL hR) (fun G1 h1 => ?_)
    obtain ⟨hO, hC⟩ := h1
    refine Ok.bind (Q := fun x => x = bS (fun w => decide (0 < L.hv L.C k w)) 32) ?_ (fun x hx => ⟨_, rfl, hO.w (fun k j => qZ_c), hx⟩)
    refine Ok.up (fun w s => s = (bS (fun w => decide (0 < L.hv L.C k w)) w, nI w)) 32 (by decide) ?_ ?_ rfl
    · rintro w s hw rfl
      unfold f_X11_open_b21
      have hv := L.hv_le L.C k w
      have hN := hL.N_le
      have hcl := L.cl_len L.N
      have hC' : L.C.length ≤ L.N := hcl
      simp (disch := omega) only [nLit, neg_nI, nI_add, pk_mul, nI_sub1, nI_clamp, gIn_t, gck_t, gLet_e, nI_leI, nI_ltJ, nI_eq, nI_nM_eq, nM_nI_eq, nM_eq, nM_nI_le, nI_nM_le, nM_nI_lt, nI_nM_lt, at_nI, gS_at, gS_ne', obind_some, iteT, iteF, ite_p, ite_n, hC.have' k w hk hw]
      refine ⟨_, rfl, ?_⟩
      simp only [bS]
      by_cases h0 : L.hv L.C k w ≤ 0
      · rw [if_pos h0, if_neg (by simp; omega)]
      · rw [if_neg h0, if_pos (by simp; omega)]
    · rintro s rfl
      unfold f_X11_open_b21
      simp (disch := omega) only [nLit, neg_nI, nI_add, pk_mul, nI_sub1, nI_clamp, gIn_t, gck_t, gLet_e, nI_leI, nI_ltJ, nI_eq, nI_nM_eq, nM_nI_eq, nM_eq, nM_nI_le, nI_nM_le, nM_nI_lt, nI_nM_lt, at_nI, gS_at, gS_ne', obind_some, iteT, iteF, ite_p, ite_n]; exact ⟨_, rfl, rfl⟩
/-- the t-th that is counted -/
def Lt.rd (L : Lt) (t : Nat) : Nat := L.C.getD t 0
theorem Lt.rd_C {L : Lt} {t : Nat} (h : t < L.C.length) : L.C[t]? = some (L.rd t) := by
  unfold Lt.rd
  rw [List.getD_eq_getElem?_getD, List.getElem?_eq_getElem h]; rfl
theorem Lt.rd_lt {L : Lt} {t : Nat} (h : t < L.C.length) : L.rd t < L.N ∧ L.cnt (L.rd t) = true := L.cl_lt _ _ (List.mem_of_getElem? (L.rd_C h))
theorem Lt.cnt_ev {L : Lt} {r : Nat} (h : L.cnt r = true) : ∃ ns, L.ev r = some ns := by
  unfold Lt.cnt at h
  rw [Bool.and_eq_true] at h
  obtain ⟨ns, h1, -⟩ := L.so_ev h.1
  exact ⟨ns, h1⟩
/-- of a set those that have a word in a slot -/
def Lt.qW (L : Lt) (x : Int64) (k w : Nat) : Int64 := bS (fun t => bt x t && decide (L.w k (L.pk (L.rd t) k) = w)) L.C.length
def Lt.rs (L : Lt) (x : Int64) : Nat → List Nat
  | 0 => []
  | t + 1 => if bt x t = true then L.rs x t ++ [L.rd t] else L.rs x t
def Lt.qN (L : Lt) (x : Int64) : Nat := (L.rs x L.C.length).length
theorem Lt.rs_len (L : Lt) (x : Int64) : ∀ t, (L.rs x t).length ≤ t := by
  intro t
  induction t with
  | zero => exact Nat.le_refl _
  | succ t ih =>
    rw [Lt.rs]
    split
    · simp; exact ih
    · omega
def cZ' (k j : Nat) : Bool := tZ k j
/-- what is there while sets are parted -/
def sQ (L : Lt) (G : gP) : Prop := (mRow G 1 0 L) ∧ (gS G 0 15 = nI L.C.length) ∧ (∀ i, i < L.C.length → gS G 7 i = nI (L.rd i))
theorem sQ.row {L : Lt} {G : gP} (h : sQ L G) : (mRow G 1 0 L) := h.1
theorem sQ.many {L : Lt} {G : gP} (h : sQ L G) : (gS G 0 15 = nI L.C.length) := h.2.1
theorem sQ.list {L : Lt} {G : gP} (h : sQ L G) : (∀ i, i < L.C.length → gS G 7 i = nI (L.rd i)) := h.2.2
theorem sQ.off {Z : Nat → Nat → Bool} {L : Lt} {G G' : gP} (h : sQ L G) (hO : gOff Z G G') (z : ∀ k j, k = 1 ∨ k = 7 ∨ (k = 0 ∧ j = 15) → Z k j = false) : sQ L G' := by
  refine ⟨h.row.off hO (fun j => z _ _ (by simp)), ?_, fun i hi => ?_⟩
  · rw [(hO 0 15 (z _ _ (by simp))).1]; exact h.many
  · rw [(hO 7 i (z _ _ (by simp))).1]; exact h.list i hi
theorem partOf_ok {G : gP} {L : Lt} (hL : L.Wf) (hS : sQ L G) (h60 : L.C.length ≤ 60) (x : Int64) {k w : Nat} (hk : k < L.n) (hw : w < 32) : Ok (f_X11_partOf G x (nI k) (nI w)) (fun q => gOff tZ G q.1 ∧ q.2 = L.qW x k w) := by
  unfold f_X11_partOf
  have h8 := hL.n8
  have hN := hL.N_le
  refine Ok.bind (Q := fun q => gOff tZ G q.1 ∧ q.2 = L.qW x k w) ?_ (fun q hq => ⟨_, rfl, hq⟩)
  refine Ok.up (fun t s => gOff tZ G s.1 ∧ s.2 = (bS (fun t => bt x t && decide (L.w k (L.pk (L.rd t) k) = w)) t, nI t)) L.C.length (by omega) ?_ ?_ ⟨gOff.rf, rfl⟩
  · rintro t ⟨G1, y⟩ ht ⟨hO, hy⟩
    simp only at hO hy
    subst hy
    have hS1 := hS.off hO (fun k j h => by simp [tZ]; omega)
    unfold f_X11_partOf_b6
    simp (disch := omega) only [nLit, neg_nI, nI_add, pk_mul, nI_sub1, nI_clamp, gIn_t, gck_t, gLet_e, nI_leI, nI_ltJ, nI_eq, nI_nM_eq, nM_nI_eq, nM_eq, nM_nI_le, nI_nM_le, nM_nI_lt, nI_nM_lt, at_nI, gS_at, gS_ne', obind_some, iteT, iteF, ite_p, ite_n, hS1.many]
    have hrd := L.rd_lt ht
    have etst := tst_1 x (show t < 64 by omega)
    cases hb : bt x t with
    | false =>
      rw [if_neg (by rw [etst, hb]; decide)]
      simp (disch := omega) only [nLit, neg_nI, nI_add, pk_mul, nI_sub1, nI_clamp, gIn_t, gck_t, gLet_e, nI_leI, nI_ltJ, nI_eq, nI_nM_eq, nM_nI_eq, nM_eq, nM_nI_le, nI_nM_le, nM_nI_lt, nI_nM_lt, at_nI, gS_at, gS_ne', obind_some, iteT, iteF, ite_p, ite_n]
      exact ⟨_, rfl, hO, by simp [bS, hb]⟩
    | true =>
      rw [if_pos (by rw [etst, hb])]
      simp (disch := omega) only [nLit, neg_nI, nI_add, pk_mul, nI_sub1, nI_clamp, gIn_t, gck_t, gLet_e, nI_leI, nI_ltJ, nI_eq, nI_nM_eq, nM_nI_eq, nM_eq, nM_nI_le, nI_nM_le, nM_nI_lt, nI_nM_lt, at_nI, gS_at, gS_ne', obind_some, iteT, iteF, ite_p, ite_n, hS1.list t ht]
      refine Ok.bind (Q := fun q : gP × Int32 => gOff tZ G q.1 ∧ q.2 = 1 ∧ mPk q.1 L.n (L.pk (L.rd t))) ?_ (fun q hq => ?_)
      · refine Ok.bind (takes_ok hL hS1.row (show L.rd t < 2 ^ 31 by omega)) (fun q hq => ?_)
        obtain ⟨hO2, hp, hc, hm⟩ := hq
        obtain ⟨ns, he⟩ := L.cnt_ev hrd.2
        rw [he] at hm
        rw [hm.1, if_neg (by decide)]
        exact ⟨_, rfl, hO.tr hO2, rfl, hp⟩
      · obtain ⟨hO2, h1, hp⟩ := hq
        have hpl := hL.pk_lt (r := L.rd t) hk
        have hm4 := hL.m1 k hk
        have hwk := hL.w32 k _ hk hpl
        have e1 := (((hS.off hO2 (fun k j h => by simp [tZ]; omega)).row.2.2.2.2 k hk).2 _ hpl).1
        rw [show 0 + 5 + 9 * k + L.pk (L.rd t) k = 4 + 9 * k + 1 + L.pk (L.rd t) k by omega] at e1
        rw [h1, if_neg (by decide)]
        simp (disch := omega) only [nLit, neg_nI, nI_add, pk_mul, nI_sub1, nI_clamp, gIn_t, gck_t, gLet_e, nI_leI, nI_ltJ, nI_eq, nI_nM_eq, nM_nI_eq, nM_eq, nM_nI_le, nI_nM_le, nM_nI_lt, nI_nM_lt, at_nI, gS_at, gS_ne', obind_some, iteT, iteF, ite_p, ite_n, hp k hk, e1]
        by_cases hc : L.w k (L.pk (L.rd t) k) = w
        · simp (disch := omega) only [nLit, neg_nI, nI_add, pk_mul, nI_sub1, nI_clamp, gIn_t, gck_t, gLet_e, nI_leI, nI_ltJ, nI_eq, nI_nM_eq, nM_nI_eq, nM_eq, nM_nI_le, nI_nM_le, nM_nI_lt, nI_nM_lt, at_nI, gS_at, gS_ne', obind_some, iteT, iteF, ite_p, ite_n]; exact ⟨_, rfl, hO2, by simp [bS, hb, hc]⟩
        · simp (disch := omega) only [nLit, neg_nI, nI_add, pk_mul, nI_sub1, nI_clamp, gIn_t, gck_t, gLet_e, nI_leI, nI_ltJ, nI_eq, nI_nM_eq, nM_nI_eq, nM_eq, nM_nI_le, nI_nM_le, nM_nI_lt, nI_nM_lt, at_nI, gS_at, gS_ne', obind_some, iteT, iteF, ite_p, ite_n]; exact ⟨_, rfl, hO2, by simp [bS, hb, hc]⟩
  · rintro ⟨G1, y⟩ ⟨hO, hy⟩
    simp only at hO hy
    subst hy
    have hS1 := hS.off hO (fun k j h => by simp [tZ]; omega)
    unfold f_X11_partOf_b6
    simp (disch := omega) only [nLit, neg_nI, nI_add, pk_mul, nI_sub1, nI_clamp, gIn_t, gck_t, gLet_e, nI_leI, nI_ltJ, nI_eq, nI_nM_eq, nM_nI_eq, nM_eq, nM_nI_le, nI_nM_le, nM_nI_lt, nI_nM_lt, at_nI, gS_at, gS_ne', obind_some, iteT, iteF, ite_p, ite_n, hS1.many]
    exact ⟨_, rfl, hO, rfl⟩
