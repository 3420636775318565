/-! what is kept; the Model: what is done -/
def St : Type := Lt × (List Lt) × (Option (Lt × List Lt)) × (List Nat) × (Nat → Option (Nat × List Int64))
def St.now (x : St) : Lt := x.1
def St.past (x : St) : List Lt := x.2.1
def St.kept (x : St) : Option (Lt × List Lt) := x.2.2.1
def St.tape (x : St) : List Nat := x.2.2.2.1
def St.sh (x : St) : Nat → Option (Nat × List Int64) := x.2.2.2.2
def St.of (x0 : Lt) (x1 : List Lt) (x2 : Option (Lt × List Lt)) (x3 : List Nat) (x4 : Nat → Option (Nat × List Int64)) : St := ⟨x0, x1, x2, x3, x4⟩
theorem St.mk_now (x0 : Lt) (x1 : List Lt) (x2 : Option (Lt × List Lt)) (x3 : List Nat) (x4 : Nat → Option (Nat × List Int64)) : St.now (St.of x0 x1 x2 x3 x4) = x0 := rfl
theorem St.mk_past (x0 : Lt) (x1 : List Lt) (x2 : Option (Lt × List Lt)) (x3 : List Nat) (x4 : Nat → Option (Nat × List Int64)) : St.past (St.of x0 x1 x2 x3 x4) = x1 := rfl
theorem St.mk_kept (x0 : Lt) (x1 : List Lt) (x2 : Option (Lt × List Lt)) (x3 : List Nat) (x4 : Nat → Option (Nat × List Int64)) : St.kept (St.of x0 x1 x2 x3 x4) = x2 := rfl
theorem St.mk_tape (x0 : Lt) (x1 : List Lt) (x2 : Option (Lt × List Lt)) (x3 : List Nat) (x4 : Nat → Option (Nat × List Int64)) : St.tape (St.of x0 x1 x2 x3 x4) = x3 := rfl
theorem St.mk_sh (x0 : Lt) (x1 : List Lt) (x2 : Option (Lt × List Lt)) (x3 : List Nat) (x4 : Nat → Option (Nat × List Int64)) : St.sh (St.of x0 x1 x2 x3 x4) = x4 := rfl
def St.Wf (S : St) : Prop := (S.now.Wf) ∧ (∀ L ∈ S.past, L.Wf) ∧ (S.past.length ≤ 8) ∧ (∀ L p, S.kept = some (L, p) → L.Wf ∧ (∀ L ∈ p, L.Wf) ∧ p.length ≤ 8) ∧ (S.tape.length ≤ 120 ∧ ∀ v ∈ S.tape, 32 ≤ v ∧ v ≤ 126) ∧ (∀ s k l, S.sh s = some (k, l) → k < 4 ∧ l.length ≤ 24)
theorem St.Wf.now {S : St} (h : St.Wf S) : (S.now.Wf) := h.1
theorem St.Wf.past {S : St} (h : St.Wf S) : (∀ L ∈ S.past, L.Wf) := h.2.1
theorem St.Wf.p8 {S : St} (h : St.Wf S) : (S.past.length ≤ 8) := h.2.2.1
theorem St.Wf.kept {S : St} (h : St.Wf S) : (∀ L p, S.kept = some (L, p) → L.Wf ∧ (∀ L ∈ p, L.Wf) ∧ p.length ≤ 8) := h.2.2.2.1
theorem St.Wf.tape {S : St} (h : St.Wf S) : (S.tape.length ≤ 120 ∧ ∀ v ∈ S.tape, 32 ≤ v ∧ v ≤ 126) := h.2.2.2.2.1
theorem St.Wf.sh {S : St} (h : St.Wf S) : (∀ s k l, S.sh s = some (k, l) → k < 4 ∧ l.length ≤ 24) := h.2.2.2.2.2
def mSt (S : St) (G : gP) : Prop := (mRow G 1 0 S.now) ∧ (gS G 0 29 = nI S.past.length) ∧ (∀ i L, S.past[i]? = some L → mRow G 14 (76 * i) L) ∧ (match S.kept with
    | none => gS G 0 32 = -1
    | some (L, p) => mRow G 15 0 L ∧ gS G 0 32 = nI p.length ∧ ∀ i L, p[i]? = some L → mRow G 16 (76 * i) L) ∧ (gS G 0 23 = nI S.tape.length) ∧ (aL G 11 0 S.tape) ∧ (∀ s, s < 4 → match S.sh s with
    | none => gS G 17 s = -1
    | some (k, l) => gS G 17 s = nI k ∧ gS G 18 s = nI l.length ∧ ∀ i v, l[i]? = some v → gL G 19 (24 * s + i) = v)
theorem mSt.now {S : St} {G : gP} (h : mSt S G) : (mRow G 1 0 S.now) := h.1
theorem mSt.un {S : St} {G : gP} (h : mSt S G) : (gS G 0 29 = nI S.past.length) := h.2.1
theorem mSt.past {S : St} {G : gP} (h : mSt S G) : (∀ i L, S.past[i]? = some L → mRow G 14 (76 * i) L) := h.2.2.1
theorem mSt.kept {S : St} {G : gP} (h : mSt S G) : (match S.kept with
    | none => gS G 0 32 = -1
    | some (L, p) => mRow G 15 0 L ∧ gS G 0 32 = nI p.length ∧ ∀ i L, p[i]? = some L → mRow G 16 (76 * i) L) := h.2.2.2.1
theorem mSt.tp {S : St} {G : gP} (h : mSt S G) : (gS G 0 23 = nI S.tape.length) := h.2.2.2.2.1
theorem mSt.tape {S : St} {G : gP} (h : mSt S G) : (aL G 11 0 S.tape) := h.2.2.2.2.2.1
theorem mSt.sh {S : St} {G : gP} (h : mSt S G) : (∀ s, s < 4 → match S.sh s with
    | none => gS G 17 s = -1
    | some (k, l) => gS G 17 s = nI k ∧ gS G 18 s = nI l.length ∧ ∀ i v, l[i]? = some v → gL G 19 (24 * s + i) = v) := h.2.2.2.2.2.2
theorem mRow.off' {Z : Nat → Nat → Bool} {G G' : gP} {k o : Nat} {L : Lt} (hL : L.Wf) (h : mRow G k o L) (hO : gOff Z G G') (hz : ∀ j, o ≤ j → j < o + 76 → Z k j = false) : mRow G' k o L := by
  obtain ⟨h1, h2, h3, h4, h5⟩ := h
  have h8 := hL.n8
  refine ⟨?_, ?_, ?_, ?_, fun i hi => ⟨?_, fun j hj => ⟨?_, ?_⟩⟩⟩
  · rw [(hO k _ (hz _ (by omega) (by omega))).1]; exact h1
  · rw [(hO k _ (hz _ (by omega) (by omega))).1]; exact h2
  · rw [(hO k _ (hz _ (by omega) (by omega))).1]; exact h3
  · rw [(hO k _ (hz _ (by omega) (by omega))).1]; exact h4
  · rw [(hO k _ (hz _ (by omega) (by omega))).1]; exact (h5 i hi).1
  · have := hL.m1 i hi
    rw [(hO k _ (hz _ (by omega) (by omega))).1]; exact ((h5 i hi).2 j hj).1
  · have := hL.m1 i hi
    rw [(hO k _ (hz _ (by omega) (by omega))).1]; exact ((h5 i hi).2 j hj).2
theorem mRow.cp {G G' : gP} {k o k' o' : Nat} {L : Lt} (hL : L.Wf) (h : mRow G k o L) (hc : ∀ j, j < 76 → gS G' k' (o' + j) = gS G k (o + j)) : mRow G' k' o' L := by
  obtain ⟨h1, h2, h3, h4, h5⟩ := h
  have h8 := hL.n8
  have hc' : ∀ a b : Nat, ∀ j, a = o' + j → b = o + j → j < 76 → gS G' k' a = gS G k b := fun a b j e1 e2 hj => by subst e1 e2; exact hc j hj
  refine ⟨?_, ?_, ?_, ?_, fun i hi => ⟨?_, fun j hj => ⟨?_, ?_⟩⟩⟩
  · exact (hc' _ _ 0 rfl rfl (by omega)).trans h1
  · rw [hc' _ (o + 1) 1 rfl rfl (by omega)]; exact h2
  · rw [hc' _ (o + 2) 2 rfl rfl (by omega)]; exact h3
  · rw [hc' _ (o + 3) 3 rfl rfl (by omega)]; exact h4
  · rw [hc' _ (o + 4 + 9 * i) (4 + 9 * i) (by omega) (by omega) (by omega)]; exact (h5 i hi).1
  · have := hL.m1 i hi
    rw [hc' _ (o + 5 + 9 * i + j) (5 + 9 * i + j) (by omega) (by omega) (by omega)]; exact ((h5 i hi).2 j hj).1
  · have := hL.m1 i hi
    rw [hc' _ (o + 9 + 9 * i + j) (9 + 9 * i + j) (by omega) (by omega) (by omega)]; exact ((h5 i hi).2 j hj).2
/-- cells copied one by one -/
theorem cpy_ok {f : gP × Int32 → Option ((gP × Int32) ⊕ gP)} {G : gP} {N dst sd src ss : Nat} (hN : N < 2 ^ 30) (hne : src ≠ dst)
    (hs : ∀ G1 i, gOff (fun k _ => decide (k = dst)) G G1 → i < N → f (G1, nI i) = some (.inl (gS1 G1 dst (sd + i) (gS G1 src (ss + i)), nI (i + 1))))
    (hl : ∀ G1, gOff (fun k _ => decide (k = dst)) G G1 → f (G1, nI N) = some (.inr G1)) :
    Ok (gloop f gFu (G, (0 : Int32))) (fun G' => gOff (fun k j => decide (k = dst ∧ sd ≤ j ∧ j < sd + N)) G G' ∧ ∀ j, j < N → gS G' dst (sd + j) = gS G src (ss + j)) := by
  have hw : ∀ {G1 : gP}, gOff (fun k j => decide (k = dst ∧ sd ≤ j ∧ j < sd + N)) G G1 → gOff (fun k _ => decide (k = dst)) G G1 := fun h => h.w (fun k j hz => by simp at hz ⊢; intro e; exact (hz e).elim)
  refine Ok.up (fun i s => s.2 = nI i ∧ gOff (fun k j => decide (k = dst ∧ sd ≤ j ∧ j < sd + N)) G s.1 ∧ ∀ j, j < i → gS s.1 dst (sd + j) = gS G src (ss + j)) N (by omega) ?_ ?_ ⟨rfl, gOff.rf, fun j hj => by omega⟩
  · rintro i ⟨G1, x⟩ hi ⟨hx, hO, hc⟩
    simp only at hx hO hc
    subst hx
    refine ⟨_, hs G1 i (hw hO) hi, rfl, hO.S1 (by simp; omega), fun j hj => ?_⟩
    simp only
    by_cases e : j = i
    · subst e; rw [gS_at, (hO src _ (by simp [hne])).1]
    · rw [gS_ne (by omega)]; exact hc j (by omega)
  · rintro ⟨G1, x⟩ ⟨hx, hO, hc⟩
    simp only at hx hO hc
    subst hx
    exact ⟨_, hl G1 (hw hO), hO, hc⟩
def pushP (p : List Lt) (L : Lt) : List Lt := (if p.length = 8 then p.tail else p) ++ [L]
theorem pushP_len {p : List Lt} {L : Lt} (h : p.length ≤ 8) : (pushP p L).length = if p.length = 8 then 8 else p.length + 1 := by
  unfold pushP
  split
  · rename_i e; simp [e]
  · simp
/-- what notes changes -/
def noZ (k j : Nat) : Bool := decide (k = 14 ∨ (k = 0 ∧ j = 29))
theorem notes_ok {G : gP} {L : Lt} {p : List Lt} (hL : L.Wf) (hp : ∀ L ∈ p, L.Wf) (hp8 : p.length ≤ 8) (hR : mRow G 1 0 L) (hu : gS G 0 29 = nI p.length) (hP : ∀ i L, p[i]? = some L → mRow G 14 (76 * i) L) :
    Ok (f_X11_notes G) (fun G' => gOff noZ G G' ∧ gS G' 0 29 = nI (pushP p L).length ∧ ∀ i L', (pushP p L)[i]? = some L' → mRow G' 14 (76 * i) L') := by
  unfold f_X11_notes
  refine Ok.bind (Q := fun G1 => gOff noZ G G1 ∧ ∃ q, q.length ≤ 7 ∧ (q ++ [L]) = pushP p L ∧ (∀ L ∈ q, L.Wf) ∧ gS G1 0 29 = nI q.length ∧ ∀ i L, q[i]? = some L → mRow G1 14 (76 * i) L) ?_ (fun G1 h1 => ?_)
  · by_cases h8 : p.length = 8
    · rw [hu, h8, if_pos (show nI 8 = 8 from rfl)]
      refine Ok.bind (Q := fun G1 => gOff (fun k _ => decide (k = 14)) G G1 ∧ ∀ j, j < 532 → gS G1 14 j = gS G 14 (j + 76)) ?_ (fun G1 h1 => ?_)
      · refine Ok.up (fun i s => s.2 = nI (76 + i) ∧ gOff (fun k _ => decide (k = 14)) G s.1 ∧ (∀ j, j < i → gS s.1 14 j = gS G 14 (j + 76)) ∧ ∀ j, i ≤ j → gS s.1 14 j = gS G 14 j) 532 (by decide) ?_ ?_ ⟨rfl, gOff.rf, fun j hj => by omega, fun j _ => rfl⟩
        · rintro i ⟨G1, x⟩ hi ⟨hx, hO, hc, hr⟩
          simp only at hx hO hc hr
          subst hx
          unfold f_X11_notes_b12
          have e1 : nI (76 + i) - nI 76 = nI i := by rw [pk_sub (by omega)]; apply nI_inj; omega
          simp (disch := omega) only [nLit, neg_nI, nI_add, pk_mul, nI_sub1, nI_clamp, gIn_t, gck_t, gLet_e, nI_leI, nI_ltJ, nI_eq, nI_nM_eq, nM_nI_eq, nM_eq, nM_nI_le, nI_nM_le, nM_nI_lt, nI_nM_lt, at_nI, gS_at, gS_ne', obind_some, iteT, iteF, ite_p, ite_n, e1]
          refine ⟨_, rfl, rfl, hO.S1 (by simp), fun j hj => ?_, fun j hj => ?_⟩
          · simp only
            by_cases e : j = i
            · subst e; rw [gS_at, hr _ (by omega), Nat.add_comm]
            · rw [gS_ne (by omega)]; exact hc j (by omega)
          · simp only
            rw [gS_ne (by omega)]; exact hr j (by omega)
        · rintro ⟨G1, x⟩ ⟨hx, hO, hc, hr⟩
          simp only at hx hO hc hr
          subst hx
          unfold f_X11_notes_b12
          simp (disch := omega) only [nLit, neg_nI, nI_add, pk_mul, nI_sub1, nI_clamp, gIn_t, gck_t, gLet_e, nI_leI, nI_ltJ, nI_eq, nI_nM_eq, nM_nI_eq, nM_eq, nM_nI_le, nI_nM_le, nM_nI_lt, nI_nM_lt, at_nI, gS_at, gS_ne', obind_some, iteT, iteF, ite_p, ite_n]
          exact ⟨_, rfl, hO, hc⟩
      · obtain ⟨hO, hc⟩ := h1
        simp only [gLet]
        refine ⟨_, rfl, ?_, p.tail, by simp [h8], ?_, fun L hl => hp L (List.mem_of_mem_tail hl), ?_, ?_⟩
        · exact (hO.w (fun k j h => by simp [noZ] at h ⊢; omega)).S1 rfl
        · unfold pushP; rw [if_pos h8]
        · rw [gS_at, List.length_tail, h8]; rfl
        · intro i L' hi
          have hi7 : i < 7 := by have := (List.getElem?_eq_some_iff.mp hi).1; simp [h8] at this; omega
          rw [List.getElem?_tail] at hi
          have hm := hP (i + 1) L' hi
          refine mRow.cp (hp L' (List.mem_of_getElem? hi)) hm (fun j hj => ?_)
          rw [gS_ne (by omega), hc _ (by omega)]
          congr 1; omega
    · rw [hu, if_neg (show ¬ nI p.length = 8 from fun z => h8 ((nI_eq (b := 8) (by omega) (by decide)).mp z))]
      exact ⟨_, rfl, gOff.rf, p, by omega, by unfold pushP; rw [if_neg h8], hp, hu, hP⟩
  · obtain ⟨hO, q, hq7, hqe, hqW, hqu, hqP⟩ := h1
    have hR1 : mRow G1 1 0 L := hR.off hO (fun j => rfl)
    refine Ok.bind (cpy_ok (N := 76) (dst := 14) (sd := 76 * q.length) (src := 1) (ss := 0) (by decide) (by decide) ?_ ?_) (fun G2 h2 => ?_)
    · intro G2 i hO2 hi
      have e29 : gS G2 0 29 = nI q.length := by rw [(hO2 0 29 rfl).1]; exact hqu
      unfold f_X11_notes_b48
      simp (disch := omega) only [nLit, neg_nI, nI_add, pk_mul, nI_sub1, nI_clamp, gIn_t, gck_t, gLet_e, nI_leI, nI_ltJ, nI_eq, nI_nM_eq, nM_nI_eq, nM_eq, nM_nI_le, nI_nM_le, nM_nI_lt, nI_nM_lt, at_nI, gS_at, gS_ne', obind_some, iteT, iteF, ite_p, ite_n, e29, Nat.zero_add]
    · intro G2 hO2
      unfold f_X11_notes_b48
      simp (disch := omega) only [nLit, neg_nI, nI_add, pk_mul, nI_sub1, nI_clamp, gIn_t, gck_t, gLet_e, nI_leI, nI_ltJ, nI_eq, nI_nM_eq, nM_nI_eq, nM_eq, nM_nI_le, nI_nM_le, nM_nI_lt, nI_nM_lt, at_nI, gS_at, gS_ne', obind_some, iteT, iteF, ite_p, ite_n]
    · obtain ⟨hO2, hc⟩ := h2
      simp only [gLet]
      have e29 : gS G2 0 29 = nI q.length := by rw [(hO2 0 29 (by simp)).1]; exact hqu
      refine ⟨_, rfl, ?_, ?_, ?_⟩
      · exact (hO.tr (hO2.w (fun k j h => by simp [noZ] at h ⊢; omega))).S1 rfl
      · rw [gS_at, e29, ← hqe, List.length_append, List.length_singleton, nI_1]
      · intro i L' hi
        rw [← hqe] at hi
        by_cases e : i = q.length
        · subst e
          rw [List.getElem?_append_right (Nat.le_refl _), Nat.sub_self] at hi
          cases hi
          refine mRow.cp hL hR1 (fun j hj => ?_)
          rw [gS_ne (by omega), hc j hj]
        · have hil : i < q.length := by have := (List.getElem?_eq_some_iff.mp hi).1; simp at this; omega
          rw [List.getElem?_append_left hil] at hi
          refine mRow.off' (Z := fun k j => decide ((k = 14 ∧ 76 * q.length ≤ j) ∨ (k = 0 ∧ j = 29))) (hqW L' (List.mem_of_getElem? hi)) (hqP i L' hi) ?_ ?_
          · exact (hO2.w (fun k j h => by simp at h ⊢; omega)).S1 (by simp)
          · intro j h1 h2; simp; omega
/-- the state with now changed, what was there noted -/
theorem mSt.note {S : St} {G : gP} (hW : S.Wf) (h : mSt S G) : Ok (f_X11_notes G) (fun G' => gOff noZ G G' ∧ mSt (St.of (S.now) (pushP S.past S.now) (S.kept) (S.tape) (S.sh)) G') := by
  refine (notes_ok hW.now hW.past hW.p8 h.now h.un h.past).imp ?_
  rintro G' ⟨hO, hu, hP⟩
  refine ⟨hO, ⟨h.now.off hO (fun _ => rfl), hu, hP, ?_, ?_, ?_, ?_⟩⟩
  · have hk := h.kept
    show match S.kept with | none => _ | some (L, p) => _
    cases hS : S.kept with
    | none => rw [hS] at hk; simp only at hk ⊢; rw [(hO 0 32 rfl).1]; exact hk
    | some q =>
      obtain ⟨L, p⟩ := q
      rw [hS] at hk
      exact ⟨hk.1.off hO (fun _ => rfl), by rw [(hO 0 32 rfl).1]; exact hk.2.1, fun i L hi => (hk.2.2 i L hi).off hO (fun _ => rfl)⟩
  · rw [(hO 0 23 rfl).1]; exact h.tp
  · intro j v hj; rw [(hO 11 _ rfl).1]; exact h.tape j v hj
  · intro s hs
    have := h.sh s hs
    show match S.sh s with | none => _ | some (k, l) => _
    cases hS : S.sh s with
    | none => rw [hS] at this; simp only at this ⊢; rw [(hO 17 s rfl).1]; exact this
    | some q =>
      obtain ⟨k, l⟩ := q
      rw [hS] at this
      exact ⟨by rw [(hO 17 s rfl).1]; exact this.1, by rw [(hO 18 s rfl).1]; exact this.2.1, fun i v hi => by rw [(hO 19 _ rfl).2.1]; exact this.2.2 i v hi⟩
/-- nothing of what is kept but now has changed -/
theorem mSt.now' {Z : Nat → Nat → Bool} {S : St} {G G' : gP} {L : Lt} (h : mSt S G) (hO : gOff Z G G') (hz : ∀ k j, (k = 0 ∧ (j = 23 ∨ j = 29 ∨ j = 32)) ∨ k = 11 ∨ (14 ≤ k ∧ k ≤ 19) → Z k j = false) (hn : mRow G' 1 0 L) : mSt (St.of (L) (S.past) (S.kept) (S.tape) (S.sh)) G' := by
  refine ⟨hn, ?_, fun i L hi => (h.past i L hi).off hO (fun _ => hz _ _ (by omega)), ?_, ?_, ?_, ?_⟩
  · rw [(hO 0 29 (hz _ _ (by omega))).1]; exact h.un
  · have hk := h.kept
    show match S.kept with | none => _ | some (L, p) => _
    cases hS : S.kept with
    | none => rw [hS] at hk; simp only at hk ⊢; rw [(hO 0 32 (hz _ _ (by omega))).1]; exact hk
    | some q =>
      obtain ⟨L, p⟩ := q
      rw [hS] at hk
      exact ⟨hk.1.off hO (fun _ => hz _ _ (by omega)), by rw [(hO 0 32 (hz _ _ (by omega))).1]; exact hk.2.1, fun i L hi => (hk.2.2 i L hi).off hO (fun _ => hz _ _ (by omega))⟩
  · rw [(hO 0 23 (hz _ _ (by omega))).1]; exact h.tp
  · intro j v hj; rw [(hO 11 _ (hz _ _ (by omega))).1]; exact h.tape j v hj
  · intro s hs
    have := h.sh s hs
    show match S.sh s with | none => _ | some (k, l) => _
    cases hS : S.sh s with
    | none => rw [hS] at this; simp only at this ⊢; rw [(hO 17 s (hz _ _ (by omega))).1]; exact this
    | some q =>
      obtain ⟨k, l⟩ := q
      rw [hS] at this
      exact ⟨by rw [(hO 17 s (hz _ _ (by omega))).1]; exact this.1, by rw [(hO 18 s (hz _ _ (by omega))).1]; exact this.2.1, fun i v hi => by rw [(hO 19 _ (hz _ _ (by omega))).2.1]; exact this.2.2 i v hi⟩
theorem mSt.q {S : St} {G G' : gP} (h : mSt S G) (hO : gOff qZ G G') : mSt S G' := h.now' hO (fun k j hk => by simp [qZ]; omega) (h.now.q hO)
