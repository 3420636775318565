/-! the Model's words -/
theorem fault_ok {G : gP} {t : List Nat} {e : Nat} (ht : tok t) (h : mTp G t e) (hs : skp t e = e) : f_X11_fault G = some (gS1 G 0 23 0, -20 - nI e) := by
  have hl := ht.1
  unfold f_X11_fault
  rw [here_ok ht h, hs, obind_some, h.id]
  have hlt := ht.lt e
  have e17 : (if (if nI (ltr t e) = 0 then (1 : Int32) else 0) = 0 then gS G 0 24 else gS G 0 23) = nI e := by
    rw [h.1, h.2.1]
    by_cases e0 : ltr t e = 0
    · rw [e0, if_pos (show nI 0 = 0 from rfl), if_neg (by decide)]
      have h2 := h.2.2.2
      have : ¬ e < t.length := fun z => by have := ht.lb z; omega
      apply nI_inj; omega
    · rw [if_neg (nI_ne0 (by omega) (by omega)), if_pos rfl]
  simp only [gLet_e]
  rw [e17]
theorem mSt.tape0 {S : St} {G : gP} (h : mSt S G) : mSt (St.of (S.now) (S.past) (S.kept) ([]) (S.sh)) (gS1 G 0 23 0) := by
  have hO : gOff (fun k j => decide (k = 0 ∧ j = 23)) G (gS1 G 0 23 0) := gOff.rf.S1 (by simp)
  refine ⟨h.now.off hO (fun _ => rfl), by rw [(hO 0 29 rfl).1]; exact h.un, fun i L hi => (h.past i L hi).off hO (fun _ => rfl), ?_, gS_at, aL.nil, ?_⟩
  · have hk := h.kept
    show match S.kept with | none => _ | some (L, p) => _
    cases hS : S.kept with
    | none => rw [hS] at hk; simp only at hk ⊢; rw [(hO 0 32 rfl).1]; exact hk
    | some q =>
      obtain ⟨L, p⟩ := q
      rw [hS] at hk
      exact ⟨hk.1.off hO (fun _ => rfl), by rw [(hO 0 32 rfl).1]; exact hk.2.1, fun i L hi => (hk.2.2 i L hi).off hO (fun _ => rfl)⟩
  · intro s hs
    have := h.sh s hs
    show match S.sh s with | none => _ | some (k, l) => _
    cases hS : S.sh s with
    | none => rw [hS] at this; simp only at this ⊢; rw [(hO 17 s rfl).1]; exact this
    | some q =>
      obtain ⟨k, l⟩ := q
      rw [hS] at this
      exact ⟨by rw [(hO 17 s rfl).1]; exact this.1, by rw [(hO 18 s rfl).1]; exact this.2.1, fun i v hi => by rw [(hO 19 _ rfl).2.1]; exact this.2.2 i v hi⟩
def wZ2 (k j : Nat) : Bool := decide (k = 12 ∨ (k = 0 ∧ j = 24))
theorem rZ_w {n k j : Nat} (h : wZ2 k j = false) : rZ n k j = false := by simp [wZ2, rZ] at h ⊢; omega
theorem mSt.w2 {S : St} {G G' : gP} (h : mSt S G) (hO : gOff wZ2 G G') : mSt S G' := h.now' hO (fun k j hk => by simp [wZ2]; omega) (h.now.off hO (fun j => by simp [wZ2]))
def slP (G : gP) (sl : List (List (Nat × Nat))) : Prop := ∀ i s, sl[i]? = some s → mSlR G i s
/-- slots one behind the other -/
theorem wordsL_ok {G : gP} {t : List Nat} {q0 : Nat} {y : Int32} (ht : tok t) (h : mTp G t q0) (R : Nat ⊕ (List (List (Nat × Nat)) × Nat)) (hy : (y = 0 ∧ R = .inr ([], q0)) ∨ (y = 1 ∧ R = wds t 8 q0 [])) : Ok (gloop (f_X11_words_b20) gFu (G, (0 : Int32), y)) (fun z => match z with
    | .inl r => gOff wZ2 G r.1 ∧ ∃ sl q, R = .inr (sl, q) ∧ r.2 = nI sl.length ∧ mTp r.1 t q ∧ slP r.1 sl
    | .inr r => ∃ e G1, R = .inl e ∧ r.2 = -20 - nI e ∧ gOff wZ2 G G1 ∧ r.1 = gS1 G1 0 23 0) := by
  refine Ok.loop (fun f s => gOff wZ2 G s.1 ∧ ((f = 0 ∧ s.2.2 = 0 ∧ ∃ sl q, R = .inr (sl, q) ∧ s.2.1 = nI sl.length ∧ mTp s.1 t q ∧ slP s.1 sl) ∨ (0 < f ∧ s.2.2 = 1 ∧ ∃ p acc, acc.length + f = 8 ∧ R = wds t f p acc ∧ s.2.1 = nI acc.length ∧ mTp s.1 t p ∧ slP s.1 acc ∧ ∀ x ∈ acc, slOk x))) ?_ gFu (if y = 0 then 0 else 8) _ (by unfold gFu; split <;> omega) ?_
  · rintro f ⟨G1, x, m⟩ ⟨hO, hJ⟩
    simp only at hO hJ
    rcases hJ with ⟨rfl, rfl, sl, q, he, rfl, hT, hS⟩ | ⟨hf, rfl, p, acc, hlen, he, rfl, hT, hS, hok⟩
    · unfold f_X11_words_b20
      simp only
      rw [if_pos trivial]
      exact ⟨_, rfl, hO, sl, q, he, rfl, hT, hS⟩
    · obtain ⟨f, rfl⟩ : ∃ f', f = f' + 1 := ⟨f - 1, by omega⟩
      unfold f_X11_words_b20
      simp only
      rw [if_neg (by decide)]
      refine Ok.bind (reads_ok ht hT (show acc.length < 8 by omega)) (fun r hr => ?_)
      obtain ⟨G2, x2⟩ := r
      obtain ⟨hO2, hr⟩ := hr
      simp only at hO2 hr ⊢
      have hsok := slt_ok ht 4 p [] hT.2.2.2 rfl (by omega) (fun x hx => by cases hx) (by simp)
      have hw : wds t (f + 1) p acc = match slt t 4 p [] with
        | .inl e => .inl e
        | .inr (s, q) => if f = 0 then .inr (acc ++ [s], q) else if ltr t (skp t q) = 59 then wds t f (skp t q + 1) (acc ++ [s]) else .inr (acc ++ [s], skp t q) := rfl
      have hOO : gOff wZ2 G G2 := hO.tr (hO2.w (fun k j => rZ_w))
      cases hs : slt t 4 p [] with
      | inl e =>
        rw [hs] at hr hsok hw
        simp only at hr hsok hw
        rw [hr.1, if_pos rfl, fault_ok ht hr.2 hsok.2, obind_some]
        exact ⟨_, rfl, e, G2, he.trans hw, rfl, hOO, rfl⟩
      | inr sq =>
        obtain ⟨s, q⟩ := sq
        rw [hs] at hr hsok hw
        simp only at hr hsok hw
        obtain ⟨hr1, hT2, hS2⟩ := hr
        rw [hr1, if_neg (by decide), nI_1]
        have hS3 : ∀ G3, gOff (fun k j => decide (k = 0 ∧ j = 24)) G2 G3 → slP G3 (acc ++ [s]) := by
          intro G3 hO3 i s' hi
          by_cases e : i = acc.length
          · subst e
            rw [List.getElem?_append_right (Nat.le_refl _), Nat.sub_self] at hi
            cases hi
            exact hS2.off hsok.1.2.1 hO3 (fun j _ _ => by simp)
          · have hil : i < acc.length := by have := (List.getElem?_eq_some_iff.mp hi).1; simp at this; omega
            rw [List.getElem?_append_left hil] at hi
            have h4 := (hok s' (List.mem_of_getElem? hi)).2.1
            exact ((hS i s' hi).off h4 hO2 (fun j a b => by simp [rZ]; omega)).off h4 hO3 (fun j _ _ => by simp)
        have hok' : ∀ x ∈ acc ++ [s], slOk x := by
          intro x hx
          rw [List.mem_append, List.mem_singleton] at hx
          rcases hx with hx | rfl
          · exact hok x hx
          · exact hsok.1
        have hlen' : (acc ++ [s]).length = acc.length + 1 := by rw [List.length_append, List.length_singleton]
        by_cases hf0 : f = 0
        · rw [if_pos hf0] at hw
          rw [if_pos (show (8 : Int32) ≤ nI (acc.length + 1) from nI_le (a := 8) (by omega) (by omega))]
          refine ⟨_, rfl, 0, by omega, hOO, Or.inl ⟨rfl, rfl, _, _, he.trans hw, ?_, hT2, hS3 _ gOff.rf⟩⟩
          show nI (acc.length + 1) = _
          rw [hlen']
        · rw [if_neg hf0] at hw
          rw [if_neg (show ¬ (8 : Int32) ≤ nI (acc.length + 1) from nI_ge (b := 8) (by omega) (by decide)), show (59 : Int32) = nI 59 from rfl, has_ok ht hT2 (by decide), obind_some]
          have hle := skp_le hT2.2.2.2
          by_cases h59 : ltr t (skp t q) = 59
          · rw [if_pos h59] at hw ⊢
            have hin := ht.in (p := skp t q) (by omega)
            simp only
            rw [if_neg (by decide)]
            refine ⟨_, rfl, f, by omega, hOO.S1 (by simp [wZ2]), Or.inr ⟨by omega, rfl, skp t q + 1, acc ++ [s], by omega, he.trans hw, ?_, hT2.pl (by omega), hS3 _ (gOff.rf.S1 (by simp)), hok'⟩⟩
            show nI (acc.length + 1) = _
            rw [hlen']
          · rw [if_neg h59] at hw ⊢
            simp only
            rw [if_pos trivial]
            refine ⟨_, rfl, 0, by omega, hOO.S1 (by simp [wZ2]), Or.inl ⟨rfl, rfl, _, _, he.trans hw, ?_, hT2.pl hle, hS3 _ (gOff.rf.S1 (by simp))⟩⟩
            show nI (acc.length + 1) = _
            rw [hlen']
  · refine ⟨gOff.rf, ?_⟩
    rcases hy with ⟨rfl, hR⟩ | ⟨rfl, hR⟩
    · rw [if_pos rfl]
      exact Or.inl ⟨rfl, rfl, [], q0, hR, rfl, h, fun i s hi => by cases hi⟩
    · rw [if_neg (by decide)]
      exact Or.inr ⟨by omega, rfl, q0, [], rfl, hR, rfl, h, fun i s hi => (by cases hi), fun x hx => by cases hx⟩
/-- a row stays if what is written there isn't of it -/
theorem mRow.wr {G : gP} {L : Lt} (hL : L.Wf) (h : mRow G 1 0 L) {s k x : Nat} {v : Int32} (hk : L.m s ≤ k) (hk4 : k < 4) (hx : x = 4 + 9 * s + 1 + k ∨ x = 4 + 9 * s + 5 + k) : mRow (gS1 G 1 x v) 1 0 L := by
  refine mRow.of ?_ ?_ ?_ ?_ (fun i hi => ?_)
  · rw [gS_ne (by omega)]; exact h.1
  · rw [gS_ne (by omega)]; exact h.2.1
  · rw [gS_ne (by omega)]; exact h.2.2.1
  · rw [gS_ne (by omega)]; exact h.2.2.2.1
  · have hs := h.sl hi
    have hm := hL.m1 i hi
    by_cases e : i = s
    · subst e
      exact ⟨by rw [gS_ne (by omega)]; exact hs.1, fun j hj => ⟨by rw [gS_ne (by omega)]; exact (hs.2 j hj).1, by rw [gS_ne (by omega)]; exact (hs.2 j hj).2⟩⟩
    · exact ⟨by rw [gS_ne (by omega)]; exact hs.1, fun j hj => ⟨by rw [gS_ne (by omega)]; exact (hs.2 j hj).1, by rw [gS_ne (by omega)]; exact (hs.2 j hj).2⟩⟩
theorem layZ_ok {G : gP} {L : Lt} (hL : L.Wf) (h : mRow G 1 0 L) : Ok (gloop (f_X11_words_b119 (G, nI L.n)) gFu (G, (0 : Int32))) (fun G' => gOff nowZ G G' ∧ mRow G' 1 0 L) := by
  have h8 := hL.n8
  refine Ok.up (fun i s => s.2 = nI i ∧ gOff nowZ G s.1 ∧ mRow s.1 1 0 L) L.n (by omega) ?_ ?_ ⟨rfl, gOff.rf, h⟩
  · rintro i ⟨G1, x⟩ hi ⟨hx, hO, hr⟩
    simp only at hx hO hr
    subst hx
    unfold f_X11_words_b119
    simp only
    have hm := hL.m1 i hi
    rw [if_neg (nI_ge hi (by omega)), at_nI, gIn_t (by omega) (by omega), gck_t, nI_clamp (by omega), (hr.sl hi).1]
    simp only [gLet_e]
    refine Ok.bind (Q := fun G2 => gOff nowZ G G2 ∧ mRow G2 1 0 L) ?_ (fun G2 h2 => ⟨_, rfl, nI_1 i, h2⟩)
    refine Ok.up (fun j s => s.2 = nI (L.m i + j) ∧ gOff nowZ G s.1 ∧ mRow s.1 1 0 L) (4 - L.m i) (by omega) ?_ ?_ ⟨rfl, hO, hr⟩
    · rintro j ⟨G2, x⟩ hj ⟨hx, hO2, hr2⟩
      simp only at hx hO2 hr2
      subst hx
      unfold f_X11_words_b136
      simp only
      have a1 : nI (4 + 9 * i) + 1 + nI (L.m i + j) = nI (4 + 9 * i + 1 + (L.m i + j)) := by rw [nI_1, nI_add]
      have a5 : nI (4 + 9 * i) + 5 + nI (L.m i + j) = nI (4 + 9 * i + 5 + (L.m i + j)) := by rw [show nI (4 + 9 * i) + 5 = nI (4 + 9 * i + 5) from nI_add _ 5, nI_add]
      rw [if_neg (show ¬ (4 : Int32) ≤ nI (L.m i + j) from nI_ge (b := 4) (by omega) (by decide)), at_nI, a1, a5, gIn_t (show 4 + 9 * i + 1 + (L.m i + j) < 2 ^ 31 by omega) (by omega), gck_t, gIn_t (show 4 + 9 * i + 5 + (L.m i + j) < 2 ^ 31 by omega) (by omega), nI_clamp (show 4 + 9 * i + 1 + (L.m i + j) < 2 ^ 31 by omega), nI_clamp (show 4 + 9 * i + 5 + (L.m i + j) < 2 ^ 31 by omega)]
      simp only [gLet_e, gck_t]
      refine ⟨_, rfl, nI_1 _, (hO2.S1 rfl).S1 rfl, ?_⟩
      exact mRow.wr hL (mRow.wr hL hr2 (s := i) (k := L.m i + j) (by omega) (by omega) (Or.inl rfl)) (s := i) (k := L.m i + j) (by omega) (by omega) (Or.inr rfl)
    · rintro ⟨G2, x⟩ ⟨hx, hO2, hr2⟩
      simp only at hx hO2 hr2
      subst hx
      unfold f_X11_words_b136
      simp only
      rw [if_pos (show (4 : Int32) ≤ nI (L.m i + (4 - L.m i)) from nI_le (a := 4) (by omega) (by omega))]
      exact ⟨_, rfl, hO2, hr2⟩
  · rintro ⟨G1, x⟩ ⟨hx, hO, hr⟩
    simp only at hx hO hr
    subst hx
    unfold f_X11_words_b119
    simp only
    rw [if_pos (nI_le (Nat.le_refl _) (by omega))]
    exact ⟨_, rfl, hO, hr⟩
theorem words_ok {S : St} {G : gP} (hW : S.Wf) (h : mSt S G) : Ok (f_X11_words G) (mA (sWords S)) := by
  have ht : tok S.tape := hW.tape
  have hl := ht.1
  unfold f_X11_words sWords
  have hT0 : mTp (plc G 0) S.tape 0 := ⟨by rw [plc_S _ _ _ _ (by decide)]; exact h.tp, gS_at, h.tape.S1 (Or.inl (by decide)), Nat.zero_le _⟩
  have hm0 : mSt S (plc G 0) := h.w2 (gOff.rf.S1 (by simp [wZ2]))
  show Ok (gLet (plc G 0) _) _
  simp only [gLet_e]
  rw [here_ok ht hT0, pl_pl, obind_some]
  simp only
  have hle0 := skp_le (t := S.tape) (Nat.zero_le S.tape.length)
  have hT1 : mTp (plc G (skp S.tape 0)) S.tape (skp S.tape 0) := by have := hT0.pl hle0; rwa [pl_pl] at this
  have hm1 : mSt S (plc G (skp S.tape 0)) := h.w2 (gOff.rf.S1 (by simp [wZ2]))
  generalize plc G (skp S.tape 0) = G1 at *
  have hlt0 := ht.lt (skp S.tape 0)
  have hy : ∃ y R, y = (if nI (ltr S.tape (skp S.tape 0)) = 0 then (0 : Int32) else 1) ∧ ((y = 0 ∧ R = (.inr ([], skp S.tape 0) : Nat ⊕ (List (List (Nat × Nat)) × Nat))) ∨ (y = 1 ∧ R = wds S.tape 8 (skp S.tape 0) [])) ∧ prs S.tape = (match R with | .inl e => .inl e | .inr (sl, q) => if skp S.tape q < S.tape.length then .inl (skp S.tape q) else .inr sl) ∧ (∀ sl q, R = .inr (sl, q) → sl.length ≤ 8 ∧ (∀ s ∈ sl, slOk s) ∧ q ≤ S.tape.length) := by
    by_cases e0 : skp S.tape 0 = S.tape.length
    · refine ⟨_, _, rfl, Or.inl ⟨?_, rfl⟩, ?_, fun sl q e => ?_⟩
      · rw [e0, ltr_ge (Nat.le_refl _), if_pos (show nI 0 = 0 from rfl)]
      · unfold prs
        rw [if_pos e0]
        simp only
        rw [skp_id, if_neg (by omega)]
      · cases e; exact ⟨by simp, fun s hs => (by cases hs), hle0⟩
    · have hin : skp S.tape 0 < S.tape.length := by omega
      have := ht.lb hin
      refine ⟨_, _, rfl, Or.inr ⟨?_, rfl⟩, ?_, fun sl q e => ?_⟩
      · rw [if_neg (nI_ne0 (by omega) (by omega))]
      · unfold prs
        rw [if_neg e0]
        cases wds S.tape 8 (skp S.tape 0) [] with
        | inl e => rfl
        | inr x => obtain ⟨sl, q⟩ := x; rfl
      · have := wds_ok ht 8 (skp S.tape 0) [] hle0 rfl (fun s hs => by cases hs)
        rw [e] at this
        exact ⟨this.2.1, this.1, this.2.2⟩
  obtain ⟨y, R, hy1, hy2, hprs, hok⟩ := hy
  rw [← hy1, hprs]
  refine Ok.bind (wordsL_ok ht hT1 R hy2) (fun z hz => ?_)
  cases z with
  | inr r =>
    obtain ⟨G2, x2⟩ := r
    obtain ⟨e, G1', hR, hx, hO, hG⟩ := hz
    simp only at hx hG
    subst hG hx
    rw [hR]
    exact ⟨_, rfl, (hm1.w2 hO).tape0, rfl⟩
  | inl r =>
    obtain ⟨G2, x2⟩ := r
    obtain ⟨hO, sl, q, hR, hx, hT2, hS2⟩ := hz
    simp only at hO hx hT2 hS2
    subst hx
    obtain ⟨h8, hsl, hql⟩ := hok sl q hR
    rw [hR]
    show Ok ((f_X11_here G2).bind _) _
    rw [here_ok ht hT2, obind_some]
    simp only
    have hm2 : mSt S G2 := hm1.w2 hO
    have hleq := skp_le hql
    have hltq := ht.lt (skp S.tape q)
    have hT3 := hT2.pl hleq
    have hm3 : mSt S (plc G2 (skp S.tape q)) := hm2.w2 (gOff.rf.S1 (by simp [wZ2]))
    by_cases hend : skp S.tape q < S.tape.length
    · have hb := ht.lb hend
      rw [if_neg (nI_ne0 (by omega) (by omega)), if_pos hend, fault_ok ht hT3 (skp_id _ _), obind_some]
      exact ⟨_, rfl, hm3.tape0, rfl⟩
    · rw [ltr_ge (show S.tape.length ≤ skp S.tape q by omega), if_pos (show nI 0 = 0 from rfl), if_neg hend]
      have hS3 : slP (plc G2 (skp S.tape q)) sl := fun i s hi => (hS2 i s hi).off (hsl s (List.mem_of_getElem? hi)).2.1 (Z := fun k _ => decide (k = 0)) (gOff.rf.S1 (by simp)) (fun j _ _ => by simp)
      generalize plc G2 (skp S.tape q) = G3 at *
      refine Ok.bind (clears_ok hm3.now) (fun G4 h4 => ?_)
      obtain ⟨hO4, hr4⟩ := h4
      simp only [gLet_e]
      -- the slots are copied
      have hWf := hW.now.lay h8 hsl
      refine Ok.bind (Q := fun G5 => gOff nowZ G3 G5 ∧ mRow G5 1 0 (S.now.lay sl)) ?_ (fun G5 h5 => ?_)
      · have e9 : (9 : Int32) * nI sl.length = nI (9 * sl.length) := pk_mul 9 _
        have hcp : Ok (gloop (f_X11_words_b89 (G2, nI sl.length)) gFu (gS1 G4 1 0 (nI sl.length), (0 : Int32))) (fun G' => gOff (fun k j => decide (k = 1 ∧ 4 ≤ j)) (gS1 G4 1 0 (nI sl.length)) G' ∧ ∀ j, j < 9 * sl.length → gS G' 1 (4 + j) = gS G4 12 j) := by
          refine Ok.up (fun i s => s.2 = nI i ∧ gOff (fun k j => decide (k = 1 ∧ 4 ≤ j)) (gS1 G4 1 0 (nI sl.length)) s.1 ∧ ∀ j, j < i → gS s.1 1 (4 + j) = gS G4 12 j) (9 * sl.length) (by omega) ?_ ?_ ⟨rfl, gOff.rf, fun j hj => by omega⟩
          · rintro i ⟨G5, x⟩ hi ⟨hx, hO5, hc⟩
            simp only at hx hO5 hc
            subst hx
            unfold f_X11_words_b89
            simp only
            have a4 : (4 : Int32) + nI i = nI (4 + i) := nI_add 4 i
            rw [e9, if_neg (nI_ge hi (by omega)), gIn_t (show i < 2 ^ 31 by omega) (by omega), gck_t, a4, gIn_t (show 4 + i < 2 ^ 31 by omega) (by omega), gck_t, nI_clamp (by omega), nI_clamp (by omega), (hO5 12 i (by simp)).1, gS_ne (by omega)]
            refine ⟨_, rfl, nI_1 i, hO5.S1 (by simp), fun j hj => ?_⟩
            simp only [gLet_e]
            by_cases e : j = i
            · subst e; rw [gS_at]
            · rw [gS_ne (by omega)]; exact hc j (by omega)
          · rintro ⟨G5, x⟩ ⟨hx, hO5, hc⟩
            simp only at hx hO5 hc
            subst hx
            unfold f_X11_words_b89
            simp only
            rw [e9, if_pos (nI_le (Nat.le_refl _) (by omega))]
            exact ⟨_, rfl, hO5, hc⟩
        refine hcp.imp ?_
        rintro G5 ⟨hO5, hc5⟩
        refine ⟨(hO4.S1 rfl).tr (hO5.w (fun k j z => by simp [nowZ] at z ⊢; omega)), mRow.of ?_ ?_ ?_ ?_ (fun i hi => ?_)⟩
        · rw [(hO5 1 0 (by simp)).1, gS_at]; rfl
        · rw [(hO5 1 1 (by simp)).1, gS_ne (by decide)]; exact hr4.2.1
        · rw [(hO5 1 2 (by simp)).1, gS_ne (by decide)]; exact hr4.2.2.1
        · rw [(hO5 1 3 (by simp)).1, gS_ne (by decide)]; exact hr4.2.2.2.1
        · have hi' : i < sl.length := hi
          have hsi := hS3 i _ (getD_mem [] hi')
          have h4 := (hsl _ (List.mem_of_getElem? (getD_mem [] hi'))).2.1
          have e12 : ∀ j, gS G4 12 j = gS G3 12 j := fun j => (hO4 12 j (by simp [nowZ])).1
          refine ⟨?_, fun j hj => ?_⟩
          · rw [hc5 _ (by omega), e12]; exact hsi.1
          · have hj' : j < (sl.getD i []).length := hj
            have := hsi.2 j _ (getD_mem (0, 0) hj')
            refine ⟨?_, ?_⟩
            · rw [show 5 + 9 * i + j = 4 + (9 * i + 1 + j) by omega, hc5 _ (by omega), e12]; exact this.1
            · rw [show 9 + 9 * i + j = 4 + (9 * i + 5 + j) by omega, hc5 _ (by omega), e12]; exact this.2
      · obtain ⟨hO5, hr5⟩ := h5
        have hz := layZ_ok hWf hr5
        have hz' : Ok (gloop (f_X11_words_b119 (G2, nI sl.length)) gFu (G5, (0 : Int32))) (fun G' => gOff nowZ G5 G' ∧ mRow G' 1 0 (S.now.lay sl)) := hz
        refine Ok.bind hz' (fun G6 h6 => ?_)
        have hm6 : mSt (St.of (S.now.lay sl) (S.past) (S.kept) (S.tape) (S.sh)) G6 := hm3.now' (hO5.tr h6.1) (fun _ _ hk => nowZ_k hk) h6.2
        exact ⟨_, rfl, hm6.past0.tape0, rfl⟩
