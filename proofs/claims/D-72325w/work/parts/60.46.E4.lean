/-! the Model reads slots -/
def mSlR (G : gP) (n : Nat) (acc : List (Nat × Nat)) : Prop := gS G 12 (9 * n) = nI acc.length ∧ ∀ j x, acc[j]? = some x → gS G 12 (9 * n + 1 + j) = nI x.1 ∧ gS G 12 (9 * n + 5 + j) = nI x.2
theorem mSlR.off {Z : Nat → Nat → Bool} {G G' : gP} {n : Nat} {acc : List (Nat × Nat)} (h : mSlR G n acc) (h4 : acc.length ≤ 4) (hO : gOff Z G G') (z : ∀ j, 9 * n ≤ j → j < 9 * n + 9 → Z 12 j = false) : mSlR G' n acc := by
  refine ⟨by rw [(hO 12 _ (z _ (by omega) (by omega))).1]; exact h.1, fun j x hj => ?_⟩
  have hjl := (List.getElem?_eq_some_iff.mp hj).1
  exact ⟨by rw [(hO 12 _ (z _ (by omega) (by omega))).1]; exact (h.2 j x hj).1, by rw [(hO 12 _ (z _ (by omega) (by omega))).1]; exact (h.2 j x hj).2⟩
theorem mTp.off {Z : Nat → Nat → Bool} {G G' : gP} {t : List Nat} {p : Nat} (h : mTp G t p) (hO : gOff Z G G') (z : ∀ k j, (k = 0 ∧ (j = 23 ∨ j = 24)) ∨ k = 11 → Z k j = false) : mTp G' t p :=
  ⟨by rw [(hO 0 23 (z _ _ (by omega))).1]; exact h.1, by rw [(hO 0 24 (z _ _ (by omega))).1]; exact h.2.1, fun j v hj => by rw [(hO 11 _ (z _ _ (by omega))).1]; exact h.2.2.1 j v hj, h.2.2.2⟩
def rZ (n k j : Nat) : Bool := decide ((k = 12 ∧ 9 * n ≤ j ∧ j < 9 * n + 9) ∨ (k = 0 ∧ j = 24))
theorem plc_off (n : Nat) (G : gP) (p : Nat) : gOff (rZ n) G (plc G p) := gOff.rf.S1 (by simp [rZ])
theorem plc_S (G : gP) (p k j : Nat) (h : ¬ (k = 0 ∧ j = 24)) : gS (plc G p) k j = gS G k j := gS_ne h
def anyB (c : Nat → Bool) : Nat → Bool
  | 0 => false
  | k + 1 => anyB c k || c k
theorem anyB_iff (c : Nat → Bool) : ∀ N, anyB c N = true ↔ ∃ k, k < N ∧ c k = true := by
  intro N
  induction N with
  | zero => exact ⟨fun h => (by cases h), fun ⟨k, hk, _⟩ => (by omega)⟩
  | succ N ih =>
    show (anyB c N || c N) = true ↔ _
    rw [Bool.or_eq_true, ih]
    constructor
    · rintro (⟨k, h1, h2⟩ | h)
      · exact ⟨k, by omega, h2⟩
      · exact ⟨N, by omega, h⟩
    · rintro ⟨k, h1, h2⟩
      by_cases e : k = N
      · subst e; exact Or.inr h2
      · exact Or.inl ⟨k, by omega, h2⟩
theorem had_ok {G : gP} {n : Nat} {acc : List (Nat × Nat)} (hn : n < 8) (h : mSlR G n acc) (h4 : acc.length ≤ 4) (x : Int32) : Ok (gloop (f_X11_reads_b62 (nI (9 * n)) (G, x)) gFu ((0 : Int32), (0 : Int32))) (fun y => y = bI (anyB (fun k => decide (gS G 12 (9 * n + 1 + k) = x)) acc.length)) := by
  refine Ok.up (fun i s => s = (bI (anyB (fun k => decide (gS G 12 (9 * n + 1 + k) = x)) i), nI i)) acc.length (by omega) ?_ ?_ rfl
  · rintro i s hi rfl
    unfold f_X11_reads_b62
    simp only
    rw [gIn_t (by omega) (by omega), gck_t, nI_clamp (by omega), h.1, if_neg (nI_ge hi (by omega)), nI_1, nI_add, gIn_t (show 9 * n + 1 + i < 2 ^ 31 by omega) (by omega), gck_t, nI_clamp (by omega), nI_1]
    have e9 : anyB (fun k => decide (gS G 12 (9 * n + 1 + k) = x)) (i + 1) = (anyB (fun k => decide (gS G 12 (9 * n + 1 + k) = x)) i || decide (gS G 12 (9 * n + 1 + i) = x)) := rfl
    rw [e9]
    cases anyB (fun k => decide (gS G 12 (9 * n + 1 + k) = x)) i with
    | true => rw [if_neg (show ¬ bI true = 0 by decide)]; exact ⟨_, rfl, rfl⟩
    | false =>
      rw [if_pos (show bI false = 0 from rfl)]
      by_cases e : gS G 12 (9 * n + 1 + i) = x
      · rw [if_pos e, decide_eq_true e]; exact ⟨_, rfl, rfl⟩
      · rw [if_neg e, decide_eq_false e]; exact ⟨_, rfl, rfl⟩
  · rintro s rfl
    unfold f_X11_reads_b62
    simp only
    rw [gIn_t (by omega) (by omega), gck_t, nI_clamp (by omega), h.1, if_pos (nI_le (Nat.le_refl _) (by omega))]
    exact ⟨_, rfl, rfl⟩
theorem had_mem {G : gP} {n w : Nat} {acc : List (Nat × Nat)} (h : mSlR G n acc) (hb : ∀ x ∈ acc, x.1 < 32 ∧ x.2 < 10) (hw : w < 2 ^ 31) : anyB (fun k => decide (gS G 12 (9 * n + 1 + k) = nI w)) acc.length = decide (w ∈ acc.map Prod.fst) := by
  have key : anyB (fun k => decide (gS G 12 (9 * n + 1 + k) = nI w)) acc.length = true ↔ w ∈ acc.map Prod.fst := by
    rw [anyB_iff, List.mem_map]
    constructor
    · rintro ⟨k, hk, e⟩
      have hx := List.getElem?_eq_getElem hk
      have e1 := (h.2 k _ hx).1
      have e2 := of_decide_eq_true e
      rw [e1] at e2
      have hbb := (hb _ (List.getElem_mem hk)).1
      exact ⟨_, List.getElem_mem hk, (nI_eq (by omega) hw).mp e2⟩
    · rintro ⟨x, hx, rfl⟩
      obtain ⟨k, hk, e⟩ := List.getElem_of_mem hx
      refine ⟨k, hk, decide_eq_true ?_⟩
      exact (h.2 k x (by rw [List.getElem?_eq_getElem hk, e])).1
  by_cases hm : w ∈ acc.map Prod.fst
  · rw [key.mpr hm, decide_eq_true hm]
  · rw [decide_eq_false hm]
    cases hc : anyB (fun k => decide (gS G 12 (9 * n + 1 + k) = nI w)) acc.length with
    | false => rfl
    | true => exact (hm (key.mp hc)).elim
theorem wrR_plc (G : gP) (a q : Nat) (o : Option (Nat × Nat)) : wrR (plc G a) q o = wrR G q o := by
  cases o with
  | none => show (plc (plc G a) q, _) = (plc G q, _); rw [pl_pl]
  | some x => obtain ⟨w, q'⟩ := x; show (plc (plc G a) q', _) = (plc G q', _); rw [pl_pl]
/-- a slot from its first word on -/
theorem reads_ok {G : gP} {t : List Nat} {p n : Nat} (ht : tok t) (h : mTp G t p) (hn : n < 8) : Ok (f_X11_reads G (nI n)) (fun r => gOff (rZ n) G r.1 ∧ match slt t 4 p [] with
    | .inl e => r.2 = 0 ∧ mTp r.1 t e
    | .inr (s, q) => r.2 = 1 ∧ mTp r.1 t q ∧ mSlR r.1 n s) := by
  have hl := ht.1
  unfold f_X11_reads
  have e9 : (9 : Int32) * nI n = nI (9 * n) := pk_mul 9 n
  simp only [gLet_e]
  rw [e9, gIn_t (by omega) (by omega), gck_t, nI_clamp (by omega)]
  have hO0 : gOff (rZ n) G (gS1 G 12 (9 * n) 0) := gOff.rf.S1 (by simp [rZ])
  have h0 : mTp (gS1 G 12 (9 * n) 0) t p := h.off (Z := fun k _ => decide (k = 12)) (gOff.rf.S1 (by simp)) (fun k j hk => by simp; omega)
  have hs0 : mSlR (gS1 G 12 (9 * n) 0) n [] := ⟨gS_at, fun j x hj => by cases hj⟩
  generalize gS1 G 12 (9 * n) 0 = G0 at *
  refine Ok.bind (Q := fun z => match z with
    | .inl G1 => gOff (rZ n) G G1 ∧ ∃ s q, slt t 4 p [] = .inr (s, q) ∧ mTp G1 t q ∧ mSlR G1 n s
    | .inr r => r.2 = 0 ∧ gOff (rZ n) G r.1 ∧ ∃ e, slt t 4 p [] = .inl e ∧ mTp r.1 t e) ?_ (fun z hz => ?_)
  · refine Ok.loop (fun f s => gOff (rZ n) G s.1 ∧ ((f = 0 ∧ s.2 = 0 ∧ ∃ sl q, slt t 4 p [] = .inr (sl, q) ∧ mTp s.1 t q ∧ mSlR s.1 n sl) ∨ (0 < f ∧ s.2 = 1 ∧ ∃ p' acc, acc.length + f = 4 ∧ slt t 4 p [] = slt t f p' acc ∧ mTp s.1 t p' ∧ mSlR s.1 n acc ∧ ∀ x ∈ acc, x.1 < 32 ∧ x.2 < 10))) ?_ gFu 4 _ (by unfold gFu; omega) ⟨hO0, Or.inr ⟨by omega, rfl, p, [], rfl, rfl, h0, hs0, fun x hx => by cases hx⟩⟩
    rintro f ⟨G1, x⟩ ⟨hO, hJ⟩
    simp only at hO hJ
    rcases hJ with ⟨rfl, rfl, sl, q, he, hT, hS⟩ | ⟨hf, rfl, p', acc, hlen, he, hT, hS, hb⟩
    · unfold f_X11_reads_b14
      simp only
      rw [if_pos trivial]
      exact ⟨_, rfl, hO, sl, q, he, hT, hS⟩
    · obtain ⟨f, rfl⟩ : ∃ f', f = f' + 1 := ⟨f - 1, by omega⟩
      unfold f_X11_reads_b14
      simp only
      rw [if_neg (by decide), here_ok ht hT, obind_some]
      simp only [gLet_e]
      have hle := skp_le hT.2.2.2
      have hT' := hT.pl hle
      have hlt := ht.lt (skp t p')
      -- where a word that is wrong begins
      have e17 : (if (if nI (ltr t (skp t p')) = 0 then (1 : Int32) else 0) = 0 then gS (plc G1 (skp t p')) 0 24 else gS (plc G1 (skp t p')) 0 23) = nI (skp t p') := by
        rw [hT'.1, hT'.2.1]
        by_cases e0 : ltr t (skp t p') = 0
        · rw [e0, if_pos (show nI 0 = 0 from rfl), if_neg (by decide)]
          have : ¬ skp t p' < t.length := fun z => by have := ht.lb z; omega
          apply nI_inj; omega
        · rw [if_neg (nI_ne0 (by omega) (by omega)), if_pos rfl]
      rw [e17, wordRead_ok ht hT', skp_id, wrR_plc]
      have hslt : slt t (f + 1) p' acc = match cnd t p' (acc.map Prod.fst) with
        | .inl e => .inl e
        | .inr (w, c, q) => if f = 0 then .inr (acc ++ [(w, c)], q) else if ltr t (skp t q) = 44 then slt t f (skp t q + 1) (acc ++ [(w, c)]) else .inr (acc ++ [(w, c)], skp t q) := rfl
      unfold cnd at hslt
      have hS' : ∀ q', mSlR (plc G1 q') n acc := fun q' => hS.off (by omega) (Z := fun k _ => decide (k = 0)) (gOff.rf.S1 (by simp)) (fun j _ _ => by simp)
      have wrong : ∀ q', slt t 4 p [] = .inl (skp t p') → Ok (some (Sum.inr (Sum.inr (gS1 (plc G1 q') 0 24 (nI (skp t p')), (0 : Int32))) : (gP × Int32) ⊕ (gP ⊕ (gP × Int32)))) (fun r => match r with | .inl s' => ∃ n', n' < f + 1 ∧ gOff (rZ n) G s'.1 ∧ ((n' = 0 ∧ s'.2 = 0 ∧ ∃ sl q, slt t 4 p [] = .inr (sl, q) ∧ mTp s'.1 t q ∧ mSlR s'.1 n sl) ∨ (0 < n' ∧ s'.2 = 1 ∧ ∃ p' acc, acc.length + n' = 4 ∧ slt t 4 p [] = slt t n' p' acc ∧ mTp s'.1 t p' ∧ mSlR s'.1 n acc ∧ ∀ x ∈ acc, x.1 < 32 ∧ x.2 < 10)) | .inr z => (match z with | .inl G1 => gOff (rZ n) G G1 ∧ ∃ s q, slt t 4 p [] = .inr (s, q) ∧ mTp G1 t q ∧ mSlR G1 n s | .inr r => r.2 = 0 ∧ gOff (rZ n) G r.1 ∧ ∃ e, slt t 4 p [] = .inl e ∧ mTp r.1 t e)) := by
        intro q' hq
        refine ⟨_, rfl, rfl, ?_, skp t p', hq, ?_⟩
        · exact (hO.tr (plc_off n G1 q')).tr (plc_off n _ _)
        · show mTp (plc (plc G1 q') (skp t p')) t (skp t p')
          rw [pl_pl]; exact hT'
      cases hr : rdW t (skp t p') with
      | none =>
        rw [hr] at hslt
        simp only at hslt
        rw [obind_some]
        show Ok ((gloop (f_X11_reads_b62 (nI (9 * n)) (plc G1 (skp t p'), -4)) gFu ((0 : Int32), (0 : Int32))).bind _) _
        refine Ok.bind (had_ok hn (hS' _) (by omega) (-4)) (fun y _ => ?_)
        show Ok (if (-4 : Int32) = -4 then _ else _) _
        rw [if_pos rfl]
        refine (wrong (skp t p') (he.trans hslt)).imp ?_
        intro r hr
        cases r with
        | inl s => exact hr
        | inr z =>
          cases z with
          | inl G1 => exact hr
          | inr z => exact hr
      | some wq =>
        obtain ⟨w, q1⟩ := wq
        rw [hr] at hslt
        simp only at hslt
        have hwq := rdW_lt ht hr
        have ewr : wrR G1 (skp t p') (some (w, q1)) = (plc G1 q1, nI w) := rfl
        rw [obind_some, ewr]
        simp only
        refine Ok.bind (had_ok hn (hS' _) (by omega) (nI w)) (fun y hy => ?_)
        subst hy
        rw [had_mem (hS' q1) hb (by omega)]
        show Ok (if nI w = -4 then _ else _) _
        rw [if_neg (nI_m4 (by omega))]
        by_cases hm : w ∈ acc.map Prod.fst
        · rw [if_pos hm] at hslt
          rw [decide_eq_true hm, if_neg (show ¬ bI true = 0 by decide)]
          refine (wrong q1 (he.trans hslt)).imp ?_
          intro r hr
          cases r with
          | inl s => exact hr
          | inr z =>
            cases z with
            | inl G1 => exact hr
            | inr z => exact hr
        · rw [if_neg hm] at hslt
          rw [decide_eq_false hm, if_pos (show bI false = 0 from rfl)]
          rw [gIn_t (by omega) (by omega), gck_t, nI_clamp (by omega), (hS' q1).1]
          have a1 : nI (9 * n) + 1 + nI acc.length = nI (9 * n + 1 + acc.length) := by rw [nI_1, nI_add]
          have a5 : nI (9 * n) + 5 + nI acc.length = nI (9 * n + 5 + acc.length) := by rw [show nI (9 * n) + 5 = nI (9 * n + 5) from nI_add _ 5, nI_add]
          rw [a1, a5, gIn_t (show 9 * n + 1 + acc.length < 2 ^ 31 by omega) (by omega), gck_t, gIn_t (show 9 * n + 5 + acc.length < 2 ^ 31 by omega) (by omega), gck_t, nI_clamp (show 9 * n + 1 + acc.length < 2 ^ 31 by omega), nI_clamp (show 9 * n + 5 + acc.length < 2 ^ 31 by omega)]
          -- the word lies there, its cost 0
          have hq1 : mTp (plc G1 q1) t q1 := hT.pl hwq.2.2
          have hO2 : gOff (fun k j => decide (k = 12 ∧ (j = 9 * n + 1 + acc.length ∨ j = 9 * n + 5 + acc.length))) (plc G1 q1) (gS1 (gS1 (plc G1 q1) 12 (9 * n + 1 + acc.length) (nI w)) 12 (9 * n + 5 + acc.length) 0) := (gOff.rf.S1 (by simp)).S1 (by simp)
          have hT2 : mTp (gS1 (gS1 (plc G1 q1) 12 (9 * n + 1 + acc.length) (nI w)) 12 (9 * n + 5 + acc.length) 0) t q1 := hq1.off hO2 (fun k j hk => by simp; omega)
          have hw2 : gS (gS1 (gS1 (plc G1 q1) 12 (9 * n + 1 + acc.length) (nI w)) 12 (9 * n + 5 + acc.length) 0) 12 (9 * n + 1 + acc.length) = nI w := by rw [gS_ne (by omega), gS_at]
          have hc2 : gS (gS1 (gS1 (plc G1 q1) 12 (9 * n + 1 + acc.length) (nI w)) 12 (9 * n + 5 + acc.length) 0) 12 (9 * n + 5 + acc.length) = nI 0 := gS_at
          have hOG2 : gOff (rZ n) G (gS1 (gS1 (plc G1 q1) 12 (9 * n + 1 + acc.length) (nI w)) 12 (9 * n + 5 + acc.length) 0) := (hO.tr (plc_off n G1 q1)).tr (hO2.w (fun k j z => by simp [rZ] at z ⊢; omega))
          have hold : ∀ j, (j < 9 * n + 1 + acc.length ∨ (9 * n + 5 ≤ j ∧ j < 9 * n + 5 + acc.length)) → gS (gS1 (gS1 (plc G1 q1) 12 (9 * n + 1 + acc.length) (nI w)) 12 (9 * n + 5 + acc.length) 0) 12 j = gS G1 12 j := fun j hj => by rw [gS_ne (by omega), gS_ne (by omega), plc_S _ _ _ _ (by omega)]
          generalize gS1 (gS1 (plc G1 q1) 12 (9 * n + 1 + acc.length) (nI w)) 12 (9 * n + 5 + acc.length) 0 = G2 at *
          -- behind the candidate
          have tail : ∀ (G3 : gP) (c q : Nat), c < 10 → mTp G3 t q → gOff (rZ n) G G3 → gS G3 12 (9 * n) = nI acc.length → (∀ j, (j < 9 * n + 1 + acc.length ∨ (9 * n + 5 ≤ j ∧ j < 9 * n + 5 + acc.length)) → gS G3 12 j = gS G1 12 j) → gS G3 12 (9 * n + 1 + acc.length) = nI w → gS G3 12 (9 * n + 5 + acc.length) = nI c → slt t 4 p [] = (if f = 0 then .inr (acc ++ [(w, c)], q) else if ltr t (skp t q) = 44 then slt t f (skp t q + 1) (acc ++ [(w, c)]) else .inr (acc ++ [(w, c)], skp t q)) →
              Ok (gck (gIn (nI (9 * n)) 72) (gck (gIn (nI (9 * n)) 72) (gLet (gS1 G3 12 (nI (9 * n)).toNatClampNeg (gS G3 12 (nI (9 * n)).toNatClampNeg + 1)) fun G51 => gck (gIn (nI (9 * n)) 72) (if (4 : Int32) ≤ gS G51 12 (nI (9 * n)).toNatClampNeg then some (Sum.inl (G51, (0 : Int32))) else (f_X11_has G51 44).bind fun q55 => if q55.2 = 0 then some (Sum.inl (q55.1, (0 : Int32))) else some (Sum.inl (q55.1, (1 : Int32))))))) (fun r : (gP × Int32) ⊕ (gP ⊕ (gP × Int32)) => ∃ s', r = .inl s' ∧ ∃ n', n' < f + 1 ∧ gOff (rZ n) G s'.1 ∧ ((n' = 0 ∧ s'.2 = 0 ∧ ∃ sl q, slt t 4 p [] = .inr (sl, q) ∧ mTp s'.1 t q ∧ mSlR s'.1 n sl) ∨ (0 < n' ∧ s'.2 = 1 ∧ ∃ p' acc, acc.length + n' = 4 ∧ slt t 4 p [] = slt t n' p' acc ∧ mTp s'.1 t p' ∧ mSlR s'.1 n acc ∧ ∀ x ∈ acc, x.1 < 32 ∧ x.2 < 10))) := by
            intro G3 c q hc hT3 hO3 hm3 hold3 hw3 hc3 hR
            rw [gIn_t (show 9 * n < 2 ^ 31 by omega) (by omega), gck_t, gck_t, nI_clamp (show 9 * n < 2 ^ 31 by omega), hm3, nI_1]
            simp only [gLet_e]
            rw [gck_t, gS_at]
            have hT4 : mTp (gS1 G3 12 (9 * n) (nI (acc.length + 1))) t q := hT3.off (Z := fun k _ => decide (k = 12)) (gOff.rf.S1 (by simp)) (fun k j hk => by simp; omega)
            have hO4 : gOff (rZ n) G (gS1 G3 12 (9 * n) (nI (acc.length + 1))) := hO3.S1 (by simp [rZ])
            have hS4 : mSlR (gS1 G3 12 (9 * n) (nI (acc.length + 1))) n (acc ++ [(w, c)]) := by
              refine ⟨by rw [gS_at, List.length_append, List.length_singleton], fun j x hj => ?_⟩
              by_cases e : j = acc.length
              · subst e
                rw [List.getElem?_append_right (Nat.le_refl _), Nat.sub_self] at hj
                cases hj
                exact ⟨by rw [gS_ne (by omega)]; exact hw3, by rw [gS_ne (by omega)]; exact hc3⟩
              · have hjl : j < acc.length := by have := (List.getElem?_eq_some_iff.mp hj).1; simp at this; omega
                rw [List.getElem?_append_left hjl] at hj
                have := hS.2 j x hj
                exact ⟨by rw [gS_ne (by omega), hold3 _ (by omega)]; exact this.1, by rw [gS_ne (by omega), hold3 _ (by omega)]; exact this.2⟩
            generalize gS1 G3 12 (9 * n) (nI (acc.length + 1)) = G4 at *
            have hS4' : ∀ q', mSlR (plc G4 q') n (acc ++ [(w, c)]) := fun q' => hS4.off (by rw [List.length_append, List.length_singleton]; omega) (Z := fun k _ => decide (k = 0)) (gOff.rf.S1 (by simp)) (fun j _ _ => by simp)
            by_cases hf0 : f = 0
            · rw [if_pos hf0] at hR
              rw [if_pos (show (4 : Int32) ≤ nI (acc.length + 1) from nI_le (a := 4) (by omega) (by omega))]
              exact ⟨_, rfl, _, rfl, 0, by omega, hO4, Or.inl ⟨rfl, rfl, _, _, hR, hT4, hS4⟩⟩
            · rw [if_neg hf0] at hR
              rw [if_neg (show ¬ (4 : Int32) ≤ nI (acc.length + 1) from nI_ge (b := 4) (by omega) (by decide)), show (44 : Int32) = nI 44 from rfl, has_ok ht hT4 (by decide), obind_some]
              have hle4 := skp_le hT4.2.2.2
              by_cases h44 : ltr t (skp t q) = 44
              · rw [if_pos h44] at hR ⊢
                have hin := ht.in (p := skp t q) (by omega)
                simp only
                rw [if_neg (by decide)]
                refine ⟨_, rfl, _, rfl, f, by omega, hO4.tr (plc_off n _ _), Or.inr ⟨by omega, rfl, skp t q + 1, acc ++ [(w, c)], ?_, hR, hT4.pl (by omega), hS4' _, ?_⟩⟩
                · rw [List.length_append, List.length_singleton]; omega
                · intro x hx
                  rw [List.mem_append, List.mem_singleton] at hx
                  rcases hx with hx | rfl
                  · exact hb x hx
                  · exact ⟨hwq.1, hc⟩
              · rw [if_neg h44] at hR ⊢
                simp only
                rw [if_pos trivial]
                exact ⟨_, rfl, _, rfl, 0, by omega, hO4.tr (plc_off n _ _), Or.inl ⟨rfl, rfl, _, _, hR, hT4.pl hle4, hS4' _⟩⟩
          have m2 : gS G2 12 (9 * n) = nI acc.length := by rw [hold _ (by omega)]; exact hS.1
          rw [show (58 : Int32) = nI 58 from rfl, has_ok ht hT2 (by decide), obind_some]
          have hle2 := skp_le hwq.2.2
          by_cases h58 : ltr t (skp t q1) = 58
          · rw [if_pos h58] at hslt ⊢
            have hin := ht.in (p := skp t q1) (by omega)
            have hT3 : mTp (plc G2 (skp t q1 + 1)) t (skp t q1 + 1) := hT2.pl (by omega)
            have hle3 := skp_le hT3.2.2.2
            have hT4 := hT3.pl hle3
            have hlt3 := ht.lt (skp t (skp t q1 + 1))
            simp only
            rw [if_neg (by decide), here_ok ht hT3, obind_some]
            simp only
            rw [isD_in (by omega)]
            cases hd : isD (ltr t (skp t (skp t q1 + 1))) with
            | false =>
              rw [hd, if_neg (by decide)] at hslt
              simp only at hslt
              rw [if_pos (show bI false = 0 from rfl)]
              exact ⟨_, rfl, rfl, (hOG2.tr (plc_off n _ _)).tr (plc_off n _ _), _, he.trans hslt, hT4⟩
            | true =>
              rw [hd, if_pos rfl] at hslt
              simp only at hslt
              have bd := (isD_iff _).mp hd
              have hin3 := ht.in (p := skp t (skp t q1 + 1)) (by omega)
              rw [if_neg (show ¬ bI true = 0 by decide), here_ok ht hT4, skp_id, obind_some]
              simp only [gck_t, pl_pl]
              rw [show nI (ltr t (skp t (skp t q1 + 1))) - 48 = nI (ltr t (skp t (skp t q1 + 1)) - 48) from pk_sub (b := 48) bd.1]
              have e24 : gS (gS1 (plc G2 (skp t (skp t q1 + 1))) 12 (9 * n + 5 + acc.length) (nI (ltr t (skp t (skp t q1 + 1)) - 48))) 0 24 + 1 = nI (skp t (skp t q1 + 1) + 1) := by rw [gS_ne (by omega), (hT2.pl hle3).2.1, nI_1]
              rw [e24]
              have hO5 : gOff (fun k j => decide (k = 12 ∧ j = 9 * n + 5 + acc.length)) (plc G2 (skp t (skp t q1 + 1))) (gS1 (plc G2 (skp t (skp t q1 + 1))) 12 (9 * n + 5 + acc.length) (nI (ltr t (skp t (skp t q1 + 1)) - 48))) := gOff.rf.S1 (by simp)
              have hT5 : mTp (gS1 (plc G2 (skp t (skp t q1 + 1))) 12 (9 * n + 5 + acc.length) (nI (ltr t (skp t (skp t q1 + 1)) - 48))) t (skp t (skp t q1 + 1)) := (hT2.pl hle3).off hO5 (fun k j hk => by simp; omega)
              have key := tail (plc (gS1 (plc G2 (skp t (skp t q1 + 1))) 12 (9 * n + 5 + acc.length) (nI (ltr t (skp t (skp t q1 + 1)) - 48))) (skp t (skp t q1 + 1) + 1)) (ltr t (skp t (skp t q1 + 1)) - 48) (skp t (skp t q1 + 1) + 1) (by omega) (hT5.pl (by omega)) (((hOG2.tr (plc_off n _ _)).tr (hO5.w (fun k j z => by simp [rZ] at z ⊢; omega))).tr (plc_off n _ _)) (by rw [plc_S _ _ _ _ (by omega), gS_ne (by omega), plc_S _ _ _ _ (by omega)]; exact m2) (fun j hj => by rw [plc_S _ _ _ _ (by omega), gS_ne (by omega), plc_S _ _ _ _ (by omega)]; exact hold j hj) (by rw [plc_S _ _ _ _ (by omega), gS_ne (by omega), plc_S _ _ _ _ (by omega)]; exact hw2) (by rw [plc_S _ _ _ _ (by omega), gS_at]) (he.trans hslt)
              rw [gIn_t (show 9 * n < 2 ^ 31 by omega) (by omega), nI_clamp (show 9 * n < 2 ^ 31 by omega)] at key
              simp only [gLet_e, gck_t] at key
              refine key.imp ?_
              rintro r ⟨s', rfl, hs'⟩
              exact hs'
          · rw [if_neg h58] at hslt ⊢
            simp only [gck_t]
            rw [if_pos trivial]
            have key := tail (plc G2 (skp t q1)) 0 (skp t q1) (by omega) (hT2.pl hle2) (hOG2.tr (plc_off n _ _)) (by rw [plc_S _ _ _ _ (by omega)]; exact m2) (fun j hj => by rw [plc_S _ _ _ _ (by omega)]; exact hold j hj) (by rw [plc_S _ _ _ _ (by omega)]; exact hw2) (by rw [plc_S _ _ _ _ (by omega)]; exact hc2) (he.trans hslt)
            rw [gIn_t (show 9 * n < 2 ^ 31 by omega) (by omega), nI_clamp (show 9 * n < 2 ^ 31 by omega)] at key
            simp only [gLet_e, gck_t] at key
            refine key.imp ?_
            rintro r ⟨s', rfl, hs'⟩
            exact hs'
  · cases z with
    | inl G1 =>
      obtain ⟨hO, s, q, he, hT, hS⟩ := hz
      refine ⟨_, rfl, hO, ?_⟩
      rw [he]
      exact ⟨rfl, hT, hS⟩
    | inr r =>
      obtain ⟨h2, hO, e, he, hT⟩ := hz
      refine ⟨_, rfl, hO, ?_⟩
      rw [he]
      exact ⟨h2, hT⟩
