/-! the component: note, undo, image, restore -/
theorem gR_Rc (G : gP) (a sp b dp n k j : Nat) : gR (gRc G a sp b dp n) k j = if k = b ∧ dp ≤ j ∧ j < dp + n then gR G a (sp + (j - dp)) else gR G k j := by
  unfold gR gRc va_up va_cpy
  by_cases h : k = b
  · subst h
    simp
  · simp [h]
theorem gS_Rc (G : gP) (a sp b dp n k j : Nat) : gS (gRc G a sp b dp n) k j = gS G k j := rfl
theorem gL_Rc (G : gP) (a sp b dp n k j : Nat) : gL (gRc G a sp b dp n) k j = gL G k j := rfl
theorem xSt.eq {S S' : St} {T : Nat → Nat × Nat} {G : gP} (h : xSt S T G) (e : S = S') : xSt S' T G := e ▸ h
/-- only the list of the past has changed -/
theorem xLt.sm {G G' : gP} {b : Nat} {L : Lt} (h : xLt G b L) (h8 : L.n ≤ 8) (hg : xSg G b) (hS : ∀ k j, k ≠ 0 → gS G' k j = gS G k j) (hR : ∀ j, gR G' (b + 1) j = gR G (b + 1) j) (hb : 0 < b) : xLt G' b L := by
  obtain ⟨h1, h2, h3, h4, h5⟩ := h
  refine ⟨by rw [hS _ _ (by omega)]; exact h1, by rw [hS _ _ (by omega)]; exact h2, by rw [hS _ _ (by omega)]; exact h3, by rw [hS _ _ (by omega)]; exact h4, fun i hi => ?_⟩
  have hr := hg.rng (j := i) (by omega)
  have e : sgO G' b i = sgO G b i := by unfold sgO; rw [hR]
  rw [e]
  have := h5 i hi
  refine ⟨by rw [hS _ _ (by omega)]; exact this.1, fun j hj => ⟨by rw [hS _ _ (by omega)]; exact (this.2 j hj).1, by rw [hS _ _ (by omega)]; exact (this.2 j hj).2⟩⟩
theorem rot_ok {S : St} {T : Nat → Nat × Nat} {G : gP} (hW : S.Wf) (h : xSt S T G) (h8 : S.past.length = 8) : xSt (St.of (S.now) (S.past.tail) (S.kept) (S.tape) (S.sh)) T (gS1 (gR1 (gRc G 11 1 11 0 7) 11 7 (some (paO G 0))) 0 16 (nI 7)) := by
  have r0 := (h.pa.1 0 (by omega)).1
  have hR : ∀ k j, k ≠ 11 → gR (gS1 (gR1 (gRc G 11 1 11 0 7) 11 7 (some (paO G 0))) 0 16 (nI 7)) k j = gR G k j := fun k j hk => by
    rw [gR_S1, gR_R1, if_neg (fun z => hk z.1), gR_Rc, if_neg (fun z => hk z.1)]
  have hP : ∀ j, j < 8 → gR (gS1 (gR1 (gRc G 11 1 11 0 7) 11 7 (some (paO G 0))) 0 16 (nI 7)) 11 j = some (paO G ((j + 1) % 8)) := fun j hj => by
    rw [gR_S1, gR_R1]
    by_cases e : j = 7
    · subst e; rw [if_pos ⟨rfl, rfl⟩]
    · rw [if_neg (fun z => e z.2), gR_Rc, if_pos ⟨rfl, by omega, by omega⟩, show 1 + (j - 0) = j + 1 by omega, (h.pa.1 (j + 1) (by omega)).1, show (j + 1) % 8 = j + 1 by omega]
  have hP11 : ∀ j n, gR (gS1 (gR1 (gRc G 11 1 11 0 7) 11 7 (some (paO G 0))) 0 16 (nI 7)) 11 j = some n → ∃ j', gR G 11 j' = some n := fun j n hn => by
    rw [gR_S1, gR_R1] at hn
    by_cases e : j = 7
    · subst e; rw [if_pos ⟨rfl, rfl⟩] at hn; exact ⟨0, r0.trans hn⟩
    · rw [if_neg (fun z => e z.2), gR_Rc] at hn
      split at hn
      · exact ⟨_, hn⟩
      · exact ⟨_, hn⟩
  have hS : ∀ k j, k ≠ 0 → gS (gS1 (gR1 (gRc G 11 1 11 0 7) 11 7 (some (paO G 0))) 0 16 (nI 7)) k j = gS G k j := fun k j hk => by
    rw [gS_ne (fun z => hk z.1)]; rfl
  have hS0 : ∀ j, j ≠ 16 → gS (gS1 (gR1 (gRc G 11 1 11 0 7) 11 7 (some (paO G 0))) 0 16 (nI 7)) 0 j = gS G 0 j := fun j hj => by
    rw [gS_ne (fun z => hj z.2)]; rfl
  have hL : ∀ k j, gL (gS1 (gR1 (gRc G 11 1 11 0 7) 11 7 (some (paO G 0))) 0 16 (nI 7)) k j = gL G k j := fun k j => rfl
  have h16 : gS (gS1 (gR1 (gRc G 11 1 11 0 7) 11 7 (some (paO G 0))) 0 16 (nI 7)) 0 16 = nI 7 := gS_at
  generalize gS1 (gR1 (gRc G 11 1 11 0 7) 11 7 (some (paO G 0))) 0 16 (nI 7) = G1 at *
  have hpO : ∀ j, j < 8 → paO G1 j = paO G ((j + 1) % 8) := fun j hj => by
    show (gR G1 11 j).getD 0 = _
    rw [hP j hj]; rfl
  have hsg : ∀ i, i < 19 → xSg G1 (32 + 26 * i) := fun i hi => by
    have e : ∀ j, sgO G1 (32 + 26 * i) j = sgO G (32 + 26 * i) j := fun j => by unfold sgO; rw [hR _ _ (by omega)]
    exact ⟨fun j hj => by rw [e, hR _ _ (by omega)]; exact (h.sg i hi).1 j hj, fun a b ha hb => by rw [e, e]; exact (h.sg i hi).2 a b ha hb⟩
  have hlt : ∀ i L, i < 19 → L.n ≤ 8 → xLt G (32 + 26 * i) L → xLt G1 (32 + 26 * i) L := fun i L hi h8 hx => hx.sm h8 (h.sg i hi) hS (fun j => hR _ _ (by omega)) (by omega)
  refine ⟨fun k j n hn => ?_, hsg, ⟨fun j hj => ?_, fun i j hi hj e => ?_⟩, fun j hj => by rw [hR _ _ (by omega)]; exact h.ka j hj, hlt 0 _ (by omega) hW.now.n8 h.now, ?_, fun i L hi => ?_, ?_, by rw [hS0 _ (by decide)]; exact h.tp, fun j v hj => by rw [hS _ _ (by decide)]; exact h.tape j v hj, fun s hs => ?_⟩
  · by_cases e : k = 11
    · subst e
      obtain ⟨j', hj'⟩ := hP11 j n hn
      exact h.rk _ _ _ hj'
    · rw [hR k j e] at hn; exact h.rk _ _ _ hn
  · rw [hpO j hj]
    exact ⟨hP j hj, (h.pa.1 ((j + 1) % 8) (by omega)).2⟩
  · rw [hpO i hi, hpO j hj] at e
    have := h.pa.2 ((i + 1) % 8) ((j + 1) % 8) (by omega) (by omega) e
    omega
  · rw [h16]
    show nI 7 = nI S.past.tail.length
    rw [List.length_tail, h8]
  · have hi' : S.past.tail[i]? = some L := hi
    rw [List.getElem?_tail] at hi'
    have hil : i + 1 < S.past.length := (List.getElem?_eq_some_iff.mp hi').1
    rw [hpO i (by omega), show (i + 1) % 8 = i + 1 by omega]
    have hx := h.past (i + 1) L hi'
    obtain ⟨-, p, hp, e⟩ := h.pa.1 (i + 1) (by omega)
    rw [e] at hx ⊢
    exact hlt _ L (by omega) (hW.past L (List.mem_of_getElem? hi')).n8 hx
  · have hkk := h.kept
    show xKp G1 S.kept
    cases hSk : S.kept with
    | none => rw [hSk] at hkk; show gS G1 0 20 = 0; rw [hS0 _ (by decide)]; exact hkk
    | some q =>
      obtain ⟨Lk, p⟩ := q
      rw [hSk] at hkk
      obtain ⟨k1, k2, k3, k4⟩ := hkk
      obtain ⟨w1, w2, w3⟩ := hW.kept Lk p hSk
      refine ⟨by rw [hS0 _ (by decide)]; exact k1, by rw [hS0 _ (by decide)]; exact k2, hlt 2 Lk (by omega) w1.n8 k3, fun i L' hi => ?_⟩
      have hil : i < p.length := (List.getElem?_eq_some_iff.mp hi).1
      exact hlt (11 + i) L' (by omega) (w2 L' (List.mem_of_getElem? hi)).n8 (k4 i L' hi)
  · have := h.sh s hs
    show xSh T G1 s (S.sh s)
    cases hSs : S.sh s with
    | none => rw [hSs] at this; show gR G1 _ _ = none; rw [hR _ _ (by omega)]; exact this
    | some q =>
      obtain ⟨k, l⟩ := q
      rw [hSs] at this
      refine ⟨by rw [hR _ _ (by omega)]; exact this.1, this.2.1, fun i v hi => ?_⟩
      have h3 := this.2.2 i v hi
      unfold shV at h3 ⊢
      rw [hL, hS _ _ (by omega)]; exact h3
/-- what is now is noted behind the past -/
theorem push_ok {S : St} {T : Nat → Nat × Nat} {G : gP} {q : List Lt} (hW : S.Wf) (hq : q.length ≤ 7) (hqW : ∀ L ∈ q, L.Wf) (h : xSt (St.of (S.now) (q) (S.kept) (S.tape) (S.sh)) T G) : Ok (gck (gIn (gS G 0 16) 8) ((xRef (gR G 11 (gS G 0 16).toNatClampNeg) 6).bind fun k5 => (f_X6_takeFrom G k5 32).bind fun q8 => gLet (gS1 q8 0 16 ((gS q8 0 16) + (1 : Int32))) fun G10 => some G10)) (fun G' => xSt (St.of (S.now) (q ++ [S.now]) (S.kept) (S.tape) (S.sh)) T G' ∧ (∀ j, gR G' 33 j = gR G 33 j) ∧ ∀ k j, 32 ≤ k → k < 58 → gS G' k j = gS G k j) := by
  have hun : gS G 0 16 = nI q.length := h.un
  rw [hun, gIn_t (by omega) (by omega), gck_t, nI_clamp (by omega)]
  obtain ⟨r1, p, hp, r2⟩ := h.pa.1 q.length (by omega)
  rw [r1, r2, xRef_lat (by omega), obind_some]
  have hn : xLt G (32 + 26 * 0) S.now := h.now
  refine Ok.bind (latTake_ok (i := 3 + p) (j := 0) (by omega) (by omega) (by omega) (h.sg _ (by omega)) (h.sg 0 (by omega)) hW.now hn) (fun G2 h2 => ?_)
  obtain ⟨hO2, hr2, hx2⟩ := h2
  have e16 : gS G2 0 16 = nI q.length := by rw [(hO2 0 16 (by simp [lZ])).1]; exact hun
  rw [e16, nI_1]
  simp only [gLet_e]
  have hO : gOff (fun k j => decide ((32 + 26 * (3 + p) ≤ k ∧ k < 32 + 26 * (3 + p) + 26) ∨ (k = 0 ∧ j = 16))) G (gS1 G2 0 16 (nI (q.length + 1))) := (hO2.w (fun k j z => by simp [lZ] at z ⊢; omega)).S1 (by simp)
  have hr : rSame G (gS1 G2 0 16 (nI (q.length + 1))) := hr2.S1
  have hxb : xLt (gS1 G2 0 16 (nI (q.length + 1))) (32 + 26 * (3 + p)) S.now := hx2.off hW.now.n8 ((h.sg _ (by omega)).same hr2) (Z := fun k _ => decide (k = 0)) (gOff.rf.S1 (by simp)) (rSame.rf.S1) (fun k j a b => by simp; omega)
  have h16 : gS (gS1 G2 0 16 (nI (q.length + 1))) 0 16 = nI (q.length + 1) := gS_at
  generalize gS1 G2 0 16 (nI (q.length + 1)) = G3 at *
  have hpO : ∀ j, paO G3 j = paO G j := fun j => by unfold paO; rw [hr]
  have hlt : ∀ i L, i < 19 → i ≠ 3 + p → L.n ≤ 8 → xLt G (32 + 26 * i) L → xLt G3 (32 + 26 * i) L := fun i L hi hne h8 hx => hx.off h8 (h.sg i hi) hO hr (fun k j a b => by simp; omega)
  refine ⟨_, rfl, ⟨h.rk.same hr, fun i hi => (h.sg i hi).same hr, h.pa.same hr, fun j hj => by rw [hr]; exact h.ka j hj, hlt 0 _ (by omega) (by omega) hW.now.n8 h.now, ?_, fun i L hi => ?_, ?_, by rw [(hO 0 11 (by simp)).1]; exact h.tp, fun j v hj => by rw [(hO 9 _ (by simp; omega)).1]; exact h.tape j v hj, fun s hs => (h.sh s hs).off hO (hr _ _) (fun j => by simp; omega)⟩, fun j => hr _ _, fun k j a b => (hO k j (by simp; omega)).1⟩
  · rw [h16]
    show _ = nI (q ++ [S.now]).length
    rw [List.length_append, List.length_singleton]
  · have hi' : (q ++ [S.now])[i]? = some L := hi
    rw [hpO]
    by_cases e : i = q.length
    · subst e
      rw [List.getElem?_append_right (Nat.le_refl _), Nat.sub_self] at hi'
      cases hi'
      rw [r2]; exact hxb
    · have hil : i < q.length := by have := (List.getElem?_eq_some_iff.mp hi').1; simp at this; omega
      rw [List.getElem?_append_left hil] at hi'
      have hx : xLt G (paO G i) L := h.past i L hi'
      obtain ⟨-, p', hp', e'⟩ := h.pa.1 i (by omega)
      have hne : paO G i ≠ paO G q.length := fun z => e (h.pa.2 i q.length (by omega) (by omega) z)
      rw [e'] at hx hne ⊢
      rw [r2] at hne
      exact hlt _ L (by omega) (by omega) (hqW L (List.mem_of_getElem? hi')).n8 hx
  · have hkk : xKp G S.kept := h.kept
    show xKp G3 S.kept
    cases hSk : S.kept with
    | none => rw [hSk] at hkk; show gS G3 0 20 = 0; rw [(hO 0 20 (by simp)).1]; exact hkk
    | some z =>
      obtain ⟨Lk, pk⟩ := z
      rw [hSk] at hkk
      obtain ⟨k1, k2, k3, k4⟩ := hkk
      obtain ⟨w1, w2, w3⟩ := hW.kept Lk pk hSk
      refine ⟨by rw [(hO 0 20 (by simp)).1]; exact k1, by rw [(hO 0 19 (by simp)).1]; exact k2, hlt 2 Lk (by omega) (by omega) w1.n8 k3, fun i L' hi => ?_⟩
      have hil : i < pk.length := (List.getElem?_eq_some_iff.mp hi).1
      exact hlt (11 + i) L' (by omega) (by omega) (w2 L' (List.mem_of_getElem? hi)).n8 (k4 i L' hi)
theorem xnote_ok {S : St} {T : Nat → Nat × Nat} {G : gP} (hW : S.Wf) (h : xSt S T G) : Ok (f_X0_note G) (fun G' => xSt (St.of (S.now) (pushP S.past S.now) (S.kept) (S.tape) (S.sh)) T G' ∧ (∀ j, gR G' 33 j = gR G 33 j) ∧ ∀ k j, 32 ≤ k → k < 58 → gS G' k j = gS G k j) := by
  unfold f_X0_note
  have hp8 := hW.p8
  by_cases h8 : S.past.length = 8
  · rw [h.un, h8, if_pos (show nI 8 = 8 from rfl)]
    obtain ⟨r1, p, hp, r2⟩ := h.pa.1 0 (by omega)
    have hel : gEl G 11 1 7 6 = true := by
      unfold gEl
      rw [List.all_eq_true]
      intro i hi
      rw [List.mem_range] at hi
      obtain ⟨s1, p', hp', s2⟩ := h.pa.1 (1 + i) (by omega)
      rw [s1]
      show decide _ = true
      apply decide_eq_true
      rw [s2]
      refine ⟨by omega, ?_⟩
      rw [show 32 + 26 * (3 + p') = 32 + 26 * (3 + p') + 0 from rfl, xT_lat (by omega) 0 (by omega)]; rfl
    have e1 : xRef (gR G 11 0) 6 = some (paO G 0) := by rw [r1, r2, xRef_lat (by omega)]
    rw [e1, hel]
    simp only [obind_some, gck_t, gLet_e]
    have e16 : gS (gR1 (gRc G 11 1 11 0 7) 11 7 (some (paO G 0))) 0 16 - 1 = nI 7 := by
      show gS G 0 16 - 1 = nI 7
      rw [h.un, h8]; rfl
    rw [e16]
    have hrot := rot_ok hW h h8
    have hpu := push_ok (S := S) (q := S.past.tail) hW (by rw [List.length_tail]; omega) (fun L hl => hW.past L (List.mem_of_mem_tail hl)) hrot
    refine hpu.imp ?_
    rintro G' ⟨a, b, c⟩
    refine ⟨?_, fun j => ?_, fun k j x y => ?_⟩
    · have e : S.past.tail ++ [S.now] = pushP S.past S.now := by unfold pushP; rw [if_pos h8]
      rw [← e]; exact a
    · rw [b j, gR_S1, gR_R1, if_neg (by omega), gR_Rc, if_neg (by omega)]
    · rw [c k j x y, gS_ne (by omega)]; rfl
  · rw [h.un, if_neg (show ¬ nI S.past.length = 8 from fun z => h8 ((nI_eq (b := 8) (by omega) (by decide)).mp z)), obind_some]
    have hpu := push_ok (S := S) (q := S.past) hW (by omega) hW.past h
    refine hpu.imp ?_
    rintro G' ⟨a, b, c⟩
    refine ⟨?_, b, c⟩
    have e : S.past ++ [S.now] = pushP S.past S.now := by unfold pushP; rw [if_neg h8]
    rw [← e]; exact a
/-- what an act leaves -/
def xA (T : Nat → Nat × Nat) (X : St × Int32) (q : gP × Int32) : Prop := xSt X.1 T q.1 ∧ q.2 = X.2
theorem xundo_ok {S : St} {T : Nat → Nat × Nat} {G : gP} (hW : S.Wf) (h : xSt S T G) : Ok (f_X0_undo G) (xA T (sUndo S)) := by
  unfold f_X0_undo sUndo
  have h8 := hW.p8
  cases hp : S.past.getLast? with
  | none =>
    have : S.past = [] := List.getLast?_eq_none_iff.mp hp
    rw [h.un, this, if_pos (show nI ([] : List Lt).length = 0 from rfl)]
    exact ⟨_, rfl, h, rfl⟩
  | some L =>
    have hlen : 0 < S.past.length := List.length_pos_iff.mpr (fun z => by rw [z] at hp; cases hp)
    rw [List.getLast?_eq_getElem?] at hp
    have hLW := hW.past L (List.mem_of_getElem? hp)
    rw [h.un, if_neg (nI_ne0 hlen (by omega)), show nI S.past.length - 1 = nI (S.past.length - 1) from pk_sub (b := 1) hlen]
    simp only [gLet_e, gS_at]
    rw [gIn_t (by omega) (by omega), gck_t, nI_clamp (by omega), gR_S1]
    obtain ⟨r1, p, hp', r2⟩ := h.pa.1 (S.past.length - 1) (by omega)
    rw [r1, r2, xRef_lat (by omega), obind_some]
    have hO0 : gOff (fun k j => decide (k = 0 ∧ j = 16)) G (gS1 G 0 16 (nI (S.past.length - 1))) := gOff.rf.S1 (by simp)
    have hr0 : rSame G (gS1 G 0 16 (nI (S.past.length - 1))) := rSame.rf.S1
    have h16 : gS (gS1 G 0 16 (nI (S.past.length - 1))) 0 16 = nI (S.past.length - 1) := gS_at
    generalize gS1 G 0 16 (nI (S.past.length - 1)) = G1 at *
    have hx : xLt G1 (32 + 26 * (3 + p)) L := by
      have := h.past _ L hp
      rw [r2] at this
      exact this.off hLW.n8 (h.sg _ (by omega)) hO0 hr0 (fun k j a b => by simp; omega)
    refine Ok.bind (latTake_ok (i := 0) (j := 3 + p) (by omega) (by omega) (by omega) ((h.sg 0 (by omega)).same hr0) ((h.sg _ (by omega)).same hr0) hLW hx) (fun G2 h2 => ?_)
    obtain ⟨hO2, hr2, hx2⟩ := h2
    have hO : gOff (fun k j => decide ((32 ≤ k ∧ k < 58) ∨ (k = 0 ∧ j = 16))) G G2 := (hO0.w (fun k j z => by simp at z ⊢; omega)).tr (hO2.w (fun k j z => by simp [lZ] at z ⊢; omega))
    have hr : rSame G G2 := hr0.tr hr2
    have e16 : gS G2 0 16 = nI (S.past.length - 1) := by rw [(hO2 0 16 (by simp [lZ])).1]; exact h16
    have hpO : ∀ j, paO G2 j = paO G j := fun j => by unfold paO; rw [hr]
    have hlt : ∀ i L, 0 < i → i < 19 → L.n ≤ 8 → xLt G (32 + 26 * i) L → xLt G2 (32 + 26 * i) L := fun i L h0 hi h8 hx => hx.off h8 (h.sg i hi) hO hr (fun k j a b => by simp; omega)
    refine ⟨_, rfl, ⟨h.rk.same hr, fun i hi => (h.sg i hi).same hr, h.pa.same hr, fun j hj => by rw [hr]; exact h.ka j hj, hx2, ?_, fun i L' hi0 => ?_, ?_, by rw [(hO 0 11 (by simp)).1]; exact h.tp, fun j v hj => by rw [(hO 9 _ (by simp)).1]; exact h.tape j v hj, fun s hs => (h.sh s hs).off hO (hr _ _) (fun j => by simp; omega)⟩, e16⟩
    · rw [e16]
      show _ = nI S.past.dropLast.length
      rw [List.length_dropLast]
    · have hi : S.past.dropLast[i]? = some L' := hi0
      have hi2 : S.past[i]? = some L' := by
        have : i < S.past.dropLast.length := (List.getElem?_eq_some_iff.mp hi).1
        rw [List.length_dropLast] at this
        rw [List.dropLast_eq_take, List.getElem?_take_of_lt (by omega)] at hi
        exact hi
      have hil : i < S.past.length := (List.getElem?_eq_some_iff.mp hi2).1
      rw [hpO]
      have hx := h.past i L' hi2
      obtain ⟨-, p', hp', e'⟩ := h.pa.1 i (by omega)
      rw [e'] at hx ⊢
      exact hlt _ L' (by omega) (by omega) (hW.past L' (List.mem_of_getElem? hi2)).n8 hx
    · have hkk : xKp G S.kept := h.kept
      show xKp G2 S.kept
      cases hSk : S.kept with
      | none => rw [hSk] at hkk; show gS G2 0 20 = 0; rw [(hO 0 20 (by simp)).1]; exact hkk
      | some z =>
        obtain ⟨Lk, pk⟩ := z
        rw [hSk] at hkk
        obtain ⟨k1, k2, k3, k4⟩ := hkk
        obtain ⟨w1, w2, w3⟩ := hW.kept Lk pk hSk
        refine ⟨by rw [(hO 0 20 (by simp)).1]; exact k1, by rw [(hO 0 19 (by simp)).1]; exact k2, hlt 2 Lk (by omega) (by omega) w1.n8 k3, fun i L' hi => ?_⟩
        have hil : i < pk.length := (List.getElem?_eq_some_iff.mp hi).1
        exact hlt (11 + i) L' (by omega) (by omega) (w2 L' (List.mem_of_getElem? hi)).n8 (k4 i L' hi)
