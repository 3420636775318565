/-! a number said: its words; the Model says it -/
def nz (l : List Nat) : List Nat := l.filter (fun x => decide (x ≠ 0))
def tW (v : Nat) : Nat := if v % 100 < 20 then v % 100 else v / 10 % 10 + 18
def uW (v : Nat) : Nat := if v % 100 < 20 then 0 else v % 10
def smL (v : Nat) : List Nat := nz [v / 100, if v < 100 then 0 else 28, tW v, uW v]
def sayL (v : Nat) : List Nat := smL (v / 1000) ++ nz [if v / 1000 = 0 then 0 else 29] ++ smL (v % 1000)
theorem nz_app (a b : List Nat) : nz (a ++ b) = nz a ++ nz b := List.filter_append ..
theorem nz_c (a : Nat) (b : List Nat) : nz (a :: b) = (if a = 0 then [] else [a]) ++ nz b := by
  unfold nz
  by_cases h : a = 0
  · rw [if_pos h, List.filter_cons_of_neg (by simp [h])]; rfl
  · rw [if_neg h, List.filter_cons_of_pos (by simp [h])]; rfl
theorem smL_eq {v : Nat} (h : v < 1000) : smL v = (if v < 100 then [] else [v / 100, 28]) ++ ((if v % 100 ≤ 19 then [] else [18 + v % 100 / 10]) ++ (if (if v % 100 ≤ 19 then v % 100 else v % 100 % 10) = 0 then [] else [if v % 100 ≤ 19 then v % 100 else v % 100 % 10])) := by
  unfold smL tW uW
  rw [nz_c, nz_c, nz_c, nz_c]
  have e0 : nz [] = [] := rfl
  rw [e0, List.append_nil]
  have e1 : v % 100 % 10 = v % 10 := by omega
  have e2 : v % 100 / 10 = v / 10 % 10 := by omega
  rw [e1, e2]
  by_cases h1 : v < 100
  · rw [if_pos h1, if_pos h1, if_pos (show v / 100 = 0 by omega), if_pos rfl]
    by_cases h2 : v % 100 < 20
    · rw [if_pos h2, if_pos h2, if_pos (show v % 100 ≤ 19 by omega), if_pos (show v % 100 ≤ 19 by omega), if_pos rfl]
      simp
    · rw [if_neg h2, if_neg h2, if_neg (show ¬ v % 100 ≤ 19 by omega), if_neg (show ¬ v % 100 ≤ 19 by omega), if_neg (show ¬ v / 10 % 10 + 18 = 0 by omega), Nat.add_comm (v / 10 % 10) 18]
      simp
  · rw [if_neg h1, if_neg h1, if_neg (show ¬ v / 100 = 0 by omega), if_neg (by decide)]
    by_cases h2 : v % 100 < 20
    · rw [if_pos h2, if_pos h2, if_pos (show v % 100 ≤ 19 by omega), if_pos (show v % 100 ≤ 19 by omega), if_pos rfl]
      simp
    · rw [if_neg h2, if_neg h2, if_neg (show ¬ v % 100 ≤ 19 by omega), if_neg (show ¬ v % 100 ≤ 19 by omega), if_neg (show ¬ v / 10 % 10 + 18 = 0 by omega), Nat.add_comm (v / 10 % 10) 18]
      simp
theorem nz_lt {l : List Nat} (h : ∀ x ∈ l, x < 32) : ∀ x ∈ nz l, x < 32 := fun x hx => h x (List.mem_filter.mp hx).1
theorem smL_lt {v : Nat} (h : v < 1000) : ∀ x ∈ smL v, x < 32 := by
  refine nz_lt (fun x hx => ?_)
  simp only [List.mem_cons, List.mem_nil_iff, or_false] at hx
  unfold tW uW at hx
  rcases hx with rfl | rfl | rfl | rfl
  · omega
  · split <;> omega
  · split <;> omega
  · split <;> omega
theorem sayL_lt {v : Nat} (h : v < 1000000) : ∀ x ∈ sayL v, x < 32 := by
  intro x hx
  unfold sayL at hx
  rw [List.mem_append, List.mem_append] at hx
  rcases hx with (hx | hx) | hx
  · exact smL_lt (by omega) x hx
  · refine nz_lt (fun y hy => ?_) x hx
    rw [List.mem_singleton] at hy
    subst hy
    split <;> omega
  · exact smL_lt (by omega) x hx
theorem smL_len (v : Nat) : (smL v).length ≤ 4 := Nat.le_trans (List.length_filter_le _ _) (by simp)
theorem sayL_len (v : Nat) : (sayL v).length ≤ 9 := by
  unfold sayL
  rw [List.length_append, List.length_append]
  have h1 := smL_len (v / 1000)
  have h2 := smL_len (v % 1000)
  have h3 : (nz [if v / 1000 = 0 then 0 else 29]).length ≤ 1 := Nat.le_trans (List.length_filter_le _ _) (by simp)
  omega
/-- words in place of all -/
def Lt.sayF (L : Lt) (ws : List Nat) : Lt := ws.foldl (fun L w => L.more w 0) (Lt.of (0) (L.kind) (L.slack) (L.draw) (L.m) (L.w) (L.c))
theorem Lt.sayF_s (L : Lt) (ws : List Nat) (w : Nat) : L.sayF (ws ++ [w]) = (L.sayF ws).more w 0 := by
  unfold Lt.sayF
  rw [List.foldl_append]; rfl
theorem Lt.sayF_n (L : Lt) : ∀ ws : List Nat, (L.sayF ws.reverse).n = ws.length := by
  intro ws
  induction ws with
  | nil => rfl
  | cons w ws ih => rw [List.reverse_cons, L.sayF_s]; show (L.sayF ws.reverse).n + 1 = _; rw [ih]; rfl
theorem Lt.sayF_len (L : Lt) (ws : List Nat) : (L.sayF ws).n = ws.length := by
  have := L.sayF_n ws.reverse
  rw [List.reverse_reverse, List.length_reverse] at this
  exact this
theorem Lt.Wf.n0 {L : Lt} (hL : L.Wf) : ((Lt.of (0) (L.kind) (L.slack) (L.draw) (L.m) (L.w) (L.c)) : Lt).Wf := ⟨Nat.zero_le _, hL.k5, hL.s20, hL.dr, fun k hk => absurd hk (Nat.not_lt_zero k), fun k _ hk => absurd hk (Nat.not_lt_zero k), fun k _ hk => absurd hk (Nat.not_lt_zero k), fun k _ _ hk => absurd hk (Nat.not_lt_zero k)⟩
theorem Lt.Wf.sayF {L : Lt} (hL : L.Wf) : ∀ ws : List Nat, ws.length ≤ 8 → (∀ w ∈ ws, w < 32) → (L.sayF ws.reverse).Wf := by
  intro ws
  induction ws with
  | nil => intro _ _; exact hL.n0
  | cons w ws ih =>
    intro h1 h2
    rw [List.length_cons] at h1
    rw [List.reverse_cons, L.sayF_s]
    exact (ih (by omega) (fun x hx => h2 x (List.mem_cons_of_mem _ hx))).more (by rw [L.sayF_n]; omega) (h2 w (by simp)) (by omega)
theorem Lt.Wf.sayW {L : Lt} (hL : L.Wf) {ws : List Nat} (h1 : ws.length ≤ 8) (h2 : ∀ w ∈ ws, w < 32) : (L.sayF ws).Wf := by
  have := hL.sayF ws.reverse (by rw [List.length_reverse]; exact h1) (fun w hw => h2 w (List.mem_reverse.mp hw))
  rwa [List.reverse_reverse] at this
def sSay (S : St) (a : Int32) : St × Int32 := match rg a 1 1000000 with
  | none => (S, -1)
  | some v => if 8 < (sayL v).length then (S, -3) else ((St.of (S.now.sayF (sayL v)) ([]) (S.kept) (S.tape) (S.sh)), nI (sayL v).length)
def mSy (G : gP) (l : List Nat) : Prop := gS G 0 27 = nI l.length ∧ aL G 13 0 l
def syZ (k j : Nat) : Bool := decide (k = 13 ∨ (k = 0 ∧ j = 27))
theorem says_ok {G : gP} {l : List Nat} (h : mSy G l) (hl : l.length < 10) (w : Nat) : Ok (f_X11_says G (nI w)) (fun G' => gOff syZ G G' ∧ mSy G' (l ++ [w])) := by
  unfold f_X11_says
  rw [h.1, gIn_t (by omega) hl, gck_t, nI_clamp (by omega)]
  simp only [gLet_e]
  rw [gS_ne (show ¬ (0 = 13 ∧ 27 = l.length) by omega), h.1, nI_1]
  refine ⟨_, rfl, (gOff.rf.S1 (by simp [syZ])).S1 (by simp [syZ]), ?_, ?_⟩
  · rw [gS_at, List.length_append, List.length_singleton]
  · have := (h.2.push (v := w)).S1 (a := 0) (i := 27) (v := nI (l.length + 1)) (Or.inl (by decide))
    rwa [Nat.zero_add] at this
theorem saysSmall_ok {G : gP} {l : List Nat} (h : mSy G l) (hl : l.length ≤ 5) {v : Nat} (hv : v < 1000) : Ok (f_X11_saysSmall G (nI v)) (fun G' => gOff syZ G G' ∧ mSy G' (l ++ smL v)) := by
  unfold f_X11_saysSmall
  rw [smL_eq hv]
  have c1 : (nI v < 100) ↔ v < 100 := nI_ltI (b := 100) (by omega) (by decide)
  have d1 : nI v / 100 = nI (v / 100) := pk_div (d := 100) (by omega) (by decide) (by decide)
  have r1 : gRem (nI v) 100 = nI (v % 100) := gRem_nI (d := 100) (by omega) (by decide) (by decide)
  have c2 : (nI (v % 100) ≤ 19) ↔ v % 100 ≤ 19 := nI_leI (b := 19) (by omega) (by decide)
  have d2 : nI (v % 100) / 10 = nI (v % 100 / 10) := pk_div (d := 10) (by omega) (by decide) (by decide)
  have r2 : gRem (nI (v % 100)) 10 = nI (v % 100 % 10) := gRem_nI (d := 10) (by omega) (by decide) (by decide)
  have a2 : (18 : Int32) + nI (v % 100 / 10) = nI (18 + v % 100 / 10) := nI_add 18 _
  refine Ok.bind (Q := fun G1 => gOff syZ G G1 ∧ mSy G1 (l ++ (if v < 100 then [] else [v / 100, 28]))) ?_ (fun G1 h1 => ?_)
  · by_cases h1 : v < 100
    · rw [if_pos (c1.mpr h1), if_pos h1, List.append_nil]
      exact ⟨_, rfl, gOff.rf, h⟩
    · rw [if_neg (fun z => h1 (c1.mp z)), if_neg h1, d1]
      refine Ok.bind (says_ok h (by omega) (v / 100)) (fun G1 h2 => ?_)
      refine Ok.bind (says_ok (w := 28) h2.2 (by rw [List.length_append, List.length_singleton]; omega)) (fun G2 h3 => ⟨_, rfl, h2.1.tr h3.1, ?_⟩)
      have := h3.2
      rw [List.append_assoc] at this
      exact this
  have hl1 : (l ++ (if v < 100 then [] else [v / 100, 28])).length ≤ 7 := by
    rw [List.length_append]; split <;> simp <;> omega
  rw [← List.append_assoc]
  generalize l ++ (if v < 100 then [] else [v / 100, 28]) = l1 at *
  simp only [gLet_e]
  rw [r1]
  refine Ok.bind (Q := fun G2 => gOff syZ G G2 ∧ mSy G2 (l1 ++ (if v % 100 ≤ 19 then [] else [18 + v % 100 / 10]))) ?_ (fun G2 h2 => ?_)
  · by_cases h2 : v % 100 ≤ 19
    · rw [if_pos (c2.mpr h2), if_pos h2, List.append_nil]
      exact ⟨_, rfl, h1⟩
    · rw [if_neg (fun z => h2 (c2.mp z)), if_neg h2, d2, a2, obs]
      refine (says_ok h1.2 (by omega) _).imp ?_
      rintro G2 ⟨a, b⟩
      exact ⟨h1.1.tr a, b⟩
  have hl2 : (l1 ++ (if v % 100 ≤ 19 then [] else [18 + v % 100 / 10])).length ≤ 8 := by
    rw [List.length_append]; split <;> simp <;> omega
  rw [← List.append_assoc]
  generalize l1 ++ (if v % 100 ≤ 19 then [] else [18 + v % 100 / 10]) = l2 at *
  have e9 : (if nI (v % 100) ≤ 19 then nI (v % 100) else gRem (nI (v % 100)) 10) = nI (if v % 100 ≤ 19 then v % 100 else v % 100 % 10) := by
    rw [r2]
    by_cases h3 : v % 100 ≤ 19
    · rw [if_pos (c2.mpr h3), if_pos h3]
    · rw [if_neg (fun z => h3 (c2.mp z)), if_neg h3]
  rw [e9]
  have hx : (if v % 100 ≤ 19 then v % 100 else v % 100 % 10) < 2 ^ 31 := by split <;> omega
  generalize (if v % 100 ≤ 19 then v % 100 else v % 100 % 10) = x at *
  by_cases h3 : x = 0
  · rw [if_pos ((nI_le0 hx).mpr h3), if_pos h3, List.append_nil]
    exact ⟨_, rfl, h2⟩
  · rw [if_neg (fun z => h3 ((nI_le0 hx).mp z)), if_neg h3, obs]
    refine (says_ok h2.2 (by omega) x).imp ?_
    rintro G3 ⟨a, b⟩
    exact ⟨h2.1.tr a, b⟩
theorem clears_ok {G : gP} {L : Lt} (h : mRow G 1 0 L) : Ok (f_X11_clears G) (fun G' => gOff nowZ G G' ∧ mRow G' 1 0 (Lt.of (0) (L.kind) (L.slack) (L.draw) (L.m) (L.w) (L.c))) := by
  unfold f_X11_clears
  simp only [gLet_e, obs]
  have hl : Ok (gloop (f_X11_clears_b9) gFu (gS1 G 1 0 0, (4 : Int32))) (fun G' => gOff (fun k j => decide (k = 1 ∧ 4 ≤ j)) (gS1 G 1 0 0) G') := by
    refine Ok.up (fun i s => s.2 = nI (4 + i) ∧ gOff (fun k j => decide (k = 1 ∧ 4 ≤ j)) (gS1 G 1 0 0) s.1) 72 (by decide) ?_ ?_ ⟨rfl, gOff.rf⟩
    · rintro i ⟨G1, x⟩ hi ⟨hx, hO⟩
      simp only at hx hO
      subst hx
      unfold f_X11_clears_b9
      simp only
      rw [if_neg (show ¬ (76 : Int32) ≤ nI (4 + i) from nI_ge (b := 76) (by omega) (by decide)), gIn_t (by omega) (by omega), gck_t, nI_clamp (by omega)]
      exact ⟨_, rfl, nI_1 (4 + i), hO.S1 (by simp)⟩
    · rintro ⟨G1, x⟩ ⟨hx, hO⟩
      simp only at hx hO
      subst hx
      unfold f_X11_clears_b9
      simp only
      rw [if_pos (show (76 : Int32) ≤ nI (4 + 72) by decide)]
      exact ⟨_, rfl, hO⟩
  refine hl.imp ?_
  intro G' hO
  refine ⟨(gOff.rf.S1 rfl).tr (hO.w (fun k j z => by simp [nowZ] at z ⊢; omega)), mRow.of ?_ ?_ ?_ ?_ (fun i hi => absurd hi (Nat.not_lt_zero i))⟩
  · rw [(hO 1 0 (by simp)).1, gS_at]; rfl
  · rw [(hO 1 1 (by simp)).1, gS_ne (by decide)]; exact h.2.1
  · rw [(hO 1 2 (by simp)).1, gS_ne (by decide)]; exact h.2.2.1
  · rw [(hO 1 3 (by simp)).1, gS_ne (by decide)]; exact h.2.2.2.1
/-- nothing may be undone -/
theorem mSt.past0 {S : St} {G : gP} (h : mSt S G) : mSt (St.of (S.now) ([]) (S.kept) (S.tape) (S.sh)) (gS1 G 0 29 0) := by
  have hO : gOff (fun k j => decide (k = 0 ∧ j = 29)) G (gS1 G 0 29 0) := gOff.rf.S1 (by simp)
  refine ⟨h.now.off hO (fun _ => rfl), gS_at, fun i L hi => ?_, ?_, ?_, ?_, ?_⟩
  · have hi' : ([] : List Lt)[i]? = some L := hi
    cases hi'
  · have hk := h.kept
    show match S.kept with | none => _ | some (L, p) => _
    cases hS : S.kept with
    | none => rw [hS] at hk; simp only at hk ⊢; rw [(hO 0 32 rfl).1]; exact hk
    | some q =>
      obtain ⟨L, p⟩ := q
      rw [hS] at hk
      exact ⟨hk.1.off hO (fun _ => rfl), by rw [(hO 0 32 rfl).1]; exact hk.2.1, fun i L hi => (hk.2.2 i L hi).off hO (fun _ => rfl)⟩
  · rw [(hO 0 23 rfl).1]; exact h.tp
  · intro j v hj; rw [(hO 11 _ rfl).1]; exact h.tape j v hj
  · intro s hs
    have := h.sh s hs
    show match S.sh s with | none => _ | some (k, l) => _
    cases hS : S.sh s with
    | none => rw [hS] at this; simp only at this ⊢; rw [(hO 17 s rfl).1]; exact this
    | some q =>
      obtain ⟨k, l⟩ := q
      rw [hS] at this
      exact ⟨by rw [(hO 17 s rfl).1]; exact this.1, by rw [(hO 18 s rfl).1]; exact this.2.1, fun i v hi => by rw [(hO 19 _ rfl).2.1]; exact this.2.2 i v hi⟩
theorem say_ok {S : St} {G : gP} (hW : S.Wf) (h : mSt S G) (a : Int32) : Ok (f_X11_say G a) (mA (sSay S a)) := by
  unfold f_X11_say sSay
  rw [in_rg a (lo := 1) (hi := 1000000) rfl rfl]
  cases ha : rg a 1 1000000 with
  | none => exact ⟨_, rfl, h, rfl⟩
  | some v =>
    obtain ⟨hv1, hv, rfl⟩ := rg_some ha
    simp only [Option.isSome_some, if_true]
    rw [if_neg (by decide)]
    simp only [gLet_e]
    have h0 : mSy (gS1 G 0 27 0) [] := ⟨gS_at, aL.nil⟩
    have hO0 : gOff syZ G (gS1 G 0 27 0) := gOff.rf.S1 (by simp [syZ])
    generalize gS1 G 0 27 0 = G0 at *
    have c1 : (nI v < 1000) ↔ v < 1000 := nI_ltI (b := 1000) (by omega) (by decide)
    have d1 : nI v / 1000 = nI (v / 1000) := pk_div (d := 1000) (by omega) (by decide) (by decide)
    have r1 : gRem (nI v) 1000 = nI (v % 1000) := gRem_nI (d := 1000) (by omega) (by decide) (by decide)
    refine Ok.bind (Q := fun G1 => gOff syZ G G1 ∧ mSy G1 (smL (v / 1000) ++ nz [if v / 1000 = 0 then 0 else 29])) ?_ (fun G1 h1 => ?_)
    · by_cases hlt : v < 1000
      · rw [if_pos (c1.mpr hlt), show v / 1000 = 0 by omega]
        exact ⟨_, rfl, hO0, h0⟩
      · rw [if_neg (fun z => hlt (c1.mp z)), d1]
        refine Ok.bind (saysSmall_ok h0 (by simp) (show v / 1000 < 1000 by omega)) (fun G1 h1 => ?_)
        rw [obs]
        have hl := smL_len (v / 1000)
        rw [List.nil_append] at h1
        refine (says_ok (w := 29) h1.2 (by omega)).imp ?_
        rintro G2 ⟨a, b⟩
        refine ⟨(hO0.tr h1.1).tr a, ?_⟩
        rw [if_neg (show ¬ v / 1000 = 0 by omega)]
        exact b
    rw [r1]
    have hl5 : (smL (v / 1000) ++ nz [if v / 1000 = 0 then 0 else 29]).length ≤ 5 := by
      rw [List.length_append]
      have h1 := smL_len (v / 1000)
      have h3 : (nz [if v / 1000 = 0 then 0 else 29]).length ≤ 1 := Nat.le_trans (List.length_filter_le _ _) (by simp)
      omega
    refine Ok.bind (saysSmall_ok h1.2 hl5 (show v % 1000 < 1000 by omega)) (fun G2 h2 => ?_)
    have hsy : mSy G2 (sayL v) := h2.2
    have hO2 : gOff syZ G G2 := h1.1.tr h2.1
    have h9 := sayL_len v
    have hlt := sayL_lt (v := v) hv
    have hm2 : mSt S G2 := h.now' hO2 (fun k j hk => by simp [syZ]; omega) (h.now.off hO2 (fun j => by simp [syZ]))
    generalize sayL v = ws at *
    rw [hsy.1]
    by_cases h8 : 8 < ws.length
    · rw [if_neg (show ¬ nI ws.length ≤ 8 from nI_ge (a := 8) h8 (by omega)), if_pos h8]
      exact ⟨_, rfl, hm2, rfl⟩
    · rw [if_pos (show nI ws.length ≤ 8 from nI_le (b := 8) (by omega) (by decide)), if_neg h8]
      refine Ok.bind (clears_ok hm2.now) (fun G3 h3 => ?_)
      refine Ok.bind (Q := fun G4 => gOff nowZ G3 G4 ∧ mRow G4 1 0 (S.now.sayF ws)) ?_ (fun G4 h4 => ?_)
      · refine Ok.up (fun i s => s.2 = nI i ∧ gOff nowZ G3 s.1 ∧ mRow s.1 1 0 (S.now.sayF (ws.take i))) ws.length (by omega) ?_ ?_ ⟨rfl, gOff.rf, h3.2⟩
        · rintro i ⟨G4, x⟩ hi ⟨hx, hO, hr⟩
          simp only at hx hO hr
          subst hx
          unfold f_X11_say_b68
          simp only
          have e27 : gS G4 0 27 = nI ws.length := by rw [(hO 0 27 (by simp [nowZ])).1, (h3.1 0 27 (by simp [nowZ])).1]; exact hsy.1
          have e13 : gS G4 13 i = nI ws[i] := by
            rw [(hO 13 i (by simp [nowZ])).1, (h3.1 13 i (by simp [nowZ])).1]
            have := hsy.2 i ws[i] (List.getElem?_eq_getElem hi)
            rwa [Nat.zero_add] at this
          rw [e27, if_neg (nI_ge hi (by omega)), gIn_t (by omega) (by omega), gck_t, nI_clamp (by omega), e13]
          have hnt : (S.now.sayF (ws.take i)).n = i := by rw [S.now.sayF_len, List.length_take]; omega
          have hwf : (S.now.sayF (ws.take i)).Wf := hW.now.sayW (by rw [List.length_take]; omega) (fun w hw => hlt w (List.mem_of_mem_take hw))
          refine Ok.bind (hears_ok (w := ws[i]) (c := 0) hwf (by rw [hnt]; omega) hr) (fun G5 h5 => ⟨_, rfl, nI_1 i, hO.tr h5.1, ?_⟩)
          have : ws.take (i + 1) = ws.take i ++ [ws[i]] := by rw [List.take_add_one, List.getElem?_eq_getElem hi]; rfl
          rw [this, S.now.sayF_s]
          exact h5.2.1
        · rintro ⟨G4, x⟩ ⟨hx, hO, hr⟩
          simp only at hx hO hr
          subst hx
          unfold f_X11_say_b68
          simp only
          have e27 : gS G4 0 27 = nI ws.length := by rw [(hO 0 27 (by simp [nowZ])).1, (h3.1 0 27 (by simp [nowZ])).1]; exact hsy.1
          rw [e27, if_pos (nI_le (Nat.le_refl _) (by omega))]
          rw [List.take_length] at hr
          exact ⟨_, rfl, hO, hr⟩
      · have e27 : gS G4 0 27 = nI ws.length := by rw [(h4.1 0 27 (by simp [nowZ])).1, (h3.1 0 27 (by simp [nowZ])).1]; exact hsy.1
        have hm4 : mSt (St.of (S.now.sayF ws) (S.past) (S.kept) (S.tape) (S.sh)) G4 := hm2.now' (h3.1.tr h4.1) (fun _ _ hk => nowZ_k hk) h4.2
        refine ⟨_, rfl, hm4.past0, ?_⟩
        simp only
        rw [gS_ne (by decide)]; exact e27
