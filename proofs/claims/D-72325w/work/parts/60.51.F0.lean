/-! sheets: as they are meant; the Model's -/
def cutL (k : Nat) (v : Int64) : Int64 := if k = 0 then v.toInt32.toInt8.toInt32.toInt64 else if k = 1 then v.toInt32.toInt16.toInt32.toInt64 else if k = 2 then v.toInt32.toInt64 else v
def lF (m : Nat) (f : Nat → Int64) : List Int64 := (List.range m).map f
theorem lF_len (m : Nat) (f : Nat → Int64) : (lF m f).length = m := by unfold lF; simp
theorem lF_get {m : Nat} {f : Nat → Int64} {i : Nat} {v : Int64} (h : (lF m f)[i]? = some v) : i < m ∧ v = f i := by
  have hi : i < (lF m f).length := (List.getElem?_eq_some_iff.mp h).1
  rw [lF_len] at hi
  unfold lF at h
  rw [List.getElem?_map, List.getElem?_range hi] at h
  exact ⟨hi, (Option.some.inj h).symm⟩
def whyS (o : Option (Nat × List Int64)) (k : Nat) (a : Int32) (n : Nat) : Int32 := match o with
  | none => -11
  | some (k', l) => if k' = k then (if 0 ≤ a.toInt ∧ a.toInt + (n : Int) ≤ (l.length : Int) then 0 else -13) else -12
def St.setSh (S : St) (s : Nat) (o : Option (Nat × List Int64)) : St := (St.of (S.now) (S.past) (S.kept) (S.tape) (fun x => if x = s then o else S.sh x))
def sSheet (S : St) (a b n : Int32) : St × Int32 := match rg a 0 4 with
  | none => (S, -1)
  | some s => match rg b 0 4 with
    | none => (S, -1)
    | some k => if (24 : Int) < n.toInt then (S, -1) else if n.toInt < 0 then (S, -14) else (S.setSh s (some (k, lF n.toInt.toNat (fun _ => 0))), n)
def sDrop (S : St) (a : Int32) : St × Int32 := match rg a 0 4 with
  | none => (S, -1)
  | some s => match S.sh s with
    | none => (S, -11)
    | some (_, l) => (S.setSh s none, nI l.length)
def shL (S : St) (s : Nat) : List Int64 := match S.sh s with
  | none => []
  | some (_, l) => l
def sItem (S : St) (a b i : Int32) (v : Int64) : St × Int32 := match rg a 0 4 with
  | none => (S, -1)
  | some s => match rg b 0 4 with
    | none => (S, -1)
    | some k => if whyS (S.sh s) k i 1 = 0 then (S.setSh s (some (k, lF (shL S s).length (fun x => if x = i.toInt.toNat then cutL k v else (shL S s).getD x 0))), 1) else (S, whyS (S.sh s) k i 1)
def sCopy (S : St) (a i b j n : Int32) : St × Int32 := match rg a 0 4 with
  | none => (S, -1)
  | some s => match rg b 0 4 with
    | none => (S, -1)
    | some d => match S.sh s with
      | none => (S, -11)
      | some (k, l) => match S.sh d with
        | none => (S, -11)
        | some (k', l') => if k = k' then (if 0 ≤ n.toInt ∧ 0 ≤ i.toInt ∧ 0 ≤ j.toInt ∧ i.toInt + n.toInt ≤ (l.length : Int) ∧ j.toInt + n.toInt ≤ (l'.length : Int) then (S.setSh d (some (k', lF l'.length (fun x => if j.toInt.toNat ≤ x ∧ x < j.toInt.toNat + n.toInt.toNat then l.getD (i.toInt.toNat + (x - j.toInt.toNat)) 0 else l'.getD x 0))), n) else (S, -13)) else (S, -12)
def Lt.kd (L : Lt) (v : Nat) : Lt := (Lt.of (L.n) (v) (L.slack) (L.draw) (L.m) (L.w) (L.c))
def mnB (L : Lt) (l : List Int64) (i n : Nat) : Bool := decide (L.bn.length = n) && allB (fun k => decide ((nI (nsF L.bn k)).toInt64 = l.getD (i + k) 0)) n
def mnS (L : Lt) (l : List Int64) (i n : Nat) : Nat → Int32
  | 0 => 0
  | v + 1 => mnS L l i n v ||| (if mnB (L.kd v) l i n = true then gShl 1 (nI v) else 0)
def sMeant (S : St) (a b i n : Int32) : Int32 := match rg a 0 4 with
  | none => -1
  | some s => match rg b 0 4 with
    | none => -1
    | some k => match rg n 1 7 with
      | none => -1
      | some n => if whyS (S.sh s) k i n = 0 then mnS S.now (shL S s) i.toInt.toNat n 5 else whyS (S.sh s) k i n
def sFilm (S : St) (a b i : Int32) : St × Int32 := match rg a 0 4 with
  | none => (S, -1)
  | some s => match rg b 0 4 with
    | none => (S, -1)
    | some k => match S.now.B with
      | none => (S, -4)
      | some _ => if whyS (S.sh s) k i S.now.bn.length = 0 then (S.setSh s (some (k, lF (shL S s).length (fun x => if i.toInt.toNat ≤ x ∧ x < i.toInt.toNat + S.now.bn.length then cutL k ((nI (nsF S.now.bn (x - i.toInt.toNat))).toInt64) else (shL S s).getD x 0))), nI S.now.bn.length) else (S, whyS (S.sh s) k i S.now.bn.length)
theorem whyS_0 {o : Option (Nat × List Int64)} {k : Nat} {a : Int32} {n : Nat} (h : whyS o k a n = 0) : ∃ l, o = some (k, l) ∧ 0 ≤ a.toInt ∧ a.toInt + (n : Int) ≤ (l.length : Int) := by
  unfold whyS at h
  cases o with
  | none => have h' : (-11 : Int32) = 0 := h; exact absurd h' (by decide)
  | some q =>
    obtain ⟨k', l⟩ := q
    simp only at h
    by_cases e : k' = k
    · rw [if_pos e] at h
      by_cases e2 : 0 ≤ a.toInt ∧ a.toInt + (n : Int) ≤ (l.length : Int)
      · subst e; exact ⟨l, rfl, e2⟩
      · rw [if_neg e2] at h; exact absurd h (by decide)
    · rw [if_neg e] at h; exact absurd h (by decide)
theorem whyS_n {o : Option (Nat × List Int64)} {k : Nat} {a : Int32} {n : Nat} : 0 ≤ whyS o k a n ↔ whyS o k a n = 0 := by
  unfold whyS
  cases o with
  | none => show (0 : Int32) ≤ -11 ↔ (-11 : Int32) = 0; decide
  | some q =>
    obtain ⟨k', l⟩ := q
    simp only
    split
    · split <;> decide
    · decide
/-- how the Model holds a sheet -/
def mShP (G : gP) (s : Nat) (o : Option (Nat × List Int64)) : Prop := match o with
  | none => gS G 17 s = -1
  | some (k, l) => gS G 17 s = nI k ∧ gS G 18 s = nI l.length ∧ ∀ i v, l[i]? = some v → gL G 19 (24 * s + i) = v
theorem mSt.shP {S : St} {G : gP} (h : mSt S G) {s : Nat} (hs : s < 4) : mShP G s (S.sh s) := by
  have := h.sh s hs
  unfold mShP
  cases hS : S.sh s with
  | none => rw [hS] at this; exact this
  | some q => rw [hS] at this; exact this
def shZ (s k j : Nat) : Bool := decide ((k = 17 ∧ j = s) ∨ (k = 18 ∧ j = s) ∨ (k = 19 ∧ 24 * s ≤ j ∧ j < 24 * s + 24) ∨ k = 20)
theorem mSt.setSh {S : St} {G G' : gP} {s : Nat} {o : Option (Nat × List Int64)} (hW : S.Wf) (h : mSt S G) (hO : gOff (shZ s) G G') (hs : mShP G' s o) : mSt (S.setSh s o) G' := by
  refine ⟨h.now.off hO (fun _ => by simp [shZ]), by rw [(hO 0 29 (by simp [shZ])).1]; exact h.un, fun i L hi => (h.past i L hi).off hO (fun _ => by simp [shZ]), ?_, by rw [(hO 0 23 (by simp [shZ])).1]; exact h.tp, fun j v hj => by rw [(hO 11 _ (by simp [shZ])).1]; exact h.tape j v hj, ?_⟩
  · have hk := h.kept
    show match S.kept with | none => _ | some (L, p) => _
    cases hS : S.kept with
    | none => rw [hS] at hk; simp only at hk ⊢; rw [(hO 0 32 (by simp [shZ])).1]; exact hk
    | some q =>
      obtain ⟨L, p⟩ := q
      rw [hS] at hk
      exact ⟨hk.1.off hO (fun _ => by simp [shZ]), by rw [(hO 0 32 (by simp [shZ])).1]; exact hk.2.1, fun i L hi => (hk.2.2 i L hi).off hO (fun _ => by simp [shZ])⟩
  · intro x hx
    show match (if x = s then o else S.sh x) with | none => _ | some (k, l) => _
    by_cases e : x = s
    · subst e
      rw [if_pos rfl]
      unfold mShP at hs
      cases o with
      | none => exact hs
      | some q => exact hs
    · rw [if_neg e]
      have := h.sh x hx
      cases hS : S.sh x with
      | none => rw [hS] at this; simp only at this ⊢; rw [(hO 17 x (by simp [shZ]; omega)).1]; exact this
      | some q =>
        obtain ⟨k, l⟩ := q
        rw [hS] at this
        have hl := (hW.sh x k l hS).2
        refine ⟨by rw [(hO 17 x (by simp [shZ]; omega)).1]; exact this.1, by rw [(hO 18 x (by simp [shZ]; omega)).1]; exact this.2.1, fun i v hi => ?_⟩
        have hil : i < l.length := (List.getElem?_eq_some_iff.mp hi).1
        rw [(hO 19 _ (by simp [shZ]; omega)).2.1]; exact this.2.2 i v hi
theorem gL_at {G : gP} {k j : Nat} {v : Int64} : gL (gL1 G k j v) k j = v := by rw [gL_L1, if_pos ⟨rfl, rfl⟩]
theorem gL_ne {G : gP} {k j a i : Nat} {v : Int64} (h : ¬ (a = k ∧ i = j)) : gL (gL1 G k j v) a i = gL G a i := by rw [gL_L1, if_neg h]
theorem isSheet_rg (a : Int32) : f_X11_isSheet a = if (rg a 0 4).isSome then 1 else 0 := in_rg a rfl rfl
theorem why_ok {S : St} {G : gP} (hW : S.Wf) (h : mSt S G) {s k : Nat} (hs : s < 4) (hk : k < 4) (a : Int32) {n : Nat} (hn : n < 2 ^ 30) : f_X11_why G (nI s) (nI k) a (nI n) = some (whyS (S.sh s) k a n) := by
  have hp := h.shP hs
  unfold f_X11_why whyS
  rw [gIn_t (by omega) hs, gck_t, nI_clamp (by omega)]
  cases hS : S.sh s with
  | none =>
    rw [hS] at hp
    have hp' : gS G 17 s = -1 := hp
    rw [hp', if_neg (by decide)]
  | some q =>
    obtain ⟨k', l⟩ := q
    rw [hS] at hp
    obtain ⟨p1, p2, p3⟩ := hp
    have hw := hW.sh s k' l hS
    rw [p1, p2, if_pos (nI_pos' (by omega)), gck_t, gck_t]
    simp only
    by_cases e : k' = k
    · rw [if_pos (nI_inj e), if_pos e]
      by_cases ha : a < 0
      · have : a.toInt < 0 := Int32.lt_iff_toInt_lt.mp ha
        rw [if_pos ha, if_neg (by omega)]
      · rw [if_neg ha]
        obtain ⟨j, hj, rfl⟩ := nI_of ha
        rw [nI_toInt hj]
        have hsub : (nI l.length - nI j).toInt = (l.length : Int) - (j : Int) := by
          rw [Int32.toInt_sub, nI_toInt (by omega), nI_toInt hj]
          exact Int.bmod_eq_of_le (by omega) (by omega)
        have hc : nI n ≤ nI l.length - nI j ↔ (j : Int) + (n : Int) ≤ (l.length : Int) := by
          rw [Int32.le_iff_toInt_le, nI_toInt (by omega), hsub]; omega
        by_cases h2 : (j : Int) + (n : Int) ≤ (l.length : Int)
        · rw [if_pos (hc.mpr h2), if_pos ⟨by omega, h2⟩]
        · rw [if_neg (fun z => h2 (hc.mp z)), if_neg (fun z => h2 z.2)]
    · rw [if_neg (fun z => e ((nI_eq (by omega) (by omega)).mp z)), if_neg e]
theorem drop_ok {S : St} {G : gP} (hW : S.Wf) (h : mSt S G) (a : Int32) : Ok (f_X11_drop G a) (mA (sDrop S a)) := by
  unfold f_X11_drop sDrop
  rw [isSheet_rg]
  cases ha : rg a 0 4 with
  | none => exact ⟨_, rfl, h, rfl⟩
  | some s =>
    obtain ⟨-, hs, rfl⟩ := rg_some ha
    simp only [Option.isSome_some, if_true]
    have hp := h.shP hs
    rw [if_neg (by decide), gIn_t (by omega) hs, gck_t, nI_clamp (by omega)]
    cases hS : S.sh s with
    | none =>
      rw [hS] at hp
      have hp' : gS G 17 s = -1 := hp
      rw [hp', if_neg (by decide)]
      exact ⟨_, rfl, h, rfl⟩
    | some q =>
      obtain ⟨k, l⟩ := q
      rw [hS] at hp
      obtain ⟨p1, p2, p3⟩ := hp
      have hw := hW.sh s k l hS
      rw [p1, if_pos (nI_pos' (by omega)), gck_t]
      simp only [gLet_e, gck_t]
      refine ⟨_, rfl, h.setSh hW (gOff.rf.S1 (by simp [shZ])) gS_at, ?_⟩
      simp only
      rw [gS_ne (by omega)]; exact p2
theorem sheet_ok {S : St} {G : gP} (hW : S.Wf) (h : mSt S G) (a b n : Int32) : Ok (f_X11_sheet G a b n) (mA (sSheet S a b n)) := by
  unfold f_X11_sheet sSheet
  rw [isSheet_rg, in_rg b (lo := 0) (hi := 4) rfl rfl]
  cases ha : rg a 0 4 with
  | none => exact ⟨_, rfl, h, rfl⟩
  | some s =>
    obtain ⟨-, hs, rfl⟩ := rg_some ha
    simp only [Option.isSome_some, if_true]
    rw [if_neg (by decide)]
    cases hb : rg b 0 4 with
    | none => exact ⟨_, rfl, h, rfl⟩
    | some k =>
      obtain ⟨-, hk, rfl⟩ := rg_some hb
      simp only [Option.isSome_some, if_true]
      rw [if_neg (by decide)]
      have e24 : ((24 : Int32)).toInt = 24 := by decide
      have e0 : ((0 : Int32)).toInt = 0 := by decide
      by_cases h24 : (24 : Int) < n.toInt
      · rw [if_neg (fun z => by have := Int32.le_iff_toInt_le.mp z; omega), if_pos h24]; exact ⟨_, rfl, h, rfl⟩
      · rw [if_pos (Int32.le_iff_toInt_le.mpr (by omega)), if_neg h24]
        by_cases hn : n.toInt < 0
        · rw [if_neg (fun z => by have := Int32.le_iff_toInt_le.mp z; omega), if_pos hn]; exact ⟨_, rfl, h, rfl⟩
        · rw [if_pos (Int32.le_iff_toInt_le.mpr (by omega)), if_neg hn, gIn_t (by omega) hs, gck_t, nI_clamp (by omega)]
          simp only [gLet_e, gck_t]
          have hnn : n = nI n.toInt.toNat := nJ_of (by omega)
          have hO0 : gOff (shZ s) G (gS1 (gS1 G 17 s (nI k)) 18 s n) := (gOff.rf.S1 (by simp [shZ])).S1 (by simp [shZ])
          have g17 : gS (gS1 (gS1 G 17 s (nI k)) 18 s n) 17 s = nI k := by rw [gS_ne (by omega), gS_at]
          have g18 : gS (gS1 (gS1 G 17 s (nI k)) 18 s n) 18 s = n := gS_at
          generalize gS1 (gS1 G 17 s (nI k)) 18 s n = G1 at *
          refine Ok.bind (Q := fun G2 => gOff (fun k j => decide (k = 19 ∧ 24 * s ≤ j ∧ j < 24 * s + 24)) G1 G2 ∧ ∀ j, j < 24 → gL G2 19 (24 * s + j) = 0) ?_ (fun G2 h2 => ?_)
          · refine Ok.up (fun i z => z.2 = nI i ∧ gOff (fun k j => decide (k = 19 ∧ 24 * s ≤ j ∧ j < 24 * s + 24)) G1 z.1 ∧ ∀ j, j < i → gL z.1 19 (24 * s + j) = 0) 24 (by decide) ?_ ?_ ⟨rfl, gOff.rf, fun j hj => by omega⟩
            · rintro i ⟨G2, x⟩ hi ⟨hx, hO, hz⟩
              simp only at hx hO hz
              subst hx
              unfold f_X11_sheet_b51
              simp only
              have e1 : (24 : Int32) * nI s + nI i = nI (24 * s + i) := by rw [show (24 : Int32) = nI 24 from rfl, pk_mul, nI_add]
              rw [if_neg (show ¬ (24 : Int32) ≤ nI i from nI_ge (b := 24) hi (by decide)), e1, gIn_t (by omega) (by omega), gck_t, nI_clamp (by omega)]
              refine ⟨_, rfl, nI_1 i, hO.L1 (by simp; omega), fun j hj => ?_⟩
              simp only
              by_cases e : j = i
              · subst e; rw [gL_at]
              · rw [gL_ne (by omega)]; exact hz j (by omega)
            · rintro ⟨G2, x⟩ ⟨hx, hO, hz⟩
              simp only at hx hO hz
              subst hx
              unfold f_X11_sheet_b51
              simp only
              rw [if_pos (show (24 : Int32) ≤ nI 24 by decide)]
              exact ⟨_, rfl, hO, hz⟩
          · refine ⟨_, rfl, h.setSh hW (hO0.tr (h2.1.w (fun k j z => by simp [shZ] at z ⊢; omega))) ⟨?_, ?_, fun i v hi => ?_⟩, rfl⟩
            · rw [(h2.1 17 s (by simp)).1]; exact g17
            · rw [(h2.1 18 s (by simp)).1, g18, lF_len]; exact hnn
            · obtain ⟨hi1, rfl⟩ := lF_get hi
              exact h2.2 i (by omega)
theorem cut_I {k : Nat} (hk : k < 4) (v : Int64) : f_X11_cut v (nI k) = cutL k v := by
  unfold f_X11_cut cutL
  have hc : k = 0 ∨ k = 1 ∨ k = 2 ∨ k = 3 := by omega
  rcases hc with rfl | rfl | rfl | rfl
  · rw [if_pos (show nI 0 = 0 from rfl), if_pos rfl]
  · rw [if_neg (by decide), if_pos (show nI 1 = 1 from rfl), if_neg (by decide), if_pos rfl]
  · rw [if_neg (by decide), if_neg (by decide), if_pos (show nI 2 = 2 from rfl), if_neg (by decide), if_neg (by decide), if_pos rfl]
  · rw [if_neg (by decide), if_neg (by decide), if_neg (by decide), if_neg (by decide), if_neg (by decide), if_neg (by decide)]
theorem item_ok {S : St} {G : gP} (hW : S.Wf) (h : mSt S G) (a b i : Int32) (v : Int64) : Ok (f_X11_item G a b i v) (mA (sItem S a b i v)) := by
  unfold f_X11_item sItem
  rw [isSheet_rg, in_rg b (lo := 0) (hi := 4) rfl rfl]
  cases ha : rg a 0 4 with
  | none => exact ⟨_, rfl, h, rfl⟩
  | some s =>
    obtain ⟨-, hs, rfl⟩ := rg_some ha
    simp only [Option.isSome_some, if_true]
    rw [if_neg (by decide)]
    cases hb : rg b 0 4 with
    | none => exact ⟨_, rfl, h, rfl⟩
    | some k =>
      obtain ⟨-, hk, rfl⟩ := rg_some hb
      simp only [Option.isSome_some, if_true]
      have hwy := why_ok hW h hs hk i (n := 1) (by decide)
      rw [if_neg (by decide), show (1 : Int32) = nI 1 from rfl, hwy, obind_some]
      by_cases h0 : whyS (S.sh s) k i 1 = 0
      · rw [if_pos (whyS_n.mpr h0), if_pos h0]
        obtain ⟨l, hS, h1, h2⟩ := whyS_0 h0
        have hw := hW.sh s k l hS
        have hp := h.shP hs
        rw [hS] at hp
        obtain ⟨p1, p2, p3⟩ := hp
        have hi : i = nI i.toInt.toNat := nJ_of (by omega)
        have hsl : shL S s = l := by unfold shL; rw [hS]
        have hil : i.toInt.toNat < l.length := by omega
        generalize i.toInt.toNat = ii at *
        subst hi
        have e1 : (24 : Int32) * nI s + nI ii = nI (24 * s + ii) := by rw [show (24 : Int32) = nI 24 from rfl, pk_mul, nI_add]
        rw [e1, gIn_t (by omega) (by omega), gck_t, nI_clamp (by omega), cut_I hk, hsl]
        refine ⟨_, rfl, h.setSh hW (gOff.rf.L1 (by simp [shZ]; omega)) ⟨p1, by rw [lF_len]; exact p2, fun j w hj => ?_⟩, rfl⟩
        obtain ⟨hj1, rfl⟩ := lF_get hj
        by_cases e : j = ii
        · rw [if_pos e, e, gL_at]
        · rw [if_neg e, gL_ne (by omega)]; exact p3 j _ (getD_mem 0 hj1)
      · rw [if_neg (fun z => h0 (whyS_n.mp z)), if_neg h0]; exact ⟨_, rfl, h, rfl⟩
