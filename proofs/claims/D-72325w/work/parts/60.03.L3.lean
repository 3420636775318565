/-! the Model: words -/
theorem gS1_id {G : gP} {k j : Nat} {v : Int32} (h : gS G k j = v) : gS1 G k j v = G := by
  have e : (gS1 G k j v).1 = G.1 := by
    funext a i
    have := gS_S1 G k j a i v
    unfold gS at this h
    rw [this]
    by_cases z : a = k ∧ i = j
    · rw [if_pos z, z.1, z.2, h]
    · rw [if_neg z]
  exact Prod.ext e rfl
theorem gS1_1 {G : gP} {k j : Nat} {v w : Int32} : gS1 (gS1 G k j v) k j w = gS1 G k j w := by
  refine Prod.ext ?_ rfl
  funext a i
  have h1 := gS_S1 (gS1 G k j v) k j a i w
  have h2 := gS_S1 G k j a i v
  have h3 := gS_S1 G k j a i w
  unfold gS at h1 h2 h3
  rw [h1, h2, h3]
  by_cases z : a = k ∧ i = j
  · rw [if_pos z, if_pos z]
  · rw [if_neg z, if_neg z, if_neg z]
theorem gS_at {G : gP} {k j : Nat} {v : Int32} : gS (gS1 G k j v) k j = v := by rw [gS_S1, if_pos ⟨rfl, rfl⟩]
theorem gS_ne {G : gP} {k j a i : Nat} {v : Int32} (h : ¬ (a = k ∧ i = j)) : gS (gS1 G k j v) a i = gS G a i := by rw [gS_S1, if_neg h]
theorem nI_inj {a b : Nat} (h : a = b) : nI a = nI b := by rw [h]
theorem in_nI {w : Nat} (h : w < 2 ^ 31) (a b : Int64) (lo hi : Nat) (ha : a.toInt = lo) (hb : b.toInt = hi) : f_X11_in (nI w).toInt64 a b = if lo ≤ w ∧ w ≤ hi then 1 else 0 := by
  unfold f_X11_in
  simp only [Int64.lt_iff_toInt_lt, Int32.toInt_toInt64, nI_toInt h, ha, hb]
  by_cases h1 : lo ≤ w
  · rw [if_neg (by omega)]
    by_cases h2 : w ≤ hi
    · rw [if_neg (by omega), if_pos ⟨h1, h2⟩]
    · rw [if_pos (by omega), if_neg (fun z => h2 z.2)]
  · rw [if_pos (by omega), if_neg (fun z => h1 z.1)]
theorem in_m4 (a b : Int64) (lo : Nat) (ha : a.toInt = lo) : f_X11_in ((-4 : Int32)).toInt64 a b = 0 := by
  unfold f_X11_in
  rw [if_pos ?_]
  rw [Int64.lt_iff_toInt_lt, Int32.toInt_toInt64, ha]
  have : ((-4 : Int32)).toInt = -4 := by decide
  omega
/-- the words of a reading lie there -/
def mWs (G : gP) (ws : List Nat) : Prop := gS G 0 3 = nI ws.length ∧ aL G 3 0 ws ∧ ws.length ≤ 8 ∧ wOk ws
theorem mWs.nx {G : gP} {ws : List Nat} {v : Int32} (h : mWs G ws) : mWs (gS1 G 0 7 v) ws := ⟨by rw [gS_ne (by decide)]; exact h.1, h.2.1.S1 (Or.inl (by decide)), h.2.2⟩
def mAt (G : gP) (ws rest : List Nat) : Prop := mWs G ws ∧ rest <:+ ws ∧ gS G 0 7 = nI (ws.length - rest.length)
def mN (G : gP) (ws rest : List Nat) : gP := gS1 G 0 7 (nI (ws.length - rest.length))
theorem mAt.mk' {G : gP} {ws rest r2 : List Nat} (h : mAt G ws rest) (h2 : r2 <:+ ws) : mAt (mN G ws r2) ws r2 := ⟨h.1.nx, h2, gS_at⟩
theorem mAt.id {G : gP} {ws rest : List Nat} (h : mAt G ws rest) : mN G ws rest = G := gS1_id h.2.2
theorem mN_N {G : gP} {ws r1 r2 : List Nat} : mN (mN G ws r1) ws r2 = mN G ws r2 := gS1_1
def hdI : List Nat → Int32
  | [] => -4
  | w :: _ => nI w
theorem sx_at {ws rest : List Nat} {w : Nat} {t : List Nat} (h : (w :: t) <:+ ws) : ws[ws.length - (w :: t).length]? = some w := by
  obtain ⟨p, hp⟩ := h
  subst hp
  rw [List.length_append, Nat.add_sub_cancel, List.getElem?_append_right (Nat.le_refl _), Nat.sub_self]
  rfl
theorem mAt.here {G : gP} {ws rest : List Nat} (h : mAt G ws rest) : f_X11_wordHere G = some (hdI rest) := by
  obtain ⟨⟨h1, h2, h3, h4⟩, h5, h6⟩ := h
  have hl := h5.length_le
  unfold f_X11_wordHere
  rw [h1, h6]
  cases rest with
  | nil =>
    rw [if_pos (nI_le (by simp) (by omega))]
    rfl
  | cons w t =>
    simp only [List.length_cons] at hl
    have h7 : ws.length - (w :: t).length < ws.length := by simp only [List.length_cons]; omega
    rw [if_neg (nI_ge h7 (by omega)), gIn_nI (by omega), decide_eq_true (by omega), nI_clamp (by omega)]
    show some _ = some _
    have := h2 _ _ (sx_at (rest := w :: t) h5)
    rw [Nat.zero_add] at this
    rw [this]
    rfl
theorem mAt.step {G : gP} {ws t : List Nat} {w : Nat} (h : mAt G ws (w :: t)) : gS1 G 0 7 (gS G 0 7 + 1) = mN G ws t := by
  have hl := h.2.1.length_le
  simp only [List.length_cons] at hl
  unfold mN
  rw [h.2.2, nI_1]
  congr 2
  simp only [List.length_cons]
  omega
theorem mAt.tl {G : gP} {ws t : List Nat} {w : Nat} (h : mAt G ws (w :: t)) : mAt (mN G ws t) ws t := h.mk' ((List.suffix_cons w t).trans h.2.1)
theorem mAt.w {G : gP} {ws t : List Nat} {w : Nat} (h : mAt G ws (w :: t)) : 0 < w ∧ w < 32 := h.1.2.2.2 w (h.2.1.subset (by simp))
theorem worth_nI {w : Nat} (h0 : 0 < w) (h : w < 32) : f_X11_worth (nI w) = nI (wo w) := by
  unfold f_X11_worth wo
  rw [in_nI (by omega) 1 19 1 19 rfl rfl, in_nI (by omega) 20 27 20 27 rfl rfl]
  by_cases h1 : w < 20
  · rw [if_pos (show 1 ≤ w ∧ w ≤ 19 by omega), if_neg (by decide), if_pos h1]
  · rw [if_neg (show ¬ (1 ≤ w ∧ w ≤ 19) by omega), if_pos rfl, if_neg h1]
    by_cases h2 : w < 28
    · rw [if_pos (show 20 ≤ w ∧ w ≤ 27 by omega), if_neg (by decide), if_pos h2]
      have e1 : (10 : Int32) = nI 10 := rfl
      have e2 : (180 : Int32) = nI 180 := rfl
      rw [e1, e2, pk_mul, pk_sub (by omega)]
    · rw [if_neg (show ¬ (20 ≤ w ∧ w ≤ 27) by omega), if_pos rfl, if_neg h2]
      rfl
theorem eU_in {u : Nat} (h : u < 32) : f_X11_in (nI u).toInt64 1 9 = 0 ↔ ¬ eU u = true := by
  rw [in_nI (by omega) 1 9 1 9 rfl rfl, eU_iff]
  by_cases h1 : 1 ≤ u ∧ u ≤ 9
  · rw [if_pos h1]; exact ⟨fun z => absurd z (by decide), fun z => (z h1).elim⟩
  · rw [if_neg h1]; exact ⟨fun _ => h1, fun _ => rfl⟩
theorem low_ok {G : gP} {ws rest : List Nat} (h : mAt G ws rest) : f_X11_low G = some (mN G ws (mLow rest).2, nI (mLow rest).1) := by
  unfold f_X11_low
  rw [h.here]
  simp only [Option.bind_some, gLet]
  cases rest with
  | nil =>
    have e1 : f_X11_worth (hdI []) = 0 := by decide
    rw [if_pos e1]
    have e2 : mLow [] = (0, []) := rfl
    rw [e2, h.id]; rfl
  | cons w t =>
    have hw := h.w
    have e0 : hdI (w :: t) = nI w := rfl
    rw [e0, worth_nI hw.1 hw.2]
    by_cases h28 : 28 ≤ w
    · have e1 : wo w = 0 := by unfold wo; rw [if_neg (by omega), if_neg (by omega)]
      rw [e1, if_pos nI_0, mLow_c w t h28, h.id]; rfl
    · have e1 : 0 < wo w := by
        unfold wo
        by_cases z : w < 20
        · rw [if_pos z]; omega
        · rw [if_neg z, if_pos (by omega)]; omega
      have e2 : wo w ≤ 90 := by
        unfold wo
        by_cases z : w < 20
        · rw [if_pos z]; omega
        · rw [if_neg z, if_pos (by omega)]; omega
      rw [if_neg (nI_ne0 e1 (by omega)), h.step]
      have e3 : (19 : Int32) = nI 19 := rfl
      rw [e3]
      by_cases h20 : w < 20
      · rw [if_pos (nI_le (by omega) (by omega)), mLow_a w t hw.1 h20]
        have e4 : wo w = w := by unfold wo; rw [if_pos h20]
        rw [e4]
      · rw [if_neg (nI_ge (by omega) (by omega)), h.tl.here, mLow_b w t h20 (by omega)]
        simp only [Option.bind_some]
        cases t with
        | nil =>
          have e5 : f_X11_in (hdI []).toInt64 1 9 = 0 := in_m4 1 9 1 rfl
          rw [if_pos e5]; rfl
        | cons u t' =>
          have e6 : hdI (u :: t') = nI u := rfl
          have hu := h.tl.w
          rw [e6, mTens_c]
          by_cases z : eU u = true
          · rw [if_neg (fun q => (eU_in hu.2).mp q z), if_pos z, h.tl.step, mN_N, nI_add]
          · rw [if_pos ((eU_in hu.2).mpr z), if_neg z]
theorem hd_eq {ws rest : List Nat} {G : gP} (h : mAt G ws rest) (a : Nat) (ha : a < 2 ^ 31) : hdI rest = nI a ↔ rest.head? = some a := by
  cases rest with
  | nil =>
    simp only [hdI, List.head?_nil]
    constructor
    · intro z
      have := congrArg Int32.toInt z
      rw [nI_toInt ha] at this
      have e : ((-4 : Int32)).toInt = -4 := by decide
      omega
    · intro z; cases z
  | cons w t =>
    have hw := h.w
    simp only [hdI, List.head?_cons, Option.some.injEq]
    exact nI_eq (by omega) ha
def oI (o : Option (Nat × List Nat)) : Int32 := match o with
  | none => -4
  | some q => nI q.1
/-- an answer that is 'wrong' leaves the place anywhere -/
def mRes (G : gP) (ws : List Nat) (o : Option (Nat × List Nat)) (r : gP × Int32) : Prop := match o with
  | none => (∃ rest, rest <:+ ws ∧ r.1 = mN G ws rest) ∧ r.2 = -4
  | some q => r.1 = mN G ws q.2 ∧ r.2 = nI q.1
theorem more_ok {G : gP} {ws rest : List Nat} (h : mAt G ws rest) : Ok (f_X11_more G) (mRes G ws (mMore rest)) := by
  unfold f_X11_more
  rw [h.here]
  simp only [Option.bind_some, gLet]
  by_cases ha : rest.head? = some 30
  · cases rest with
    | nil => cases ha
    | cons w t =>
      cases ha
      have e1 : hdI (30 :: t) = (30 : Int32) := rfl
      rw [e1]
      simp only [if_true]
      rw [if_neg (show ¬ (1 : Int32) = 0 by decide), h.step, low_ok h.tl]
      simp only [Option.bind_some]
      have e3 : mMore (30 :: t) = if (mLow t).1 = 0 then none else some (mLow t) := rfl
      rw [e3, mN_N]
      have hb := mLow_bd t
      by_cases h0 : (mLow t).1 = 0
      · rw [if_pos h0, h0, if_pos (show nI 0 = 0 from nI_0)]
        exact ⟨_, rfl, ⟨_, ((mLow_s t).trans (List.suffix_cons 30 t)).trans h.2.1, rfl⟩, rfl⟩
      · rw [if_neg h0, if_neg (nI_ne0 (by omega) (by omega))]
        exact ⟨_, rfl, rfl, rfl⟩
  · have e1 : ¬ hdI rest = (30 : Int32) := fun z => ha ((hd_eq h 30 (by decide)).mp z)
    rw [if_neg e1]
    simp only [if_true]
    have e2 : gS1 G 0 7 (gS G 0 7 + 0) = G := gS1_id (by rw [Int32.add_zero])
    rw [e2, low_ok h]
    simp only [Option.bind_some]
    have e3 : mMore rest = some (mLow rest) := by
      cases rest with
      | nil => rfl
      | cons w t =>
        show (if w = 30 then _ else _) = _
        rw [if_neg (fun z => ha (by rw [z]; rfl))]
    rw [e3]
    exact ⟨_, rfl, rfl, rfl⟩
theorem mRes.r0 {G : gP} {ws : List Nat} {o : Option (Nat × List Nat)} {r : gP × Int32} {r0 : List Nat} (h : mRes (mN G ws r0) ws o r) : mRes G ws o r := by
  cases o with
  | none =>
    obtain ⟨⟨x, h1, h2⟩, h3⟩ := h
    exact ⟨⟨x, h1, by rw [h2, mN_N]⟩, h3⟩
  | some q => exact ⟨h.1.trans mN_N, h.2⟩
theorem m4_neg : ¬ (0 : Int32) ≤ -4 := by decide
theorem small_ok {G : gP} {ws rest : List Nat} (h : mAt G ws rest) : Ok (f_X11_small G) (mRes G ws (mSmall rest)) := by
  unfold f_X11_small
  rw [h.here]
  simp only [Option.bind_some, gLet]
  have hlow : mSmall rest = some (mLow rest) → Ok ((f_X11_low G).bind fun q17 => some (q17.1, q17.2)) (mRes G ws (mSmall rest)) := by
    intro e
    rw [e, low_ok h]
    exact ⟨_, rfl, rfl, rfl⟩
  cases rest with
  | nil =>
    have e5 : f_X11_in (hdI []).toInt64 1 9 = 0 := in_m4 1 9 1 rfl
    rw [if_pos e5]
    exact hlow rfl
  | cons w t =>
    have hw := h.w
    have e6 : hdI (w :: t) = nI w := rfl
    rw [e6]
    by_cases hu : eU w = true
    · rw [if_neg (fun q => (eU_in hw.2).mp q hu)]
      have hl := h.2.1.length_le
      simp only [List.length_cons] at hl
      have h8 := h.1.2.2.1
      have e7 : gS G 0 7 + 1 = nI (ws.length - t.length) := by
        rw [h.2.2, nI_1]
        apply nI_inj
        simp only [List.length_cons]; omega
      rw [h.1.1, e7]
      cases t with
      | nil =>
        rw [if_pos (nI_le (by simp) (by omega))]
        exact hlow rfl
      | cons u t' =>
        have hl2 := hl
        simp only [List.length_cons] at hl2
        rw [if_neg (nI_ge (by simp only [List.length_cons]; omega) (by omega)), gIn_nI (by omega), decide_eq_true (by simp only [List.length_cons]; omega), nI_clamp (by omega)]
        have e8 : gS G 3 (ws.length - (u :: t').length) = nI u := by
          have := h.1.2.1 _ _ (sx_at (rest := u :: t') ((List.suffix_cons w (u :: t')).trans h.2.1))
          rwa [Nat.zero_add] at this
        rw [e8]
        have hu2 := h.tl.w
        have e9 : gck true (if nI u = 28 then some (1 : Int32) else some 0) = (if nI u = 28 then some (1 : Int32) else some 0) := rfl
        rw [e9]
        by_cases h28 : u = 28
        · subst h28
          rw [if_pos (show nI 28 = 28 from rfl)]
          simp only [Option.bind_some]
          rw [if_neg (show ¬ (1 : Int32) = 0 by decide)]
          have e10 : gS1 G 0 7 (gS G 0 7 + 2) = mN G ws t' := by
            unfold mN
            rw [h.2.2, nI_lit 2, nI_add]
            congr 2
            simp only [List.length_cons]; omega
          rw [e10]
          have ha : mAt (mN G ws t') ws t' := h.mk' ((List.suffix_cons 28 t').trans ((List.suffix_cons w _).trans h.2.1))
          refine Ok.bind (more_ok ha) (fun q hq => ?_)
          have hq := hq.r0
          have e11 : mSmall (w :: 28 :: t') = (mMore t').map (fun q => (100 * w + q.1, q.2)) := by rw [mSmall_2, if_pos ⟨hu, rfl⟩]
          rw [e11]
          cases hm : mMore t' with
          | none =>
            rw [hm] at hq
            obtain ⟨hq1, hq2⟩ := hq
            rw [hq2, if_neg m4_neg]
            exact ⟨_, rfl, hq1, rfl⟩
          | some z =>
            rw [hm] at hq
            obtain ⟨hq1, hq2⟩ := hq
            have := mMore_bd hm
            rw [hq2, if_pos (nI_pos' (by omega)), nI_lit 100, pk_mul, nI_add]
            exact ⟨_, rfl, hq1, rfl⟩
        · rw [if_neg (show ¬ nI u = 28 from fun z => h28 ((nI_eq (b := 28) (by omega) (by omega)).mp z))]
          exact hlow (by rw [mSmall_2, if_neg (fun z => h28 z.2)])
    · rw [if_pos ((eU_in hw.2).mpr hu)]
      refine hlow ?_
      cases t with
      | nil => rfl
      | cons u t' => rw [mSmall_2, if_neg (fun z => hu z.1)]
theorem m4_le : (-4 : Int32) ≤ 0 := by decide
theorem number_ok {G : gP} {ws rest : List Nat} (h : mAt G ws rest) : Ok (f_X11_number G) (mRes G ws (mNumber rest)) := by
  unfold f_X11_number
  refine Ok.bind (small_ok h) (fun q hq => ?_)
  rw [mNumber_c]
  cases hs : mSmall rest with
  | none =>
    rw [hs] at hq
    obtain ⟨hq1, hq2⟩ := hq
    rw [hq2, if_pos m4_le]
    exact ⟨_, rfl, hq1, rfl⟩
  | some z =>
    rw [hs] at hq
    obtain ⟨hq1, hq2⟩ := hq
    have hb := mSmall_bd hs
    simp only [Option.bind_some]
    rw [hq1, hq2]
    have hsx := (mSmall_s hs).trans h.2.1
    have ha : mAt (mN G ws z.2) ws z.2 := h.mk' hsx
    by_cases h0 : z.1 = 0
    · rw [if_pos h0, if_pos ((nI_le0 (by omega)).mpr h0)]
      refine ⟨_, rfl, rfl, ?_⟩
      rw [h0]
    · rw [if_neg h0, if_neg (fun y => h0 ((nI_le0 (by omega)).mp y)), ha.here]
      simp only [Option.bind_some, gLet]
      obtain ⟨v, r⟩ := z
      simp only at hb h0 hsx ha ⊢
      by_cases h29 : r.head? = some 29
      · cases r with
        | nil => cases h29
        | cons w t =>
          cases h29
          rw [if_pos (show hdI (29 :: t) = 29 from rfl), ha.step, mN_N]
          have ht : mAt (mN G ws t) ws t := h.mk' ((List.suffix_cons 29 t).trans hsx)
          rw [ht.here]
          simp only [Option.bind_some]
          rw [if_pos trivial]
          have hr : Ok (if hdI t = 30 then (f_X11_more (mN G ws t)).bind fun q18 => some (q18.1, q18.2) else (f_X11_small (mN G ws t)).bind fun q16 => some (q16.1, q16.2)) (mRes G ws (mRest t)) := by
            by_cases h30 : t.head? = some 30
            · rw [if_pos (show hdI t = (30 : Int32) from (hd_eq ht 30 (by decide)).mpr h30)]
              refine Ok.bind (more_ok ht) (fun y hy => ⟨_, rfl, ?_⟩)
              cases t with
              | nil => cases h30
              | cons w t' => cases h30; exact hy.r0
            · rw [if_neg (show ¬ hdI t = (30 : Int32) from fun y => h30 ((hd_eq ht 30 (by decide)).mp y))]
              refine Ok.bind (small_ok ht) (fun y hy => ⟨_, rfl, ?_⟩)
              have e : mRest t = mSmall t := by
                cases t with
                | nil => rfl
                | cons w t' =>
                  show (if w = 30 then _ else _) = _
                  rw [if_neg (fun z => h30 (by rw [z]; rfl))]
              rw [e]
              exact hy.r0
          refine Ok.bind hr (fun y hy => ?_)
          cases hm : mRest t with
          | none =>
            rw [hm] at hy
            obtain ⟨hy1, hy2⟩ := hy
            rw [hy2, if_neg m4_neg]
            exact ⟨_, rfl, hy1, rfl⟩
          | some x =>
            rw [hm] at hy
            obtain ⟨hy1, hy2⟩ := hy
            have := mRest_bd hm
            rw [hy2, if_pos (nI_pos' (by omega)), nI_lit 1000, pk_mul, nI_add]
            exact ⟨_, rfl, hy1, rfl⟩
      · rw [if_neg (show ¬ hdI r = (29 : Int32) from fun y => h29 ((hd_eq ha 29 (by decide)).mp y))]
        refine ⟨_, rfl, ?_⟩
        cases r with
        | nil => exact ⟨rfl, rfl⟩
        | cons w t =>
          simp only
          rw [if_neg (fun z => h29 (by rw [z]; rfl))]
          exact ⟨rfl, rfl⟩
