/-! words: the ear's automaton and the grammar are the same -/
def wo (w : Nat) : Nat := if w < 20 then w else if w < 28 then 10 * w - 180 else 0
abbrev Er : Type := Nat × Nat × Nat × Bool × List Nat
def eEnd (e : Er) : Bool := e.1 != 0 && e.1 != 5
def eU (w : Nat) : Bool := decide (1 ≤ w) && decide (w ≤ 9)
def eStep (e : Er) (w : Nat) : Option Er :=
  if w = 0 then some e
  else if w = 28 then (if e.1 = 1 then some ⟨4, e.2.1 * 100, e.2.2.1, e.2.2.2.1, e.2.2.2.2⟩ else none)
  else if w = 29 then (if eEnd e && !e.2.2.2.1 then some ⟨6, 0, e.2.1 * 1000, true, e.2.2.2.2⟩ else none)
  else if w = 30 then (if e.1 = 4 ∨ e.1 = 6 then some ⟨5, e.2.1, e.2.2.1, e.2.2.2.1, e.2.2.2.2⟩ else none)
  else if w = 31 then (if eEnd e then some ⟨0, 0, 0, false, e.2.2.2.2 ++ [e.2.2.1 + e.2.1]⟩ else none)
  else (if e.1 = 0 ∨ e.1 = 6 ∨ e.1 = 4 ∨ e.1 = 5 ∨ (e.1 = 2 ∧ eU w = true) then some ⟨if (e.1 = 0 ∨ e.1 = 6) ∧ eU w = true then 1 else if 20 ≤ w then 2 else 3, e.2.1 + wo w, e.2.2.1, e.2.2.2.1, e.2.2.2.2⟩ else none)
def eFin (e : Er) : Option (List Nat) := if eEnd e then some (e.2.2.2.2 ++ [e.2.2.1 + e.2.1]) else none
def eRun : Er → List Nat → Option (List Nat)
  | e, [] => eFin e
  | e, w :: t => (eStep e w).bind fun e' => eRun e' t
def e0 : Er := ⟨0, 0, 0, false, []⟩
/-- the grammar -/
def mTens (v : Nat) (ws : List Nat) : Nat × List Nat := match ws with
  | [] => (v, [])
  | u :: t => if eU u then (v + u, t) else (v, u :: t)
def mLow (ws : List Nat) : Nat × List Nat := match ws with
  | [] => (0, [])
  | w :: t => if w = 0 ∨ 28 ≤ w then (0, w :: t) else if w < 20 then (w, t) else mTens (wo w) t
def mMore (ws : List Nat) : Option (Nat × List Nat) := match ws with
  | [] => some (0, [])
  | w :: t => if w = 30 then (if (mLow t).1 = 0 then none else some (mLow t)) else some (mLow (w :: t))
def mSmall (ws : List Nat) : Option (Nat × List Nat) := match ws with
  | [] => some (0, [])
  | [w] => some (mLow [w])
  | w :: u :: t => if eU w ∧ u = 28 then (mMore t).map (fun q => (100 * w + q.1, q.2)) else some (mLow (w :: u :: t))
def mRest (ws : List Nat) : Option (Nat × List Nat) := match ws with
  | [] => mSmall []
  | w :: t => if w = 30 then mMore (w :: t) else mSmall (w :: t)
def mNumber (ws : List Nat) : Option (Nat × List Nat) := (mSmall ws).bind fun q =>
  if q.1 = 0 then some (0, q.2) else match q.2 with
  | [] => some q
  | w :: t => if w = 29 then (mRest t).map (fun z => (1000 * q.1 + z.1, z.2)) else some q
def mSaid : Nat → List Nat → List Nat → Option (List Nat)
  | 0, _, _ => none
  | n + 1, ns, ws => (mNumber ws).bind fun q => if q.1 = 0 then none else match q.2 with
    | [] => some (ns ++ [q.1])
    | w :: t => if w = 31 then mSaid n (ns ++ [q.1]) t else none
theorem mTens_c (v u : Nat) (t : List Nat) : mTens v (u :: t) = if eU u then (v + u, t) else (v, u :: t) := rfl
theorem mLow_a (w : Nat) (t : List Nat) (h0 : 0 < w) (h : w < 20) : mLow (w :: t) = (w, t) := by
  show (if w = 0 ∨ 28 ≤ w then (0, w :: t) else if w < 20 then (w, t) else mTens (wo w) t) = _
  rw [if_neg (by omega), if_pos h]
theorem mLow_b (w : Nat) (t : List Nat) (h0 : ¬ w < 20) (h : w < 28) : mLow (w :: t) = mTens (wo w) t := by
  show (if w = 0 ∨ 28 ≤ w then (0, w :: t) else if w < 20 then (w, t) else mTens (wo w) t) = _
  rw [if_neg (by omega), if_neg h0]
theorem mLow_c (w : Nat) (t : List Nat) (h : 28 ≤ w) : mLow (w :: t) = (0, w :: t) := by
  show (if w = 0 ∨ 28 ≤ w then (0, w :: t) else if w < 20 then (w, t) else mTens (wo w) t) = _
  rw [if_pos (by omega)]
theorem mSmall_1 (w : Nat) : mSmall [w] = some (mLow [w]) := rfl
theorem mSmall_2 (w u : Nat) (t : List Nat) : mSmall (w :: u :: t) = if eU w ∧ u = 28 then (mMore t).map (fun q => (100 * w + q.1, q.2)) else some (mLow (w :: u :: t)) := rfl
/-- behind a small number that is over -/
def eF (v g : Nat) (th : Bool) (ns : List Nat) (ws : List Nat) : Option (List Nat) := match ws with
  | [] => some (ns ++ [g + v])
  | w :: t => if w = 31 then eRun ⟨0, 0, 0, false, ns ++ [g + v]⟩ t else if w = 29 then (if th then none else eRun ⟨6, 0, v * 1000, true, ns⟩ t) else none
def wOk (ws : List Nat) : Prop := ∀ w ∈ ws, 0 < w ∧ w < 32
theorem wOk.tl {w : Nat} {t : List Nat} (h : wOk (w :: t)) : wOk t := fun x hx => h x (List.mem_cons_of_mem _ hx)
theorem eU_iff (w : Nat) : eU w = true ↔ 1 ≤ w ∧ w ≤ 9 := by simp [eU]
theorem run3 (v g : Nat) (th : Bool) (ns ws : List Nat) (h : wOk ws) : eRun ⟨3, v, g, th, ns⟩ ws = eF v g th ns ws := by
  cases ws with
  | nil => rfl
  | cons w t =>
    have hw := h w (by simp)
    unfold eRun eF eStep eEnd
    by_cases h1 : w = 31
    · subst h1; rfl
    · by_cases h2 : w = 29
      · subst h2; cases th <;> rfl
      · have h0 : w ≠ 0 := by omega
        by_cases h3 : w = 28
        · subst h3; rfl
        · by_cases h4 : w = 30
          · subst h4; rfl
          · simp [h0, h1, h2, h3, h4]
theorem run2 (v g : Nat) (th : Bool) (ns ws : List Nat) (h : wOk ws) : eRun ⟨2, v, g, th, ns⟩ ws = eF (mTens v ws).1 g th ns (mTens v ws).2 := by
  cases ws with
  | nil => rfl
  | cons w t =>
    have hw := h w (by simp)
    have h0 : w ≠ 0 := by omega
    by_cases hu : eU w = true
    · have := (eU_iff w).mp hu
      have e1 : wo w = w := by unfold wo; rw [if_pos (by omega)]
      unfold mTens
      simp only [hu, if_true]
      rw [← run3 _ _ _ _ _ h.tl]
      rw [eRun, eStep]
      rw [if_neg (by omega), if_neg (by omega), if_neg (by omega), if_neg (by omega), if_neg (by omega)]
      rw [if_pos (by simp [hu]), if_neg (by simp), if_neg (by omega), e1]
      rfl
    · rw [mTens_c, if_neg hu]
      unfold eRun eF eStep eEnd
      by_cases h1 : w = 31
      · subst h1; rfl
      · by_cases h2 : w = 29
        · subst h2; cases th <;> rfl
        · by_cases h3 : w = 28
          · subst h3; rfl
          · by_cases h4 : w = 30
            · subst h4; rfl
            · simp [h0, h1, h2, h3, h4, hu]
theorem run1 (v g : Nat) (th : Bool) (ns ws : List Nat) (h : wOk ws) : eRun ⟨1, v, g, th, ns⟩ ws = (if ws.head? = some 28 then eRun ⟨4, v * 100, g, th, ns⟩ ws.tail else eF v g th ns ws) := by
  cases ws with
  | nil => rfl
  | cons w t =>
    have hw := h w (by simp)
    have h0 : w ≠ 0 := by omega
    by_cases h3 : w = 28
    · subst h3; rfl
    · rw [if_neg (by simp [h3])]
      unfold eRun eF eStep eEnd
      by_cases h1 : w = 31
      · subst h1; rfl
      · by_cases h2 : w = 29
        · subst h2; cases th <;> rfl
        · by_cases h4 : w = 30
          · subst h4; rfl
          · simp [h0, h1, h2, h3, h4]
/-- a low word behind hundreds or an and -/
theorem stepL (e : Er) (w : Nat) (t : List Nat) (h : wOk (w :: t)) (hw : w < 28) (hp : e.1 = 4 ∨ e.1 = 5) : eRun e (w :: t) = eF (e.2.1 + (mLow (w :: t)).1) e.2.2.1 e.2.2.2.1 e.2.2.2.2 (mLow (w :: t)).2 := by
  have hw0 := h w (by simp)
  rw [eRun, eStep]
  rw [if_neg (by omega), if_neg (by omega), if_neg (by omega), if_neg (by omega), if_neg (by omega), if_pos (by omega)]
  have e5 : ¬ ((e.1 = 0 ∨ e.1 = 6) ∧ eU w = true) := by rintro ⟨z, -⟩; omega
  rw [if_neg e5]
  simp only [Option.bind_some]
  by_cases h2 : w < 20
  · rw [if_neg (show ¬ 20 ≤ w by omega), mLow_a w t hw0.1 h2, run3 _ _ _ _ _ h.tl]
    have e1 : wo w = w := by unfold wo; rw [if_pos h2]
    rw [e1]
  · rw [if_pos (show 20 ≤ w by omega), mLow_b w t h2 hw, run2 _ _ _ _ _ h.tl]
    have e2 : ∀ x, mTens (e.2.1 + x) t = (e.2.1 + (mTens x t).1, (mTens x t).2) := fun x => by
      unfold mTens
      cases t with
      | nil => rfl
      | cons u t' => by_cases hu : eU u = true <;> simp [hu, Nat.add_assoc]
    rw [e2]
theorem run5 (v g : Nat) (th : Bool) (ns ws : List Nat) (h : wOk ws) : eRun ⟨5, v, g, th, ns⟩ ws = (if (mLow ws).1 = 0 then none else eF (v + (mLow ws).1) g th ns (mLow ws).2) := by
  cases ws with
  | nil => rfl
  | cons w t =>
    have hw := h w (by simp)
    by_cases hl : w < 28
    · rw [stepL _ w t h hl (Or.inr rfl), if_neg ?_]
      unfold mLow
      simp only
      rw [if_neg (by omega)]
      by_cases h2 : w < 20
      · rw [if_pos h2]; simp only; omega
      · rw [if_neg h2]
        have : 0 < wo w := by unfold wo; rw [if_neg h2, if_pos hl]; omega
        unfold mTens
        cases t with
        | nil => simp only; omega
        | cons u t' => by_cases hu : eU u = true <;> simp [hu] <;> omega
    · have e1 := mLow_c w t (by omega)
      rw [e1, if_pos rfl]
      have hc : w = 28 ∨ w = 29 ∨ w = 30 ∨ w = 31 := by omega
      rcases hc with rfl | rfl | rfl | rfl <;> rfl
theorem run4 (v g : Nat) (th : Bool) (ns ws : List Nat) (h : wOk ws) : eRun ⟨4, v, g, th, ns⟩ ws = (mMore ws).bind fun q => eF (v + q.1) g th ns q.2 := by
  cases ws with
  | nil => rfl
  | cons w t =>
    have hw := h w (by simp)
    unfold mMore
    simp only
    by_cases h3 : w = 30
    · subst h3
      rw [if_pos rfl]
      have e1 : eRun ⟨4, v, g, th, ns⟩ (30 :: t) = eRun ⟨5, v, g, th, ns⟩ t := rfl
      rw [e1, run5 _ _ _ _ _ h.tl]
      by_cases h0 : (mLow t).1 = 0
      · rw [if_pos h0, if_pos h0]; rfl
      · rw [if_neg h0, if_neg h0]; rfl
    · rw [if_neg h3]
      by_cases hl : w < 28
      · rw [stepL _ w t h hl (Or.inl rfl)]; rfl
      · have e1 : mLow (w :: t) = (0, w :: t) := by unfold mLow; simp only; rw [if_pos (by omega)]
        rw [e1]
        have hc : w = 28 ∨ w = 29 ∨ w = 31 := by omega
        rcases hc with rfl | rfl | rfl
        · rfl
        · cases th <;> rfl
        · rfl
/-- a small number from its first word on -/
theorem runB (e : Er) (w : Nat) (t : List Nat) (h : wOk (w :: t)) (hw : w < 28) (hs : e.2.1 = 0) (hp : e.1 = 0 ∨ e.1 = 6) : eRun e (w :: t) = (mSmall (w :: t)).bind fun q => eF q.1 e.2.2.1 e.2.2.2.1 e.2.2.2.2 q.2 := by
  have hw0 := h w (by simp)
  rw [eRun, eStep]
  rw [if_neg (by omega), if_neg (by omega), if_neg (by omega), if_neg (by omega), if_neg (by omega), if_pos (by omega), hs, Nat.zero_add]
  simp only [Option.bind_some]
  by_cases hu : eU w = true
  · have hu2 := (eU_iff w).mp hu
    have e1 : wo w = w := by unfold wo; rw [if_pos (by omega)]
    rw [if_pos ⟨hp, hu⟩, run1 _ _ _ _ _ h.tl, e1]
    have e3 : mLow (w :: t) = (w, t) := by unfold mLow; simp only; rw [if_neg (by omega), if_pos (by omega)]
    cases t with
    | nil =>
      rw [if_neg (by simp), mSmall_1, e3]; rfl
    | cons u t' =>
      rw [mSmall_2]
      simp only [List.head?_cons, List.tail_cons, Option.some.injEq]
      by_cases h8 : u = 28
      · rw [if_pos h8, if_pos ⟨hu, h8⟩, run4 _ _ _ _ _ h.tl.tl, Nat.mul_comm]
        cases mMore t' <;> rfl
      · rw [if_neg h8, if_neg (fun z => h8 z.2), e3]; rfl
  · rw [if_neg (fun z => hu z.2)]
    have e3 : mSmall (w :: t) = some (mLow (w :: t)) := by
      cases t with
      | nil => rfl
      | cons u t' => unfold mSmall; simp only; rw [if_neg (fun z => hu z.1)]
    rw [e3]
    simp only [Option.bind_some]
    have hn : ¬ (1 ≤ w ∧ w ≤ 9) := fun z => hu ((eU_iff w).mpr z)
    by_cases h2 : w < 20
    · have e1 : wo w = w := by unfold wo; rw [if_pos h2]
      rw [if_neg (show ¬ 20 ≤ w by omega), mLow_a w t hw0.1 h2, run3 _ _ _ _ _ h.tl, e1]
    · rw [if_pos (show 20 ≤ w by omega), mLow_b w t h2 hw, run2 _ _ _ _ _ h.tl]
theorem mSmall_no (w : Nat) (t : List Nat) (hw : 28 ≤ w) : mSmall (w :: t) = some (0, w :: t) := by
  have e1 := mLow_c w t hw
  cases t with
  | nil => rw [mSmall_1, e1]
  | cons u t' =>
    rw [mSmall_2]
    rw [if_neg (fun z => by have := (eU_iff w).mp z.1; omega), e1]
theorem run6 (g : Nat) (ns ws : List Nat) (h : wOk ws) : eRun ⟨6, 0, g, true, ns⟩ ws = (mRest ws).bind fun q => eF q.1 g true ns q.2 := by
  cases ws with
  | nil => rfl
  | cons w t =>
    have hw := h w (by simp)
    unfold mRest
    simp only
    by_cases h3 : w = 30
    · subst h3
      rw [if_pos rfl]
      have e1 : eRun ⟨6, 0, g, true, ns⟩ (30 :: t) = eRun ⟨5, 0, g, true, ns⟩ t := rfl
      have e2 : eRun ⟨4, 0, g, true, ns⟩ (30 :: t) = eRun ⟨5, 0, g, true, ns⟩ t := rfl
      rw [e1, ← e2, run4 _ _ _ _ _ h]
      simp only [Nat.zero_add]
    · rw [if_neg h3]
      by_cases hl : w < 28
      · rw [runB _ w t h hl rfl (Or.inr rfl)]
      · rw [mSmall_no w t (by omega)]
        have hc : w = 28 ∨ w = 29 ∨ w = 31 := by omega
        rcases hc with rfl | rfl | rfl <;> rfl
theorem run0 (ns ws : List Nat) (h : wOk ws) : eRun ⟨0, 0, 0, false, ns⟩ ws = (mSmall ws).bind fun q => if q.1 = 0 then none else eF q.1 0 false ns q.2 := by
  cases ws with
  | nil => rfl
  | cons w t =>
    have hw := h w (by simp)
    by_cases hl : w < 28
    · rw [runB _ w t h hl rfl (Or.inl rfl)]
      have hp : ∀ q, mSmall (w :: t) = some q → ¬ q.1 = 0 := by
        intro q hq
        have hL : 0 < (mLow (w :: t)).1 := by
          unfold mLow
          simp only
          rw [if_neg (by omega)]
          by_cases h2 : w < 20
          · rw [if_pos h2]; simp only; omega
          · rw [if_neg h2]
            have : 0 < wo w := by unfold wo; rw [if_neg h2, if_pos hl]; omega
            unfold mTens
            cases t with
            | nil => exact this
            | cons u t' => by_cases hu : eU u = true <;> simp [hu] <;> omega
        cases t with
        | nil => unfold mSmall at hq; cases hq; omega
        | cons u t' =>
          unfold mSmall at hq
          simp only at hq
          by_cases h8 : eU w ∧ u = 28
          · rw [if_pos h8] at hq
            cases hm : mMore t' with
            | none => rw [hm] at hq; cases hq
            | some z => rw [hm] at hq; cases hq; simp only; omega
          · rw [if_neg h8] at hq; cases hq; omega
      cases hq : mSmall (w :: t) with
      | none => rfl
      | some q => simp only [Option.bind_some]; rw [if_neg (hp q hq)]
    · rw [mSmall_no w t (by omega)]
      have hc : w = 28 ∨ w = 29 ∨ w = 30 ∨ w = 31 := by omega
      rcases hc with rfl | rfl | rfl | rfl <;> rfl
theorem mTens_s (v : Nat) (ws : List Nat) : (mTens v ws).2 <:+ ws := by
  cases ws with
  | nil => exact List.suffix_refl _
  | cons u t => rw [mTens_c]; by_cases h : eU u = true
                · rw [if_pos h]; exact List.suffix_cons u t
                · rw [if_neg h]; exact List.suffix_refl _
theorem mLow_s (ws : List Nat) : (mLow ws).2 <:+ ws := by
  cases ws with
  | nil => exact List.suffix_refl _
  | cons w t =>
    show ((if w = 0 ∨ 28 ≤ w then (0, w :: t) else if w < 20 then (w, t) else mTens (wo w) t).2) <:+ _
    by_cases h : w = 0 ∨ 28 ≤ w
    · rw [if_pos h]; exact List.suffix_refl _
    · rw [if_neg h]
      by_cases h2 : w < 20
      · rw [if_pos h2]; exact List.suffix_cons w t
      · rw [if_neg h2]; exact (mTens_s _ t).trans (List.suffix_cons w t)
theorem mMore_s {ws : List Nat} {q : Nat × List Nat} (h : mMore ws = some q) : q.2 <:+ ws := by
  cases ws with
  | nil => cases h; exact List.suffix_refl _
  | cons w t =>
    have h : (if w = 30 then (if (mLow t).1 = 0 then none else some (mLow t)) else some (mLow (w :: t))) = some q := h
    by_cases h3 : w = 30
    · rw [if_pos h3] at h
      by_cases h4 : (mLow t).1 = 0
      · rw [if_pos h4] at h; cases h
      · rw [if_neg h4] at h; cases h; exact (mLow_s t).trans (List.suffix_cons w t)
    · rw [if_neg h3] at h; cases h; exact mLow_s _
theorem mSmall_s {ws : List Nat} {q : Nat × List Nat} (h : mSmall ws = some q) : q.2 <:+ ws := by
  match ws, h with
  | [], h => cases h; exact List.suffix_refl _
  | [w], h => rw [mSmall_1] at h; cases h; exact mLow_s _
  | w :: u :: t, h =>
    rw [mSmall_2] at h
    by_cases h3 : eU w ∧ u = 28
    · rw [if_pos h3] at h
      cases hm : mMore t with
      | none => rw [hm] at h; cases h
      | some z =>
        rw [hm] at h
        cases h
        exact (mMore_s hm).trans ((List.suffix_cons u t).trans (List.suffix_cons w _))
    · rw [if_neg h3] at h; cases h; exact mLow_s _
theorem mRest_s {ws : List Nat} {q : Nat × List Nat} (h : mRest ws = some q) : q.2 <:+ ws := by
  cases ws with
  | nil => exact mSmall_s h
  | cons w t =>
    have h : (if w = 30 then mMore (w :: t) else mSmall (w :: t)) = some q := h
    by_cases h3 : w = 30
    · rw [if_pos h3] at h; exact mMore_s h
    · rw [if_neg h3] at h; exact mSmall_s h
theorem wOk.sx {a b : List Nat} (h : wOk b) (hs : a <:+ b) : wOk a := fun w hw => h w (hs.subset hw)
/-- the two are the same -/
theorem said_run : ∀ n ns ws, wOk ws → ws.length < n → mSaid n ns ws = eRun ⟨0, 0, 0, false, ns⟩ ws := by
  intro n
  induction n with
  | zero => intro ns ws h hn; omega
  | succ n ih =>
    intro ns ws h hn
    rw [run0 _ _ h, mSaid, mNumber]
    cases hq : mSmall ws with
    | none => rfl
    | some q =>
      simp only [Option.bind_some]
      have hs := mSmall_s hq
      by_cases h0 : q.1 = 0
      · rw [if_pos h0, if_pos h0]; rfl
      · rw [if_neg h0, if_neg h0]
        obtain ⟨v, r⟩ := q
        simp only at h0 hs ⊢
        cases r with
        | nil => simp only [Option.bind_some]; rw [if_neg h0]; unfold eF; rw [Nat.zero_add]
        | cons w t =>
          have hl := hs.length_le
          have hk := h.sx hs
          simp only [List.length_cons] at hl
          simp only [eF]
          by_cases h31 : w = 31
          · subst h31
            rw [if_neg (by decide)]
            simp only [Option.bind_some]
            rw [if_neg h0, if_pos trivial, if_pos trivial, ih _ _ hk.tl (by omega), Nat.zero_add]
          · by_cases h29 : w = 29
            · subst h29
              rw [if_pos (rfl : 29 = 29), if_neg h31, if_pos (rfl : 29 = 29), if_neg (by decide), run6 _ _ _ hk.tl]
              cases hz : mRest t with
              | none => rfl
              | some z =>
                have hs2 := mRest_s hz
                obtain ⟨x, r2⟩ := z
                simp only [Option.map_some, Option.bind_some]
                rw [if_neg (by omega)]
                have e1 : v * 1000 + x = 1000 * v + x := by rw [Nat.mul_comm]
                cases r2 with
                | nil => simp only [eF]; rw [e1]
                | cons w2 t2 =>
                  have hl2 := hs2.length_le
                  have hk2 := hk.tl.sx hs2
                  simp only [List.length_cons] at hl2
                  simp only [eF]
                  by_cases h312 : w2 = 31
                  · subst h312
                    rw [if_pos (rfl : 31 = 31), if_pos (rfl : 31 = 31), ih _ _ hk2.tl (by omega), e1]
                  · rw [if_neg h312, if_neg h312]
                    by_cases h292 : w2 = 29
                    · rw [if_pos h292]; rfl
                    · rw [if_neg h292]
            · rw [if_neg h29, if_neg h31, if_neg h29]
              simp only [Option.bind_some]
              rw [if_neg h0, if_neg h31]
/-! bounds -/
theorem eU_b {u : Nat} (h : eU u = true) : 1 ≤ u ∧ u ≤ 9 := (eU_iff u).mp h
theorem mTens_b (v : Nat) (ws : List Nat) : v ≤ (mTens v ws).1 ∧ (mTens v ws).1 ≤ v + 9 := by
  cases ws with
  | nil => exact ⟨Nat.le_refl _, Nat.le_add_right _ _⟩
  | cons u t =>
    rw [mTens_c]
    by_cases h : eU u = true
    · rw [if_pos h]; have := eU_b h; simp only; omega
    · rw [if_neg h]; simp only; omega
theorem mLow_bd (ws : List Nat) : (mLow ws).1 ≤ 99 := by
  cases ws with
  | nil => exact Nat.zero_le _
  | cons w t =>
    by_cases h2 : w < 20
    · by_cases h0 : 0 < w
      · rw [mLow_a w t h0 h2]; simp only; omega
      · have : w = 0 := by omega
        subst this
        exact Nat.zero_le _
    · by_cases h3 : w < 28
      · rw [mLow_b w t h2 h3]
        have := mTens_b (wo w) t
        have h5 : wo w = 10 * w - 180 := by unfold wo; rw [if_neg h2, if_pos h3]
        omega
      · rw [mLow_c w t (by omega)]; exact Nat.zero_le _
theorem mMore_bd {ws : List Nat} {q : Nat × List Nat} (h : mMore ws = some q) : q.1 ≤ 99 := by
  cases ws with
  | nil => cases h; exact Nat.zero_le _
  | cons w t =>
    have h : (if w = 30 then (if (mLow t).1 = 0 then none else some (mLow t)) else some (mLow (w :: t))) = some q := h
    by_cases h3 : w = 30
    · rw [if_pos h3] at h
      by_cases h4 : (mLow t).1 = 0
      · rw [if_pos h4] at h; cases h
      · rw [if_neg h4] at h; cases h; exact mLow_bd t
    · rw [if_neg h3] at h; cases h; exact mLow_bd _
theorem mSmall_bd {ws : List Nat} {q : Nat × List Nat} (h : mSmall ws = some q) : q.1 ≤ 999 := by
  match ws, h with
  | [], h => cases h; exact Nat.zero_le _
  | [w], h => rw [mSmall_1] at h; cases h; have := mLow_bd [w]; omega
  | w :: u :: t, h =>
    rw [mSmall_2] at h
    by_cases h3 : eU w ∧ u = 28
    · rw [if_pos h3] at h
      cases hm : mMore t with
      | none => rw [hm] at h; cases h
      | some z =>
        rw [hm] at h
        cases h
        have := mMore_bd hm
        have := eU_b h3.1
        simp only; omega
    · rw [if_neg h3] at h; cases h; have := mLow_bd (w :: u :: t); omega
theorem mRest_bd {ws : List Nat} {q : Nat × List Nat} (h : mRest ws = some q) : q.1 ≤ 999 := by
  cases ws with
  | nil => cases h; exact Nat.zero_le _
  | cons w t =>
    have h : (if w = 30 then mMore (w :: t) else mSmall (w :: t)) = some q := h
    by_cases h3 : w = 30
    · rw [if_pos h3] at h; have := mMore_bd h; omega
    · rw [if_neg h3] at h; exact mSmall_bd h
theorem mNumber_c (ws : List Nat) : mNumber ws = (mSmall ws).bind fun q => if q.1 = 0 then some (0, q.2) else match q.2 with
  | [] => some q
  | w :: t => if w = 29 then (mRest t).map (fun z => (1000 * q.1 + z.1, z.2)) else some q := rfl
theorem mLow_lt {ws : List Nat} (h : (mLow ws).1 ≠ 0) : (mLow ws).2.length < ws.length := by
  cases ws with
  | nil => exact (h rfl).elim
  | cons w t =>
    by_cases h2 : w < 20
    · by_cases h0 : 0 < w
      · rw [mLow_a w t h0 h2]; simp
      · have : w = 0 := by omega
        subst this
        exact (h rfl).elim
    · by_cases h3 : w < 28
      · rw [mLow_b w t h2 h3]
        have := (mTens_s (wo w) t).length_le
        simp only [List.length_cons]; omega
      · rw [mLow_c w t (by omega)] at h; exact (h rfl).elim
theorem mSmall_lt {ws : List Nat} {q : Nat × List Nat} (h : mSmall ws = some q) (h0 : q.1 ≠ 0) : q.2.length < ws.length := by
  match ws, h with
  | [], h => cases h; exact (h0 rfl).elim
  | [w], h => rw [mSmall_1] at h; cases h; exact mLow_lt h0
  | w :: u :: t, h =>
    rw [mSmall_2] at h
    by_cases h3 : eU w ∧ u = 28
    · rw [if_pos h3] at h
      cases hm : mMore t with
      | none => rw [hm] at h; cases h
      | some z =>
        rw [hm] at h
        cases h
        have := (mMore_s hm).length_le
        simp only [List.length_cons]; omega
    · rw [if_neg h3] at h; cases h; exact mLow_lt h0
theorem mNumber_p {ws : List Nat} {q : Nat × List Nat} (h : mNumber ws = some q) : q.1 ≤ 999999 ∧ q.2 <:+ ws ∧ (q.1 ≠ 0 → q.2.length < ws.length) := by
  rw [mNumber_c] at h
  cases hs : mSmall ws with
  | none => rw [hs] at h; cases h
  | some z =>
    rw [hs] at h
    simp only [Option.bind_some] at h
    have h1 := mSmall_bd hs
    have h2 := mSmall_s hs
    by_cases h0 : z.1 = 0
    · rw [if_pos h0] at h; cases h
      exact ⟨Nat.zero_le _, h2, fun q => (q rfl).elim⟩
    · rw [if_neg h0] at h
      have h3 := mSmall_lt hs h0
      obtain ⟨v, r⟩ := z
      cases r with
      | nil => cases h; exact ⟨Nat.le_trans h1 (by decide), h2, fun _ => h3⟩
      | cons w t =>
        simp only at h
        by_cases h29 : w = 29
        · rw [if_pos h29] at h
          cases hz : mRest t with
          | none => rw [hz] at h; cases h
          | some y =>
            rw [hz] at h
            cases h
            have h4 := mRest_bd hz
            have h5 := mRest_s hz
            refine ⟨by simp only at h1 ⊢; omega, (h5.trans (List.suffix_cons w t)).trans h2, fun _ => ?_⟩
            have := h5.length_le
            simp only [List.length_cons] at h3 ⊢
            omega
        · rw [if_neg h29] at h; cases h; exact ⟨Nat.le_trans h1 (by decide), h2, fun _ => h3⟩
/-- noise doesn't matter -/
theorem eRun_noise : ∀ (ws : List Nat) (e : Er), eRun e ws = eRun e (ws.filter (fun w => decide (w ≠ 0))) := by
  intro ws
  induction ws with
  | nil => intro e; rfl
  | cons w t ih =>
    intro e
    by_cases h : w = 0
    · subst h
      have e1 : eRun e (0 :: t) = eRun e t := rfl
      rw [e1, ih]
      rfl
    · rw [List.filter_cons_of_pos (by simp [h])]
      unfold eRun
      cases eStep e w with
      | none => rfl
      | some e' => exact ih e'
