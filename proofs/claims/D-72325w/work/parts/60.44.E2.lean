/-! a tape read: as it is meant -/
def skp (t : List Nat) (p : Nat) : Nat := p + ((t.drop p).takeWhile (fun c => decide (c = 32))).length
def ltr (t : List Nat) (p : Nat) : Nat := t.getD p 0
def tok (t : List Nat) : Prop := t.length ≤ 120 ∧ ∀ v ∈ t, 32 ≤ v ∧ v ≤ 126
theorem ltr_at {t : List Nat} {p : Nat} (h : p < t.length) : t[p]? = some (ltr t p) := by
  unfold ltr
  rw [List.getD_eq_getElem?_getD, List.getElem?_eq_getElem h]; rfl
theorem ltr_ge {t : List Nat} {p : Nat} (h : t.length ≤ p) : ltr t p = 0 := by
  unfold ltr
  rw [List.getD_eq_getElem?_getD, List.getElem?_eq_none h]; rfl
theorem tok.lb {t : List Nat} (h : tok t) {p : Nat} (hp : p < t.length) : 32 ≤ ltr t p ∧ ltr t p ≤ 126 := h.2 _ (List.mem_of_getElem? (ltr_at hp))
theorem tok.lt {t : List Nat} (h : tok t) (p : Nat) : ltr t p ≤ 126 := by
  by_cases hp : p < t.length
  · exact (h.lb hp).2
  · rw [ltr_ge (by omega)]; omega
theorem tok.in {t : List Nat} (h : tok t) {p : Nat} (hl : ltr t p ≠ 0) : p < t.length := by
  apply Classical.byContradiction
  intro z
  exact hl (ltr_ge (by omega))
theorem skp_s {t : List Nat} {p : Nat} (hp : p < t.length) (h : ltr t p = 32) : skp t p = skp t (p + 1) := by
  unfold skp
  rw [List.drop_eq_getElem_cons hp]
  have e : t[p] = 32 := by have := ltr_at hp; rw [List.getElem?_eq_getElem hp] at this; exact (Option.some.inj this).trans h
  rw [List.takeWhile_cons_of_pos (by simp [e]), List.length_cons]
  omega
theorem skp_n {t : List Nat} {p : Nat} (h : ltr t p ≠ 32) : skp t p = p := by
  unfold skp
  by_cases hp : p < t.length
  · rw [List.drop_eq_getElem_cons hp]
    have e : t[p] ≠ 32 := by have := ltr_at hp; rw [List.getElem?_eq_getElem hp] at this; rw [Option.some.inj this]; exact h
    rw [List.takeWhile_cons_of_neg (by simp [e])]; rfl
  · rw [List.drop_eq_nil_of_le (by omega)]; rfl
theorem skp_all {t : List Nat} : ∀ n p, t.length - p = n → ltr t (skp t p) ≠ 32 ∧ (p ≤ t.length → skp t p ≤ t.length) := by
  intro n
  induction n with
  | zero =>
    intro p hp
    have hl : ltr t p = 0 := ltr_ge (by omega)
    rw [skp_n (by rw [hl]; decide), hl]
    exact ⟨by decide, fun h => h⟩
  | succ n ih =>
    intro p hp
    by_cases h : ltr t p = 32
    · rw [skp_s (by omega) h]
      have := ih (p + 1) (by omega)
      exact ⟨this.1, fun _ => this.2 (by omega)⟩
    · rw [skp_n h]; exact ⟨h, fun h => h⟩
theorem skp_ne (t : List Nat) (p : Nat) : ltr t (skp t p) ≠ 32 := (skp_all _ p rfl).1
theorem skp_le {t : List Nat} {p : Nat} (h : p ≤ t.length) : skp t p ≤ t.length := (skp_all _ p rfl).2 h
theorem skp_id (t : List Nat) (p : Nat) : skp t (skp t p) = skp t p := skp_n (skp_ne t p)
def ltW (c : Nat) : Option Nat := if c = 104 then some 28 else if c = 116 then some 29 else if c = 97 then some 30 else if c = 115 then some 31 else if c = 110 then some 0 else none
def isD (c : Nat) : Bool := decide (48 ≤ c ∧ c ≤ 57)
def wBy (v : Nat) : Option Nat := if 1 ≤ v ∧ v ≤ 19 then some v else if 20 ≤ v ∧ v % 10 = 0 then some (18 + v / 10) else none
def rdW (t : List Nat) (q : Nat) : Option (Nat × Nat) :=
  if isD (ltr t q) = true then (if isD (ltr t (q + 1)) = true then (wBy (10 * (ltr t q - 48) + (ltr t (q + 1) - 48))).map (fun w => (w, q + 2)) else (wBy (ltr t q - 48)).map (fun w => (w, q + 1)))
  else (ltW (ltr t q)).map (fun w => (w, q + 1))
/-- a candidate from a place on: a fault's place, or word, cost, where it goes on -/
def cnd (t : List Nat) (p : Nat) (ws : List Nat) : Nat ⊕ (Nat × Nat × Nat) := match rdW t (skp t p) with
  | none => .inl (skp t p)
  | some (w, q1) => if w ∈ ws then .inl (skp t p) else if ltr t (skp t q1) = 58 then (if isD (ltr t (skp t (skp t q1 + 1))) = true then .inr (w, ltr t (skp t (skp t q1 + 1)) - 48, skp t (skp t q1 + 1) + 1) else .inl (skp t (skp t q1 + 1))) else .inr (w, 0, skp t q1)
def slt (t : List Nat) : Nat → Nat → List (Nat × Nat) → Nat ⊕ (List (Nat × Nat) × Nat)
  | 0, p, acc => .inr (acc, p)
  | f + 1, p, acc => match cnd t p (acc.map Prod.fst) with
    | .inl e => .inl e
    | .inr (w, c, q) => if f = 0 then .inr (acc ++ [(w, c)], q) else if ltr t (skp t q) = 44 then slt t f (skp t q + 1) (acc ++ [(w, c)]) else .inr (acc ++ [(w, c)], skp t q)
def wds (t : List Nat) : Nat → Nat → List (List (Nat × Nat)) → Nat ⊕ (List (List (Nat × Nat)) × Nat)
  | 0, p, acc => .inr (acc, p)
  | f + 1, p, acc => match slt t 4 p [] with
    | .inl e => .inl e
    | .inr (s, q) => if f = 0 then .inr (acc ++ [s], q) else if ltr t (skp t q) = 59 then wds t f (skp t q + 1) (acc ++ [s]) else .inr (acc ++ [s], skp t q)
def prs (t : List Nat) : Nat ⊕ List (List (Nat × Nat)) := if skp t 0 = t.length then .inr [] else match wds t 8 (skp t 0) [] with
  | .inl e => .inl e
  | .inr (sl, q) => if skp t q < t.length then .inl (skp t q) else .inr sl
/-- slots laid as a lattice -/
def Lt.lay (L : Lt) (sl : List (List (Nat × Nat))) : Lt := Lt.of sl.length L.kind L.slack L.draw (fun k => (sl.getD k []).length) (fun k j => ((sl.getD k []).getD j (0, 0)).1) (fun k j => ((sl.getD k []).getD j (0, 0)).2)
def sWords (S : St) : St × Int32 := match prs S.tape with
  | .inl e => ((St.of (S.now) (S.past) (S.kept) ([]) (S.sh)), -20 - nI e)
  | .inr sl => ((St.of (S.now.lay sl) ([]) (S.kept) ([]) (S.sh)), nI sl.length)
/-- a slot that is read well -/
def slOk (s : List (Nat × Nat)) : Prop := 1 ≤ s.length ∧ s.length ≤ 4 ∧ (∀ x ∈ s, x.1 < 32 ∧ x.2 < 10) ∧ (s.map Prod.fst).Nodup
theorem wBy_lt {v w : Nat} (hv : v ≤ 99) (h : wBy v = some w) : w < 32 := by
  unfold wBy at h
  split at h
  · cases h; omega
  · split at h
    · cases h; omega
    · cases h
theorem ltW_lt {c w : Nat} (h : ltW c = some w) : w < 32 := by
  unfold ltW at h
  repeat' split at h
  all_goals first | (cases h; omega) | cases h
theorem isD_iff (c : Nat) : isD c = true ↔ 48 ≤ c ∧ c ≤ 57 := by unfold isD; simp
theorem rdW_lt {t : List Nat} (ht : tok t) {q w q' : Nat} (h : rdW t q = some (w, q')) : w < 32 ∧ q < q' ∧ q' ≤ t.length := by
  unfold rdW at h
  by_cases h1 : isD (ltr t q) = true
  · rw [if_pos h1] at h
    have b1 := (isD_iff _).mp h1
    have hq := ht.in (p := q) (by omega)
    by_cases h2 : isD (ltr t (q + 1)) = true
    · rw [if_pos h2] at h
      have b2 := (isD_iff _).mp h2
      have hq2 := ht.in (p := q + 1) (by omega)
      cases hw : wBy (10 * (ltr t q - 48) + (ltr t (q + 1) - 48)) with
      | none => rw [hw] at h; cases h
      | some x => rw [hw] at h; cases h; exact ⟨wBy_lt (by omega) hw, by omega, by omega⟩
    · rw [if_neg h2] at h
      cases hw : wBy (ltr t q - 48) with
      | none => rw [hw] at h; cases h
      | some x => rw [hw] at h; cases h; exact ⟨wBy_lt (by omega) hw, by omega, by omega⟩
  · rw [if_neg h1] at h
    cases hw : ltW (ltr t q) with
    | none => rw [hw] at h; cases h
    | some x =>
      rw [hw] at h; cases h
      have hq := ht.in (p := q) (fun z => by rw [z] at hw; cases hw)
      exact ⟨ltW_lt hw, by omega, by omega⟩
theorem cnd_ok {t : List Nat} (ht : tok t) {p : Nat} (hp : p ≤ t.length) (ws : List Nat) : match cnd t p ws with
    | .inl e => e ≤ t.length ∧ skp t e = e
    | .inr (w, c, q) => w < 32 ∧ c < 10 ∧ w ∉ ws ∧ q ≤ t.length := by
  unfold cnd
  cases hr : rdW t (skp t p) with
  | none => exact ⟨skp_le hp, skp_id t p⟩
  | some x =>
    obtain ⟨w, q1⟩ := x
    have h1 := rdW_lt ht hr
    simp only
    by_cases hm : w ∈ ws
    · rw [if_pos hm]; exact ⟨skp_le hp, skp_id t p⟩
    · rw [if_neg hm]
      have h2 := skp_le h1.2.2
      by_cases h58 : ltr t (skp t q1) = 58
      · rw [if_pos h58]
        have h3 := ht.in (p := skp t q1) (by omega)
        have h4 := skp_le (t := t) (p := skp t q1 + 1) (by omega)
        by_cases hd : isD (ltr t (skp t (skp t q1 + 1))) = true
        · rw [if_pos hd]
          have b := (isD_iff _).mp hd
          have h5 := ht.in (p := skp t (skp t q1 + 1)) (by omega)
          exact ⟨h1.1, by omega, hm, by omega⟩
        · rw [if_neg hd]; exact ⟨h4, skp_id _ _⟩
      · rw [if_neg h58]; exact ⟨h1.1, by omega, hm, h2⟩
theorem slt_ok {t : List Nat} (ht : tok t) : ∀ f p acc, p ≤ t.length → acc.length + f = 4 → 0 < f → (∀ x ∈ acc, x.1 < 32 ∧ x.2 < 10) → (acc.map Prod.fst).Nodup → match slt t f p acc with
    | .inl e => e ≤ t.length ∧ skp t e = e
    | .inr (s, q) => slOk s ∧ q ≤ t.length := by
  intro f
  induction f with
  | zero => intro p acc _ _ h; omega
  | succ f ih =>
    intro p acc hp hl _ hb hn
    have hc := cnd_ok ht hp (acc.map Prod.fst)
    unfold slt
    cases he : cnd t p (acc.map Prod.fst) with
    | inl e => rw [he] at hc; exact hc
    | inr x =>
      obtain ⟨w, c, q⟩ := x
      rw [he] at hc
      obtain ⟨h1, h2, h3, h4⟩ := hc
      simp only
      have hb' : ∀ x ∈ acc ++ [(w, c)], x.1 < 32 ∧ x.2 < 10 := by
        intro x hx
        rw [List.mem_append, List.mem_singleton] at hx
        rcases hx with hx | rfl
        · exact hb x hx
        · exact ⟨h1, h2⟩
      have hn' : ((acc ++ [(w, c)]).map Prod.fst).Nodup := by
        rw [List.map_append, List.map_singleton, List.nodup_append]
        exact ⟨hn, by simp, fun a ha b hb => by rw [List.mem_singleton] at hb; subst hb; exact fun z => h3 (z ▸ ha)⟩
      have hlen : (acc ++ [(w, c)]).length = acc.length + 1 := by rw [List.length_append, List.length_singleton]
      by_cases hf : f = 0
      · rw [if_pos hf]; exact ⟨⟨by omega, by omega, hb', hn'⟩, h4⟩
      · rw [if_neg hf]
        have h5 := skp_le h4
        by_cases h44 : ltr t (skp t q) = 44
        · rw [if_pos h44]
          have h6 := ht.in (p := skp t q) (by omega)
          exact ih _ _ (by omega) (by omega) (by omega) hb' hn'
        · rw [if_neg h44]; exact ⟨⟨by omega, by omega, hb', hn'⟩, h5⟩
theorem wds_ok {t : List Nat} (ht : tok t) : ∀ f p acc, p ≤ t.length → acc.length + f = 8 → (∀ s ∈ acc, slOk s) → match wds t f p acc with
    | .inl e => e ≤ t.length ∧ skp t e = e
    | .inr (sl, q) => (∀ s ∈ sl, slOk s) ∧ sl.length ≤ 8 ∧ q ≤ t.length := by
  intro f
  induction f with
  | zero => intro p acc hp hl ha; exact ⟨ha, by omega, hp⟩
  | succ f ih =>
    intro p acc hp hl ha
    have hc := slt_ok ht 4 p [] hp rfl (by omega) (fun x hx => by cases hx) (by simp)
    unfold wds
    cases he : slt t 4 p [] with
    | inl e => rw [he] at hc; exact hc
    | inr x =>
      obtain ⟨s, q⟩ := x
      rw [he] at hc
      simp only
      have ha' : ∀ x ∈ acc ++ [s], slOk x := by
        intro x hx
        rw [List.mem_append, List.mem_singleton] at hx
        rcases hx with hx | rfl
        · exact ha x hx
        · exact hc.1
      have hlen : (acc ++ [s]).length = acc.length + 1 := by rw [List.length_append, List.length_singleton]
      by_cases hf : f = 0
      · rw [if_pos hf]; exact ⟨ha', by omega, hc.2⟩
      · rw [if_neg hf]
        have h5 := skp_le hc.2
        by_cases h59 : ltr t (skp t q) = 59
        · rw [if_pos h59]
          have h6 := ht.in (p := skp t q) (by omega)
          exact ih _ _ (by omega) (by omega) ha'
        · rw [if_neg h59]; exact ⟨ha', by omega, h5⟩
theorem prs_ok {t : List Nat} (ht : tok t) : match prs t with
    | .inl e => e ≤ t.length
    | .inr sl => (∀ s ∈ sl, slOk s) ∧ sl.length ≤ 8 := by
  unfold prs
  by_cases h0 : skp t 0 = t.length
  · rw [if_pos h0]; exact ⟨fun s hs => (by cases hs), by simp⟩
  · rw [if_neg h0]
    have hc := wds_ok ht 8 (skp t 0) [] (skp_le (Nat.zero_le _)) rfl (fun s hs => by cases hs)
    cases he : wds t 8 (skp t 0) [] with
    | inl e => rw [he] at hc; exact hc.1
    | inr x =>
      obtain ⟨sl, q⟩ := x
      rw [he] at hc
      simp only
      by_cases h1 : skp t q < t.length
      · rw [if_pos h1]; exact Nat.le_of_lt h1
      · rw [if_neg h1]; exact ⟨hc.1, hc.2.1⟩
theorem getD_mem {α : Type} {l : List α} {k : Nat} (d : α) (h : k < l.length) : l[k]? = some (l.getD k d) := by
  rw [List.getD_eq_getElem?_getD, List.getElem?_eq_getElem h]; rfl
theorem Lt.Wf.lay {L : Lt} (hL : L.Wf) {sl : List (List (Nat × Nat))} (h8 : sl.length ≤ 8) (hs : ∀ s ∈ sl, slOk s) : (L.lay sl).Wf := by
  have key : ∀ k, k < sl.length → slOk (sl.getD k []) := fun k hk => hs _ (List.mem_of_getElem? (getD_mem [] hk))
  refine ⟨h8, hL.k5, hL.s20, hL.dr, fun k hk => ⟨(key k hk).1, (key k hk).2.1⟩, fun k j hk hj => ((key k hk).2.2.1 _ (List.mem_of_getElem? (getD_mem (0, 0) hj))).1, fun k j hk hj => ((key k hk).2.2.1 _ (List.mem_of_getElem? (getD_mem (0, 0) hj))).2, fun k i j hk hij hj e => ?_⟩
  have hn := (key k hk).2.2.2
  have hj' : j < (sl.getD k []).length := hj
  have hi' : i < (sl.getD k []).length := by omega
  have e' : ((sl.getD k []).getD i (0, 0)).1 = ((sl.getD k []).getD j (0, 0)).1 := e
  apply List.pairwise_iff_getElem.mp hn i j (by rw [List.length_map]; exact hi') (by rw [List.length_map]; exact hj') hij
  rw [List.getElem_map, List.getElem_map]
  have gi := getD_mem (l := sl.getD k []) (0, 0) hi'
  have gj := getD_mem (l := sl.getD k []) (0, 0) hj'
  rw [List.getElem?_eq_getElem hi'] at gi
  rw [List.getElem?_eq_getElem hj'] at gj
  rw [Option.some.inj gi, Option.some.inj gj]
  exact e'
