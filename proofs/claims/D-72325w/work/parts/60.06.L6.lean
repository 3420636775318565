/-! what is sound -/
def rsB (f : Nat → Nat) : Nat → Bool
  | 0 => true
  | k + 1 => rsB f k && decide (f k < f (k + 1))
def stB (f : Nat → Nat) : Nat → Bool
  | 0 => true
  | k + 1 => stB f k && decide ((f (k + 1) : Int) - (f k : Int) = (f 1 : Int) - (f 0 : Int))
def suN (f : Nat → Nat) : Nat → Nat
  | 0 => 0
  | k + 1 => suN f k + f k
def nsF (ns : List Nat) (k : Nat) : Nat := ns.getD k 0
def sound (kind : Nat) (ns : List Nat) : Bool :=
  if kind = 1 then decide (1 < ns.length) && decide (suN (nsF ns) (ns.length - 1) = nsF ns (ns.length - 1))
  else if kind = 2 then rsB (nsF ns) (ns.length - 1)
  else if kind = 3 then decide (1 < ns.length) && decide (suN (nsF ns) (ns.length - 1) % 100 = nsF ns (ns.length - 1) % 100)
  else if kind = 4 then rsB (nsF ns) (ns.length - 1) && stB (nsF ns) (ns.length - 1)
  else true
def nsOk (ns : List Nat) : Prop := 0 < ns.length ∧ ns.length ≤ 8 ∧ ∀ v ∈ ns, v ≤ 999999
def bI (b : Bool) : Int32 := if b = true then 1 else 0
theorem bI_0 (b : Bool) : bI b = 0 ↔ b = false := by cases b <;> decide
theorem bI_Z (b : Bool) : gZ (bI b) = true := by cases b <;> decide
theorem nsF_le {ns : List Nat} (h : nsOk ns) (k : Nat) : nsF ns k ≤ 999999 := by
  unfold nsF
  rw [List.getD_eq_getElem?_getD]
  cases hk : ns[k]? with
  | none => exact Nat.zero_le _
  | some v => exact h.2.2 v (List.mem_of_getElem? hk)
theorem nsF_aL {G : gP} {k o : Nat} {ns : List Nat} (h : aL G k o ns) {j : Nat} (hj : j < ns.length) : gS G k (o + j) = nI (nsF ns j) := by
  have e : ns[j]? = some (nsF ns j) := by
    unfold nsF
    rw [List.getD_eq_getElem?_getD, List.getElem?_eq_getElem hj]
    rfl
  exact h j _ e
theorem suN_le {ns : List Nat} (h : nsOk ns) : ∀ k, suN (nsF ns) k ≤ 999999 * k := by
  intro k
  induction k with
  | zero => exact Nat.le_refl _
  | succ k ih => have := nsF_le h k; show suN (nsF ns) k + nsF ns k ≤ _; omega
theorem sub_iff {a b c d : Nat} (ha : a < 2 ^ 30) (hb : b < 2 ^ 30) (hc : c < 2 ^ 30) (hd : d < 2 ^ 30) : nI a - nI b = nI c - nI d ↔ (a : Int) - b = (c : Int) - d := by
  rw [← Int32.toInt_inj, pk_sub_toInt ha hb, pk_sub_toInt hc hd]
theorem holds_ok {G : gP} {L : Lt} {p : Nat → Nat} {ns : List Nat} (hL : L.Wf) (hR : mRow G 1 0 L) (ht : mTk G L p ns) (hn : nsOk ns) : Ok (f_X11_holds G) (fun x => x = bI (sound L.kind ns)) := by
  obtain ⟨h6, ha, h0, h8⟩ := ht
  have hG : ∀ j, j < ns.length → gS G 4 j = nI (nsF ns j) := fun j hj => by
    have := nsF_aL ha hj
    rwa [Nat.zero_add] at this
  have hF := nsF_le hn
  unfold f_X11_holds
  have e1 : gS G 0 6 - 1 = nI (ns.length - 1) := by rw [h6, nI_lit 1, pk_sub (by omega)]
  rw [e1, gIn_nI (by omega), decide_eq_true (by omega), nI_clamp (by omega), hG _ (by omega)]
  refine Ok.ck rfl ?_
  simp only [gLet]
  refine Ok.bind (Q := fun x => x = (nI (suN (nsF ns) (ns.length - 1)), bI (rsB (nsF ns) (ns.length - 1)), bI (stB (nsF ns) (ns.length - 1)))) ?_ (fun x hx => ?_)
  · refine Ok.up (fun i s => s = (nI (suN (nsF ns) i), bI (rsB (nsF ns) i), bI (stB (nsF ns) i), nI i)) (ns.length - 1) (by omega) ?_ ?_ rfl
    · rintro i s hi rfl
      unfold f_X11_holds_b22
      simp only
      have hs := suN_le hn i
      have g1 := hG i (by omega)
      have g2 := hG (i + 1) (by omega)
      have g3 := hG 1 (by omega)
      have g4 := hG 0 (by omega)
      have f1 := hF i
      have f2 := hF (i + 1)
      have f3 := hF 1
      have f4 := hF 0
      rw [h6, nI_1, if_neg (nI_ge (by omega) (by omega)), gIn_nI (by omega), decide_eq_true (by omega), nI_clamp (by omega), gIn_nI (by omega), decide_eq_true (by omega), nI_clamp (by omega), g1, g2, g3, g4, nI_add]
      refine Ok.ck rfl ?_
      simp only [gck, gLet, if_true]
      have hr : (if bI (rsB (nsF ns) i) = 0 then some (0 : Int32) else if nI (nsF ns (i + 1)) ≤ nI (nsF ns i) then some 0 else some 1) = some (bI (rsB (nsF ns) (i + 1))) := by
        show _ = some (bI (rsB (nsF ns) i && decide (nsF ns i < nsF ns (i + 1))))
        cases hb : rsB (nsF ns) i with
        | false => rw [if_pos (by decide)]; rfl
        | true =>
          rw [if_neg (by decide)]
          by_cases hlt : nsF ns i < nsF ns (i + 1)
          · rw [if_neg (nI_ge hlt (by omega)), decide_eq_true hlt]; rfl
          · rw [if_pos (nI_le (by omega) (by omega)), decide_eq_false hlt]; rfl
      rw [hr]
      simp only [Option.bind_some]
      have hsum : suN (nsF ns) i + nsF ns i = suN (nsF ns) (i + 1) := rfl
      rw [hsum]
      have hst : stB (nsF ns) (i + 1) = (stB (nsF ns) i && decide ((nsF ns (i + 1) : Int) - (nsF ns i : Int) = (nsF ns 1 : Int) - (nsF ns 0 : Int))) := rfl
      cases hb : stB (nsF ns) i with
      | false => rw [if_pos (by decide)]; refine ⟨_, rfl, ?_⟩; simp only; rw [hst, hb]; rfl
      | true =>
        rw [if_neg (by decide)]
        by_cases hlt : (nsF ns (i + 1) : Int) - (nsF ns i : Int) = (nsF ns 1 : Int) - (nsF ns 0 : Int)
        · rw [if_pos ((sub_iff (by omega) (by omega) (by omega) (by omega)).mpr hlt)]
          refine ⟨_, rfl, ?_⟩; simp only; rw [hst, hb, decide_eq_true hlt]; rfl
        · rw [if_neg (fun z => hlt ((sub_iff (by omega) (by omega) (by omega) (by omega)).mp z))]
          refine ⟨_, rfl, ?_⟩; simp only; rw [hst, hb, decide_eq_false hlt]; rfl
    · rintro s rfl
      unfold f_X11_holds_b22
      simp only
      rw [h6, nI_1, if_pos (nI_le (by omega) (by omega))]
      exact ⟨_, rfl, rfl⟩
  · subst hx
    simp only
    have hk := hL.k5
    have hk1 : gS G 1 1 = nI L.kind := hR.2.1
    have hs := suN_le hn (ns.length - 1)
    have hf := hF (ns.length - 1)
    rw [hk1, h6]
    have keq : ∀ a : Nat, a < 2 ^ 31 → (nI L.kind = nI a ↔ L.kind = a) := fun a ha => nI_eq (by omega) ha
    unfold sound
    rw [nI_lit 1, nI_lit 2, nI_lit 3, nI_lit 4, nI_lit 100]
    by_cases k1 : L.kind = 1
    · rw [if_pos ((keq 1 (by omega)).mpr k1), if_pos k1]
      by_cases hl : 1 < ns.length
      · rw [if_neg (nI_ge hl (by omega)), decide_eq_true hl]
        by_cases he : suN (nsF ns) (ns.length - 1) = nsF ns (ns.length - 1)
        · rw [if_pos (nI_inj he), decide_eq_true he]; exact ⟨_, rfl, rfl⟩
        · rw [if_neg (fun z => he ((nI_eq (by omega) (by omega)).mp z)), decide_eq_false he]; exact ⟨_, rfl, rfl⟩
      · rw [if_pos (nI_le (by omega) (by omega)), decide_eq_false hl]; exact ⟨_, rfl, rfl⟩
    · rw [if_neg (fun z => k1 ((keq 1 (by omega)).mp z)), if_neg k1]
      by_cases k2 : L.kind = 2
      · rw [if_pos ((keq 2 (by omega)).mpr k2), if_pos k2]
        exact Ok.ck (bI_Z _) ⟨_, rfl, rfl⟩
      · rw [if_neg (fun z => k2 ((keq 2 (by omega)).mp z)), if_neg k2]
        by_cases k3 : L.kind = 3
        · rw [if_pos ((keq 3 (by omega)).mpr k3), if_pos k3]
          by_cases hl : 1 < ns.length
          · rw [if_neg (nI_ge hl (by omega)), decide_eq_true hl, gRem_nI (by omega) (by omega) (by omega), gRem_nI (by omega) (by omega) (by omega)]
            by_cases he : suN (nsF ns) (ns.length - 1) % 100 = nsF ns (ns.length - 1) % 100
            · rw [if_pos (nI_inj he), decide_eq_true he]; exact ⟨_, rfl, rfl⟩
            · rw [if_neg (fun z => he ((nI_eq (by omega) (by omega)).mp z)), decide_eq_false he]; exact ⟨_, rfl, rfl⟩
          · rw [if_pos (nI_le (by omega) (by omega)), decide_eq_false hl]; exact ⟨_, rfl, rfl⟩
        · rw [if_neg (fun z => k3 ((keq 3 (by omega)).mp z)), if_neg k3]
          by_cases k4 : L.kind = 4
          · rw [if_pos ((keq 4 (by omega)).mpr k4), if_pos k4]
            cases rsB (nsF ns) (ns.length - 1) <;> cases stB (nsF ns) (ns.length - 1) <;> exact ⟨_, rfl, rfl⟩
          · rw [if_neg (fun z => k4 ((keq 4 (by omega)).mp z)), if_neg k4]
            exact ⟨_, rfl, rfl⟩
theorem mSaid_ok : ∀ n ns ws ns', mSaid n ns ws = some ns' → (∀ v ∈ ns, v ≤ 999999) → (∀ v ∈ ns', v ≤ 999999) ∧ 0 < ns'.length ∧ ns'.length ≤ ns.length + n := by
  intro n
  induction n with
  | zero => intro ns ws ns' h; cases h
  | succ n ih =>
    intro ns ws ns' h hb
    rw [mSaid] at h
    cases hm : mNumber ws with
    | none => rw [hm] at h; cases h
    | some q =>
      rw [hm] at h
      simp only [Option.bind_some] at h
      have hp := mNumber_p hm
      by_cases h0 : q.1 = 0
      · rw [if_pos h0] at h; cases h
      · rw [if_neg h0] at h
        have hb2 : ∀ v ∈ ns ++ [q.1], v ≤ 999999 := by
          intro v hv
          rw [List.mem_append] at hv
          rcases hv with hv | hv
          · exact hb v hv
          · rw [List.mem_singleton] at hv; subst hv; exact hp.1
        cases hq : q.2 with
        | nil =>
          rw [hq] at h
          cases h
          exact ⟨hb2, by simp, by simp⟩
        | cons w t =>
          rw [hq] at h
          simp only at h
          by_cases h31 : w = 31
          · rw [if_pos h31] at h
            obtain ⟨k1, k2, k3⟩ := ih _ _ _ h hb2
            refine ⟨k1, k2, ?_⟩
            simp only [List.length_append, List.length_cons, List.length_nil] at k3
            omega
          · rw [if_neg h31] at h; cases h
theorem Lt.Wf.tell_ok {L : Lt} (hL : L.Wf) {p : Nat → Nat} (hp : L.pOk p) {ns : List Nat} (h : L.tell p = some ns) : (∀ v ∈ ns, v ≤ 999999) ∧ 0 < ns.length := by
  rw [← L.tell_wn p] at h
  have h2 := said_run 9 [] (L.wn p L.n) (hL.wn_ok hp (Nat.le_refl _)) (by have := L.wn_le p L.n; have := hL.n8; omega)
  have h3 : mSaid 9 [] (L.wn p L.n) = some ns := h2.trans h
  obtain ⟨k1, k2, -⟩ := mSaid_ok _ _ _ _ h3 (fun v hv => by cases hv)
  exact ⟨k1, k2⟩
theorem mTk.ok {G : gP} {L : Lt} {p : Nat → Nat} {ns : List Nat} (hL : L.Wf) (hp : L.pOk p) (h : L.tell p = some ns) (ht : mTk G L p ns) : nsOk ns := ⟨ht.2.2.1, ht.2.2.2, (hL.tell_ok hp h).1⟩
