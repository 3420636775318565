/-! what is done, as it is meant; the Model does it -/
def Lt.put (L : Lt) (s m : Nat) (w c : Nat → Nat) : Lt := (Lt.of (L.n) (L.kind) (L.slack) (L.draw) (fun k => if k = s then m else L.m k) (fun k => if k = s then w else L.w k) (fun k => if k = s then c else L.c k))
def Lt.add (L : Lt) (s w c : Nat) : Lt := L.put s (L.m s + 1) (setp (L.w s) (L.m s) w) (setp (L.c s) (L.m s) c)
def Lt.more (L : Lt) (w c : Nat) : Lt := (Lt.of (L.n + 1) ((L.put L.n 1 (fun _ => w) (fun _ => c)).kind) ((L.put L.n 1 (fun _ => w) (fun _ => c)).slack) ((L.put L.n 1 (fun _ => w) (fun _ => c)).draw) ((L.put L.n 1 (fun _ => w) (fun _ => c)).m) ((L.put L.n 1 (fun _ => w) (fun _ => c)).w) ((L.put L.n 1 (fun _ => w) (fun _ => c)).c))
def Lt.del (L : Lt) (s : Nat) : Lt := (Lt.of (L.n - 1) (L.kind) (L.slack) (L.draw) (fun k => if k < s then L.m k else L.m (k + 1)) (fun k => if k < s then L.w k else L.w (k + 1)) (fun k => if k < s then L.c k else L.c (k + 1)))
def fnd (f : Nat → Nat) (w : Nat) : Nat → Option Nat
  | 0 => none
  | j + 1 => match fnd f w j with
    | some i => some i
    | none => if f j = w then some j else none
theorem fnd_some {f : Nat → Nat} {w : Nat} : ∀ n i, fnd f w n = some i → i < n ∧ f i = w := by
  intro n
  induction n with
  | zero => intro i h; cases h
  | succ n ih =>
    intro i h
    unfold fnd at h
    cases hf : fnd f w n with
    | some j => rw [hf] at h; cases h; have := ih _ hf; exact ⟨by omega, this.2⟩
    | none =>
      rw [hf] at h
      simp only at h
      split at h
      · cases h; exact ⟨by omega, by assumption⟩
      · cases h
theorem fnd_none {f : Nat → Nat} {w : Nat} : ∀ n, fnd f w n = none → ∀ i, i < n → f i ≠ w := by
  intro n
  induction n with
  | zero => intro _ i h; omega
  | succ n ih =>
    intro h i hi
    unfold fnd at h
    cases hf : fnd f w n with
    | some j => rw [hf] at h; cases h
    | none =>
      rw [hf] at h
      simp only at h
      split at h
      · cases h
      · by_cases e : i = n
        · subst e; assumption
        · exact ih hf i (by omega)
/-- the next draw; so that nobody unfolds it -/
theorem nxD_ex (d : Nat) : ∃ a, a = (d * 1103515245 + 12345) % 2147483648 := ⟨_, rfl⟩
noncomputable def nxD (d : Nat) : Nat := Classical.choose (nxD_ex d)
theorem nxD_def (d : Nat) : nxD d = (d * 1103515245 + 12345) % 2147483648 := Classical.choose_spec (nxD_ex d)
theorem nxD_lt (d : Nat) : nxD d < 2 ^ 31 := by
  rw [nxD_def]
  have := Nat.mod_lt (d * 1103515245 + 12345) (show 0 < 2147483648 by omega)
  omega
def Lt.dr1 (L : Lt) (d x : Nat) : Lt :=
  if L.n = 0 then (Lt.of (L.n) (L.kind) (L.slack) (d) (L.m) (L.w) (L.c)) else if L.m (x % L.n) < 4 ∧ fnd (L.w (x % L.n)) (x / 8 % 32) (L.m (x % L.n)) = none then ((Lt.of (L.n) (L.kind) (L.slack) (d) (L.m) (L.w) (L.c)) : Lt).add (x % L.n) (x / 8 % 32) (x / 256 % 10) else (Lt.of (L.n) (L.kind) (L.slack) (d) (L.m) (L.w) (L.c))
noncomputable def Lt.drawn (L : Lt) : Lt := L.dr1 (nxD L.draw) (nxD L.draw / 65536)
def St.up (S : St) (L : Lt) : St := (St.of (L) (pushP S.past S.now) (S.kept) (S.tape) (S.sh))
noncomputable def St.storm (S : St) : Nat → St
  | 0 => S
  | n + 1 => (S.storm n).up (S.storm n).now.drawn
def sHear (S : St) (a c : Int32) : St × Int32 := match rg a 0 32 with
  | none => (S, -1)
  | some w => match rg c 0 10 with
    | none => (S, -1)
    | some c => if S.now.n = 8 then (S, -3) else (S.up (S.now.more w c), nI (S.now.n + 1))
def sAlso (S : St) (a w c : Int32) : St × Int32 := match rg a 0 S.now.n with
  | none => (S, -1)
  | some s => match rg w 0 32 with
    | none => (S, -1)
    | some w => match rg c 0 10 with
      | none => (S, -1)
      | some c => match fnd (S.now.w s) w (S.now.m s) with
        | some _ => (S, -2)
        | none => if S.now.m s = 4 then (S, -3) else (S.up (S.now.add s w c), nI (S.now.m s + 1))
def sLose (S : St) (a : Int32) : St × Int32 := match rg a 0 S.now.n with
  | none => (S, -1)
  | some s => (S.up (S.now.del s), nI (S.now.n - 1))
def sSettle (S : St) (a w : Int32) : St × Int32 := match rg a 0 S.now.n with
  | none => (S, -1)
  | some s => match rg w 0 32 with
    | none => (S, -1)
    | some w => match fnd (S.now.w s) w (S.now.m s) with
      | none => (S, -2)
      | some j => if S.now.m s = 1 then (S, -2) else (S.up (S.now.put s 1 (fun _ => S.now.w s j) (fun _ => S.now.c s j)), nI (S.now.m s - 1))
def sCheck (S : St) (a : Int32) : St × Int32 := match rg a 0 5 with
  | none => (S, -1)
  | some k => if S.now.kind = k then (S, -2) else (S.up (Lt.of (S.now.n) (k) (S.now.slack) (S.now.draw) (S.now.m) (S.now.w) (S.now.c)), nI S.now.kind)
def sSlack (S : St) (a : Int32) : St × Int32 := match rg a 0 21 with
  | none => (S, -1)
  | some k => if S.now.slack = k then (S, -2) else (S.up (Lt.of (S.now.n) (S.now.kind) (k) (S.now.draw) (S.now.m) (S.now.w) (S.now.c)), nI S.now.slack)
noncomputable def sStorm (S : St) (a : Int32) : St × Int32 := match rg a 1 41 with
  | none => (S, -1)
  | some n => (S.storm n, nI (su (S.storm n).now.m (S.storm n).now.n))
def sUndo (S : St) : St × Int32 := match S.past.getLast? with
  | none => (S, -4)
  | some L => ((St.of (L) (S.past.dropLast) (S.kept) (S.tape) (S.sh)), nI (S.past.length - 1))
def sSeed (S : St) (a : Int32) : St × Int32 := if 0 ≤ a then ((St.of ((Lt.of (S.now.n) (S.now.kind) (S.now.slack) (a.toInt.toNat) (S.now.m) (S.now.w) (S.now.c))) (S.past) (S.kept) (S.tape) (S.sh)), nI S.now.draw) else (S, -1)
def sImage (S : St) : St × Int32 := ((St.of (S.now) (S.past) (some (S.now, S.past)) (S.tape) (S.sh)), 1)
def sRestore (S : St) : St × Int32 := match S.kept with
  | none => (S, -4)
  | some (L, p) => ((St.of (L) (p) (S.kept) (S.tape) (S.sh)), 1)
/-- a slot in a row -/
def mSl (G : gP) (i m : Nat) (w c : Nat → Nat) : Prop := gS G 1 (4 + 9 * i) = nI m ∧ ∀ j, j < m → gS G 1 (5 + 9 * i + j) = nI (w j) ∧ gS G 1 (9 + 9 * i + j) = nI (c j)
theorem mRow.sl {G : gP} {L : Lt} (h : mRow G 1 0 L) {i : Nat} (hi : i < L.n) : mSl G i (L.m i) (L.w i) (L.c i) := by
  have := h.2.2.2.2 i hi
  simp only [Nat.zero_add] at this
  exact this
theorem mRow.of {G : gP} {L : Lt} (h0 : gS G 1 0 = nI L.n) (h1 : gS G 1 1 = nI L.kind) (h2 : gS G 1 2 = nI L.slack) (h3 : gS G 1 3 = nI L.draw) (hs : ∀ i, i < L.n → mSl G i (L.m i) (L.w i) (L.c i)) : mRow G 1 0 L :=
  ⟨h0, h1, h2, h3, fun i hi => by have := hs i hi; simp only [Nat.zero_add]; exact this⟩
theorem mSl.off {Z : Nat → Nat → Bool} {G G' : gP} {i m : Nat} {w c : Nat → Nat} (h : mSl G i m w c) (hm : m ≤ 4) (hO : gOff Z G G') (hz : ∀ j, 4 + 9 * i ≤ j → j < 13 + 9 * i → Z 1 j = false) : mSl G' i m w c := by
  refine ⟨by rw [(hO 1 _ (hz _ (by omega) (by omega))).1]; exact h.1, fun j hj => ⟨?_, ?_⟩⟩
  · rw [(hO 1 _ (hz _ (by omega) (by omega))).1]; exact (h.2 j hj).1
  · rw [(hO 1 _ (hz _ (by omega) (by omega))).1]; exact (h.2 j hj).2
/-- a row with one slot changed -/
theorem mRow.put {G G' : gP} {L : Lt} (hL : L.Wf) (h : mRow G 1 0 L) {s m : Nat} {w c : Nat → Nat} (hO : gOff (fun k j => decide (k = 1 ∧ 4 + 9 * s ≤ j ∧ j < 13 + 9 * s)) G G') (hs : mSl G' s m w c) : mRow G' 1 0 (L.put s m w c) := by
  refine mRow.of ?_ ?_ ?_ ?_ (fun i hi => ?_)
  · rw [(hO 1 0 (by simp)).1]; exact h.1
  · rw [(hO 1 1 (by simp; omega)).1]; exact h.2.1
  · rw [(hO 1 2 (by simp; omega)).1]; exact h.2.2.1
  · rw [(hO 1 3 (by simp; omega)).1]; exact h.2.2.2.1
  · unfold Lt.put
    simp only [Lt.mk_n, Lt.mk_kind, Lt.mk_slack, Lt.mk_draw, Lt.mk_m, Lt.mk_w, Lt.mk_c, St.mk_now, St.mk_past, St.mk_kept, St.mk_tape, St.mk_sh]
    by_cases e : i = s
    · subst e; simp only [if_true]; exact hs
    · simp only [e, if_false]
      have hi' : i < L.n := hi
      exact (h.sl hi').off (hL.m1 i hi').2 hO (fun j h1 h2 => by simp; omega)
/-- what an act leaves -/
def mA (X : St × Int32) (q : gP × Int32) : Prop := mSt X.1 q.1 ∧ q.2 = X.2
def nowZ (k _ : Nat) : Bool := decide (k = 1)
theorem nowZ_k {k j : Nat} (h : (k = 0 ∧ (j = 23 ∨ j = 29 ∨ j = 32)) ∨ k = 11 ∨ (14 ≤ k ∧ k ≤ 19)) : nowZ k j = false := by simp [nowZ]; omega
theorem mSt.up {S : St} {G G' : gP} {L : Lt} (h : mSt (St.of (S.now) (pushP S.past S.now) (S.kept) (S.tape) (S.sh)) G) (hO : gOff nowZ G G') (hn : mRow G' 1 0 L) : mSt (S.up L) G' :=
  h.now' (L := L) hO (fun _ _ hk => nowZ_k hk) hn
theorem hears_ok {G : gP} {L : Lt} (hL : L.Wf) (hn : L.n < 8) (h : mRow G 1 0 L) {w c : Nat} : Ok (f_X11_hears G (nI w) (nI c)) (fun G' => gOff nowZ G G' ∧ mRow G' 1 0 (L.more w c) ∧ gS G' 1 0 = nI (L.n + 1)) := by
  unfold f_X11_hears
  simp (disch := omega) only [nLit, neg_nI, nI_add, pk_mul, nI_sub1, nI_clamp, gIn_t, gck_t, gLet_e, nI_leI, nI_ltJ, nI_eq, nI_nM_eq, nM_nI_eq, nM_eq, nM_nI_le, nI_nM_le, nM_nI_lt, nI_nM_lt, at_nI, gS_at, gS_ne', obind_some, iteT, iteF, ite_p, ite_n, h.1]
  refine ⟨_, rfl, (((gOff.rf.S1 rfl).S1 rfl).S1 rfl).S1 rfl, mRow.of ?_ ?_ ?_ ?_ (fun i hi => ?_), ?_⟩
  · simp (disch := omega) only [nLit, neg_nI, nI_add, pk_mul, nI_sub1, nI_clamp, gIn_t, gck_t, gLet_e, nI_leI, nI_ltJ, nI_eq, nI_nM_eq, nM_nI_eq, nM_eq, nM_nI_le, nI_nM_le, nM_nI_lt, nI_nM_lt, at_nI, gS_at, gS_ne', obind_some, iteT, iteF, ite_p, ite_n]; rfl
  · simp (disch := omega) only [nLit, neg_nI, nI_add, pk_mul, nI_sub1, nI_clamp, gIn_t, gck_t, gLet_e, nI_leI, nI_ltJ, nI_eq, nI_nM_eq, nM_nI_eq, nM_eq, nM_nI_le, nI_nM_le, nM_nI_lt, nI_nM_lt, at_nI, gS_at, gS_ne', obind_some, iteT, iteF, ite_p, ite_n]; exact h.2.1
  · simp (disch := omega) only [nLit, neg_nI, nI_add, pk_mul, nI_sub1, nI_clamp, gIn_t, gck_t, gLet_e, nI_leI, nI_ltJ, nI_eq, nI_nM_eq, nM_nI_eq, nM_eq, nM_nI_le, nI_nM_le, nM_nI_lt, nI_nM_lt, at_nI, gS_at, gS_ne', obind_some, iteT, iteF, ite_p, ite_n]; exact h.2.2.1
  · simp (disch := omega) only [nLit, neg_nI, nI_add, pk_mul, nI_sub1, nI_clamp, gIn_t, gck_t, gLet_e, nI_leI, nI_ltJ, nI_eq, nI_nM_eq, nM_nI_eq, nM_eq, nM_nI_le, nI_nM_le, nM_nI_lt, nI_nM_lt, at_nI, gS_at, gS_ne', obind_some, iteT, iteF, ite_p, ite_n]; exact h.2.2.2.1
  · unfold Lt.more Lt.put
    simp only [Lt.mk_n, Lt.mk_kind, Lt.mk_slack, Lt.mk_draw, Lt.mk_m, Lt.mk_w, Lt.mk_c, St.mk_now, St.mk_past, St.mk_kept, St.mk_tape, St.mk_sh]
    have hi' : i < L.n + 1 := hi
    by_cases e : i = L.n
    · subst e
      simp only [if_true]
      refine ⟨by simp (disch := omega) only [nLit, neg_nI, nI_add, pk_mul, nI_sub1, nI_clamp, gIn_t, gck_t, gLet_e, nI_leI, nI_ltJ, nI_eq, nI_nM_eq, nM_nI_eq, nM_eq, nM_nI_le, nI_nM_le, nM_nI_lt, nI_nM_lt, at_nI, gS_at, gS_ne', obind_some, iteT, iteF, ite_p, ite_n], fun j hj => ?_⟩
      have : j = 0 := by omega
      subst this
      constructor
      · rw [show 5 + 9 * L.n + 0 = 4 + 9 * L.n + 1 by omega]; simp (disch := omega) only [nLit, neg_nI, nI_add, pk_mul, nI_sub1, nI_clamp, gIn_t, gck_t, gLet_e, nI_leI, nI_ltJ, nI_eq, nI_nM_eq, nM_nI_eq, nM_eq, nM_nI_le, nI_nM_le, nM_nI_lt, nI_nM_lt, at_nI, gS_at, gS_ne', obind_some, iteT, iteF, ite_p, ite_n]
      · rw [show 9 + 9 * L.n + 0 = 4 + 9 * L.n + 5 by omega]; simp (disch := omega) only [nLit, neg_nI, nI_add, pk_mul, nI_sub1, nI_clamp, gIn_t, gck_t, gLet_e, nI_leI, nI_ltJ, nI_eq, nI_nM_eq, nM_nI_eq, nM_eq, nM_nI_le, nI_nM_le, nM_nI_lt, nI_nM_lt, at_nI, gS_at, gS_ne', obind_some, iteT, iteF, ite_p, ite_n]
    · simp only [e, if_false]
      refine (h.sl (i := i) (by omega)).off (hL.m1 i (by omega)).2 (Z := fun k j => decide (k = 1 ∧ (j = 0 ∨ 4 + 9 * L.n ≤ j))) ((((gOff.rf.S1 ?_).S1 ?_).S1 ?_).S1 ?_) (fun j h1 h2 => ?_)
      · simp
      · simp
      · simp
      · simp
      · simp; omega
  · simp (disch := omega) only [nLit, neg_nI, nI_add, pk_mul, nI_sub1, nI_clamp, gIn_t, gck_t, gLet_e, nI_leI, nI_ltJ, nI_eq, nI_nM_eq, nM_nI_eq, nM_eq, nM_nI_le, nI_nM_le, nM_nI_lt, nI_nM_lt, at_nI, gS_at, gS_ne', obind_some, iteT, iteF, ite_p, ite_n]
theorem hear_ok {S : St} {G : gP} (hW : S.Wf) (h : mSt S G) (a c : Int32) : Ok (f_X11_hear G a c) (mA (sHear S a c)) := by
  unfold f_X11_hear sHear f_X11_isWord
  rw [in_rg a (lo := 0) (hi := 32) rfl rfl, in_rg c (lo := 0) (hi := 10) rfl rfl]
  cases ha : rg a 0 32 with
  | none => exact ⟨_, rfl, h, rfl⟩
  | some w =>
    obtain ⟨-, hw, rfl⟩ := rg_some ha
    simp only [Option.isSome_some, if_true]
    rw [if_neg (by decide)]
    cases hc : rg c 0 10 with
    | none => exact ⟨_, rfl, h, rfl⟩
    | some cn =>
      obtain ⟨-, hcn, rfl⟩ := rg_some hc
      simp only [Option.isSome_some, if_true]
      rw [if_neg (by decide)]
      have h8 := hW.now.n8
      simp (disch := omega) only [nLit, neg_nI, nI_add, pk_mul, nI_sub1, nI_clamp, gIn_t, gck_t, gLet_e, nI_leI, nI_ltJ, nI_eq, nI_nM_eq, nM_nI_eq, nM_eq, nM_nI_le, nI_nM_le, nM_nI_lt, nI_nM_lt, at_nI, gS_at, gS_ne', obind_some, iteT, iteF, ite_p, ite_n, h.now.1]
      by_cases hn : S.now.n = 8
      · rw [if_pos hn, if_pos hn]; exact ⟨_, rfl, h, rfl⟩
      · rw [if_neg hn, if_neg hn]
        refine Ok.bind (h.note hW) (fun G1 h1 => ?_)
        refine Ok.bind (hears_ok hW.now (by omega) h1.2.now) (fun G2 h2 => ?_)
        exact ⟨_, rfl, h1.2.up h2.1 h2.2.1, h2.2.2⟩
theorem placeOf_ok {G : gP} {L : Lt} (hL : L.Wf) (h : mRow G 1 0 L) {s w : Nat} (hs : s < L.n) (hw : w < 2 ^ 31) : Ok (f_X11_placeOf G (nI s) (nI w)) (fun r => r = rI (fnd (L.w s) w (L.m s))) := by
  unfold f_X11_placeOf
  have h8 := hL.n8
  have hm := hL.m1 s hs
  refine Ok.bind (Q := fun r => r = rI (fnd (L.w s) w (L.m s))) ?_ (fun r hr => ⟨_, rfl, hr⟩)
  refine Ok.up (fun j r => r = (rI (fnd (L.w s) w j), nI j)) (L.m s) (by omega) ?_ ?_ rfl
  · rintro j r hj rfl
    unfold f_X11_placeOf_b6
    have e1 := ((h.sl hs).2 j hj).1
    rw [show 5 + 9 * s + j = 4 + 9 * s + 1 + j by omega] at e1
    have hwj := hL.w32 s j hs hj
    simp (disch := omega) only [nLit, neg_nI, nI_add, pk_mul, nI_sub1, nI_clamp, gIn_t, gck_t, gLet_e, nI_leI, nI_ltJ, nI_eq, nI_nM_eq, nM_nI_eq, nM_eq, nM_nI_le, nI_nM_le, nM_nI_lt, nI_nM_lt, at_nI, gS_at, gS_ne', obind_some, iteT, iteF, ite_p, ite_n, (h.sl hs).1, e1]
    by_cases hc : L.w s j = w
    · rw [if_pos hc]
      refine ⟨_, rfl, ?_⟩
      simp only [fnd]
      cases hf : fnd (L.w s) w j with
      | none => simp only; rw [if_pos hc]; rfl
      | some i =>
        exfalso
        have := fnd_some _ _ hf
        exact hL.ds s i j hs this.1 hj (this.2.trans hc.symm)
    · rw [if_neg hc]
      refine ⟨_, rfl, ?_⟩
      simp only [fnd]
      cases hf : fnd (L.w s) w j with
      | none => simp only; rw [if_neg hc]
      | some i => rfl
  · rintro r rfl
    unfold f_X11_placeOf_b6
    simp (disch := omega) only [nLit, neg_nI, nI_add, pk_mul, nI_sub1, nI_clamp, gIn_t, gck_t, gLet_e, nI_leI, nI_ltJ, nI_eq, nI_nM_eq, nM_nI_eq, nM_eq, nM_nI_le, nI_nM_le, nM_nI_lt, nI_nM_lt, at_nI, gS_at, gS_ne', obind_some, iteT, iteF, ite_p, ite_n, (h.sl hs).1]
    exact ⟨_, rfl, rfl⟩
theorem comes_ok {G : gP} {s m : Nat} {w0 c0 : Nat → Nat} (hs8 : s < 8) (h : mSl G s m w0 c0) (hm : m < 4) {w c : Nat} : Ok (f_X11_comes G (nI s) (nI w) (nI c)) (fun G' => gOff (fun k j => decide (k = 1 ∧ 4 + 9 * s ≤ j ∧ j < 13 + 9 * s)) G G' ∧ mSl G' s (m + 1) (setp w0 m w) (setp c0 m c)) := by
  unfold f_X11_comes
  simp (disch := omega) only [nLit, neg_nI, nI_add, pk_mul, nI_sub1, nI_clamp, gIn_t, gck_t, gLet_e, nI_leI, nI_ltJ, nI_eq, nI_nM_eq, nM_nI_eq, nM_eq, nM_nI_le, nI_nM_le, nM_nI_lt, nI_nM_lt, at_nI, gS_at, gS_ne', obind_some, iteT, iteF, ite_p, ite_n, h.1]
  refine ⟨_, rfl, ((gOff.rf.S1 ?_).S1 ?_).S1 ?_, by simp (disch := omega) only [nLit, neg_nI, nI_add, pk_mul, nI_sub1, nI_clamp, gIn_t, gck_t, gLet_e, nI_leI, nI_ltJ, nI_eq, nI_nM_eq, nM_nI_eq, nM_eq, nM_nI_le, nI_nM_le, nM_nI_lt, nI_nM_lt, at_nI, gS_at, gS_ne', obind_some, iteT, iteF, ite_p, ite_n], fun j hj => ?_⟩
  · simp; omega
  · simp; omega
  · simp
  · unfold setp
    by_cases e : j = m
    · subst e
      simp only [if_true]
      constructor
      · rw [show 5 + 9 * s + j = 4 + 9 * s + 1 + j by omega]; simp (disch := omega) only [nLit, neg_nI, nI_add, pk_mul, nI_sub1, nI_clamp, gIn_t, gck_t, gLet_e, nI_leI, nI_ltJ, nI_eq, nI_nM_eq, nM_nI_eq, nM_eq, nM_nI_le, nI_nM_le, nM_nI_lt, nI_nM_lt, at_nI, gS_at, gS_ne', obind_some, iteT, iteF, ite_p, ite_n]
      · rw [show 9 + 9 * s + j = 4 + 9 * s + 5 + j by omega]; simp (disch := omega) only [nLit, neg_nI, nI_add, pk_mul, nI_sub1, nI_clamp, gIn_t, gck_t, gLet_e, nI_leI, nI_ltJ, nI_eq, nI_nM_eq, nM_nI_eq, nM_eq, nM_nI_le, nI_nM_le, nM_nI_lt, nI_nM_lt, at_nI, gS_at, gS_ne', obind_some, iteT, iteF, ite_p, ite_n]
    · simp only [e, if_false]
      have := h.2 j (by omega)
      constructor
      · simp (disch := omega) only [nLit, neg_nI, nI_add, pk_mul, nI_sub1, nI_clamp, gIn_t, gck_t, gLet_e, nI_leI, nI_ltJ, nI_eq, nI_nM_eq, nM_nI_eq, nM_eq, nM_nI_le, nI_nM_le, nM_nI_lt, nI_nM_lt, at_nI, gS_at, gS_ne', obind_some, iteT, iteF, ite_p, ite_n]; exact this.1
      · simp (disch := omega) only [nLit, neg_nI, nI_add, pk_mul, nI_sub1, nI_clamp, gIn_t, gck_t, gLet_e, nI_leI, nI_ltJ, nI_eq, nI_nM_eq, nM_nI_eq, nM_eq, nM_nI_le, nI_nM_le, nM_nI_lt, nI_nM_lt, at_nI, gS_at, gS_ne', obind_some, iteT, iteF, ite_p, ite_n]; exact this.2
theorem also_ok {S : St} {G : gP} (hW : S.Wf) (h : mSt S G) (a w c : Int32) : Ok (f_X11_also G a w c) (mA (sAlso S a w c)) := by
  unfold f_X11_also sAlso f_X11_isWord
  have hL := hW.now
  have h8 := hL.n8
  rw [isSlot_rg h8 h.now.1, in_rg w (lo := 0) (hi := 32) rfl rfl, in_rg c (lo := 0) (hi := 10) rfl rfl]
  cases ha : rg a 0 S.now.n with
  | none => exact ⟨_, rfl, h, rfl⟩
  | some s =>
    obtain ⟨-, hs, rfl⟩ := rg_some ha
    simp only [Option.isSome_some, if_true]
    rw [if_neg (by decide)]
    cases hw : rg w 0 32 with
    | none => exact ⟨_, rfl, h, rfl⟩
    | some wn =>
      obtain ⟨-, hwn, rfl⟩ := rg_some hw
      simp only [Option.isSome_some, if_true]
      rw [if_neg (by decide)]
      cases hc : rg c 0 10 with
      | none => exact ⟨_, rfl, h, rfl⟩
      | some cn =>
        obtain ⟨-, hcn, rfl⟩ := rg_some hc
        simp only [Option.isSome_some, if_true]
        rw [if_neg (by decide)]
        refine Ok.bind (placeOf_ok hL h.now hs (by omega)) (fun r hr => ?_)
        subst hr
        have hm := hL.m1 s hs
        cases hf : fnd (S.now.w s) wn (S.now.m s) with
        | some i =>
          have := fnd_some _ _ hf
          rw [if_neg (rI_ne (by omega))]
          exact ⟨_, rfl, h, rfl⟩
        | none =>
          rw [if_pos rI_none]
          simp (disch := omega) only [nLit, neg_nI, nI_add, pk_mul, nI_sub1, nI_clamp, gIn_t, gck_t, gLet_e, nI_leI, nI_ltJ, nI_eq, nI_nM_eq, nM_nI_eq, nM_eq, nM_nI_le, nI_nM_le, nM_nI_lt, nI_nM_lt, at_nI, gS_at, gS_ne', obind_some, iteT, iteF, ite_p, ite_n, (h.now.sl hs).1]
          by_cases hn : S.now.m s = 4
          · rw [if_pos hn, if_pos hn]; exact ⟨_, rfl, h, rfl⟩
          · rw [if_neg hn, if_neg hn]
            refine Ok.bind (h.note hW) (fun G1 h1 => ?_)
            refine Ok.bind (comes_ok (by omega) (h1.2.now.sl (i := s) hs) (by show S.now.m s < 4; omega)) (fun G2 h2 => ?_)
            exact ⟨_, rfl, h1.2.up (h2.1.w (fun k j hz => by simp [nowZ] at hz ⊢; omega)) (mRow.put hL h1.2.now h2.1 h2.2), h2.2.1⟩
theorem check_ok {S : St} {G : gP} (hW : S.Wf) (h : mSt S G) (a : Int32) : Ok (f_X11_check G a) (mA (sCheck S a)) := by
  unfold f_X11_check sCheck
  have hL := hW.now
  rw [in_rg a (lo := 0) (hi := 5) rfl rfl]
  cases ha : rg a 0 5 with
  | none => exact ⟨_, rfl, h, rfl⟩
  | some k =>
    obtain ⟨-, hk, rfl⟩ := rg_some ha
    simp only [Option.isSome_some, if_true]
    rw [if_neg (by decide)]
    have h5 := hL.k5
    have e1 : gS G 1 1 = nI S.now.kind := h.now.2.1
    by_cases hn : S.now.kind = k
    · simp (disch := omega) only [nLit, neg_nI, nI_add, pk_mul, nI_sub1, nI_clamp, gIn_t, gck_t, gLet_e, nI_leI, nI_ltJ, nI_eq, nI_nM_eq, nM_nI_eq, nM_eq, nM_nI_le, nI_nM_le, nM_nI_lt, nI_nM_lt, at_nI, gS_at, gS_ne', obind_some, iteT, iteF, ite_p, ite_n, e1]; exact ⟨_, rfl, h, rfl⟩
    · simp (disch := omega) only [nLit, neg_nI, nI_add, pk_mul, nI_sub1, nI_clamp, gIn_t, gck_t, gLet_e, nI_leI, nI_ltJ, nI_eq, nI_nM_eq, nM_nI_eq, nM_eq, nM_nI_le, nI_nM_le, nM_nI_lt, nI_nM_lt, at_nI, gS_at, gS_ne', obind_some, iteT, iteF, ite_p, ite_n, e1]
      refine Ok.bind (h.note hW) (fun G1 h1 => ⟨_, rfl, h1.2.up (gOff.rf.S1 rfl) ?_, rfl⟩)
      have hR := h1.2.now
      refine mRow.of ?_ gS_at ?_ ?_ (fun i hi => ?_)
      · simp (disch := omega) only [nLit, neg_nI, nI_add, pk_mul, nI_sub1, nI_clamp, gIn_t, gck_t, gLet_e, nI_leI, nI_ltJ, nI_eq, nI_nM_eq, nM_nI_eq, nM_eq, nM_nI_le, nI_nM_le, nM_nI_lt, nI_nM_lt, at_nI, gS_at, gS_ne', obind_some, iteT, iteF, ite_p, ite_n]; exact hR.1
      · simp (disch := omega) only [nLit, neg_nI, nI_add, pk_mul, nI_sub1, nI_clamp, gIn_t, gck_t, gLet_e, nI_leI, nI_ltJ, nI_eq, nI_nM_eq, nM_nI_eq, nM_eq, nM_nI_le, nI_nM_le, nM_nI_lt, nI_nM_lt, at_nI, gS_at, gS_ne', obind_some, iteT, iteF, ite_p, ite_n]; exact hR.2.2.1
      · simp (disch := omega) only [nLit, neg_nI, nI_add, pk_mul, nI_sub1, nI_clamp, gIn_t, gck_t, gLet_e, nI_leI, nI_ltJ, nI_eq, nI_nM_eq, nM_nI_eq, nM_eq, nM_nI_le, nI_nM_le, nM_nI_lt, nI_nM_lt, at_nI, gS_at, gS_ne', obind_some, iteT, iteF, ite_p, ite_n]; exact hR.2.2.2.1
      · exact (hR.sl (i := i) hi).off (hL.m1 i hi).2 (Z := fun k j => decide (k = 1 ∧ j < 4)) (gOff.rf.S1 (by simp)) (fun j h1 h2 => by simp; omega)
theorem slack_ok {S : St} {G : gP} (hW : S.Wf) (h : mSt S G) (a : Int32) : Ok (f_X11_slack G a) (mA (sSlack S a)) := by
  unfold f_X11_slack sSlack
  have hL := hW.now
  rw [in_rg a (lo := 0) (hi := 21) rfl rfl]
  cases ha : rg a 0 21 with
  | none => exact ⟨_, rfl, h, rfl⟩
  | some k =>
    obtain ⟨-, hk, rfl⟩ := rg_some ha
    simp only [Option.isSome_some, if_true]
    rw [if_neg (by decide)]
    have h5 := hL.s20
    have e1 : gS G 1 2 = nI S.now.slack := h.now.2.2.1
    by_cases hn : S.now.slack = k
    · simp (disch := omega) only [nLit, neg_nI, nI_add, pk_mul, nI_sub1, nI_clamp, gIn_t, gck_t, gLet_e, nI_leI, nI_ltJ, nI_eq, nI_nM_eq, nM_nI_eq, nM_eq, nM_nI_le, nI_nM_le, nM_nI_lt, nI_nM_lt, at_nI, gS_at, gS_ne', obind_some, iteT, iteF, ite_p, ite_n, e1]; exact ⟨_, rfl, h, rfl⟩
    · simp (disch := omega) only [nLit, neg_nI, nI_add, pk_mul, nI_sub1, nI_clamp, gIn_t, gck_t, gLet_e, nI_leI, nI_ltJ, nI_eq, nI_nM_eq, nM_nI_eq, nM_eq, nM_nI_le, nI_nM_le, nM_nI_lt, nI_nM_lt, at_nI, gS_at, gS_ne', obind_some, iteT, iteF, ite_p, ite_n, e1]
      refine Ok.bind (h.note hW) (fun G1 h1 => ⟨_, rfl, h1.2.up (gOff.rf.S1 rfl) ?_, rfl⟩)
      have hR := h1.2.now
      refine mRow.of ?_ ?_ gS_at ?_ (fun i hi => ?_)
      · simp (disch := omega) only [nLit, neg_nI, nI_add, pk_mul, nI_sub1, nI_clamp, gIn_t, gck_t, gLet_e, nI_leI, nI_ltJ, nI_eq, nI_nM_eq, nM_nI_eq, nM_eq, nM_nI_le, nI_nM_le, nM_nI_lt, nI_nM_lt, at_nI, gS_at, gS_ne', obind_some, iteT, iteF, ite_p, ite_n]; exact hR.1
      · simp (disch := omega) only [nLit, neg_nI, nI_add, pk_mul, nI_sub1, nI_clamp, gIn_t, gck_t, gLet_e, nI_leI, nI_ltJ, nI_eq, nI_nM_eq, nM_nI_eq, nM_eq, nM_nI_le, nI_nM_le, nM_nI_lt, nI_nM_lt, at_nI, gS_at, gS_ne', obind_some, iteT, iteF, ite_p, ite_n]; exact hR.2.1
      · simp (disch := omega) only [nLit, neg_nI, nI_add, pk_mul, nI_sub1, nI_clamp, gIn_t, gck_t, gLet_e, nI_leI, nI_ltJ, nI_eq, nI_nM_eq, nM_nI_eq, nM_eq, nM_nI_le, nI_nM_le, nM_nI_lt, nI_nM_lt, at_nI, gS_at, gS_ne', obind_some, iteT, iteF, ite_p, ite_n]; exact hR.2.2.2.1
      · exact (hR.sl (i := i) hi).off (hL.m1 i hi).2 (Z := fun k j => decide (k = 1 ∧ j < 4)) (gOff.rf.S1 (by simp)) (fun j h1 h2 => by simp; omega)
theorem seed_ok {S : St} {G : gP} (hW : S.Wf) (h : mSt S G) (a : Int32) : Ok (f_X11_seed G a) (mA (sSeed S a)) := by
  unfold f_X11_seed sSeed
  have hL := hW.now
  by_cases ha : 0 ≤ a
  · rw [if_pos ha, if_pos ha]
    simp only [gLet]
    have x1 := Int32.le_iff_toInt_le.mp ha
    have x4 : ((0 : Int32)).toInt = 0 := by decide
    have hR := h.now
    refine ⟨_, rfl, h.now' (Z := nowZ) (gOff.rf.S1 rfl) (fun _ _ hk => nowZ_k hk) ?_, hR.2.2.2.1⟩
    refine mRow.of ?_ ?_ ?_ ?_ (fun i hi => ?_)
    · simp (disch := omega) only [nLit, neg_nI, nI_add, pk_mul, nI_sub1, nI_clamp, gIn_t, gck_t, gLet_e, nI_leI, nI_ltJ, nI_eq, nI_nM_eq, nM_nI_eq, nM_eq, nM_nI_le, nI_nM_le, nM_nI_lt, nI_nM_lt, at_nI, gS_at, gS_ne', obind_some, iteT, iteF, ite_p, ite_n]; exact hR.1
    · simp (disch := omega) only [nLit, neg_nI, nI_add, pk_mul, nI_sub1, nI_clamp, gIn_t, gck_t, gLet_e, nI_leI, nI_ltJ, nI_eq, nI_nM_eq, nM_nI_eq, nM_eq, nM_nI_le, nI_nM_le, nM_nI_lt, nI_nM_lt, at_nI, gS_at, gS_ne', obind_some, iteT, iteF, ite_p, ite_n]; exact hR.2.1
    · simp (disch := omega) only [nLit, neg_nI, nI_add, pk_mul, nI_sub1, nI_clamp, gIn_t, gck_t, gLet_e, nI_leI, nI_ltJ, nI_eq, nI_nM_eq, nM_nI_eq, nM_eq, nM_nI_le, nI_nM_le, nM_nI_lt, nI_nM_lt, at_nI, gS_at, gS_ne', obind_some, iteT, iteF, ite_p, ite_n]; exact hR.2.2.1
    · rw [gS_at]; exact nJ_of (show a.toInt = ((a.toInt.toNat : Nat) : Int) by omega)
    · exact (hR.sl (i := i) hi).off (hL.m1 i hi).2 (Z := fun k j => decide (k = 1 ∧ j < 4)) (gOff.rf.S1 (by simp)) (fun j h1 h2 => by simp; omega)
  · rw [if_neg ha, if_neg ha]; exact ⟨_, rfl, h, rfl⟩
