/-! the Model: questions -/
theorem nI_m1 {n : Nat} (h : 1 ≤ n) : nI n + nM 1 = nI (n - 1) := by
  unfold nM
  rw [← Int32.sub_eq_add_neg]
  exact pk_sub h
theorem Ok.out {σ ρ : Type} {f : σ → Option (σ ⊕ ρ)} {P : ρ → Prop} {s : σ} {r : ρ} (h : f s = Option.some (Sum.inr r)) (hp : P r) : Ok (gloop f gFu s) P :=
  Ok.loop (fun _ s' => s' = s) (fun n s' e => by subst e; exact ⟨_, h, hp⟩) gFu 0 s (by unfold gFu; omega) rfl
def uZ (k j : Nat) : Bool := tsZ k j || decide (k = 8 ∨ k = 9)
theorem uZ_t {k j : Nat} (h : uZ k j = false) : tZ k j = false := by unfold uZ at h; rw [Bool.or_eq_false_iff] at h; exact tsZ_t h.1
theorem uZ_ts {k j : Nat} (h : uZ k j = false) : tsZ k j = false := by unfold uZ at h; rw [Bool.or_eq_false_iff] at h; exact h.1
theorem sQ.u {L : Lt} {G G' : gP} (h : sQ L G) (hO : gOff uZ G G') : sQ L G' := h.off hO (fun k j h => by simp [uZ, tsZ, tZ]; omega)
theorem qs_push {L : Lt} (hL : L.Wf) (h60 : L.C.length ≤ 60) {G : gP} (hS : sQ L G) {x : Int64} {k d : Nat} (hq : L.qL x = some k) (h1 : 1 ≤ L.qN x) (hd : d + L.qN x ≤ L.C.length) {st : List (Int64 × Nat)} (hO' : L.stO st) (hs : L.qN x + L.sq st ≤ L.C.length) (hk : stk G st) :
    Ok (gloop (f_X11_questions_b113 (nI k) x (nI d)) gFu (G, nI st.length, (0 : Int32))) (fun r => gOff uZ G r.1 ∧ r.2 = nI (L.pt x k d (L.m k) ++ st).length ∧ stk r.1 (L.pt x k d (L.m k) ++ st)) := by
  have hkn := (lk_some _ _ _ _ hq).1
  have h8 := hL.n8
  have hm := hL.m1 k hkn
  refine Ok.up (fun c s => gOff uZ G s.1 ∧ s.2 = (nI (L.pt x k d c ++ st).length, nI c) ∧ stk s.1 (L.pt x k d c ++ st)) (L.m k) (by omega) ?_ ?_ ⟨gOff.rf, rfl, hk⟩
  · rintro c ⟨G1, y⟩ hc ⟨hO, hy, hst⟩
    simp only at hO hy hst
    subst hy
    have hS1 := hS.u hO
    have hw := hL.w32 k c hkn hc
    have e0 := (hS1.row.2.2.2.2 k hkn).1
    have e1 := ((hS1.row.2.2.2.2 k hkn).2 c hc).1
    rw [show 0 + 4 + 9 * k = 4 + 9 * k by omega] at e0
    rw [show 0 + 5 + 9 * k + c = 4 + 9 * k + 1 + c by omega] at e1
    have hOc := L.pt_O hL h60 hq hd c (by omega)
    have hlen : (L.pt x k d c ++ st).length ≤ 60 := by
      have a1 := L.sq_len _ hOc
      have a2 := L.sq_len _ hO'
      have a3 := L.pt_sq h60 x k d c
      have a4 := L.su_hv hL hkn (L.rs x L.C.length) c (by omega)
      have a5 : (L.rs x L.C.length).length = L.qN x := rfl
      rw [List.length_append]; omega
    unfold f_X11_questions_b113
    simp (disch := omega) only [nLit, neg_nI, nI_add, pk_mul, nI_sub1, nI_clamp, gIn_t, gck_t, gLet_e, nI_leI, nI_ltJ, nI_eq, nI_nM_eq, nM_nI_eq, nM_eq, nM_nI_le, nI_nM_le, nM_nI_lt, nI_nM_lt, at_nI, gS_at, gS_ne', obind_some, iteT, iteF, ite_p, ite_n, e0, e1]
    refine Ok.bind (partOf_ok hL hS1 h60 x hkn hw) (fun q hq2 => ?_)
    obtain ⟨hO2, hq2⟩ := hq2
    have hO3 := hO.tr (hO2.w (fun k j => uZ_t))
    have hst2 := stk.off hO2 _ (fun k j hk _ => by simp [tZ]; omega) hst
    rw [hq2]
    by_cases h0 : L.qW x k (L.w k c) = 0
    · rw [if_pos h0]
      have e : L.pt x k d (c + 1) = L.pt x k d c := by rw [Lt.pt, if_pos h0]
      refine ⟨_, rfl, hO3, ?_, ?_⟩
      · rw [e]
      · rw [e]; exact hst2
    · rw [if_neg h0]
      have e : L.pt x k d (c + 1) = (L.qW x k (L.w k c), d + 1) :: L.pt x k d c := by rw [Lt.pt, if_neg h0]
      refine ⟨_, rfl, (hO3.L1 (by simp [uZ])).S1 (by simp [uZ]), ?_, ?_⟩
      · rw [e]; rfl
      · rw [e, List.cons_append]
        generalize L.pt x k d c ++ st = l at *
        refine ⟨?_, ?_, ?_⟩
        · show gL (gS1 (gL1 q.1 8 _ _) 9 _ _) 8 _ = _
          rw [gL_S1, gL_L1, if_pos ⟨rfl, rfl⟩]
        · show gS (gS1 _ 9 _ _) 9 _ = _
          rw [gS_at]
        · refine stk.off (Z := fun k j => decide ((k = 8 ∨ k = 9) ∧ j = l.length)) ((gOff.rf.L1 ?_).S1 ?_) _ ?_ hst2
          · simp
          · simp
          · intro k j hk hj; simp; intro _; omega
  · rintro ⟨G1, y⟩ ⟨hO, hy, hst⟩
    simp only at hO hy hst
    subst hy
    have hS1 := hS.u hO
    have e0 := (hS1.row.2.2.2.2 k hkn).1
    rw [show 0 + 4 + 9 * k = 4 + 9 * k by omega] at e0
    unfold f_X11_questions_b113
    simp (disch := omega) only [nLit, neg_nI, nI_add, pk_mul, nI_sub1, nI_clamp, gIn_t, gck_t, gLet_e, nI_leI, nI_ltJ, nI_eq, nI_nM_eq, nM_nI_eq, nM_eq, nM_nI_le, nI_nM_le, nM_nI_lt, nI_nM_lt, at_nI, gS_at, gS_ne', obind_some, iteT, iteF, ite_p, ite_n, e0]
    exact ⟨_, rfl, hO, rfl, hst⟩
noncomputable def Lt.qs (L : Lt) : Int32 := if L.C.length = 0 ∨ 60 < L.C.length then -4 else nI (L.ask (gShlL 1 (nI L.C.length) - 1))
theorem questions_ok {G : gP} {L : Lt} (hL : L.Wf) (hR : mRow G 1 0 L) : Ok (f_X11_questions G) (fun q => gOff qZ G q.1 ∧ q.2 = L.qs) := by
  unfold f_X11_questions Lt.qs
  have h8 := hL.n8
  have hN := hL.N_le
  refine Ok.bind (counts_ok hL hR) (fun G1 h1 => ?_)
  obtain ⟨hO, hC⟩ := h1
  have hO' := hO.w (fun k j => qZ_c)
  have hCl : L.C.length ≤ L.N := L.cl_len L.N
  by_cases hc0 : L.C.length = 0
  · rw [if_pos (Or.inl hc0), hC.many, hc0, if_pos nI_0]
    exact ⟨_, rfl, hO', rfl⟩
  · by_cases hc60 : 60 < L.C.length
    · rw [if_pos (Or.inr hc60)]
      simp (disch := omega) only [nLit, neg_nI, nI_add, pk_mul, nI_sub1, nI_clamp, gIn_t, gck_t, gLet_e, nI_leI, nI_ltJ, nI_eq, nI_nM_eq, nM_nI_eq, nM_eq, nM_nI_le, nI_nM_le, nM_nI_lt, nI_nM_lt, at_nI, gS_at, gS_ne', obind_some, iteT, iteF, ite_p, ite_n, hC.many]
      exact ⟨_, rfl, hO', rfl⟩
    · have h60 : L.C.length ≤ 60 := by omega
      rw [if_neg (show ¬ (L.C.length = 0 ∨ 60 < L.C.length) by omega)]
      simp (disch := omega) only [nLit, neg_nI, nI_add, pk_mul, nI_sub1, nI_clamp, gIn_t, gck_t, gLet_e, nI_leI, nI_ltJ, nI_eq, nI_nM_eq, nM_nI_eq, nM_eq, nM_nI_le, nI_nM_le, nM_nI_lt, nI_nM_lt, at_nI, gS_at, gS_ne', obind_some, iteT, iteF, ite_p, ite_n, hC.many]
      have hS1 : sQ L G1 := ⟨hR.q hO', hC.many, fun i hi => hC.list i (by omega) _ (L.rd_C hi)⟩
      generalize hx : (gShlL 1 (nI L.C.length) - 1) = x
      have hqx : L.qN x = L.C.length := by
        have : ∀ t, t ≤ L.C.length → (L.rs x t).length = t := by
          intro t
          induction t with
          | zero => intro _; rfl
          | succ t ih =>
            intro ht
            rw [Lt.rs, ← hx, msk_b (by omega) (by omega), hx, decide_eq_true (by omega), if_pos rfl, List.length_append, ih (by omega)]; rfl
        exact this _ (Nat.le_refl _)
      refine Ok.bind (Q := fun q => gOff qZ G q.1 ∧ q.2 = nI (L.ask x)) ?_ (fun q hq => ⟨_, rfl, hq⟩)
      refine Ok.loop (fun n s => ∃ st mo, gOff qZ G s.1 ∧ sQ L s.1 ∧ s.2 = (nI mo, nI st.length) ∧ stk s.1 st ∧ max mo (L.vS st) = L.ask x ∧ L.stO st ∧ L.sq st ≤ L.C.length ∧ n = L.mu st ∧ mo ≤ 60) ?_ gFu (L.mu [(x, 0)]) _ ?_ ?_
      · rintro n ⟨G2, z⟩ ⟨st, mo, hO2, hS2, hz, hst, hmax, hsO, hsq, hn, hmo⟩
        simp only at hO2 hS2 hz hst
        subst hz
        cases st with
        | nil =>
          unfold f_X11_questions_b48
          simp only
          rw [if_pos (by decide)]
          refine ⟨_, rfl, hO2, ?_⟩
          simp only
          have hz : L.vS [] = 0 := rfl
          rw [hz] at hmax
          rw [← hmax]; apply nI_inj; omega
        | cons p st =>
          obtain ⟨y, d⟩ := p
          obtain ⟨hy, hd, hst'⟩ := hst
          have hp := hsO (y, d) (List.mem_cons_self ..)
          simp only at hp
          have hsO' : L.stO st := fun q hq => hsO q (List.mem_cons_of_mem _ hq)
          have hln := L.sq_len _ hsO'
          simp only [Lt.sq] at hsq
          simp only [Lt.vS] at hmax
          simp only [Lt.mu] at hn
          unfold f_X11_questions_b48
          simp only [List.length_cons]
          simp (disch := omega) only [nLit, neg_nI, nI_add, pk_mul, nI_sub1, nI_clamp, gIn_t, gck_t, gLet_e, nI_leI, nI_ltJ, nI_eq, nI_nM_eq, nM_nI_eq, nM_eq, nM_nI_le, nI_nM_le, nM_nI_lt, nI_nM_lt, at_nI, gS_at, gS_ne', obind_some, iteT, iteF, ite_p, ite_n, nI_m1, Nat.add_sub_cancel, hy, hd]
          refine Ok.bind (tellsSame_ok hL hS2 h60 y) (fun q hq => ?_)
          obtain ⟨hO3, hsm, hleft, hhv⟩ := hq
          have hS3 := hS2.ts hO3
          have hst3 := stk.off hO3 _ (fun k j hk _ => by simp [tsZ, tZ]; omega) hst'
          have hO3q : gOff qZ G q.1 := hO2.tr (hO3.w (fun k j h => by simp [qZ] at h; simp [tsZ, tZ]; omega))
          have hqc := L.qN_le y
          have hask := L.ask_eq hL h60 y
          -- the slot that is asked about
          refine Ok.bind (Q := fun r => r = rI (if L.sm y L.C.length = true then none else L.qL y)) ?_ (fun r hr => ?_)
          · rw [hsm]
            cases hsy : L.sm y L.C.length with
            | true => rw [if_neg (by decide)]; exact ⟨_, rfl, rfl⟩
            | false =>
              rw [if_pos (by decide)]
              have hvb : ∀ k w, L.hv (L.rs y L.C.length) k w < 2 ^ 30 := fun k w => by
                have := L.hv_le (L.rs y L.C.length) k w
                have := L.rs_len y L.C.length
                omega
              refine Ok.bind (by rw [hleft]; exact look_ok hL hS3.row.1 hvb hhv (show L.qN y < 2 ^ 30 by omega)) (fun r hr => ⟨_, rfl, hr⟩)
          · subst hr
            have hdm : (if d ≤ mo then nI mo else nI d) = nI (max mo d) := by
              split <;> (apply nI_inj; omega)
            have hvs : max (max mo d) (max (d + L.ask y) (L.vS st)) = L.ask x := by omega
            cases hsl : (if L.sm y L.C.length = true then none else L.qL y) with
            | none =>
              have ha0 : L.ask y = 0 := by
                rw [hask]
                split
                · rfl
                · rename_i h; rw [if_neg h] at hsl; rw [hsl]
              refine Ok.bind (Q := fun r : gP × Int32 => r = (q.1, nI st.length)) ?_ (fun r hr => ?_)
              · exact Ok.out (by unfold f_X11_questions_b113; exact if_pos rfl) rfl
              · subst hr
                refine ⟨_, rfl, L.mu st, ?_, st, max mo d, hO3q, hS3, ?_, hst3, ?_, hsO', by omega, rfl, by omega⟩
                · rw [hn]; omega
                · simp only [hdm]
                · rw [ha0] at hvs; omega
            | some k =>
              have hsf : L.sm y L.C.length ≠ true := fun z => by rw [if_pos z] at hsl; cases hsl
              rw [if_neg hsf] at hsl
              have hk := (lk_some _ _ _ _ hsl).1
              refine Ok.bind (qs_push hL h60 hS3 hsl hp.1 hp.2 hsO' hsq hst3) (fun r hr => ?_)
              obtain ⟨hO5, hr2, hst5⟩ := hr
              have hsO5 := L.pt_O hL h60 hsl hp.2 (L.m k) (Nat.le_refl _)
              refine ⟨_, rfl, L.mu (L.pt y k d (L.m k) ++ st), ?_, L.pt y k d (L.m k) ++ st, max mo d, ?_, hS3.u hO5, ?_, hst5, ?_, ?_, ?_, rfl, by omega⟩
              · rw [hn, L.mu_app]
                have := L.pt_mu hL h60 hsl hp.2 hp.1
                omega
              · exact hO3q.tr (hO5.w (fun k j h => by simp [qZ] at h; simp [uZ, tsZ, tZ]; omega))
              · simp only [hdm, hr2]
              · rw [L.vS_app, (L.pt_v y k d (L.m k)).2 (L.W_ex hL h60 (by omega) hk)]
                rw [if_neg hsf, hsl] at hask
                simp only at hask
                generalize mx (fun c => if L.qW y k (L.w k c) = 0 then 0 else L.ask (L.qW y k (L.w k c))) (L.m k) = A at *
                omega
              · intro p hp2
                rcases List.mem_append.mp hp2 with h | h
                · exact hsO5 p h
                · exact hsO' p h
              · rw [L.sq_app, L.pt_sq h60]
                have := L.su_hv hL hk (L.rs y L.C.length) (L.m k) (Nat.le_refl _)
                have a5 : (L.rs y L.C.length).length = L.qN y := rfl
                omega
      · simp only [Lt.mu]; unfold gFu; omega
      · refine ⟨[(x, 0)], 0, (hO'.L1 (by simp [qZ])).S1 (by simp [qZ]), ?_, rfl, ?_, ?_, ?_, ?_, rfl, by omega⟩
        · exact hS1.u ((gOff.rf.L1 (by simp [uZ])).S1 (by simp [uZ]))
        · refine ⟨?_, ?_, trivial⟩
          · show gL (gS1 (gL1 _ 8 0 _) 9 0 _) 8 0 = _
            rw [gL_S1, gL_L1, if_pos ⟨rfl, rfl⟩, ← hx]
          · show gS (gS1 _ 9 0 _) 9 0 = _
            rw [gS_at]
        · simp only [Lt.vS]; omega
        · intro p hp
          rw [List.mem_singleton] at hp
          subst hp
          simp only
          omega
        · simp only [Lt.sq]; omega
