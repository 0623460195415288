set_option maxRecDepth 100000
section C5
variable {g : rb_G} {ms : mm_S} {ad : aD} {h : Nat} {ms0 : mm_S} {M : rb_H} {B : Nat}
theorem X0_row (R : Rep g ms ad h ms0 M) (I : Inv B ms) {a b i j : Int32} : rb_Ct g yX0_row wX0_row 4 (0, 0) [.ref (ad 0 0), .int a, .int b, .int i, .int j] M (xE g (F_row ms a b i j) ad h ms0) := by
  obtain ⟨sg, hm⟩ := R.main
  have hpn := I.pn
  have hon := I.on
  refine rb_Ct.of (by decide) (Nat.le_of_ble_eq_true rfl) rfl ?_
  refine sgX0_row_0 (uVo (X0_stateOf R I) stV_isR (rb_dpk (by decide)) zr R.ob0 ?_)
  rcases stV_cases ad I (a := a) (b := b) with ⟨q, e⟩ | ⟨o, p, t, ho, hp, ht, rfl, rfl, hl, e1, e2, e3, e4, hs, hsp⟩
  · rw [e]
    exact ⟨fun _ => ⟨zf, xE_of (by rw [F_row, if_pos (Or.inl q)]) R⟩, fun q6 h1 => (by cases h1)⟩
  · rw [e4]
    refine ⟨fun h1 => (by cases h1), fun q6 h1 => ?_⟩
    cases h1
    have hP := R.ls 0 0 (by decide) rfl
    obtain ⟨c, hc, f, rfl, hf⟩ := R.1 17 (24 * o + t) hs
    obtain ⟨c2, hc2, f2, rfl, hf2⟩ := R.1 16 (24 * o + t) hs
    rw [hsp] at hc2 hf2
    have ec := (I.pt hp).2.1.n (by decide)
    have el := I.ln (I.ro ho).2
    refine ⟨_, ⟨_, hm, rfl⟩, rb_isR_ref _, _, rfl, uRo (J4_get hP hp) (rb_dpk (by decide)) zr hP.ob ⟨_, rfl, 5, R.obP hp, cc_5, _, ⟨_, R.part hp, rfl⟩, uI X0_in (rb_dpk (by decide)) zr ⟨fun h2 => ?_, fun h2 => ⟨zf, ?_⟩⟩⟩⟩ <;> rw [pIn0] at h2
    · obtain ⟨k, hk, rfl⟩ := (pIn_n (I.pt hp).2.1 (by decide)).mp (Decidable.not_not.mp h2)
      have hk2 : k < 2 := by omega
      have ek : (nI k).toNatClampNeg = k := nI_clamp (by omega)
      have hv : vp_in (nI k) 2 := vp_in_nI hk2 (by decide)
      have hfk := hf k hk2
      have hgood : ¬ (F_placeIn ms (nI o) (nI p) < 0 ∨ ¬ (0 ≤ nI k ∧ nI k ≤ ms.1 2 (nv (nI p)) - 1)) := by rw [nv_nI (by omega)]; rintro (q | q); exact e2 q; exact h2 q
      refine ⟨_, ⟨_, R.state hs, rfl⟩, rb_isR_ref _, _, rfl, 2, f, _, hc, hv, rfl, fun h3 => ⟨zf, ?_⟩, fun h3 => ⟨_, ⟨_, R.state hs, rfl⟩, rb_isR_ref _, _, rfl, 2, f, _, hc, hv, rfl, uI X0_in (rb_dpk (by decide)) zr ⟨fun h4 => ⟨fun h5 => ?_, fun h5 => ?_⟩, fun h4 => ⟨zf, ?_⟩⟩⟩⟩
      · refine xE_of ?_ R
        rw [F_row, if_neg hgood, e3, nv_nI (by omega), if_pos]
        rw [ek, hfk] at h3
        rcases I.rw ho ht hk2 with q | q
        · rw [q]; decide
        · rw [if_neg (fun q2 => by rw [q2] at q; obtain ⟨n, hn, e⟩ := q; exact absurd e (by have := nI_pos (n := n) (by omega); intro e; rw [← e] at this; exact this (by decide)))] at h3
          exact h3
      all_goals
        have hB : iB (ms.1 43 (2 * (24 * o + t) + k)) 12 := by
          rw [ek, hfk] at h3
          rcases I.rw ho ht hk2 with q | q
          · rw [if_pos q] at h3
            exact absurd h3 (by decide)
          · exact q
        have eB := hB.n (by decide)
        have hne9 : ms.1 43 (2 * (24 * o + t) + k) ≠ -9 := by
          intro q
          have := nI_pos (n := nN ms 43 (2 * (24 * o + t) + k)) (by omega)
          rw [← eB.1, q] at this
          exact this (by decide)
        rw [if_neg hne9] at hfk
        have h30 : ¬ ms.1 43 (2 * (24 * o + t) + k) < 0 := by rw [eB.1]; exact nI_pos (by omega)
        rw [ek, hfk] at h4
        rw [pIn0] at h4
      · have h4 := Decidable.not_not.mp h4
        have hj0 : 0 ≤ j ∧ j ≤ ms.1 43 (2 * (24 * o + t) + k) - 1 := by
          refine ⟨?_, h4.2⟩
          have q1 := Int32.le_iff_toInt_le.mp h4.1
          refine Int32.le_iff_toInt_le.mpr ?_
          have q2 : j.toInt ≠ -1 := fun q => h5 (toInt_eq q rfl)
          have q3 : (-1 : Int32).toInt = -1 := rfl
          have q4 : (0 : Int32).toInt = 0 := rfl
          omega
        obtain ⟨y, hy, rfl⟩ := (pIn_n hB (by decide)).mp hj0
        rw [ix12]
        refine ⟨_, ⟨_, R.state hs, rfl⟩, rb_isR_ref _, _, rfl, _, f2, _, hc2, vp_in_nI (by omega) (by omega), rfl, _, _, _, X0_tells R, rb_dpk (by decide), zr, R.ob0, ?_⟩
        rintro _ M' ⟨rfl, R'⟩
        rw [nI_clamp (by omega), hf2 k y hk (by omega) hne9] at R'
        refine ⟨_, rfl, zf, xE_of ?_ R'⟩
        rw [F_row, if_neg hgood, e3, nv_nI (by omega), if_neg h30, if_neg h5, if_neg (fun q => q hj0), nv_nI (by omega)]
      · refine ⟨_, ⟨_, R.state hs, rfl⟩, rb_isR_ref _, _, rfl, 2, f, _, hc, hv, rfl, _, _, _, X0_tells R, rb_dpk (by decide), zr, R.ob0, ?_⟩
        rintro _ M' ⟨rfl, R'⟩
        rw [ek, hfk] at R'
        refine ⟨_, rfl, zf, xE_of ?_ R'⟩
        rw [F_row, if_neg hgood, e3, nv_nI (by omega), if_neg h30, if_pos h5]
      · refine xE_of ?_ R
        rw [F_row, if_neg hgood, e3, nv_nI (by omega), if_neg h30, if_neg, if_pos]
        · exact fun q => h4 ⟨Int32.le_trans (by decide) q.1, q.2⟩
        · intro q
          refine h4 ⟨by rw [q]; decide, ?_⟩
          rw [q, eB.1]
          by_cases h0 : nN ms 43 (2 * (24 * o + t) + k) = 0
          · rw [h0]; decide
          · rw [show nN ms 43 (2 * (24 * o + t) + k) = (nN ms 43 (2 * (24 * o + t) + k) - 1) + 1 by omega, nI_pred]
            exact Int32.le_trans (by decide) (nI_pos' (by omega))
    · exact xE_of (by rw [F_row, if_pos (by rw [nv_nI (by omega)]; exact Or.inr h2)]) R
theorem as6 : rb_AS 29 6 := ⟨_, rfl, Or.inl rfl⟩
/-- a holder is written -/
theorem Rep.holder (R : Rep g ms ad h ms0 M) {s k : Nat} {c : Int32} {f : Nat → Option Nat} (hs : stX ms s) (hk : k < 2) (hf : ∀ k, k < 2 → f k = hoRf ms ad (2 * s + k)) {v : Option Nat} (hv : v = if c = -9 then none else some (ad 13 (nv c))) : Rep g (mm_sI ms 45 (2 * s + k) c) ad h ms0 (rb_up M (ad 18 s) (rb_R 6 2 (va_up f k v))) := by
  refine R.put 18 s [45] (fun F hF => sI_other F (by simpa using hF)) (by decide) (fun k hk F hF => by rw [List.mem_singleton] at hF; rw [hF]; exact dX_only 45 18 (by decide) k hk) hs ?_ ?_
  · rintro i hi hx c' ⟨f', rfl, hf'⟩
    refine ⟨f', rfl, fun j hj => ?_⟩
    rw [hf' j hj, hoRf, hoRf]
    have : (mm_sI ms 45 (2 * s + k) c).1 45 (2 * i + j) = ms.1 45 (2 * i + j) := by
      rw [mm_sI_k]; simp [va_up, show ¬ (2 * i + j = 2 * s + k) by omega]
    simp only [nN, this]
  · refine ⟨_, rfl, fun j hj => ?_⟩
    by_cases hjk : j = k
    · subst hjk
      rw [va_up_self, hv, hoRf]
      simp only [nN, mm_sI_k, va_up_self]
      rfl
    · rw [show va_up f k v j = f j by simp [va_up, hjk], hf j hj, hoRf, hoRf]
      have : (mm_sI ms 45 (2 * s + k) c).1 45 (2 * s + j) = ms.1 45 (2 * s + j) := by
        rw [mm_sI_k]; simp [va_up, hjk]
      simp only [nN, this]
theorem X0_hold (R : Rep g ms ad h ms0 M) (I : Inv B ms) {a b i c : Int32} : rb_Ct g yX0_hold wX0_hold 4 (0, 0) [.ref (ad 0 0), .int a, .int b, .int i, .int c] M (xE g (F_hold ms a b i c) ad h ms0) := by
  obtain ⟨sg, hm⟩ := R.main
  have hpn := I.pn
  have hon := I.on
  refine rb_Ct.of (by decide) (Nat.le_of_ble_eq_true rfl) rfl ?_
  refine sgX0_hold_0 (uVo (X0_stateOf R I) stV_isR (rb_dpk (by decide)) zr R.ob0 ?_)
  rcases stV_cases ad I (a := a) (b := b) with ⟨q, e⟩ | ⟨o, p, t, ho, hp, ht, rfl, rfl, hl, e1, e2, e3, e4, hs, hsp⟩
  · rw [e]
    exact ⟨fun _ => ⟨zf, xE_of (by rw [F_hold, if_pos (Or.inl q)]) R⟩, fun q6 h1 => (by cases h1)⟩
  · rw [e4]
    refine ⟨fun h1 => (by cases h1), fun q6 h1 => ?_⟩
    cases h1
    have hP := R.ls 0 0 (by decide) rfl
    have hT := R.ls 2 0 (by decide) rfl
    obtain ⟨cc, hc, f, rfl, hf⟩ := R.1 18 (24 * o + t) hs
    have ec := (I.pt hp).2.2.1.n (by decide)
    have el := I.ln (I.ro ho).2
    refine ⟨_, ⟨_, hm, rfl⟩, rb_isR_ref _, _, rfl, uRo (J4_get hP hp) (rb_dpk (by decide)) zr hP.ob ⟨_, rfl, 5, R.obP hp, cc_5, _, ⟨_, R.part hp, rfl⟩, uI X0_in (rb_dpk (by decide)) zr ⟨fun h2 => ⟨zf, ?_⟩, fun h2 => ?_⟩⟩⟩ <;> rw [pIn0] at h2
    · exact xE_of (by rw [F_hold, if_pos (by rw [nv_nI (by omega)]; exact Or.inr (Or.inl h2))]) R
    · obtain ⟨k, hk, rfl⟩ := (pIn_n (I.pt hp).2.2.1 (by decide)).mp (Decidable.not_not.mp h2)
      have hk2 : k < 2 := by omega
      have ek : (nI k).toNatClampNeg = k := nI_clamp (by omega)
      have hv : vp_in (nI k) 2 := vp_in_nI hk2 (by decide)
      have hfk := hf k hk2
      have hS := R.state hs
      have hgood : (c ≠ -9 → isO ms c) → ¬ (F_placeIn ms (nI o) (nI p) < 0 ∨ ¬ (0 ≤ nI k ∧ nI k ≤ ms.1 3 (nv (nI p)) - 1) ∨ (c ≠ -9 ∧ ¬ isO ms c)) := by
        rw [nv_nI (by omega)]; intro hc'; rintro (q | q | q); exact e2 q; exact h2 q; exact q.2 (hc' q.1)
      have hF : (c ≠ -9 → isO ms c) → F_hold ms (nI o) (nI p) (nI k) c = (ms.1 45 (2 * (24 * o + t) + k), mm_sI ms 45 (2 * (24 * o + t) + k) c) := by
        intro hc'
        rw [F_hold, if_neg (hgood hc'), e3, nv_nI (by omega)]
      rw [ek]
      rcases (I.2.2.2.2.2.1.2.2 o t k ho ht hk2).2 with h9 | ⟨z, hz, ez⟩
      · have hfn : f k = none := by rw [hfk, hoRf, if_pos h9]
        refine ⟨fun h3 => ⟨_, ⟨_, hS, rfl⟩, rb_isR_ref _, _, rfl, 6, 2, f, .null, hc, ⟨by decide, by decide⟩, hv, by rw [hfn]; rfl, fun _ => ⟨_, ⟨_, hS, rfl⟩, rb_isR_ref _, fun h4 => absurd h3 h4, fun _ => ⟨_, rfl, 6, 2, f, hc, ⟨by decide, by decide⟩, hv, zf, xE_of ?_ (R.holder (c := c) hs hk2 hf (by rw [if_pos h3]))⟩⟩, fun q h4 => (by cases h4)⟩, fun h3 => uIo (X0_isThing R I.O) (rb_dpk (by decide)) zr R.ob0 ⟨fun h4 => ?_, fun h4 => ⟨zf, ?_⟩⟩⟩
        · rw [hF (fun q => absurd h3 q), h9]
        · rw [pIn0] at h4
          have h4 := Decidable.not_not.mp h4
          have hO := h4
          obtain ⟨y, hy, rfl⟩ := (isO_iff I.O).mp h4
          refine ⟨_, ⟨_, hS, rfl⟩, rb_isR_ref _, _, rfl, 6, 2, f, .null, hc, ⟨by decide, by decide⟩, hv, by rw [hfn]; rfl, fun _ => ⟨_, ⟨_, hS, rfl⟩, rb_isR_ref _, fun _ => ⟨_, ⟨_, hm, rfl⟩, rb_isR_ref _, _, rfl, uRo (J4_get hT hy) (rb_dpk (by decide)) zr hT.ob ⟨_, rfl, 29, ⟨_, R.thing hy⟩, cc_29, _, rfl, 6, 2, 29, f, hc, ⟨by decide, by decide⟩, hv, ⟨_, R.thing hy⟩, as6, zf, xE_of ?_ (R.holder (c := nI y) hs hk2 hf (by rw [if_neg h3, nv_nI (by omega)]))⟩⟩, fun h5 => absurd h5 h3⟩, fun q h5 => (by cases h5)⟩
          rw [hF (fun _ => hO), h9]
        · rw [pIn0] at h4
          exact xE_of (by rw [F_hold, if_pos (Or.inr (Or.inr ⟨h3, h4⟩))]) R
      · have hne9 : ms.1 45 (2 * (24 * o + t) + k) ≠ -9 := by
          rw [ez]; intro q
          have := nI_pos (n := z) (by omega)
          rw [q] at this
          exact this (by decide)
        have hnz : nN ms 45 (2 * (24 * o + t) + k) = z := by rw [nN, ez, nI_clamp (by omega)]
        have hfn : f k = some (ad 13 z) := by rw [hfk, hoRf, if_neg hne9, hnz]
        refine ⟨fun h3 => ⟨_, ⟨_, hS, rfl⟩, rb_isR_ref _, _, rfl, 6, 2, f, .ref (ad 13 z), hc, ⟨by decide, by decide⟩, hv, by rw [hfn]; rfl, fun h4 => (by cases h4), fun q h4 => ⟨_, ⟨_, hS, rfl⟩, rb_isR_ref _, _, rfl, 6, 2, f, .ref (ad 13 z), hc, ⟨by decide, by decide⟩, hv, by rw [hfn]; rfl, _, rfl, _, ⟨_, R.thing hz, rfl⟩, _, ⟨_, hS, rfl⟩, rb_isR_ref _, fun h4 => absurd h3 h4, fun _ => ⟨_, rfl, 6, 2, f, hc, ⟨by decide, by decide⟩, hv, zf, xE_of ?_ (R.holder (c := c) hs hk2 hf (by rw [if_pos h3]))⟩⟩⟩, fun h3 => uIo (X0_isThing R I.O) (rb_dpk (by decide)) zr R.ob0 ⟨fun h4 => ?_, fun h4 => ⟨zf, ?_⟩⟩⟩
        · rw [hF (fun q => absurd h3 q), ez]
        · rw [pIn0] at h4
          have h4 := Decidable.not_not.mp h4
          have hO := h4
          obtain ⟨y, hy, rfl⟩ := (isO_iff I.O).mp h4
          refine ⟨_, ⟨_, hS, rfl⟩, rb_isR_ref _, _, rfl, 6, 2, f, .ref (ad 13 z), hc, ⟨by decide, by decide⟩, hv, by rw [hfn]; rfl, fun h5 => (by cases h5), fun q h5 => ⟨_, ⟨_, hS, rfl⟩, rb_isR_ref _, _, rfl, 6, 2, f, .ref (ad 13 z), hc, ⟨by decide, by decide⟩, hv, by rw [hfn]; rfl, _, rfl, _, ⟨_, R.thing hz, rfl⟩, _, ⟨_, hS, rfl⟩, rb_isR_ref _, fun _ => ⟨_, ⟨_, hm, rfl⟩, rb_isR_ref _, _, rfl, uRo (J4_get hT hy) (rb_dpk (by decide)) zr hT.ob ⟨_, rfl, 29, ⟨_, R.thing hy⟩, cc_29, _, rfl, 6, 2, 29, f, hc, ⟨by decide, by decide⟩, hv, ⟨_, R.thing hy⟩, as6, zf, xE_of ?_ (R.holder (c := nI y) hs hk2 hf (by rw [if_neg h3, nv_nI (by omega)]))⟩⟩, fun h5 => absurd h5 h3⟩⟩
          rw [hF (fun _ => hO), ez]
        · rw [pIn0] at h4
          exact xE_of (by rw [F_hold, if_pos (Or.inr (Or.inr ⟨h3, h4⟩))]) R
end C5
