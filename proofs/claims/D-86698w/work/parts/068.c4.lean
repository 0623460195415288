set_option maxRecDepth 100000
section C4
variable {g : rb_G} {ms : mm_S} {ad : aD} {h : Nat} {ms0 : mm_S} {M : rb_H} {B : Nat}
/-- the end of a call of the class that moves nothing -/
abbrev xE (g : rb_G) (F : Int32 × mm_S) (ad : aD) (h : Nat) (ms0 : mm_S) : Outcome → rb_H → Prop := fun o M' => o = .returned (some (.int F.1)) ∧ Rep g F.2 ad h ms0 M'
theorem xE_of {F : Int32 × mm_S} {r : Int32} {ms1 : mm_S} (e : F = (r, ms1)) (R : Rep g ms1 ad h ms0 M) : xE g F ad h ms0 (.returned (some (.int r))) M := by subst e; exact ⟨rfl, R⟩
theorem X0_answer (R : Rep g ms ad h ms0 M) : rb_Ct g yX0_answer wX0_answer 0 (0, 0) [.ref (ad 0 0)] M (qr (some (.long (ms.2 62 0))) M) := by
  obtain ⟨sg, hm⟩ := R.main
  refine rb_Ct.of (by decide) (Nat.le_of_ble_eq_true rfl) rfl ?_
  exact sgX0_answer_0 ⟨_, ⟨_, hm, rfl⟩, zf, rfl, rfl⟩
theorem X0_with (R : Rep g ms ad h ms0 M) : rb_Ct g yX0_with wX0_with 0 (0, 0) [.ref (ad 0 0)] M (qr (some (.long (ms.2 67 0))) M) := by
  obtain ⟨sg, hm⟩ := R.main
  refine rb_Ct.of (by decide) (Nat.le_of_ble_eq_true rfl) rfl ?_
  exact sgX0_with_0 ⟨_, ⟨_, hm, rfl⟩, zf, rfl, rfl⟩
theorem X0_told (R : Rep g ms ad h ms0 M) : rb_Ct g yX0_told wX0_told 0 (0, 0) [.ref (ad 0 0)] M (qr (some (.long (ms.2 49 0))) M) := by
  obtain ⟨sg, hm⟩ := R.main
  refine rb_Ct.of (by decide) (Nat.le_of_ble_eq_true rfl) rfl ?_
  exact sgX0_told_0 ⟨_, ⟨_, hm, rfl⟩, zf, rfl, rfl⟩
theorem X0_marks (R : Rep g ms ad h ms0 M) : rb_Ct g yX0_marks wX0_marks 0 (0, 0) [.ref (ad 0 0)] M (qr (some (.int (ms.1 47 0))) M) := by
  obtain ⟨sg, hm⟩ := R.main
  refine rb_Ct.of (by decide) (Nat.le_of_ble_eq_true rfl) rfl ?_
  exact sgX0_marks_0 ⟨_, ⟨_, hm, rfl⟩, zf, rfl, rfl⟩
theorem X0_count (R : Rep g ms ad h ms0 M) (I : Inv B ms) {a : Int32} : rb_Ct g yX0_count wX0_count 1 (0, 0) [.ref (ad 0 0), .int a] M (qr (some (.int (F_count ms a))) M) := by
  obtain ⟨sg, hm⟩ := R.main
  have hL0 := R.ls 0 0 (by decide) rfl
  have hL1 := R.ls 1 0 (by decide) rfl
  have hL2 := R.ls 2 0 (by decide) rfl
  have hL3 := R.ls 3 0 (by decide) rfl
  refine rb_Ct.of (by decide) (Nat.le_of_ble_eq_true rfl) rfl ?_
  refine sgX0_count_0 ⟨fun h1 => ⟨zf, by rw [F_count_out h1], rfl⟩, fun h1 => ?_, fun h1 => ?_, fun h1 => ?_, fun h1 => ?_, fun h1 => ?_, fun h1 => ?_⟩
  · obtain rfl : a = 0 := toInt_eq h1 rfl
    exact ⟨_, ⟨_, hm, rfl⟩, rb_isR_ref _, _, rfl, uIo (J4_size hL0) (rb_dpk (by decide)) zr hL0.ob ⟨zf, by rw [show nI (lenL ms 0 0) = ms.1 0 0 from I.pn.1.symm]; rfl, rfl⟩⟩
  · obtain rfl : a = 1 := toInt_eq h1 rfl
    exact ⟨_, ⟨_, hm, rfl⟩, rb_isR_ref _, _, rfl, uIo (J4_size hL1) (rb_dpk (by decide)) zr hL1.ob ⟨zf, by rw [show nI (lenL ms 1 0) = ms.1 24 0 from I.rn.1.symm]; rfl, rfl⟩⟩
  · obtain rfl : a = 2 := toInt_eq h1 rfl
    exact ⟨_, ⟨_, hm, rfl⟩, rb_isR_ref _, _, rfl, uIo (J4_size hL2) (rb_dpk (by decide)) zr hL2.ob ⟨zf, by rw [show nI (lenL ms 2 0) = ms.1 40 0 from I.on.1.symm]; rfl, rfl⟩⟩
  · obtain rfl : a = 3 := toInt_eq h1 rfl
    exact ⟨_, ⟨_, hm, rfl⟩, zf, rfl, rfl⟩
  · obtain rfl : a = 4 := toInt_eq h1 rfl
    exact ⟨_, ⟨_, hm, rfl⟩, zf, rfl, rfl⟩
  · obtain rfl : a = 5 := toInt_eq h1 rfl
    exact ⟨_, ⟨_, hm, rfl⟩, rb_isR_ref _, _, rfl, uIo (J4_size hL3) (rb_dpk (by decide)) zr hL3.ob ⟨zf, by rw [show nI (lenL ms 3 0) = ms.1 16 0 from (I.2.2.2.1.1.1.n (by decide)).1.symm]; rfl, rfl⟩⟩
theorem X0_shared (R : Rep g ms ad h ms0 M) {a : Int32} : rb_Ct g yX0_shared wX0_shared 1 (0, 0) [.ref (ad 0 0), .int a] M (xE g (F_shared ms a) ad h ms0) := by
  obtain ⟨sg, hm⟩ := R.main
  obtain ⟨c, hc, f, rfl, hf⟩ := R.1 59 0 rfl
  refine rb_Ct.of (by decide) (Nat.le_of_ble_eq_true rfl) rfl ?_
  refine sgX0_shared_0 (uI X0_in (rb_dpk (by decide)) zr ⟨fun h1 => ⟨zf, ?_⟩, fun h1 => ?_⟩) <;> rw [pIn0] at h1
  · exact xE_of (by rw [F_shared, if_pos h1]) R
  · obtain ⟨j, hj, rfl⟩ := (pIn_nat (b := 7) (by decide)).mp (Decidable.not_not.mp h1)
    refine ⟨_, ⟨_, hm, rfl⟩, rb_isR_ref _, _, rfl, 8, f, _, hc, vp_in_nI (by omega) (by decide), rfl, _, _, _, X0_tells R, rb_dpk (by decide), zr, R.ob0, ?_⟩
    rintro _ M' ⟨rfl, R'⟩
    rw [nI_clamp (by omega), hf j (by omega)] at R'
    refine ⟨_, rfl, zf, xE_of ?_ R'⟩
    rw [F_shared, if_neg h1, nv_nI (by omega)]
theorem X0_mark (R : Rep g ms ad h ms0 M) (I : Inv B ms) (hB : B < 2 ^ 31) {a : Int32} : rb_Ct g yX0_mark wX0_mark 1 (0, 0) [.ref (ad 0 0), .int a] M (xE g (F_mark ms a) ad h ms0) := by
  obtain ⟨sg, hm⟩ := R.main
  obtain ⟨c, hc, f, rfl, hf⟩ := R.1 84 0 rfl
  have hR := I.2.2.2.2.2.2.2.1
  have e := hR.n hB
  refine rb_Ct.of (by decide) (Nat.le_of_ble_eq_true rfl) rfl ?_
  refine sgX0_mark_0 ⟨_, ⟨_, hm, rfl⟩, ?_⟩
  rw [e.1]
  refine uI (J6_min (y := 100) (by omega) (by decide)) (rb_dpk (by decide)) zr ?_
  have hmn : min (nN ms 47 0) 100 < 2 ^ 31 := by omega
  refine uI X0_in (rb_dpk (by decide)) zr ⟨fun h1 => ⟨zf, ?_⟩, fun h1 => ?_⟩ <;> rw [pIn0, pIn_pred hmn] at h1
  · refine xE_of ?_ R
    rw [F_mark, if_pos]
    by_cases h2 : 0 ≤ a ∧ a ≤ ms.1 47 0 - 1
    · right
      obtain ⟨j, hj, rfl⟩ := (pIn_n hR hB).mp h2
      rw [show (100 : Int32) = nI 100 from rfl, nI_leI (by decide) (by omega)]
      refine Nat.not_lt.mp fun q => h1 ⟨j, by omega, rfl⟩
    · exact Or.inl h2
  · obtain ⟨j, hj, rfl⟩ := Classical.not_not.mp h1
    refine ⟨_, ⟨_, hm, rfl⟩, rb_isR_ref _, _, rfl, 100, f, _, hc, vp_in_nI (by omega) (by decide), rfl, _, _, _, X0_tells R, rb_dpk (by decide), zr, R.ob0, ?_⟩
    rintro _ M' ⟨rfl, R'⟩
    rw [nI_clamp (by omega), hf j (by omega) (by omega)] at R'
    refine ⟨_, rfl, zf, xE_of ?_ R'⟩
    rw [F_mark, if_neg, nv_nI (by omega)]
    rintro (q | q)
    · exact q ((pIn_n hR hB).mpr ⟨j, by omega, rfl⟩)
    · rw [show (100 : Int32) = nI 100 from rfl, nI_leI (by decide) (by omega)] at q
      omega
theorem X0_ran (R : Rep g ms ad h ms0 M) (I : Inv B ms) {i w : Int32} : rb_Ct g yX0_ran wX0_ran 1 (0, 0) [.ref (ad 0 0), .int i, .int w] M (qr (some (.int (F_ran ms i w))) M) := by
  obtain ⟨sg, hm⟩ := R.main
  obtain ⟨c, hc, f, rfl, hf⟩ := R.1 74 0 rfl
  obtain ⟨c2, hc2, f2, rfl, hf2⟩ := R.1 75 0 rfl
  have hR := I.2.2.2.2.2.2.1.2.1
  have e := hR.n (by decide)
  have hpn := I.pn
  refine rb_Ct.of (by decide) (Nat.le_of_ble_eq_true rfl) rfl ?_
  refine sgX0_ran_0 (uI X0_in (rb_dpk (by decide)) zr ⟨fun h1 => ⟨_, ⟨_, hm, rfl⟩, uI X0_in (rb_dpk (by decide)) zr ⟨fun h2 => ?_, fun h2 => ⟨zf, ?_, rfl⟩⟩⟩, fun h1 => ⟨zf, ?_, rfl⟩⟩) <;> rw [pIn0] at *
  · rw [F_ran, if_neg h1, if_neg h2]
    obtain ⟨j, hj, rfl⟩ := (pIn_n hR (by decide)).mp (Decidable.not_not.mp h2)
    have hv : vp_in (nI j) 60 := vp_in_nI (by omega) (by decide)
    have ej : (nI j).toNatClampNeg = j := nI_clamp (by omega)
    obtain ⟨b, hb, hb2, k1, k2, k3⟩ := I.2.2.2.2.2.2.1.2.2.2 j hj
    have hbp : b / 25 < nN ms 0 0 := by
      refine Nat.not_le.mp fun q => hb2 ?_
      have := (I.1.2.2 (b / 25) q (by omega)).2.2 (b % 25) (by omega)
      rw [show 25 * (b / 25) + b % 25 = b by omega] at this
      exact this
    have hrb : rbd ms j = b := by
      have q1 : nN ms 69 j = b / 25 := by rw [nN, k1, nI_clamp (by omega)]
      rw [rbd, q1, k2]
      by_cases hu : b % 25 = 24
      · rw [buse, if_pos hu, if_pos rfl]; omega
      · have q3 : nN ms 71 j = b % 25 % 12 := by rw [nN, k3, bmem, if_neg hu, nI_clamp (by omega)]
        by_cases hg : b % 25 < 12
        · have q2 : nN ms 70 j = 0 := by rw [nN, k2, buse, if_neg hu, if_pos hg]; rfl
          rw [buse, if_neg hu, if_pos hg, if_neg (by decide), q2, q3]; omega
        · have q2 : nN ms 70 j = 1 := by rw [nN, k2, buse, if_neg hu, if_neg hg]; rfl
          rw [buse, if_neg hu, if_neg hg, if_neg (by decide), q2, q3]; omega
    have hfj : f j = some (ad 8 b) := by rw [hf j hj, hrb]
    have hB := R.body hb hb2
    refine ⟨_, ⟨_, hm, rfl⟩, rb_isR_ref _, _, rfl, 4, 60, f, .ref (ad 8 b), hc, ⟨by decide, by decide⟩, hv, by rw [ej, hfj]; rfl, fun h3 => ⟨fun h4 => ⟨fun h5 => ⟨_, ⟨_, hm, rfl⟩, rb_isR_ref _, _, rfl, 60, f2, _, hc2, hv, rfl, zf, ?_, rfl⟩, fun h5 => ⟨_, rfl, _, ⟨_, hB, rfl⟩, zf, ?_, rfl⟩⟩, fun h4 => ⟨_, rfl, _, ⟨_, hB, rfl⟩, zf, ?_, rfl⟩⟩, fun h3 => ⟨_, rfl, _, ⟨_, hB, rfl⟩, rb_isR_ref _, _, rfl, _, ⟨_, R.part hbp, rfl⟩, zf, ?_, rfl⟩⟩
    · rw [if_neg h3, if_neg h4, if_neg h5, nv_nI (by omega), ej, hf2 j hj]
    · rw [if_neg h3, if_neg h4, if_pos h5, nv_nI (by omega), k3]
    · rw [if_neg h3, if_pos h4, nv_nI (by omega), k2]
    · rw [if_pos h3, nv_nI (by omega), k1]
  · rw [F_ran, if_neg h1, if_pos h2]
  · rw [F_ran, if_pos h1]
theorem stV_cases (ad : aD) (I : Inv B ms) {a b : Int32} : (F_placeIn ms a b < 0 ∧ stV ms ad a b = .null) ∨ ∃ o p i, o < nN ms 40 0 ∧ p < nN ms 0 0 ∧ i < nN ms 25 (nN ms 41 o) ∧ a = nI o ∧ b = nI p ∧ ms.1 26 (24 * nN ms 41 o + i) = nI p ∧ F_placeIn ms a b = nI i ∧ ¬ F_placeIn ms a b < 0 ∧ stO a (F_placeIn ms a b) = 24 * o + i ∧ stV ms ad a b = .ref (ad 14 (24 * o + i)) ∧ stX ms (24 * o + i) ∧ stP ms (24 * o + i) = p := by
  have hpn := I.pn
  have hon := I.on
  rcases F_placeIn_cases (a := a) (b := b) I with ⟨q, -⟩ | ⟨o, p, i, ho, hp, hi, rfl, rfl, hl, e⟩
  · refine Or.inl ⟨by rw [q]; decide, ?_⟩
    rw [stV, if_pos (by rw [q]; decide)]
  · have el := I.ln (I.ro ho).2
    have hne : ¬ F_placeIn ms (nI o) (nI p) < 0 := by rw [e]; exact nI_pos (by omega)
    have es : stO (nI o) (F_placeIn ms (nI o) (nI p)) = 24 * o + i := by rw [stO, e, nv_nI (by omega), nv_nI (by omega)]
    refine Or.inr ⟨o, p, i, ho, hp, hi, rfl, rfl, hl, e, hne, es, ?_, Or.inl ?_, ?_⟩
    · rw [stV, if_neg hne, es]
    · rw [show (24 * o + i) / 24 = o by omega, show (24 * o + i) % 24 = i by omega]
      exact ⟨ho, hi⟩
    · rw [stP, if_neg (by omega), show (24 * o + i) / 24 = o by omega, show (24 * o + i) % 24 = i by omega, nN, hl, nI_clamp (by omega)]
theorem stV_isR {a b : Int32} : rb_isR (stV ms ad a b) := by
  rw [stV]
  split
  · exact rb_isR_null
  · exact rb_isR_ref _
theorem X0_cell (R : Rep g ms ad h ms0 M) (I : Inv B ms) {a b i : Int32} : rb_Ct g yX0_cell wX0_cell 4 (0, 0) [.ref (ad 0 0), .int a, .int b, .int i] M (xE g (F_cell ms a b i) ad h ms0) := by
  have hpn := I.pn
  have hon := I.on
  refine rb_Ct.of (by decide) (Nat.le_of_ble_eq_true rfl) rfl ?_
  refine sgX0_cell_0 (uVo (X0_stateOf R I) stV_isR (rb_dpk (by decide)) zr R.ob0 ?_)
  rcases stV_cases ad I (a := a) (b := b) with ⟨q, e⟩ | ⟨o, p, j, ho, hp, hj, rfl, rfl, hl, e1, e2, e3, e4, hs, hsp⟩
  · rw [e]
    exact ⟨fun _ => ⟨zf, xE_of (by rw [F_cell, if_pos (Or.inl q)]) R⟩, fun q6 h1 => (by cases h1)⟩
  · rw [e4]
    refine ⟨fun h1 => (by cases h1), fun q6 h1 => ?_⟩
    cases h1
    obtain ⟨c, hc, f, rfl, hf⟩ := R.1 15 (24 * o + j) hs
    rw [hsp] at hc hf
    have ec := (I.pt hp).1.n (by decide)
    refine ⟨_, ⟨_, R.state hs, rfl⟩, rb_isR_ref _, _, rfl, _, _, ms.1 1 p, hc, by decide, ec.1.symm, uI X0_in (rb_dpk (by decide)) zr ⟨fun h2 => ?_, fun h2 => ⟨zf, ?_⟩⟩⟩ <;> rw [pIn0] at h2
    · obtain ⟨k, hk, rfl⟩ := (pIn_n (I.pt hp).1 (by decide)).mp (Decidable.not_not.mp h2)
      refine ⟨_, ⟨_, R.state hs, rfl⟩, rb_isR_ref _, _, rfl, _, f, _, hc, vp_in_nI hk (by omega), rfl, _, _, _, X0_tells R, rb_dpk (by decide), zr, R.ob0, ?_⟩
      rintro _ M' ⟨rfl, R'⟩
      rw [nI_clamp (by omega), hf k hk] at R'
      refine ⟨_, rfl, zf, xE_of ?_ R'⟩
      rw [F_cell, if_neg (by rw [nv_nI (by omega)]; rintro (q | q); exact e2 q; exact h2 q), e3, nv_nI (by omega)]
    · exact xE_of (by rw [F_cell, if_pos (by rw [nv_nI (by omega)]; exact Or.inr h2)]) R
end C4
