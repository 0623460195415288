set_option maxRecDepth 100000
section C7
variable {g : rb_G} {ms ms' : mm_S} {ad : aD} {h : Nat} {ms0 : mm_S} {M M' : rb_H} {B : Nat}
theorem nN_inc {ms ms' : mm_S} {k i b : Nat} (hB : iB (ms.1 k i) b) (hb : b < 2 ^ 30) (e : ms'.1 k i = ms.1 k i + 1) : nN ms' k i = nN ms k i + 1 := by
  have q := hB.n (by omega)
  have : nN ms' k i = (nI (nN ms k i + 1)).toNatClampNeg := by rw [nN, e, q.1, nI_1]
  rw [this, nI_clamp (by omega)]
abbrev xA (g : rb_G) (F : Int32 × mm_S) (ad : aD) (h : Nat) (ms0 : mm_S) : Outcome → rb_H → Prop := fun o M' => o = .returned (some (.int F.1)) ∧ ∃ ad', ad' 0 0 = ad 0 0 ∧ Rep g F.2 ad' h ms0 M'
theorem xA_of {F : Int32 × mm_S} {r : Int32} {ms1 : mm_S} (e : F = (r, ms1)) (R : Rep g ms1 ad h ms0 M) : xA g F ad h ms0 (.returned (some (.int r))) M := by subst e; exact ⟨rfl, ad, rfl, R⟩
theorem Inv.emp (I : Inv B ms) : (¬ (if nN ms 24 0 = 0 then (1 : Int32) else 0) = 0 ↔ ¬ 0 < ms.1 24 0) := by
  have e := I.rn
  by_cases h0 : nN ms 24 0 = 0
  · rw [if_pos h0, e.1, h0]
    exact ⟨fun _ => by decide, fun _ => by decide⟩
  · rw [if_neg h0, e.1]
    refine ⟨fun q => absurd rfl q, fun q => absurd ?_ q⟩
    have := nI_lt (a := 0) (b := nN ms 24 0) (by omega) (by omega)
    rwa [nI_0] at this
/-- fields written to arrays with a count -/
theorem X0_want (R : Rep g ms ad h ms0 M) (I : Inv B ms) {a b : Int32} : rb_Ct g yX0_want wX0_want 2 (0, 0) [.ref (ad 0 0), .int a, .int b] M (xE g (F_want ms a b) ad h ms0) := by
  obtain ⟨sg, hm⟩ := R.main
  have hw := I.2.1.1.n (by decide)
  have hL := R.ls 1 0 (by decide) rfl
  have hrn := I.rn
  obtain ⟨c1, hc1, f1, rfl, hf1⟩ := R.1 53 0 rfl
  obtain ⟨c2, hc2, f2, rfl, hf2⟩ := R.1 54 0 rfl
  have n1 : ad 0 0 ≠ ad 53 0 := R.ne (k := 0) (k' := 53) rfl rfl (by omega)
  have n2 : ad 0 0 ≠ ad 54 0 := R.ne (k := 0) (k' := 54) rfl rfl (by omega)
  have n3 : ad 54 0 ≠ ad 53 0 := R.ne (k := 54) (k' := 53) rfl rfl (by omega)
  refine rb_Ct.of (by decide) (Nat.le_of_ble_eq_true rfl) rfl ?_
  refine sgX0_want_0 (uIo (X0_isPart R I.P) (rb_dpk (by decide)) zr R.ob0 ⟨fun h1 => ⟨zf, ?_⟩, fun h1 => uIo (X0_isPart R I.P) (rb_dpk (by decide)) zr R.ob0 ⟨fun h2 => ⟨zf, ?_⟩, fun h2 => ⟨fun h3 => ⟨_, ⟨_, hm, rfl⟩, fun h4 => ⟨_, ⟨_, hm, rfl⟩, rb_isR_ref _, _, rfl, uIo (J4_isEmpty hL (show lenL ms 1 0 < 2 ^ 31 by show nN ms 24 0 < _; omega)) (rb_dpk (by decide)) zr hL.ob ⟨fun h5 => ?_, fun h5 => ⟨zf, ?_⟩⟩⟩, fun h4 => ⟨zf, ?_⟩⟩, fun h3 => ⟨zf, ?_⟩⟩⟩⟩)
  · rw [pIn0] at h1
    exact xE_of (by rw [F_want, if_pos (Or.inl h1)]) R
  · rw [pIn0] at h2
    exact xE_of (by rw [F_want, if_pos (Or.inr (Or.inl h2))]) R
  all_goals
    rw [pIn0] at h1 h2
    have h1 := Decidable.not_not.mp h1
    have h2 := Decidable.not_not.mp h2
  · have h5 := I.emp.mp h5
    have hn30 : nN ms 7 0 ≠ 30 := fun q => h4 (by rw [hw.1, q]; rfl)
    have hv : vp_in (ms.1 7 0) 30 := by rw [hw.1]; exact vp_in_nI (by omega) (by decide)
    refine ⟨_, ⟨_, hm, rfl⟩, rb_isR_ref _, _, ⟨_, hm, rfl⟩, _, rfl, 30, f1, hc1, hv, _, ⟨_, by rw [rb_up_ne n1]; exact hm, rfl⟩, rb_isR_ref _, _, ⟨_, by rw [rb_up_ne n1]; exact hm, rfl⟩, _, rfl, 30, f2, by rw [rb_up_ne n3]; exact hc2, hv, _, ⟨_, by rw [rb_up_ne n2, rb_up_ne n1]; exact hm, rfl⟩, _, by rw [rb_up_ne n2, rb_up_ne n1]; exact hm, nl rfl, _, ⟨_, rb_up_eq, rfl⟩, zf, xE_of (ms1 := mm_sI (mm_sI (mm_sI ms 8 (nN ms 7 0) a) 9 (nN ms 7 0) b) 7 0 (ms.1 7 0 + 1)) ?_ ?_⟩
    · rw [F_want, if_neg (by rintro (q | q | q); exact q h1; exact q h2; exact h3 q), if_neg h4, if_neg h5]
    · refine R.step [7, 8, 9] (fun F hF => ?_) (by decide) fun k i hx ha => ?_
      · simp only [List.mem_cons, List.not_mem_nil, or_false, not_or] at hF
        exact ⟨by rw [mm_sI_ne hF.1, mm_sI_ne hF.2.2, mm_sI_ne hF.2.1], rfl⟩
      · have e7 : nN (mm_sI (mm_sI (mm_sI ms 8 (nN ms 7 0) a) 9 (nN ms 7 0) b) 7 0 (ms.1 7 0 + 1)) 7 0 = nN ms 7 0 + 1 := by
          exact nN_inc I.2.1.1 (by decide) (by rw [mm_sI_k, va_up_self])
        by_cases e0 : k = 0
        · subst e0
          obtain rfl : i = 0 := hx
          exact ⟨_, rb_up_eq, sg, rfl⟩
        by_cases e53 : k = 53
        · subst e53
          obtain rfl : i = 0 := hx
          refine ⟨_, by rw [rb_up_ne (Ne.symm n1), rb_up_ne (Ne.symm n3), rb_up_eq], _, rfl, fun j hj => ?_⟩
          rw [e7] at hj
          show va_up f1 (nN ms 7 0) a j = va_up (ms.1 8) (nN ms 7 0) a j
          by_cases hjw : j = nN ms 7 0
          · rw [hjw, va_up_self, va_up_self]
          · simp only [va_up, if_neg hjw]
            exact hf1 j (by omega)
        by_cases e54 : k = 54
        · subst e54
          obtain rfl : i = 0 := hx
          refine ⟨_, by rw [rb_up_ne (Ne.symm n2), rb_up_eq], _, rfl, fun j hj => ?_⟩
          rw [e7] at hj
          show va_up f2 (nN ms 7 0) b j = va_up (ms.1 9) (nN ms 7 0) b j
          by_cases hjw : j = nN ms 7 0
          · rw [hjw, va_up_self, va_up_self]
          · simp only [va_up, if_neg hjw]
            exact hf2 j (by omega)
        exfalso
        rcases ha with ⟨F, hF, hF2⟩ | ha
        · exact dX_not [7, 8, 9] [0, 53, 54] (by decide) k (by simp [e0, e53, e54]) F hF2 hF
        · rw [rb_up_ne (R.ne hx (k' := 0) (i' := 0) rfl (Or.inl e0)), rb_up_ne (R.ne hx (k' := 54) (i' := 0) rfl (Or.inl e54)), rb_up_ne (R.ne hx (k' := 53) (i' := 0) rfl (Or.inl e53))] at ha
          exact ha rfl
  · have h5 : 0 < ms.1 24 0 := Classical.not_not.mp fun q => (I.emp.mpr q) h5
    exact xE_of (by rw [F_want, if_neg (by rintro (q | q | q); exact q h1; exact q h2; exact h3 q), if_neg h4, if_pos h5]) R
  · exact xE_of (by rw [F_want, if_neg (by rintro (q | q | q); exact q h1; exact q h2; exact h3 q), if_pos h4]) R
  · exact xE_of (by rw [F_want, if_pos (Or.inr (Or.inr h3))]) R
theorem X0_exclude (R : Rep g ms ad h ms0 M) (I : Inv B ms) {a b : Int32} : rb_Ct g yX0_exclude wX0_exclude 2 (0, 0) [.ref (ad 0 0), .int a, .int b] M (xE g (F_exclude ms a b) ad h ms0) := by
  obtain ⟨sg, hm⟩ := R.main
  have hw := I.2.2.2.1.2.1.n (by decide)
  obtain ⟨c1, hc1, f1, rfl, hf1⟩ := R.1 61 0 rfl
  obtain ⟨c2, hc2, f2, rfl, hf2⟩ := R.1 62 0 rfl
  have n1 : ad 0 0 ≠ ad 61 0 := R.ne (k := 0) (k' := 61) rfl rfl (by omega)
  have n2 : ad 0 0 ≠ ad 62 0 := R.ne (k := 0) (k' := 62) rfl rfl (by omega)
  have n3 : ad 62 0 ≠ ad 61 0 := R.ne (k := 62) (k' := 61) rfl rfl (by omega)
  refine rb_Ct.of (by decide) (Nat.le_of_ble_eq_true rfl) rfl ?_
  refine sgX0_exclude_0 (uIo (X0_isPart R I.P) (rb_dpk (by decide)) zr R.ob0 ⟨fun h1 => ⟨zf, ?_⟩, fun h1 => uI X0_in (rb_dpk (by decide)) zr ⟨fun h2 => ⟨_, ⟨_, hm, rfl⟩, fun h4 => ?_, fun h4 => ⟨zf, ?_⟩⟩, fun h2 => ⟨zf, ?_⟩⟩⟩) <;> rw [pIn0] at *
  · exact xE_of (by rw [F_exclude, if_pos (Or.inl h1)]) R
  · have hb : ¬ (¬ isP ms a ∨ ¬ isM b) := by rintro (q | q); exact h1 q; exact h2 q
    have hn6 : nN ms 18 0 ≠ 6 := fun q => h4 (by rw [hw.1, q]; rfl)
    have hv : vp_in (ms.1 18 0) 6 := by rw [hw.1]; exact vp_in_nI (by omega) (by decide)
    refine ⟨_, ⟨_, hm, rfl⟩, rb_isR_ref _, _, ⟨_, hm, rfl⟩, _, rfl, 6, f1, hc1, hv, _, ⟨_, by rw [rb_up_ne n1]; exact hm, rfl⟩, rb_isR_ref _, _, ⟨_, by rw [rb_up_ne n1]; exact hm, rfl⟩, _, rfl, 6, f2, by rw [rb_up_ne n3]; exact hc2, hv, _, ⟨_, by rw [rb_up_ne n2, rb_up_ne n1]; exact hm, rfl⟩, _, by rw [rb_up_ne n2, rb_up_ne n1]; exact hm, nl rfl, _, ⟨_, rb_up_eq, rfl⟩, zf, xE_of (ms1 := mm_sI (mm_sI (mm_sI ms 19 (nN ms 18 0) a) 20 (nN ms 18 0) b) 18 0 (ms.1 18 0 + 1)) ?_ ?_⟩
    · rw [F_exclude, if_neg hb, if_neg h4]
    · refine R.step [18, 19, 20] (fun F hF => ?_) (by decide) fun k i hx ha => ?_
      · simp only [List.mem_cons, List.not_mem_nil, or_false, not_or] at hF
        exact ⟨by rw [mm_sI_ne hF.1, mm_sI_ne hF.2.2, mm_sI_ne hF.2.1], rfl⟩
      · have e7 : nN (mm_sI (mm_sI (mm_sI ms 19 (nN ms 18 0) a) 20 (nN ms 18 0) b) 18 0 (ms.1 18 0 + 1)) 18 0 = nN ms 18 0 + 1 := by
          exact nN_inc I.2.2.2.1.2.1 (by decide) (by rw [mm_sI_k, va_up_self])
        by_cases e0 : k = 0
        · subst e0
          obtain rfl : i = 0 := hx
          exact ⟨_, rb_up_eq, sg, rfl⟩
        by_cases e53 : k = 61
        · subst e53
          obtain rfl : i = 0 := hx
          refine ⟨_, by rw [rb_up_ne (Ne.symm n1), rb_up_ne (Ne.symm n3), rb_up_eq], _, rfl, fun j hj => ?_⟩
          rw [e7] at hj
          show va_up f1 (nN ms 18 0) a j = va_up (ms.1 19) (nN ms 18 0) a j
          by_cases hjw : j = nN ms 18 0
          · rw [hjw, va_up_self, va_up_self]
          · simp only [va_up, if_neg hjw]
            exact hf1 j (by omega)
        by_cases e54 : k = 62
        · subst e54
          obtain rfl : i = 0 := hx
          refine ⟨_, by rw [rb_up_ne (Ne.symm n2), rb_up_eq], _, rfl, fun j hj => ?_⟩
          rw [e7] at hj
          show va_up f2 (nN ms 18 0) b j = va_up (ms.1 20) (nN ms 18 0) b j
          by_cases hjw : j = nN ms 18 0
          · rw [hjw, va_up_self, va_up_self]
          · simp only [va_up, if_neg hjw]
            exact hf2 j (by omega)
        exfalso
        rcases ha with ⟨F, hF, hF2⟩ | ha
        · exact dX_not [18, 19, 20] [0, 61, 62] (by decide) k (by simp [e0, e53, e54]) F hF2 hF
        · rw [rb_up_ne (R.ne hx (k' := 0) (i' := 0) rfl (Or.inl e0)), rb_up_ne (R.ne hx (k' := 62) (i' := 0) rfl (Or.inl e54)), rb_up_ne (R.ne hx (k' := 61) (i' := 0) rfl (Or.inl e53))] at ha
          exact ha rfl
  · exact xE_of (by rw [F_exclude, if_neg (by rintro (q | q); exact h1 q; exact h2 q), if_pos h4]) R
  · exact xE_of (by rw [F_exclude, if_pos (Or.inr h2)]) R
theorem X0_alias (R : Rep g ms ad h ms0 M) (I : Inv B ms) {a p m : Int32} : rb_Ct g yX0_alias wX0_alias 2 (0, 0) [.ref (ad 0 0), .int a, .int p, .int m] M (xE g (F_alias ms a p m) ad h ms0) := by
  obtain ⟨sg, hm⟩ := R.main
  obtain ⟨c1, hc1, f1, rfl, hf1⟩ := R.1 64 0 rfl
  obtain ⟨c2, hc2, f2, rfl, hf2⟩ := R.1 65 0 rfl
  have n1 : ad 0 0 ≠ ad 64 0 := R.ne (k := 0) (k' := 64) rfl rfl (by omega)
  have n3 : ad 65 0 ≠ ad 64 0 := R.ne (k := 65) (k' := 64) rfl rfl (by omega)
  refine rb_Ct.of (by decide) (Nat.le_of_ble_eq_true rfl) rfl ?_
  refine sgX0_alias_0 (uI X0_in (rb_dpk (by decide)) zr ⟨fun h1 => ⟨zf, ?_⟩, fun h1 => uIo (X0_isPart R I.P) (rb_dpk (by decide)) zr R.ob0 ⟨fun h2 => ⟨zf, ?_⟩, fun h2 => uI X0_in (rb_dpk (by decide)) zr ⟨fun h3 => ?_, fun h3 => ⟨zf, ?_⟩⟩⟩⟩) <;> rw [pIn0] at *
  · exact xE_of (by rw [F_alias, if_pos (Or.inl h1)]) R
  · exact xE_of (by rw [F_alias, if_pos (Or.inr (Or.inl h2))]) R
  · have hb : ¬ (¬ (0 ≤ a ∧ a ≤ 3) ∨ ¬ isP ms p ∨ ¬ isM m) := by rintro (q | q | q); exact h1 q; exact h2 q; exact h3 q
    obtain ⟨k0, hk0, rfl⟩ := (pIn_nat (b := 3) (by decide)).mp (Decidable.not_not.mp h1)
    have hv : vp_in (nI k0) 4 := vp_in_nI (by omega) (by decide)
    have ecl : (nI k0).toNatClampNeg = k0 := nI_clamp (by omega)
    rw [ecl]
    refine ⟨_, ⟨_, hm, rfl⟩, rb_isR_ref _, _, rfl, 4, f1, hc1, hv, _, ⟨_, by rw [rb_up_ne n1]; exact hm, rfl⟩, rb_isR_ref _, _, rfl, 4, f2, by rw [rb_up_ne n3]; exact hc2, hv, zf, xE_of (ms1 := mm_sI (mm_sI (mm_sI ms 23 k0 1) 21 k0 p) 22 k0 m) ?_ ?_⟩
    · rw [F_alias, if_neg hb, nv_nI (by omega)]
    · refine R.step [23, 21, 22] (fun F hF => ?_) (by decide) fun k i hx ha => ?_
      · simp only [List.mem_cons, List.not_mem_nil, or_false, not_or] at hF
        exact ⟨by rw [mm_sI_ne hF.2.2, mm_sI_ne hF.2.1, mm_sI_ne hF.1], rfl⟩
      · by_cases e53 : k = 64
        · subst e53
          obtain rfl : i = 0 := hx
          refine ⟨_, by rw [rb_up_ne (Ne.symm n3), rb_up_eq], _, rfl, fun j hj => ?_⟩
          show va_up f1 k0 p j = if va_up (ms.1 23) k0 1 j = 0 then -9 else va_up (ms.1 21) k0 p j
          by_cases hjw : j = k0
          · rw [hjw, va_up_self, va_up_self, va_up_self, if_neg (by decide)]
          · simp only [va_up, if_neg hjw]
            exact hf1 j (by omega)
        by_cases e54 : k = 65
        · subst e54
          obtain rfl : i = 0 := hx
          refine ⟨_, rb_up_eq, _, rfl, fun j hj hne => ?_⟩
          show va_up f2 k0 m j = va_up (ms.1 22) k0 m j
          by_cases hjw : j = k0
          · rw [hjw, va_up_self, va_up_self]
          · have hne : va_up (ms.1 23) k0 1 j ≠ 0 := hne
            simp only [va_up, if_neg hjw] at hne ⊢
            exact hf2 j (by omega) hne
        exfalso
        rcases ha with ⟨F, hF, hF2⟩ | ha
        · exact dX_not [23, 21, 22] [64, 65] (by decide) k (by simp [e53, e54]) F hF2 hF
        · rw [rb_up_ne (R.ne hx (k' := 65) (i' := 0) rfl (Or.inl e54)), rb_up_ne (R.ne hx (k' := 64) (i' := 0) rfl (Or.inl e53))] at ha
          exact ha rfl
  · exact xE_of (by rw [F_alias, if_pos (Or.inr (Or.inr h3))]) R
theorem X0_wish (R : Rep g ms ad h ms0 M) (I : Inv B ms) {a m : Int32} : rb_Ct g yX0_wish wX0_wish 3 (0, 0) [.ref (ad 0 0), .int a, .int m] M (xE g (F_wish ms a m) ad h ms0) := by
  obtain ⟨sg, hm⟩ := R.main
  have hpn := I.pn
  have hrn := I.rn
  have hL := R.ls 1 0 (by decide) rfl
  have hP := R.ls 0 0 (by decide) rfl
  refine rb_Ct.of (by decide) (Nat.le_of_ble_eq_true rfl) rfl ?_
  refine sgX0_wish_0 (uIo (X0_isPart R I.P) (rb_dpk (by decide)) zr R.ob0 ⟨fun h1 => ⟨zf, ?_⟩, fun h1 => uI X0_in (rb_dpk (by decide)) zr ⟨fun h2 => ⟨_, ⟨_, hm, rfl⟩, rb_isR_ref _, _, rfl, uIo (J4_isEmpty hL (show lenL ms 1 0 < 2 ^ 31 by show nN ms 24 0 < _; omega)) (rb_dpk (by decide)) zr hL.ob ⟨fun h5 => ?_, fun h5 => ⟨zf, ?_⟩⟩⟩, fun h2 => ⟨zf, ?_⟩⟩⟩)
  · rw [pIn0] at h1
    exact xE_of (by rw [F_wish, if_pos (Or.inl h1)]) R
  · have h5 := I.emp.mp h5
    rw [pIn0] at h1 h2
    have hb : ¬ (¬ isP ms a ∨ ¬ isM m) := by rintro (q | q); exact h1 q; exact h2 q
    obtain ⟨p, hp, rfl⟩ := (isP_iff I.P).mp (Decidable.not_not.mp h1)
    obtain ⟨k0, hk0, rfl⟩ := isM_iff.mp (Decidable.not_not.mp h2)
    obtain ⟨c, hc, f, rfl, hf⟩ := R.1 7 p hp
    have ecl : (nI k0).toNatClampNeg = k0 := nI_clamp (by omega)
    rw [ecl]
    refine ⟨_, ⟨_, hm, rfl⟩, rb_isR_ref _, _, rfl, uRo (J4_get hP hp) (rb_dpk (by decide)) zr hP.ob ⟨_, rfl, 5, R.obP hp, cc_5, _, ⟨_, R.part hp, rfl⟩, rb_isR_ref _, _, rfl, 12, f, hc, vp_in_nI hk0 (by decide), rfl, zf, xE_of (ms1 := mm_sI ms 6 (12 * p + k0) 1) ?_ ?_⟩⟩
    · rw [F_wish, if_neg hb, if_neg h5, nv_nI (by omega), nv_nI (by omega)]
    · refine R.put 7 p [6] (fun F hF => sI_other F (by simpa using hF)) (by decide) (fun k hk F hF => by rw [List.mem_singleton] at hF; rw [hF]; exact dX_only 6 7 (by decide) k hk) hp ?_ ?_
      · rintro i hi hx c' ⟨f', rfl, hf'⟩
        refine ⟨f', rfl, fun j hj => ?_⟩
        rw [hf' j hj, mm_sI_k]
        simp [va_up, show ¬ (12 * i + j = 12 * p + k0) by omega]
      · refine ⟨_, rfl, fun j hj => ?_⟩
        rw [mm_sI_k]
        by_cases hjw : j = k0
        · rw [hjw, va_up_self, va_up_self]
        · simp only [va_up, if_neg hjw, if_neg (show ¬ (12 * p + j = 12 * p + k0) by omega)]
          exact hf j hj
  · rw [pIn0] at h1 h2
    have h5 : 0 < ms.1 24 0 := Classical.not_not.mp fun q => (I.emp.mpr q) h5
    exact xE_of (by rw [F_wish, if_neg (by rintro (q | q); exact h1 q; exact h2 q), if_pos h5]) R
  · rw [pIn0] at h2
    exact xE_of (by rw [F_wish, if_pos (Or.inr h2)]) R
end C7
