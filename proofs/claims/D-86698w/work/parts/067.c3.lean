set_option maxRecDepth 100000
section C3
variable {g : rb_G} {ms : mm_S} {ad : aD} {h : Nat} {ms0 : mm_S} {M : rb_H} {B : Nat}
theorem X0_stepLoop {κ : rb_K} {r i : Nat} (hκ : κ.1 = g) (R : Rep g ms ad h ms0 M) (I : Inv B ms) (hr : r < nN ms 24 0) (hi : i < nN ms 25 r) (hd : rb_dp κ 3) (hz : rb_rom κ (0, 0)) (hf : rb_fin κ (0, 0)) (hp : κ.2.2.1 (.returned (some (.ref (ad 10 (stepF ms r (i + 1)))))) M) :
    ∀ d k, k + d = r → (∀ j, j < k → ¬ alike ms r j (i + 1)) → rb_Bd κ mX0_stepOf (0, 0) M 2 [some (.ref (ad 0 0)), some (.ref (ad 10 r)), some (.int (nI i)), some (.int (nI k))] [] := by
  subst hκ
  obtain ⟨sg, hm⟩ := R.main
  have hrn := I.rn
  have er := I.ln hr
  have hL := R.ls 1 0 (by decide) rfl
  have hd2 : rb_dp κ 2 := ⟨by have := hd.1; omega, by have := hd.2; omega⟩
  intro d
  induction d with
  | zero =>
    intro k hk hno
    obtain rfl : k = r := by omega
    have hA := X0_isAlike R I (n := i + 1) hr hr (by omega)
    rw [← nI_1] at hA
    have ha : alike ms k k (i + 1) := ⟨hi, hi, fun _ _ => rfl⟩
    rw [stepF_uniq ⟨Nat.le_refl _, ha, hno⟩ hi] at hp
    refine sgX0_stepOf_2 (rb_isR_ref _) ⟨_, ⟨_, hm, rfl⟩, rb_isR_ref _, _, rfl, uRo (J4_get hL hr) hd2 hz hL.ob ⟨_, rfl, 27, R.obR hr, cc_27, uI hA hd hz ⟨fun _ => ?_, fun h1 => absurd h1 (bz_1.mpr ha)⟩⟩⟩
    exact ⟨_, ⟨_, hm, rfl⟩, rb_isR_ref _, _, rfl, uRo (J4_get hL hr) hd2 hz hL.ob ⟨_, rfl, 27, R.obR hr, cc_27, hf, hp⟩⟩
  | succ d ih =>
    intro k hk hno
    have hkr : k < nN ms 24 0 := by omega
    have hA := X0_isAlike R I (n := i + 1) hr hkr (by omega)
    rw [← nI_1] at hA
    refine sgX0_stepOf_2 (rb_isR_ref _) ⟨_, ⟨_, hm, rfl⟩, rb_isR_ref _, _, rfl, uRo (J4_get hL hkr) hd2 hz hL.ob ⟨_, rfl, 27, R.obR hkr, cc_27, uI hA hd hz ⟨fun h1 => ?_, fun h1 => ?_⟩⟩⟩
    · rw [stepF_uniq ⟨by omega, bz_1.mp h1, hno⟩ hi] at hp
      exact ⟨_, ⟨_, hm, rfl⟩, rb_isR_ref _, _, rfl, uRo (J4_get hL hkr) hd2 hz hL.ob ⟨_, rfl, 27, R.obR hkr, cc_27, hf, hp⟩⟩
    · rw [nI_1]
      refine ih (k + 1) (by omega) fun j hj => ?_
      rcases Nat.lt_or_ge j k with q | q
      · exact hno j q
      · obtain rfl : j = k := by omega
        exact bz_0.mp h1
theorem X0_stepOf (R : Rep g ms ad h ms0 M) (I : Inv B ms) {r i : Nat} (hr : r < nN ms 24 0) (hi : i < nN ms 25 r) : rb_Ct g yX0_stepOf wX0_stepOf 4 (0, 0) [.ref (ad 0 0), .ref (ad 10 r), .int (nI i)] M (qr (some (.ref (ad 10 (stepF ms r (i + 1))))) M) := by
  refine rb_Ct.of (by decide) (Nat.le_of_ble_eq_true rfl) rfl ?_
  refine sgX0_stepOf_0 (rb_isR_ref _) ?_
  exact X0_stepLoop rfl R I hr hi (rb_dpk (by decide)) zr zf ⟨rfl, rfl⟩ r 0 (by omega) (fun j hj => by omega)
theorem X0_step (R : Rep g ms ad h ms0 M) (I : Inv B ms) {a i : Int32} : rb_Ct g yX0_step wX0_step 5 (0, 0) [.ref (ad 0 0), .int a, .int i] M (qr (some (.int (F_step ms a i))) M) := by
  obtain ⟨sg, hm⟩ := R.main
  have hrn := I.rn
  have hpn := I.pn
  refine rb_Ct.of (by decide) (Nat.le_of_ble_eq_true rfl) rfl ?_
  refine sgX0_step_0 (uIo (X0_isRole R I.R) (rb_dpk (by decide)) zr R.ob0 ⟨fun h1 => ?_, fun h1 => ⟨zf, ?_, rfl⟩⟩) <;> rw [pIn0] at h1
  · have h1 := Decidable.not_not.mp h1
    rw [F_step, if_neg (fun q => q h1)]
    obtain ⟨r, hr, rfl⟩ := (isRo_iff I.R).mp h1
    have hL := R.ls 1 0 (by decide) rfl
    have hl := R.ls 6 r (by decide) hr
    have er := I.ln hr
    rw [nv_nI (by omega)]
    refine ⟨_, ⟨_, hm, rfl⟩, rb_isR_ref _, _, rfl, uRo (J4_get hL hr) (rb_dpk (by decide)) zr hL.ob ?_⟩
    refine ⟨_, rfl, 27, R.obR hr, cc_27, _, ⟨_, R.role hr, rfl⟩, rb_isR_ref _, _, rfl, uIo (J4_size hl) (rb_dpk (by decide)) zr hl.ob ?_⟩
    rw [show nI (lenL ms 6 r) = ms.1 25 r from er.1.symm]
    refine uI X0_in (rb_dpk (by decide)) zr ⟨fun h2 => ⟨zf, ?_, rfl⟩, fun h2 => ?_⟩ <;> rw [pIn0] at h2
    · rw [if_neg h2]
    · have h2 := Decidable.not_not.mp h2
      rw [if_pos h2]
      obtain ⟨j, hj, rfl⟩ := (pIn_n (I.L hr) (by decide)).mp h2
      have hs := stepF_spec (ms := ms) (r := r) (n := j + 1) hj
      rw [nv_nI (by omega)]
      exact uRo (X0_stepOf R I hr hj) (rb_dpk (by decide)) zr R.ob0 ⟨_, rfl, _, ⟨_, R.role (show stepF ms r (j + 1) < _ by have := hs.1; omega), rfl⟩, zf, rfl, rfl⟩
  · rw [F_step, if_pos h1]
theorem X0_started (R : Rep g ms ad h ms0 M) (I : Inv B ms) {a i : Int32} : rb_Ct g yX0_started wX0_started 5 (0, 0) [.ref (ad 0 0), .int a, .int i] M (qr (some (.int (F_started ms a i))) M) := by
  obtain ⟨sg, hm⟩ := R.main
  have hrn := I.rn
  have hpn := I.pn
  refine rb_Ct.of (by decide) (Nat.le_of_ble_eq_true rfl) rfl ?_
  refine sgX0_started_0 (uIo (X0_isRole R I.R) (rb_dpk (by decide)) zr R.ob0 ⟨fun h1 => ?_, fun h1 => ⟨zf, ?_, rfl⟩⟩) <;> rw [pIn0] at h1
  · have h1 := Decidable.not_not.mp h1
    rw [F_started, if_neg (fun q => q h1)]
    obtain ⟨r, hr, rfl⟩ := (isRo_iff I.R).mp h1
    have hL := R.ls 1 0 (by decide) rfl
    have hl := R.ls 6 r (by decide) hr
    have er := I.ln hr
    rw [nv_nI (by omega)]
    refine ⟨_, ⟨_, hm, rfl⟩, rb_isR_ref _, _, rfl, uRo (J4_get hL hr) (rb_dpk (by decide)) zr hL.ob ?_⟩
    refine ⟨_, rfl, 27, R.obR hr, cc_27, _, ⟨_, R.role hr, rfl⟩, rb_isR_ref _, _, rfl, uIo (J4_size hl) (rb_dpk (by decide)) zr hl.ob ?_⟩
    rw [show nI (lenL ms 6 r) = ms.1 25 r from er.1.symm]
    refine uI X0_in (rb_dpk (by decide)) zr ⟨fun h2 => ⟨zf, ?_, rfl⟩, fun h2 => ?_⟩ <;> rw [pIn0] at h2
    · rw [if_neg h2]
    · have h2 := Decidable.not_not.mp h2
      rw [if_pos h2]
      obtain ⟨j, hj, rfl⟩ := (pIn_n (I.L hr) (by decide)).mp h2
      have hs := stepF_spec (ms := ms) (r := r) (n := j + 1) hj
      have hsr : stepF ms r (j + 1) < nN ms 24 0 := by have := hs.1; omega
      obtain ⟨c, hc, f, rfl, hf⟩ := R.1 12 (stepF ms r (j + 1)) hsr
      rw [nv_nI (by omega)]
      refine uRo (X0_stepOf R I hr hj) (rb_dpk (by decide)) zr R.ob0 ⟨_, rfl, _, ⟨_, R.role hsr, rfl⟩, rb_isR_ref _, _, rfl, 24, f, _, hc, vp_in_nI (by omega) (by decide), rfl, zf, ?_, rfl⟩
      rw [nI_clamp (by omega), hf j (by have := hs.2.1.2.1; omega)]
  · rw [F_started, if_pos h1]
theorem X0_tells (R : Rep g ms ad h ms0 M) {v : Int64} : rb_Ct g yX0_tells wX0_tells 0 (0, 0) [.ref (ad 0 0), .long v] M (fun o M' => o = .returned (some (.int 1)) ∧ Rep g (mm_sL ms 49 0 v) ad h ms0 M') := by
  obtain ⟨sg, hm⟩ := R.main
  refine rb_Ct.of (by decide) (Nat.le_of_ble_eq_true rfl) rfl ?_
  exact sgX0_tells_0 ⟨_, hm, nl rfl, zf, rfl, R.mainF 49 (sg := sg) (by decide) (by decide) sL_other rfl⟩
def stV (ms : mm_S) (ad : aD) (a b : Int32) : Value := if F_placeIn ms a b < 0 then .null else .ref (ad 14 (stO a (F_placeIn ms a b)))
theorem X0_stateOf (R : Rep g ms ad h ms0 M) (I : Inv B ms) {a b : Int32} : rb_Ct g yX0_stateOf wX0_stateOf 3 (0, 0) [.ref (ad 0 0), .int a, .int b] M (qr (some (stV ms ad a b)) M) := by
  obtain ⟨sg, hm⟩ := R.main
  have hrn := I.rn
  have hpn := I.pn
  have hon := I.on
  refine rb_Ct.of (by decide) (Nat.le_of_ble_eq_true rfl) rfl ?_
  refine sgX0_stateOf_0 (uIo (X0_isThing R I.O) (rb_dpk (by decide)) zr R.ob0 ⟨fun h1 => ⟨zf, ?_, rfl⟩, fun h1 => uIo (X0_isPart R I.P) (rb_dpk (by decide)) zr R.ob0 ⟨fun h2 => ?_, fun h2 => ⟨zf, ?_, rfl⟩⟩⟩) <;> rw [pIn0] at *
  · rw [stV, if_pos (by rw [F_placeIn, if_pos (Or.inl h1)]; decide)]
  · have h1 := Decidable.not_not.mp h1
    have h2 := Decidable.not_not.mp h2
    have hh1 := h1
    have hh2 := h2
    have hcs := F_placeIn_cases (a := a) (b := b) I
    obtain ⟨o, ho, rfl⟩ := (isO_iff I.O).mp h1
    obtain ⟨p, hp, rfl⟩ := (isP_iff I.P).mp h2
    have er := I.ro ho
    have el := I.ln er.2
    have hT := R.ls 2 0 (by decide) rfl
    have hP := R.ls 0 0 (by decide) rfl
    have hl := R.ls 6 (nN ms 41 o) (by decide) er.2
    have hS := R.ls 9 o (by decide) ho
    refine ⟨_, ⟨_, hm, rfl⟩, rb_isR_ref _, _, rfl, uRo (J4_get hT ho) (rb_dpk (by decide)) zr hT.ob ⟨_, rfl, 29, ⟨_, R.thing ho⟩, cc_29, _, ⟨_, R.thing ho, rfl⟩, rb_isR_ref _, _, rfl, _, ⟨_, R.role er.2, rfl⟩, rb_isR_ref _, _, ⟨_, hm, rfl⟩, rb_isR_ref _, _, rfl, uRo (J4_get hP hp) (rb_dpk (by decide)) zr hP.ob ⟨_, rfl, _, _, _, J4_indexOf hl (Or.inl (R.obP hp)), rb_dpk (by decide), zr, hl.ob, ?_⟩⟩⟩
    rintro _ _ ⟨x, hx, rfl, rfl⟩
    rcases hx with ⟨k, hk, hk2, hk3, rfl⟩ | ⟨hno, rfl⟩
    · have hk : k < nN ms 25 (nN ms 41 o) := hk
      obtain ⟨p', hp', ep'⟩ := (I.role er.2).2.1 k hk
      have : eltL ms ad 6 (nN ms 41 o) k = ad 4 p := hk2
      rw [lineE hp' hpn.2 ep' ad] at this
      obtain rfl : p' = p := (R.2.1 4 p' 4 p hp' hp this).2
      rcases hcs with ⟨q1, q2⟩ | ⟨o', p2, i', ho', hp2, hi', e1, e2, e3, e4⟩
      · have := q2 hh1 hh2 k (by rw [nv_nI (by omega)]; exact hk)
        rw [nv_nI (by omega)] at this
        exact absurd ep' this
      · obtain rfl : o = o' := (nI_eq (by omega) (by omega)).mp e1
        obtain rfl : p' = p2 := (nI_eq (by omega) (by omega)).mp e2
        have hki : k = i' := by
          rcases Nat.lt_trichotomy k i' with q | q | q
          · exact absurd (ep'.trans e3.symm) ((I.role er.2).2.2.1 k i' q hi')
          · exact q
          · exact absurd (e3.trans ep'.symm) ((I.role er.2).2.2.1 i' k q hk)
        subst hki
        refine ⟨_, rfl, fun _ => ⟨_, ⟨_, R.thing ho, rfl⟩, rb_isR_ref _, _, rfl, uRo (J4_get hS (show k < lenL ms 9 o from hk)) (rb_dpk (by decide)) zr hS.ob ⟨_, rfl, 28, ⟨_, R.state (s := 24 * o + k) (Or.inl ?_)⟩, cc_28, zf, ?_, rfl⟩⟩, fun h3 => absurd h3 (nI_pos (by omega))⟩
        · rw [show (24 * o + k) / 24 = o by omega, show (24 * o + k) % 24 = k by omega]
          exact ⟨ho, hk⟩
        · rw [stV, e4, if_neg (nI_pos (by omega)), stO, nv_nI (by omega), nv_nI (by omega)]
          rfl
    · refine ⟨_, rfl, fun h3 => absurd h3 (by decide), fun _ => ⟨zf, ?_, rfl⟩⟩
      rcases hcs with ⟨q1, q2⟩ | ⟨o', p2, i', ho', hp2, hi', e1, e2, e3, e4⟩
      · rw [stV, q1, if_pos (by decide)]
      · obtain rfl : o = o' := (nI_eq (by omega) (by omega)).mp e1
        obtain rfl : p = p2 := (nI_eq (by omega) (by omega)).mp e2
        exact absurd (lineE hp2 hpn.2 e3 ad) (hno i' hi')
  · rw [stV, if_pos (by rw [F_placeIn, if_pos (Or.inr h2)]; decide)]
end C3
