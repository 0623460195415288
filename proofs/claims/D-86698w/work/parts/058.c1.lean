set_option maxRecDepth 100000
/-! the class's plain methods that only read -/
section C1
variable {g : rb_G} {ms : mm_S} {ad : aD} {h : Nat} {ms0 : mm_S} {M : rb_H}
theorem X0_in {a b c : Int32} : rb_Ct g yX0_in wX0_in 0 (0, 0) [.int a, .int b, .int c] M (qr (some (.int (if b ≤ a ∧ a ≤ c then 1 else 0))) M) := by
  refine rb_Ct.of (by decide) (Nat.le_of_ble_eq_true rfl) rfl ?_
  refine sgX0_in_0 ⟨fun h => ⟨zf, ?_, rfl⟩, fun h => ⟨fun h' => ⟨zf, ?_, rfl⟩, fun h' => ⟨zf, ?_, rfl⟩⟩⟩
  · rw [if_neg (fun q => absurd q.1 (Int32.not_le.mpr h))]
  · rw [if_neg (fun q => absurd q.2 (Int32.not_le.mpr h'))]
  · rw [if_pos ⟨h, h'⟩]
theorem X0_isPart (R : Rep g ms ad h ms0 M) (hp : iB (ms.1 0 0) 24) {a : Int32} : rb_Ct g yX0_isPart wX0_isPart 1 (0, 0) [.ref (ad 0 0), .int a] M (qr (some (.int (if isP ms a then 1 else 0))) M) := by
  obtain ⟨sg, hm⟩ := R.main
  have hL := R.ls 0 0 (by decide) rfl
  refine rb_Ct.of (by decide) (Nat.le_of_ble_eq_true rfl) rfl ?_
  refine sgX0_isPart_0 ⟨_, ⟨_, hm, rfl⟩, rb_isR_ref _, _, rfl, _, _, _, J4_size hL, rb_dpk (by decide), zr, hL.ob, ?_⟩
  rintro _ _ ⟨rfl, rfl⟩
  rw [show nI (lenL ms 0 0) = ms.1 0 0 from (hp.e (by decide)).1.symm]
  refine ⟨_, rfl, _, _, _, X0_in, rb_dpk (by decide), zr, ?_⟩
  rintro _ _ ⟨rfl, rfl⟩
  exact ⟨_, rfl, nar01, zf, rfl, rfl⟩
theorem X0_isRole (R : Rep g ms ad h ms0 M) (hp : iB (ms.1 24 0) 24) {a : Int32} : rb_Ct g yX0_isRole wX0_isRole 1 (0, 0) [.ref (ad 0 0), .int a] M (qr (some (.int (if isRo ms a then 1 else 0))) M) := by
  obtain ⟨sg, hm⟩ := R.main
  have hL := R.ls 1 0 (by decide) rfl
  refine rb_Ct.of (by decide) (Nat.le_of_ble_eq_true rfl) rfl ?_
  refine sgX0_isRole_0 ⟨_, ⟨_, hm, rfl⟩, rb_isR_ref _, _, rfl, _, _, _, J4_size hL, rb_dpk (by decide), zr, hL.ob, ?_⟩
  rintro _ _ ⟨rfl, rfl⟩
  rw [show nI (lenL ms 1 0) = ms.1 24 0 from (hp.e (by decide)).1.symm]
  refine ⟨_, rfl, _, _, _, X0_in, rb_dpk (by decide), zr, ?_⟩
  rintro _ _ ⟨rfl, rfl⟩
  exact ⟨_, rfl, nar01, zf, rfl, rfl⟩
theorem X0_isThing (R : Rep g ms ad h ms0 M) (hp : iB (ms.1 40 0) 100) {a : Int32} : rb_Ct g yX0_isThing wX0_isThing 1 (0, 0) [.ref (ad 0 0), .int a] M (qr (some (.int (if isO ms a then 1 else 0))) M) := by
  obtain ⟨sg, hm⟩ := R.main
  have hL := R.ls 2 0 (by decide) rfl
  refine rb_Ct.of (by decide) (Nat.le_of_ble_eq_true rfl) rfl ?_
  refine sgX0_isThing_0 ⟨_, ⟨_, hm, rfl⟩, rb_isR_ref _, _, rfl, _, _, _, J4_size hL, rb_dpk (by decide), zr, hL.ob, ?_⟩
  rintro _ _ ⟨rfl, rfl⟩
  rw [show nI (lenL ms 2 0) = ms.1 40 0 from (hp.e (by decide)).1.symm]
  refine ⟨_, rfl, _, _, _, X0_in, rb_dpk (by decide), zr, ?_⟩
  rintro _ _ ⟨rfl, rfl⟩
  exact ⟨_, rfl, nar01, zf, rfl, rfl⟩
theorem X0_ring (R : Rep g ms ad h ms0 M) (hp : iB (ms.1 34 0) 24) {a : Int32} : rb_Ct g yX0_ring wX0_ring 1 (0, 0) [.ref (ad 0 0), .int a] M (qr (some (.int (if 0 ≤ a ∧ a ≤ ms.1 34 0 - 1 then ms.1 33 (nv a) else -9))) M) := by
  obtain ⟨sg, hm⟩ := R.main
  obtain ⟨c, hc, f, rfl, hf⟩ := R.1 68 0 rfl
  have hn := hp.n (by decide)
  refine rb_Ct.of (by decide) (Nat.le_of_ble_eq_true rfl) rfl ?_
  refine sgX0_ring_0 ⟨_, ⟨_, hm, rfl⟩, _, _, _, X0_in, rb_dpk (by decide), zr, ?_⟩
  rintro _ _ ⟨rfl, rfl⟩
  refine ⟨_, rfl, fun h1 => ?_, fun h1 => ?_⟩ <;> rw [pIn0] at h1
  · exact ⟨zf, by rw [if_neg h1], rfl⟩
  · have h1 := Decidable.not_not.mp h1
    rw [if_pos h1]
    have k := pIn_pred (x := a) (b := nN ms 34 0) (by omega)
    rw [← hn.1] at k
    obtain ⟨i, hi, rfl⟩ := k.mp h1
    have ei : (nI i).toNatClampNeg = i := nI_clamp (by omega)
    exact ⟨_, ⟨_, hm, rfl⟩, rb_isR_ref _, _, rfl, 24, f, _, hc, vp_in_nI (n := i) (by omega) (by decide), rfl, zf, by rw [nv, ei, hf i hi], rfl⟩
theorem X0_lacks_2 (R : Rep g ms ad h ms0 M) {a : Int32} : rb_Ct g yX0_lacks_2 wX0_lacks_2 0 (0, 0) [.ref (ad 0 0), .int a] M (qr (some (.int (if a = 0 then ms.1 35 0 else if a = 1 then ms.1 36 0 else -1))) M) := by
  obtain ⟨sg, hm⟩ := R.main
  refine rb_Ct.of (by decide) (Nat.le_of_ble_eq_true rfl) rfl ?_
  refine sgX0_lacks_2_0 ⟨fun h1 => ⟨fun h2 => ⟨zf, ?_, rfl⟩, fun h2 => ⟨_, ⟨_, hm, rfl⟩, zf, ?_, rfl⟩⟩, fun h1 => ⟨_, ⟨_, hm, rfl⟩, zf, ?_, rfl⟩⟩
  · rw [if_neg h1, if_neg h2]
  · rw [if_neg h1, if_pos h2]
  · rw [if_pos h1]
theorem X0_threw (R : Rep g ms ad h ms0 M) {a : Int32} : rb_Ct g yX0_threw wX0_threw 0 (0, 0) [.ref (ad 0 0), .int a] M (qr (some (.int (if a = 0 then ms.1 64 0 else if a = 1 then ms.1 65 0 else if a = 2 then ms.1 66 0 else -1))) M) := by
  obtain ⟨sg, hm⟩ := R.main
  refine rb_Ct.of (by decide) (Nat.le_of_ble_eq_true rfl) rfl ?_
  refine sgX0_threw_0 ⟨fun h1 => ⟨fun h2 => ⟨fun h3 => ⟨zf, ?_, rfl⟩, fun h3 => ⟨_, ⟨_, hm, rfl⟩, zf, ?_, rfl⟩⟩, fun h2 => ⟨_, ⟨_, hm, rfl⟩, zf, ?_, rfl⟩⟩, fun h1 => ⟨_, ⟨_, hm, rfl⟩, zf, ?_, rfl⟩⟩
  · rw [if_neg h1, if_neg h2, if_neg h3]
  · rw [if_neg h1, if_neg h2, if_pos h3]
  · rw [if_neg h1, if_pos h2]
  · rw [if_pos h1]
end C1
