set_option maxRecDepth 100000
section M7
variable {g : rb_G} {M0 : rb_H} {h : Nat} {ms : mm_S} {B : Nat}
theorem rbz {P : Prop} [Decidable P] {M : rb_H} : (Outcome.returned (some (.int (if P then (1 : Int32) else 0))) = .returned (some (.int (bz P))) ∧ M = M) := ⟨by rw [bz_if], rfl⟩
theorem rbz0 {P : Prop} {M : rb_H} (hP : ¬ P) : (Outcome.returned (some (.int (0 : Int32))) = .returned (some (.int (bz P))) ∧ M = M) := ⟨by rw [bz_f hP], rfl⟩
theorem rbz1 {P : Prop} {M : rb_H} (hP : P) : (Outcome.returned (some (.int (1 : Int32))) = .returned (some (.int (bz P))) ∧ M = M) := ⟨by rw [bz_t hP], rfl⟩
theorem X4_isRight {k p : Nat} {a b : Int32} (hk : k ≤ 19) (hp : p < 24) : mm_C g yX4_isRight wX4_isRight 2 h M0 ms [.ref h, .int (nI k), .int (nI p), .int a, .int b] (some (.int (bz (aOk ms k p a b)))) ms := by
  refine rb_Ct.of (by decide) (Nat.le_of_ble_eq_true rfl) rfl ?_
  have ek : (nI k).toInt = (k : Int) := nI_toInt (by omega)
  have ep : (nI p).toNatClampNeg = p := nI_clamp (by omega)
  refine sgX4_isRight_0 ?_
  rw [ek, ep]
  refine ⟨fun h1 => ?_, fun h1 => ?_, fun h1 => ?_, fun h1 => ?_, fun h1 => ?_, fun h1 => ?_, fun h1 => ?_, fun h1 => ?_, fun h1 => ?_, fun h1 => ?_, fun h1 => ?_, fun h1 => ?_, fun h1 => ?_, fun h1 => ?_, fun h1 => ?_, fun h1 => ?_, fun h1 => ?_, fun h1 => ?_, fun h1 => ?_, fun h1 => ?_, fun h1 => ?_⟩
  · omega
  · obtain rfl : k = 0 := by omega
    exact ⟨_, _, _, X4_inC, rb_dpk (by decide), nar01, rbz⟩
  · obtain rfl : k = 1 := by omega
    exact rbz1 trivial
  · obtain rfl : k = 2 := by omega
    exact ⟨_, _, _, X4_inC, rb_dpk (by decide), nar01, rbz⟩
  · obtain rfl : k = 3 := by omega
    exact ⟨_, _, _, X4_inC, rb_dpk (by decide), nar01, rbz⟩
  · obtain rfl : k = 4 := by omega
    exact ⟨vp_in_nI (N := 24) hp (by decide), _, _, _, X4_inC, rb_dpk (by decide), nar01, rbz⟩
  · obtain rfl : k = 5 := by omega
    exact ⟨vp_in_nI (N := 24) hp (by decide), _, _, _, X4_inC, rb_dpk (by decide), nar01, rbz⟩
  · obtain rfl : k = 6 := by omega
    exact ⟨vp_in_nI (N := 24) hp (by decide), _, _, _, X4_inC, rb_dpk (by decide), nar01, rbz⟩
  · obtain rfl : k = 7 := by omega
    exact ⟨_, _, _, X4_inC, rb_dpk (by decide), nar01, rbz⟩
  · obtain rfl : k = 8 := by omega
    exact ⟨_, _, _, X4_inC, rb_dpk (by decide), nar01, rbz⟩
  · obtain rfl : k = 9 := by omega
    exact rbz1 trivial
  · obtain rfl : k = 10 := by omega
    exact ⟨_, _, _, X4_isMemberC, rb_dpk (by decide), nar01, rbz⟩
  · obtain rfl : k = 11 := by omega
    exact ⟨_, _, _, X4_inC, rb_dpk (by decide), nar01, rbz⟩
  · obtain rfl : k = 12 := by omega
    exact ⟨_, _, _, X4_inC, rb_dpk (by decide), nar01, rbz⟩
  · obtain rfl : k = 13 := by omega
    exact ⟨_, _, _, X4_inC, rb_dpk (by decide), nar01, rbz⟩
  · obtain rfl : k = 14 := by omega
    exact rbz1 trivial
  · obtain rfl : k = 15 := by omega
    exact ⟨vp_in_nI (N := 24) hp (by decide), _, _, _, X4_inC, rb_dpk (by decide), nar01, rbz⟩
  · obtain rfl : k = 16 := by omega
    refine ⟨vp_in_nI (N := 24) hp (by decide), _, _, _, X4_inC, rb_dpk (by decide), fun h2 => rbz0 (fun q => (pIn0.mp h2) q.1), fun h2 => ⟨vp_in_nI (N := 24) hp (by decide), _, _, _, X4_inC, rb_dpk (by decide), fun h3 => rbz0 (fun q => (pIn0.mp h3) q.2), fun h3 => rbz1 ⟨?_, ?_⟩⟩⟩
    · rw [pIn0] at h2; exact Decidable.not_not.mp h2
    · rw [pIn0] at h3; exact Decidable.not_not.mp h3
  · obtain rfl : k = 17 := by omega
    refine ⟨vp_in_nI (N := 24) hp (by decide), _, _, _, X4_inC, rb_dpk (by decide), fun h2 => rbz0 (fun q => (pIn0.mp h2) q.1), fun h2 => ⟨vp_in_nI (N := 24) hp (by decide), _, _, _, X4_inC, rb_dpk (by decide), fun h3 => rbz0 (fun q => (pIn0.mp h3) q.2), fun h3 => rbz1 ⟨?_, ?_⟩⟩⟩
    · rw [pIn0] at h2; exact Decidable.not_not.mp h2
    · rw [pIn0] at h3; exact Decidable.not_not.mp h3
  · obtain rfl : k = 18 := by omega
    refine ⟨vp_in_nI (N := 24) hp (by decide), _, _, _, X4_inC, rb_dpk (by decide), fun h2 => rbz0 (fun q => (pIn0.mp h2) q.1), fun h2 => ⟨_, _, _, X4_isMemberC, rb_dpk (by decide), fun h3 => rbz0 (fun q => (pIn0.mp h3) q.2), fun h3 => rbz1 ⟨?_, ?_⟩⟩⟩
    · rw [pIn0] at h2; exact Decidable.not_not.mp h2
    · rw [pIn0] at h3; exact Decidable.not_not.mp h3
  · obtain rfl : k = 19 := by omega
    refine ⟨vp_in_nI (N := 24) hp (by decide), _, _, _, X4_inC, rb_dpk (by decide), fun h2 => rbz0 (fun q => (pIn0.mp h2) q.1), fun h2 => ⟨_, _, _, X4_inC, rb_dpk (by decide), fun h3 => rbz0 (fun q => (pIn0.mp h3) q.2), fun h3 => rbz1 ⟨?_, ?_⟩⟩⟩
    · rw [pIn0] at h2; exact Decidable.not_not.mp h2
    · rw [pIn0] at h3; exact Decidable.not_not.mp h3
noncomputable def F_act (ms : mm_S) (k a b : Int32) : Int32 × mm_S :=
  if ¬ (0 ≤ k ∧ k ≤ 19) ∨ (0 ≤ ms.1 15 0 ∧ bz (aOk ms (nv k) (nN ms 15 0 / 25) a b) = 0) then (-1, ms)
  else if 0 ≤ ms.1 15 0 ∧ ms.1 10 (nN ms 15 0) = 10 then (-2, ms)
  else if ms.1 15 0 < 0 ∨ 0 < ms.1 24 0 then (-4, ms)
  else (ms.1 10 (nN ms 15 0) + 1, mm_sI (mm_sI (mm_sI (mm_sI ms 12 (10 * nN ms 15 0 + nN ms 10 (nN ms 15 0)) k) 13 (10 * nN ms 15 0 + nN ms 10 (nN ms 15 0)) a) 14 (10 * nN ms 15 0 + nN ms 10 (nN ms 15 0)) b) 10 (nN ms 15 0) (ms.1 10 (nN ms 15 0) + 1))
theorem X4_act {k a b : Int32} (I : Inv B ms) : mm_C g yX4_act wX4_act 3 h M0 ms [.ref h, .int k, .int a, .int b] (some (.int (F_act ms k a b).1)) (F_act ms k a b).2 := by
  refine rb_Ct.of (by decide) (Nat.le_of_ble_eq_true rfl) rfl ?_
  refine sgX4_act_0 ⟨_, _, _, X4_inC, rb_dpk (by decide), fun h1 => ?_, fun h1 => ?_⟩ <;> rw [pIn0] at h1
  · exact mmF (by rw [F_act, if_pos (Or.inl h1)])
  have hk := Decidable.not_not.mp h1
  rcases I.2.2.1.2 with e | ⟨c, hc, e, hm⟩
  · have hneg : ms.1 15 0 < 0 := by rw [e]; decide
    have hnn : ¬ 0 ≤ ms.1 15 0 := Int32.not_le.mpr hneg
    refine ⟨fun _ => ⟨fun _ => ⟨fun _ => ?_, fun q => absurd q hnn⟩, fun q => absurd q hnn⟩, fun q => absurd q hnn⟩
    exact mmF (by rw [F_act, if_neg (by rintro (q | q); exact q hk; exact hnn q.1), if_neg (fun q => hnn q.1), if_pos (Or.inl hneg)])
  · obtain ⟨w, hw, rfl⟩ := (pIn_nat (b := 19) (by decide)).mp hk
    have ec : nN ms 15 0 = c := by rw [nN, e, nI_clamp (by omega)]
    have hpos : 0 ≤ ms.1 15 0 := by rw [e]; exact nI_pos' (by omega)
    have hnn : ¬ ms.1 15 0 < 0 := Int32.not_lt.mpr hpos
    have ediv : ms.1 15 0 / 25 = nI (c / 25) := by rw [e]; exact pk_div (by omega) (by decide) (by decide)
    have hR := X4_isRight (g := g) (M0 := M0) (h := h) (ms := ms) (k := w) (p := c / 25) (a := a) (b := b) hw (by omega)
    rw [← ediv] at hR
    refine ⟨fun q => absurd q hnn, fun _ => ⟨_, _, _, hR, rb_dpk (by decide), fun h2 => ⟨fun q => absurd q hnn, fun _ => ?_⟩, fun h2 => ?_⟩⟩
    · have hok := bz_1.mp h2
      have hbad : ¬ (¬ (0 ≤ nI w ∧ nI w ≤ 19) ∨ (0 ≤ ms.1 15 0 ∧ bz (aOk ms (nv (nI w)) (nN ms 15 0 / 25) a b) = 0)) := by
        rw [nv_nI (by omega), ec]
        rintro (q | q)
        · exact q hk
        · exact h2 q.2
      obtain ⟨hmn, -⟩ := I.2.2.1.1 c hc
      have hn : iB (ms.1 10 c) 10 := by
        rcases hmn with q | q
        · exact absurd q hm
        · exact q
      have hnn' := hn.n (by decide)
      have ecl : (ms.1 15 0).toNatClampNeg = c := ec
      rw [ecl]
      have hv : vp_in (ms.1 15 0) 601 := by rw [e]; exact vp_in_nI (by omega) (by decide)
      refine ⟨hv, fun h3 => ⟨fun q => absurd q hnn, fun _ => ⟨fun h4 => ?_, fun h4 => ?_⟩⟩, fun h3 => ?_⟩
      · have hn10 : nN ms 10 c ≠ 10 := fun q => h3 (by rw [hnn'.1, q]; rfl)
        have eat : (10 : Int32) * ms.1 15 0 + ms.1 10 c = nI (10 * c + nN ms 10 c) := by rw [e, hnn'.1, ix10]
        have hat : vp_in (nI (10 * c + nN ms 10 c)) 6010 := vp_in_nI (by omega) (by decide)
        rw [eat]
        refine ⟨hv, hat, hat, hat, hv, hv, hv, mmF ?_⟩
        rw [F_act, if_neg hbad, ec, if_neg (fun q => h3 q.2), if_neg (by rintro (q | q); exact hnn q; exact absurd q (Int32.not_lt.mpr h4)), nI_clamp (by omega)]
        simp [mm_sI, va_up]
      · exact mmF (by rw [F_act, if_neg hbad, ec, if_neg (fun q => h3 q.2), if_pos (Or.inr h4)])
      · exact mmF (by rw [F_act, if_neg hbad, ec, if_pos ⟨hpos, h3⟩])
    · refine mmF ?_
      rw [F_act, if_pos]
      right
      rw [nv_nI (by omega), ec]
      exact ⟨hpos, h2⟩
end M7
