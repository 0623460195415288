set_option maxRecDepth 100000
section M4
variable {g : rb_G} {M0 : rb_H} {h : Nat} {ms : mm_S} {B : Nat}
theorem Inv.P (I : Inv B ms) : iB (ms.1 0 0) 24 := I.1.1
theorem Inv.R (I : Inv B ms) : iB (ms.1 24 0) 24 := I.2.2.2.2.1.1
theorem Inv.O (I : Inv B ms) : iB (ms.1 40 0) 100 := I.2.2.2.2.2.1.1
theorem Inv.role (I : Inv B ms) {r : Nat} (hr : r < nN ms 24 0) : rOk ms r := I.2.2.2.2.1.2.1 r hr
theorem Inv.L (I : Inv B ms) {r : Nat} (hr : r < nN ms 24 0) : iB (ms.1 25 r) 24 := (I.role hr).1
theorem Inv.pn (I : Inv B ms) : ms.1 0 0 = nI (nN ms 0 0) ∧ nN ms 0 0 ≤ 24 := I.P.n (by decide)
theorem Inv.rn (I : Inv B ms) : ms.1 24 0 = nI (nN ms 24 0) ∧ nN ms 24 0 ≤ 24 := I.R.n (by decide)
theorem Inv.on (I : Inv B ms) : ms.1 40 0 = nI (nN ms 40 0) ∧ nN ms 40 0 ≤ 100 := I.O.n (by decide)
theorem Inv.ln (I : Inv B ms) {r : Nat} (hr : r < nN ms 24 0) : ms.1 25 r = nI (nN ms 25 r) ∧ nN ms 25 r ≤ 24 := (I.L hr).n (by decide)
theorem Inv.ro (I : Inv B ms) {o : Nat} (ho : o < nN ms 40 0) : ms.1 41 o = nI (nN ms 41 o) ∧ nN ms 41 o < nN ms 24 0 := by
  obtain ⟨r, hr, e⟩ := I.2.2.2.2.2.1.2.1 o ho
  have := I.rn
  have e2 : nN ms 41 o = r := by rw [nN, e, nI_clamp (by omega)]
  rw [e2]; exact ⟨e, hr⟩
theorem Inv.pt (I : Inv B ms) {p : Nat} (hp : p < nN ms 0 0) : iB (ms.1 1 p) 4 ∧ iB (ms.1 2 p) 2 ∧ iB (ms.1 3 p) 2 ∧ iB (ms.1 4 p) 4 := by
  have := I.1.2.1 p hp
  exact ⟨this.1, this.2.1, this.2.2.1, this.2.2.2.1⟩
theorem X4_lacks {a : Int32} : mm_C g yX4_lacks wX4_lacks 0 h M0 ms [.ref h, .int a] (some (.int (F_lacks ms a))) ms := by
  refine rb_Ct.of (by decide) (Nat.le_of_ble_eq_true rfl) rfl ?_
  refine sgX4_lacks_0 ⟨fun h1 => ⟨fun h2 => ⟨?_, rfl⟩, fun h2 => ⟨?_, rfl⟩⟩, fun h1 => ⟨?_, rfl⟩⟩
  · rw [F_lacks, if_neg h1, if_neg h2]
  · rw [F_lacks, if_neg h1, if_pos h2]
  · rw [F_lacks, if_pos h1]
theorem X4_threw {a : Int32} : mm_C g yX4_threw wX4_threw 0 h M0 ms [.ref h, .int a] (some (.int (F_threw ms a))) ms := by
  refine rb_Ct.of (by decide) (Nat.le_of_ble_eq_true rfl) rfl ?_
  refine sgX4_threw_0 ⟨fun h1 => ⟨fun h2 => ⟨fun h3 => ⟨?_, rfl⟩, fun h3 => ⟨?_, rfl⟩⟩, fun h2 => ⟨?_, rfl⟩⟩, fun h1 => ⟨?_, rfl⟩⟩
  · rw [F_threw, if_neg h1, if_neg h2, if_neg h3]
  · rw [F_threw, if_neg h1, if_neg h2, if_pos h3]
  · rw [F_threw, if_neg h1, if_pos h2]
  · rw [F_threw, if_pos h1]
theorem X4_answer : mm_C g yX4_answer wX4_answer 0 h M0 ms [.ref h] (some (.long (ms.2 62 0))) ms := by
  refine rb_Ct.of (by decide) (Nat.le_of_ble_eq_true rfl) rfl ?_
  exact sgX4_answer_0 ⟨rfl, rfl⟩
theorem X4_with : mm_C g yX4_with wX4_with 0 h M0 ms [.ref h] (some (.long (ms.2 67 0))) ms := by
  refine rb_Ct.of (by decide) (Nat.le_of_ble_eq_true rfl) rfl ?_
  exact sgX4_with_0 ⟨rfl, rfl⟩
theorem X4_told : mm_C g yX4_told wX4_told 0 h M0 ms [.ref h] (some (.long (ms.2 49 0))) ms := by
  refine rb_Ct.of (by decide) (Nat.le_of_ble_eq_true rfl) rfl ?_
  exact sgX4_told_0 ⟨rfl, rfl⟩
theorem X4_marks : mm_C g yX4_marks wX4_marks 0 h M0 ms [.ref h] (some (.int (ms.1 47 0))) ms := by
  refine rb_Ct.of (by decide) (Nat.le_of_ble_eq_true rfl) rfl ?_
  exact sgX4_marks_0 ⟨rfl, rfl⟩
theorem X4_tells {v : Int64} : mm_C g yX4_tells wX4_tells 0 h M0 ms [.ref h, .long v] (some (.int 1)) (mm_sL ms 49 0 v) := by
  refine rb_Ct.of (by decide) (Nat.le_of_ble_eq_true rfl) rfl ?_
  exact sgX4_tells_0 ⟨rfl, rfl⟩
def F_count (ms : mm_S) (a : Int32) : Int32 := if a = 0 then ms.1 0 0 else if a = 1 then ms.1 24 0 else if a = 2 then ms.1 40 0 else if a = 3 then ms.1 7 0 else if a = 4 then ms.1 60 0 else if a = 5 then ms.1 16 0 else -1
theorem toInt_eq {a : Int32} {n : Int} {b : Int32} (h : a.toInt = n) (hb : b.toInt = n) : a = b := Int32.toInt_inj.mp (h.trans hb.symm)
theorem F_count_out {a : Int32} (h : a.toInt < 0 ∨ 5 < a.toInt) : F_count ms a = -1 := by
  have k : ∀ (b : Int32) (n : Int), b.toInt = n → 0 ≤ n → n ≤ 5 → a ≠ b := fun b n e h0 h5 q => by rw [q, e] at h; omega
  rw [F_count, if_neg (k 0 0 rfl (by decide) (by decide)), if_neg (k 1 1 rfl (by decide) (by decide)), if_neg (k 2 2 rfl (by decide) (by decide)), if_neg (k 3 3 rfl (by decide) (by decide)), if_neg (k 4 4 rfl (by decide) (by decide)), if_neg (k 5 5 rfl (by decide) (by decide))]
theorem X4_count {a : Int32} : mm_C g yX4_count wX4_count 0 h M0 ms [.ref h, .int a] (some (.int (F_count ms a))) ms := by
  refine rb_Ct.of (by decide) (Nat.le_of_ble_eq_true rfl) rfl ?_
  refine sgX4_count_0 ⟨fun h1 => ⟨by rw [F_count_out h1], rfl⟩, fun h1 => ?_, fun h1 => ?_, fun h1 => ?_, fun h1 => ?_, fun h1 => ?_, fun h1 => ?_⟩
  · obtain rfl : a = 0 := toInt_eq h1 rfl
    exact ⟨rfl, rfl⟩
  · obtain rfl : a = 1 := toInt_eq h1 rfl
    exact ⟨rfl, rfl⟩
  · obtain rfl : a = 2 := toInt_eq h1 rfl
    exact ⟨rfl, rfl⟩
  · obtain rfl : a = 3 := toInt_eq h1 rfl
    exact ⟨rfl, rfl⟩
  · obtain rfl : a = 4 := toInt_eq h1 rfl
    exact ⟨rfl, rfl⟩
  · obtain rfl : a = 5 := toInt_eq h1 rfl
    exact ⟨rfl, rfl⟩
theorem X4_isGiven {M : rb_H} {b : Nat} (hb : b < 2 ^ 31) : rb_Ct g yX4_isGiven wX4_isGiven 0 (0, 0) [.int (nI b)] M (fun o M' => o = .returned (some (.int (bz (b % 25 < 12)))) ∧ M' = M) := by
  refine rb_Ct.of (by decide) (Nat.le_of_ble_eq_true rfl) rfl ?_
  have e : nI b - nI b / 25 * 25 = nI (b % 25) := pk_rem (d := 25) hb (by decide) (by decide)
  refine sgX4_isGiven_0 ?_
  rw [e, show (12 : Int32) = nI 12 from rfl, nI_leI (by decide) (by omega), nI_ltI (by omega) (by decide)]
  exact ⟨fun h1 => ⟨by rw [bz_f (by omega)], rfl⟩, fun h1 => ⟨by rw [bz_t h1], rfl⟩⟩
theorem X4_isGivenC {b : Nat} (hb : b < 2 ^ 31) : mm_C g yX4_isGiven wX4_isGiven 0 h M0 ms [.int (nI b)] (some (.int (bz (b % 25 < 12)))) ms := X4_isGiven hb
theorem Inv.ch (I : Inv B ms) {r m : Nat} (hr : r < nN ms 24 0) (hm : m < 12) : (ms.1 28 (12 * r + m) = nI (nN ms 28 (12 * r + m)) ∧ nN ms 28 (12 * r + m) ≤ 48) ∧ ∀ t, t < nN ms 28 (12 * r + m) → ms.1 29 (48 * (12 * r + m) + t) = nI (nN ms 29 (48 * (12 * r + m) + t)) ∧ nN ms 29 (48 * (12 * r + m) + t) < 600 ∧ ms.1 10 (nN ms 29 (48 * (12 * r + m) + t)) ≠ -9 ∧ nN ms 29 (48 * (12 * r + m) + t) / 25 < nN ms 0 0 ∧ nN ms 29 (48 * (12 * r + m) + t) % 25 < 24 := by
  obtain ⟨h1, h2, -⟩ := (I.role hr).2.2.2.2.1 m hm
  refine ⟨h1.n (by decide), fun t ht => ?_⟩
  obtain ⟨p, u, hp, hu, e, hb, -⟩ := h2 t ht
  have := I.pn
  have e2 : nN ms 29 (48 * (12 * r + m) + t) = 25 * p + (12 * u + m) := by rw [nN, e, nI_clamp (by omega)]
  rw [e2]
  have hu' : u = 0 ∨ u = 1 := by omega
  refine ⟨e, by omega, hb, ?_, ?_⟩ <;> rcases hu' with rfl | rfl <;> omega
theorem X4_chain_2 {a m i : Int32} (I : Inv B ms) : mm_C g yX4_chain_2 wX4_chain_2 2 h M0 ms [.ref h, .int a, .int m, .int i] (some (.int (F_chain ms a m i))) ms := by
  have hrn := I.rn
  refine rb_Ct.of (by decide) (Nat.le_of_ble_eq_true rfl) rfl ?_
  refine sgX4_chain_2_0 ⟨_, _, _, X4_isRole, rb_dpk (by decide), fun h1 => ⟨?_, rfl⟩, fun h1 => ⟨_, _, _, X4_isMemberC, rb_dpk (by decide), fun h2 => ?_, fun h2 => ⟨?_, rfl⟩⟩⟩ <;> rw [pIn0] at *
  · rw [F_chain, if_pos (Or.inl h1)]
  · have h1 := Decidable.not_not.mp h1
    have h2 := Decidable.not_not.mp h2
    rw [F_chain, if_neg (by rintro (q | q); exact q h1; exact q h2)]
    obtain ⟨r, hr, rfl⟩ := (isRo_iff I.R).mp h1
    obtain ⟨m, hm, rfl⟩ := isM_iff.mp h2
    obtain ⟨⟨e1, e2⟩, hc⟩ := I.ch hr hm
    rw [nv_nI (by omega), nv_nI (by omega), ix12, nI_clamp (by omega)]
    refine ⟨vp_in_nI (N := 288) (by omega) (by decide), _, _, _, X4_inC, rb_dpk (by decide), fun h3 => ?_, fun h3 => ⟨?_, rfl⟩⟩ <;> rw [pIn0] at h3
    · have h3 := Decidable.not_not.mp h3
      rw [if_pos h3]
      obtain ⟨t, ht, rfl⟩ := (pIn_n ((I.role hr).2.2.2.2.1 m hm).1 (by decide)).mp h3
      obtain ⟨k1, k2, k3, k4, k5⟩ := hc t ht
      rw [ix48, nv_nI (by omega), nI_clamp (show 48 * (12 * r + m) + t < 2 ^ 31 by omega)]
      have e25 : (2 : Int32) * (ms.1 29 (48 * (12 * r + m) + t) / 25) = nI (2 * (nN ms 29 (48 * (12 * r + m) + t) / 25)) := by
        rw [k1, show (25 : Int32) = nI 25 from rfl, pk_div (by omega) (by decide) (by decide), show (2 : Int32) = nI 2 from rfl, pk_mul]
      rw [e25]
      have hG := X4_isGivenC (g := g) (h := h) (M0 := M0) (ms := ms) (b := nN ms 29 (48 * (12 * r + m) + t)) (by omega)
      rw [← k1] at hG
      refine ⟨vp_in_nI (N := 13824) (by omega) (by decide), _, _, _, hG, rb_dpk (by decide), fun h4 => ⟨?_, rfl⟩, fun h4 => ⟨?_, rfl⟩⟩
      · rw [bz_0] at h4
        rw [chV, if_neg h4]
      · rw [bz_1] at h4
        rw [chV, if_pos h4]
    · rw [if_neg h3]
  · rw [F_chain, if_pos (Or.inr h2)]
theorem X4_under {a b : Int32} (I : Inv B ms) : mm_C g yX4_under wX4_under 2 h M0 ms [.ref h, .int a, .int b] (some (.int (F_under ms a b))) ms := by
  have hrn := I.rn
  refine rb_Ct.of (by decide) (Nat.le_of_ble_eq_true rfl) rfl ?_
  refine sgX4_under_0 ⟨_, _, _, X4_isRole, rb_dpk (by decide), fun h1 => ⟨?_, rfl⟩, fun h1 => ⟨_, _, _, X4_isRole, rb_dpk (by decide), fun h2 => ?_, fun h2 => ⟨?_, rfl⟩⟩⟩ <;> rw [pIn0] at *
  · rw [F_under, if_pos (Or.inl h1)]
  · have h1 := Decidable.not_not.mp h1
    have h2 := Decidable.not_not.mp h2
    rw [F_under, if_neg (by rintro (q | q); exact q h1; exact q h2)]
    obtain ⟨r, hr, rfl⟩ := (isRo_iff I.R).mp h1
    obtain ⟨o, ho, rfl⟩ := (isRo_iff I.R).mp h2
    rw [nv_nI (by omega), nv_nI (by omega)]
    refine ⟨_, _, _, X4_isUnder (by omega) (by omega) (I.L hr) (I.L ho), rb_dpk (by decide), fun h3 => ⟨?_, rfl⟩, fun h3 => ⟨?_, rfl⟩⟩
    · rw [h3]
    · rw [bz_t (bz_1.mp h3)]
  · rw [F_under, if_pos (Or.inr h2)]
theorem X4_step {a i : Int32} (I : Inv B ms) : mm_C g yX4_step wX4_step 2 h M0 ms [.ref h, .int a, .int i] (some (.int (F_step ms a i))) ms := by
  have hrn := I.rn
  refine rb_Ct.of (by decide) (Nat.le_of_ble_eq_true rfl) rfl ?_
  refine sgX4_step_0 ⟨_, _, _, X4_isRole, rb_dpk (by decide), fun h1 => ?_, fun h1 => ⟨?_, rfl⟩⟩ <;> rw [pIn0] at h1
  · have h1 := Decidable.not_not.mp h1
    rw [F_step, if_neg (fun q => q h1)]
    obtain ⟨r, hr, rfl⟩ := (isRo_iff I.R).mp h1
    have ev : (nI r).toNatClampNeg = r := nI_clamp (by omega)
    rw [nv_nI (by omega), ev]
    refine ⟨vp_in_nI (N := 24) (by omega) (by decide), _, _, _, X4_inC, rb_dpk (by decide), fun h2 => ⟨?_, rfl⟩, fun h2 => ?_⟩ <;> rw [pIn0] at h2
    · rw [if_neg h2]
    · have h2 := Decidable.not_not.mp h2
      rw [if_pos h2]
      obtain ⟨j, hj, rfl⟩ := (pIn_n (I.L hr) (by decide)).mp h2
      have e2 := I.ln hr
      rw [nv_nI (by omega)]
      exact ⟨_, _, _, X4_stepOf (by omega) hj (fun o ho => I.L (by omega)), rb_dpk (by decide), rfl, rfl⟩
  · rw [F_step, if_pos h1]
theorem X4_started {a i : Int32} (I : Inv B ms) : mm_C g yX4_started wX4_started 3 h M0 ms [.ref h, .int a, .int i] (some (.int (F_started ms a i))) ms := by
  have hrn := I.rn
  refine rb_Ct.of (by decide) (Nat.le_of_ble_eq_true rfl) rfl ?_
  refine sgX4_started_0 ⟨_, _, _, X4_isRole, rb_dpk (by decide), fun h1 => ?_, fun h1 => ⟨?_, rfl⟩⟩ <;> rw [pIn0] at h1
  · have h1 := Decidable.not_not.mp h1
    rw [F_started, if_neg (fun q => q h1)]
    obtain ⟨r, hr, rfl⟩ := (isRo_iff I.R).mp h1
    have ev : (nI r).toNatClampNeg = r := nI_clamp (by omega)
    rw [nv_nI (by omega), ev]
    refine ⟨vp_in_nI (N := 24) (by omega) (by decide), _, _, _, X4_inC, rb_dpk (by decide), fun h2 => ⟨?_, rfl⟩, fun h2 => ?_⟩ <;> rw [pIn0] at h2
    · rw [if_neg h2]
    · have h2 := Decidable.not_not.mp h2
      rw [if_pos h2]
      obtain ⟨j, hj, rfl⟩ := (pIn_n (I.L hr) (by decide)).mp h2
      have e2 := I.ln hr
      rw [nv_nI (by omega)]
      exact ⟨_, _, _, X4_startedAt (by omega) hj (fun o ho => I.L (by omega)), rb_dpk (by decide), rfl, rfl⟩
  · rw [F_started, if_pos h1]
end M4
