set_option maxRecDepth 100000
section M5
variable {g : rb_G} {M0 : rb_H} {h : Nat} {ms : mm_S} {B : Nat}
def F_placeIn (ms : mm_S) (a b : Int32) : Int32 := if ¬ isO ms a ∨ ¬ isP ms b then -9 else ms.1 27 (24 * nN ms 41 (nv a) + nv b)
/-- the place of a part in an object's line, if it has one -/
theorem F_placeIn_cases {a b : Int32} (I : Inv B ms) : (F_placeIn ms a b = -9 ∧ (isO ms a → isP ms b → ∀ i, i < nN ms 25 (nN ms 41 (nv a)) → ms.1 26 (24 * nN ms 41 (nv a) + i) ≠ b)) ∨
    ∃ o p i, o < nN ms 40 0 ∧ p < nN ms 0 0 ∧ i < nN ms 25 (nN ms 41 o) ∧ a = nI o ∧ b = nI p ∧ ms.1 26 (24 * nN ms 41 o + i) = nI p ∧ F_placeIn ms a b = nI i := by
  have hp := I.pn
  have ho := I.on
  by_cases h1 : isO ms a
  · by_cases h2 : isP ms b
    · rw [F_placeIn, if_neg (by rintro (q | q); exact q h1; exact q h2)]
      obtain ⟨o, ho, rfl⟩ := (isO_iff I.O).mp h1
      obtain ⟨p, hp, rfl⟩ := (isP_iff I.P).mp h2
      rw [nv_nI (by omega), nv_nI (by omega)]
      rcases (I.role (I.ro ho).2).2.2.2.1 p (by omega) with ⟨i, q1, q2, q3⟩ | ⟨q1, q2⟩
      · exact Or.inr ⟨o, p, i, ho, hp, q1, rfl, rfl, q2, q3⟩
      · exact Or.inl ⟨q2, fun _ _ => q1⟩
    · exact Or.inl ⟨by rw [F_placeIn, if_pos (Or.inr h2)], fun _ q => absurd q h2⟩
  · exact Or.inl ⟨by rw [F_placeIn, if_pos (Or.inl h1)], fun q => absurd q h1⟩
theorem X4_placeIn {a b : Int32} (I : Inv B ms) : mm_C g yX4_placeIn wX4_placeIn 2 h M0 ms [.ref h, .int a, .int b] (some (.int (F_placeIn ms a b))) ms := by
  have hpn := I.pn
  have hon := I.on
  have hrn := I.rn
  refine rb_Ct.of (by decide) (Nat.le_of_ble_eq_true rfl) rfl ?_
  refine sgX4_placeIn_0 ⟨_, _, _, X4_isObject, rb_dpk (by decide), fun h1 => ⟨?_, rfl⟩, fun h1 => ⟨_, _, _, X4_isPart, rb_dpk (by decide), fun h2 => ⟨?_, rfl⟩, fun h2 => ?_⟩⟩ <;> rw [pIn0] at *
  · rw [F_placeIn, if_pos (Or.inl h1)]
  · rw [F_placeIn, if_pos (Or.inr h2)]
  · have h1 := Decidable.not_not.mp h1
    have h2 := Decidable.not_not.mp h2
    rw [F_placeIn, if_neg (by rintro (q | q); exact q h1; exact q h2)]
    obtain ⟨o, ho, rfl⟩ := (isO_iff I.O).mp h1
    obtain ⟨p, hp, rfl⟩ := (isP_iff I.P).mp h2
    have er := I.ro ho
    have e1 : (24 : Int32) * ms.1 41 (nI o).toNatClampNeg + nI p = nI (24 * nN ms 41 o + p) := by rw [nI_clamp (by omega), er.1, ix24]
    rw [nv_nI (by omega), nv_nI (by omega), e1, nI_clamp (by omega)]
    exact ⟨vp_in_nI (N := 101) (by omega) (by decide), vp_in_nI (N := 576) (by omega) (by decide), rfl, rfl⟩
/-- the tag of the state -/
def stO (a x : Int32) : Nat := 24 * nv a + nv x
def F_cell (ms : mm_S) (a b i : Int32) : Int32 × mm_S :=
  if F_placeIn ms a b < 0 ∨ ¬ (0 ≤ i ∧ i ≤ ms.1 1 (nv b) - 1) then (-1, ms)
  else (1, mm_sL ms 49 0 (ms.2 42 (4 * stO a (F_placeIn ms a b) + nv i)))
theorem X4_cell {a b i : Int32} (I : Inv B ms) : mm_C g yX4_cell wX4_cell 3 h M0 ms [.ref h, .int a, .int b, .int i] (some (.int (F_cell ms a b i).1)) (F_cell ms a b i).2 := by
  have hpn := I.pn
  have hon := I.on
  have hrn := I.rn
  refine rb_Ct.of (by decide) (Nat.le_of_ble_eq_true rfl) rfl ?_
  refine sgX4_cell_0 ⟨_, _, _, X4_placeIn I, rb_dpk (by decide), fun h1 => mmF (by rw [F_cell, if_pos (Or.inl h1)]), fun h1 => ?_⟩
  rcases F_placeIn_cases (a := a) (b := b) I with ⟨q, -⟩ | ⟨o, p, j, ho, hp, hj, rfl, rfl, hl, e⟩
  · rw [q] at h1
    exact absurd h1 (by decide)
  have er := I.ro ho
  have el := I.ln er.2
  have ec := (I.pt hp).1.n (by decide)
  rw [F_cell, e, nv_nI (by omega), nI_clamp (show p < 2 ^ 31 by omega)]
  have hj0 : ¬ nI j < 0 := nI_pos (by omega)
  refine ⟨vp_in_nI (N := 24) (by omega) (by decide), _, _, _, X4_inC, rb_dpk (by decide), fun h2 => ?_, fun h2 => ?_⟩ <;> rw [pIn0] at h2
  · have h2 := Decidable.not_not.mp h2
    rw [if_neg (by rintro (q | q); exact hj0 q; exact q h2)]
    obtain ⟨k, hk, rfl⟩ := (pIn_n (I.pt hp).1 (by decide)).mp h2
    have e1 : (4 : Int32) * (24 * nI o + nI j) + nI k = nI (4 * (24 * o + j) + k) := by rw [ix24, ix4]
    rw [e1, stO, nv_nI (by omega), nv_nI (by omega), nv_nI (by omega), nI_clamp (show 4 * (24 * o + j) + k < 2 ^ 31 by omega)]
    exact ⟨vp_in_nI (N := 9696) (by omega) (by decide), _, _, _, X4_tells, rb_dpk (by decide), rfl, rfl⟩
  · rw [if_pos (Or.inr h2)]
    exact ⟨rfl, rfl⟩
def F_row (ms : mm_S) (a b i j : Int32) : Int32 × mm_S :=
  if F_placeIn ms a b < 0 ∨ ¬ (0 ≤ i ∧ i ≤ ms.1 2 (nv b) - 1) then (-1, ms)
  else if ms.1 43 (2 * stO a (F_placeIn ms a b) + nv i) < 0 then (-9, ms)
  else if j = -1 then (1, mm_sL ms 49 0 (ms.1 43 (2 * stO a (F_placeIn ms a b) + nv i)).toInt64)
  else if ¬ (0 ≤ j ∧ j ≤ ms.1 43 (2 * stO a (F_placeIn ms a b) + nv i) - 1) then (-9, ms)
  else (1, mm_sL ms 49 0 (ms.2 44 (12 * (2 * stO a (F_placeIn ms a b) + nv i) + nv j)))
theorem Inv.rw (I : Inv B ms) {o i k : Nat} (ho : o < nN ms 40 0) (hi : i < nN ms 25 (nN ms 41 o)) (hk : k < 2) : iN (ms.1 43 (2 * (24 * o + i) + k)) 12 := (I.2.2.2.2.2.1.2.2 o i k ho hi hk).1
theorem X4_row {a b i j : Int32} (I : Inv B ms) : mm_C g yX4_row wX4_row 3 h M0 ms [.ref h, .int a, .int b, .int i, .int j] (some (.int (F_row ms a b i j).1)) (F_row ms a b i j).2 := by
  have hpn := I.pn
  have hon := I.on
  have hrn := I.rn
  refine rb_Ct.of (by decide) (Nat.le_of_ble_eq_true rfl) rfl ?_
  refine sgX4_row_0 ⟨_, _, _, X4_placeIn I, rb_dpk (by decide), fun h1 => mmF (by rw [F_row, if_pos (Or.inl h1)]), fun h1 => ?_⟩
  rcases F_placeIn_cases (a := a) (b := b) I with ⟨q, -⟩ | ⟨o, p, t, ho, hp, ht, rfl, rfl, hl, e⟩
  · rw [q] at h1
    exact absurd h1 (by decide)
  have er := I.ro ho
  have el := I.ln er.2
  have ec := (I.pt hp).2.1.n (by decide)
  rw [F_row, e, nv_nI (by omega), nI_clamp (show p < 2 ^ 31 by omega)]
  have hj0 : ¬ nI t < 0 := nI_pos (by omega)
  refine ⟨vp_in_nI (N := 24) (by omega) (by decide), _, _, _, X4_inC, rb_dpk (by decide), fun h2 => ?_, fun h2 => ?_⟩ <;> rw [pIn0] at h2
  · have h2 := Decidable.not_not.mp h2
    rw [if_neg (by rintro (q | q); exact hj0 q; exact q h2)]
    obtain ⟨k, hk, rfl⟩ := (pIn_n (I.pt hp).2.1 (by decide)).mp h2
    have e1 : (2 : Int32) * (24 * nI o + nI t) + nI k = nI (2 * (24 * o + t) + k) := by rw [ix24, ix2]
    rw [e1, stO, nv_nI (by omega), nv_nI (by omega), nv_nI (by omega), nI_clamp (show 2 * (24 * o + t) + k < 2 ^ 31 by omega)]
    have hv : vp_in (nI (2 * (24 * o + t) + k)) (mm_l 43) := vp_in_nI (N := 4848) (by omega) (by decide)
    refine ⟨hv, fun h3 => ⟨fun h4 => ⟨hv, _, _, _, X4_inC, rb_dpk (by decide), fun h5 => ?_, fun h5 => ?_⟩, fun h4 => ⟨hv, _, _, _, X4_tells, rb_dpk (by decide), ?_⟩⟩, fun h3 => ?_⟩
    · rw [pIn0] at h5
      exact mmF (by rw [if_neg (Int32.not_lt.mpr h3), if_neg h4, if_pos h5])
    · rw [pIn0] at h5
      have h5' := Decidable.not_not.mp h5
      have hr : iB (ms.1 43 (2 * (24 * o + t) + k)) 12 := by
        rcases I.rw ho ht (show k < 2 by omega) with q | q
        · rw [q] at h3
          exact absurd h3 (by decide)
        · exact q
      have hrn := hr.n (by decide)
      obtain ⟨y, hy, rfl⟩ := (pIn_n hr (by decide)).mp h5'
      rw [ix12, nI_clamp (show 12 * (2 * (24 * o + t) + k) + y < 2 ^ 31 by omega)]
      refine ⟨vp_in_nI (N := 58176) (by omega) (by decide), _, _, _, X4_tells, rb_dpk (by decide), ?_⟩
      exact mmF (by rw [if_neg (Int32.not_lt.mpr h3), if_neg h4, if_neg h5, nv_nI (by omega)])
    · exact mmF (by rw [if_neg (Int32.not_lt.mpr h3), if_pos h4])
    · exact mmF (by rw [if_pos h3])
  · rw [if_pos (Or.inr h2)]
    exact ⟨rfl, rfl⟩
def F_hold (ms : mm_S) (a b i c : Int32) : Int32 × mm_S :=
  if F_placeIn ms a b < 0 ∨ ¬ (0 ≤ i ∧ i ≤ ms.1 3 (nv b) - 1) ∨ (c ≠ -9 ∧ ¬ isO ms c) then (-1, ms)
  else (ms.1 45 (2 * stO a (F_placeIn ms a b) + nv i), mm_sI ms 45 (2 * stO a (F_placeIn ms a b) + nv i) c)
theorem X4_hold {a b i c : Int32} (I : Inv B ms) : mm_C g yX4_hold wX4_hold 3 h M0 ms [.ref h, .int a, .int b, .int i, .int c] (some (.int (F_hold ms a b i c).1)) (F_hold ms a b i c).2 := by
  have hpn := I.pn
  have hon := I.on
  have hrn := I.rn
  refine rb_Ct.of (by decide) (Nat.le_of_ble_eq_true rfl) rfl ?_
  refine sgX4_hold_0 ⟨_, _, _, X4_placeIn I, rb_dpk (by decide), fun h1 => mmF (by rw [F_hold, if_pos (Or.inl h1)]), fun h1 => ?_⟩
  rcases F_placeIn_cases (a := a) (b := b) I with ⟨q, -⟩ | ⟨o, p, t, ho, hp, ht, rfl, rfl, hl, e⟩
  · rw [q] at h1
    exact absurd h1 (by decide)
  have er := I.ro ho
  have el := I.ln er.2
  have ec := (I.pt hp).2.2.1.n (by decide)
  rw [F_hold, e, nv_nI (by omega), nI_clamp (show p < 2 ^ 31 by omega)]
  have hj0 : ¬ nI t < 0 := nI_pos (by omega)
  refine ⟨vp_in_nI (N := 24) (by omega) (by decide), _, _, _, X4_inC, rb_dpk (by decide), fun h2 => ?_, fun h2 => ?_⟩ <;> rw [pIn0] at h2
  · rw [if_pos (Or.inr (Or.inl h2))]
    exact ⟨rfl, rfl⟩
  · have h2 := Decidable.not_not.mp h2
    have h2' := h2
    obtain ⟨k, hk, rfl⟩ := (pIn_n (I.pt hp).2.2.1 (by decide)).mp h2
    have e1 : (2 : Int32) * (24 * nI o + nI t) + nI k = nI (2 * (24 * o + t) + k) := by rw [ix24, ix2]
    rw [e1, stO, nv_nI (by omega), nv_nI (by omega), nv_nI (by omega), nI_clamp (show 2 * (24 * o + t) + k < 2 ^ 31 by omega)]
    have hv : vp_in (nI (2 * (24 * o + t) + k)) (mm_l 45) := vp_in_nI (N := 4848) (by omega) (by decide)
    refine ⟨fun h3 => ⟨hv, hv, ?_⟩, fun h3 => ⟨_, _, _, X4_isObject, rb_dpk (by decide), fun h4 => ⟨hv, hv, ?_⟩, fun h4 => ?_⟩⟩
    · exact mmF (by rw [if_neg (by rintro (q | q | q); exact hj0 q; exact q h2'; exact q.1 h3)])
    · rw [pIn0] at h4
      have h4 := Decidable.not_not.mp h4
      exact mmF (by rw [if_neg (by rintro (q | q | q); exact hj0 q; exact q h2'; exact q.2 h4)])
    · rw [pIn0] at h4
      exact mmF (by rw [if_pos (Or.inr (Or.inr ⟨h3, h4⟩))])
def F_ran (ms : mm_S) (i w : Int32) : Int32 := if ¬ (0 ≤ w ∧ w ≤ 3) then -1 else if ¬ (0 ≤ i ∧ i ≤ ms.1 68 0 - 1) then -9
  else if w = 0 then ms.1 69 (nv i) else if w = 1 then ms.1 70 (nv i) else if w = 2 then ms.1 71 (nv i) else ms.1 72 (nv i)
theorem X4_ran {i w : Int32} (I : Inv B ms) : mm_C g yX4_ran wX4_ran 1 h M0 ms [.ref h, .int i, .int w] (some (.int (F_ran ms i w))) ms := by
  have hR := I.2.2.2.2.2.2.1.2.1
  have e := hR.n (by decide)
  refine rb_Ct.of (by decide) (Nat.le_of_ble_eq_true rfl) rfl ?_
  refine sgX4_ran_0 ⟨_, _, _, X4_inC, rb_dpk (by decide), fun h1 => ⟨_, _, _, X4_inC, rb_dpk (by decide), fun h2 => ?_, fun h2 => ⟨?_, rfl⟩⟩, fun h1 => ⟨?_, rfl⟩⟩ <;> rw [pIn0] at *
  · rw [F_ran, if_neg h1, if_neg h2]
    obtain ⟨j, hj, rfl⟩ := (pIn_n hR (by decide)).mp (Decidable.not_not.mp h2)
    have hv : vp_in (nI j) 60 := vp_in_nI (by omega) (by decide)
    refine ⟨fun h3 => ⟨fun h4 => ⟨fun h5 => ⟨hv, ?_, rfl⟩, fun h5 => ⟨hv, ?_, rfl⟩⟩, fun h4 => ⟨hv, ?_, rfl⟩⟩, fun h3 => ⟨hv, ?_, rfl⟩⟩
    · rw [if_neg h3, if_neg h4, if_neg h5]; rfl
    · rw [if_neg h3, if_neg h4, if_pos h5]; rfl
    · rw [if_neg h3, if_pos h4]; rfl
    · rw [if_pos h3]; rfl
  · rw [F_ran, if_neg h1, if_pos h2]
  · rw [F_ran, if_pos h1]
def F_mark (ms : mm_S) (i : Int32) : Int32 × mm_S := if ¬ (0 ≤ i ∧ i ≤ ms.1 47 0 - 1) ∨ 100 ≤ i then (-9, ms) else (1, mm_sL ms 49 0 (ms.2 48 (nv i)))
theorem X4_mark {i : Int32} (I : Inv B ms) (hB : B < 2 ^ 31) : mm_C g yX4_mark wX4_mark 1 h M0 ms [.ref h, .int i] (some (.int (F_mark ms i).1)) (F_mark ms i).2 := by
  have hR := I.2.2.2.2.2.2.2.1
  refine rb_Ct.of (by decide) (Nat.le_of_ble_eq_true rfl) rfl ?_
  refine sgX4_mark_0 ⟨_, _, _, X4_inC, rb_dpk (by decide), fun h1 => ?_, fun h1 => ⟨fun h2 => ?_, fun h2 => ?_⟩⟩ <;> rw [pIn0] at *
  · exact mmF (by rw [F_mark, if_pos (Or.inl h1)])
  · exact mmF (by rw [F_mark, if_pos (Or.inr h2)])
  · have e := hR.n hB
    obtain ⟨j, hj, rfl⟩ := (pIn_n hR hB).mp (Decidable.not_not.mp h1)
    have h2' := h2
    rw [show (100 : Int32) = nI 100 from rfl, nI_ltI (by omega) (by decide)] at h2
    refine ⟨vp_in_nI (N := 100) h2 (by decide), _, _, _, X4_tells, rb_dpk (by decide), ?_⟩
    exact mmF (by rw [F_mark, if_neg (by rintro (q | q); exact h1 q; exact absurd q (Int32.not_le.mpr h2'))]; rfl)
def F_shared (ms : mm_S) (i : Int32) : Int32 × mm_S := if ¬ (0 ≤ i ∧ i ≤ 7) then (-1, ms) else (1, mm_sL ms 49 0 (ms.2 46 (nv i)))
theorem X4_shared {i : Int32} : mm_C g yX4_shared wX4_shared 1 h M0 ms [.ref h, .int i] (some (.int (F_shared ms i).1)) (F_shared ms i).2 := by
  refine rb_Ct.of (by decide) (Nat.le_of_ble_eq_true rfl) rfl ?_
  refine sgX4_shared_0 ⟨_, _, _, X4_inC, rb_dpk (by decide), fun h1 => ?_, fun h1 => ?_⟩ <;> rw [pIn0] at *
  · exact mmF (by rw [F_shared, if_pos h1])
  · obtain ⟨j, hj, rfl⟩ := (pIn_nat (b := 7) (by decide)).mp (Decidable.not_not.mp h1)
    refine ⟨vp_in_nI (N := 8) (by omega) (by decide), _, _, _, X4_tells, rb_dpk (by decide), ?_⟩
    exact mmF (by rw [F_shared, if_neg h1]; rfl)
end M5
