set_option maxRecDepth 100000
/-! the model's plain methods: what they answer, as functions of ms -/
abbrev isP (ms : mm_S) (a : Int32) : Prop := 0 ≤ a ∧ a ≤ ms.1 0 0 - 1
abbrev isM (a : Int32) : Prop := 0 ≤ a ∧ a ≤ 11
abbrev isRo (ms : mm_S) (a : Int32) : Prop := 0 ≤ a ∧ a ≤ ms.1 24 0 - 1
abbrev isO (ms : mm_S) (a : Int32) : Prop := 0 ≤ a ∧ a ≤ ms.1 40 0 - 1
theorem iB.e {x : Int32} {b : Nat} (h : iB x b) (hb : b < 2 ^ 31) : x = nI x.toNatClampNeg ∧ x.toNatClampNeg ≤ b := by
  obtain ⟨n, hn, rfl⟩ := h
  rw [nI_clamp (by omega)]
  exact ⟨rfl, hn⟩
theorem iB.n {ms : mm_S} {k i : Nat} {b : Nat} (h : iB (ms.1 k i) b) (hb : b < 2 ^ 31) : ms.1 k i = nI (nN ms k i) ∧ nN ms k i ≤ b := h.e hb
theorem isP_iff {ms : mm_S} {a : Int32} (h : iB (ms.1 0 0) 24) : isP ms a ↔ ∃ p, p < nN ms 0 0 ∧ a = nI p := by
  have e := h.n (by decide)
  have k := pIn_pred (x := a) (b := nN ms 0 0) (by omega)
  rw [← e.1] at k
  exact k
theorem isRo_iff {ms : mm_S} {a : Int32} (h : iB (ms.1 24 0) 24) : isRo ms a ↔ ∃ p, p < nN ms 24 0 ∧ a = nI p := by
  have e := h.n (by decide)
  have k := pIn_pred (x := a) (b := nN ms 24 0) (by omega)
  rw [← e.1] at k
  exact k
theorem isO_iff {ms : mm_S} {a : Int32} (h : iB (ms.1 40 0) 100) : isO ms a ↔ ∃ p, p < nN ms 40 0 ∧ a = nI p := by
  have e := h.n (by decide)
  have k := pIn_pred (x := a) (b := nN ms 40 0) (by omega)
  rw [← e.1] at k
  exact k
theorem isM_iff {a : Int32} : isM a ↔ ∃ m, m < 12 ∧ a = nI m := by
  have k := pIn_nat (x := a) (b := 11) (by decide)
  rw [show nI 11 = 11 from rfl] at k
  rw [isM, k]
  exact ⟨fun ⟨n, h1, h2⟩ => ⟨n, by omega, h2⟩, fun ⟨n, h1, h2⟩ => ⟨n, by omega, h2⟩⟩
theorem mmF {F : Int32 × mm_S} {r : Int32} {ms1 : mm_S} {h : Nat} {M0 : rb_H} (e : F = (r, ms1)) : Outcome.returned (some (.int r)) = .returned (some (.int F.1)) ∧ mm_H h ms1 M0 = mm_H h F.2 M0 := by
  subst e; exact ⟨rfl, rfl⟩
theorem nar01 {c : Prop} [Decidable c] : narrow .boolean (.int (if c then (1 : Int32) else 0)) = .int (if c then 1 else 0) := by
  split <;> decide
section M2
variable {g : rb_G} {M0 : rb_H} {h : Nat} {ms : mm_S}
theorem X4_isMember {M : rb_H} {a : Int32} : rb_Ct g yX4_isMember wX4_isMember 1 (0, 0) [.int a] M (fun o M' => o = .returned (some (.int (if isM a then 1 else 0))) ∧ M' = M) := by
  refine rb_Ct.of (by decide) (Nat.le_of_ble_eq_true rfl) rfl ?_
  exact sgX4_isMember_0 ⟨_, _, X4_in, rb_dpk (by decide), nar01, rfl, rfl⟩
theorem X4_isMemberC {a : Int32} : mm_C g yX4_isMember wX4_isMember 1 h M0 ms [.int a] (some (.int (if isM a then 1 else 0))) ms := X4_isMember
theorem X4_isRole {a : Int32} : mm_C g yX4_isRole wX4_isRole 1 h M0 ms [.ref h, .int a] (some (.int (if isRo ms a then 1 else 0))) ms := by
  refine rb_Ct.of (by decide) (Nat.le_of_ble_eq_true rfl) rfl ?_
  exact sgX4_isRole_0 ⟨_, _, _, X4_inC, rb_dpk (by decide), nar01, rfl, rfl⟩
theorem X4_isObject {a : Int32} : mm_C g yX4_isObject wX4_isObject 1 h M0 ms [.ref h, .int a] (some (.int (if isO ms a then 1 else 0))) ms := by
  refine rb_Ct.of (by decide) (Nat.le_of_ble_eq_true rfl) rfl ?_
  exact sgX4_isObject_0 ⟨_, _, _, X4_inC, rb_dpk (by decide), nar01, rfl, rfl⟩
def F_bodyOf (a u m : Int32) : Int32 := if u = 2 then 25 * a + 24 else 25 * a + (12 * u + m)
theorem X4_bodyOf {a u m : Int32} : mm_C g yX4_bodyOf wX4_bodyOf 0 h M0 ms [.int a, .int u, .int m] (some (.int (F_bodyOf a u m))) ms := by
  refine rb_Ct.of (by decide) (Nat.le_of_ble_eq_true rfl) rfl ?_
  refine sgX4_bodyOf_0 ⟨fun h => ⟨?_, rfl⟩, fun h => ⟨?_, rfl⟩⟩
  · rw [F_bodyOf, if_neg h]
  · rw [F_bodyOf, if_pos h]
/-! extend -/
abbrev isX (ms : mm_S) (a : Nat) (b : Int32) : Prop := ∃ k, k < nN ms 4 a ∧ ms.1 5 (4 * a + k) = b
def F_extend (ms : mm_S) (a b : Int32) : Int32 × mm_S :=
  if ¬ isP ms a ∨ ¬ (0 ≤ b ∧ b ≤ a - 1) ∨ isX ms (nv a) b then (-1, ms)
  else if ms.1 4 (nv a) = 4 then (-2, ms)
  else if 0 < ms.1 24 0 then (-4, ms)
  else (ms.1 4 (nv a) + 1, mm_sI (mm_sI ms 5 (4 * nv a + nN ms 4 (nv a)) b) 4 (nv a) (ms.1 4 (nv a) + 1))
theorem X4_extend {a b : Int32} (hp : iB (ms.1 0 0) 24) (he : ∀ p, p < nN ms 0 0 → iB (ms.1 4 p) 4) : mm_C g yX4_extend wX4_extend 2 h M0 ms [.ref h, .int a, .int b] (some (.int (F_extend ms a b).1)) (F_extend ms a b).2 := by
  refine rb_Ct.of (by decide) (Nat.le_of_ble_eq_true rfl) rfl ?_
  refine sgX4_extend_0 ⟨_, _, _, X4_isPart, rb_dpk (by decide), fun h1 => ?_, fun h1 => ⟨_, _, _, X4_inC, rb_dpk (by decide), fun h2 => ?_, fun h2 => ?_⟩⟩ <;> rw [pIn0] at *
  · exact mmF (by rw [F_extend, if_pos (Or.inl h1)])
  · exact mmF (by rw [F_extend, if_pos (Or.inr (Or.inl h2))])
  · have h1 := Decidable.not_not.mp h1
    have h2 := Decidable.not_not.mp h2
    have hh1 := h1
    obtain ⟨p, hpp, rfl⟩ := (isP_iff hp).mp h1
    have hP := hp.n (by decide)
    have ev : nv (nI p) = p := nI_clamp (by omega)
    have ev2 : (nI p).toNatClampNeg = p := nI_clamp (by omega)
    have ev3 : (ms.1 4 p).toNatClampNeg = nN ms 4 p := rfl
    obtain ⟨x, hx, hC⟩ := X4_isExtended (g := g) (M0 := M0) (h := h) (ms := ms) (p := p) (o := b) (by omega) (he p hpp)
    have hn := (he p hpp).n (by decide)
    refine ⟨_, _, _, hC, rb_dpk (by decide), fun h3 => ?_, fun h3 => ?_⟩
    · have h3 := hx.f h3
      have hbad : ¬ (¬ isP ms (nI p) ∨ ¬ (0 ≤ b ∧ b ≤ nI p - 1) ∨ isX ms (nv (nI p)) b) := by
        rw [ev]
        rintro (q | q | q)
        · exact q hh1
        · exact q h2
        · exact h3 q
      rw [ev2]
      have e4 : (4 : Int32) * nI p + ms.1 4 p = nI (4 * p + nN ms 4 p) := by rw [hn.1, show (4 : Int32) = nI 4 from rfl, pk_mul, nI_add]
      refine ⟨vp_in_nI (N := 24) (by omega) (by decide), fun h4 => ⟨fun h5 => ?_, fun h5 => ?_⟩, fun h4 => ?_⟩
      · have hn4 : nN ms 4 p ≠ 4 := fun q => h4 (by rw [hn.1, q]; rfl)
        rw [e4]
        refine ⟨vp_in_nI (N := 24) (by omega) (by decide), vp_in_nI (N := 96) (by omega) (by decide), vp_in_nI (N := 24) (by omega) (by decide), vp_in_nI (N := 24) (by omega) (by decide), vp_in_nI (N := 24) (by omega) (by decide), ?_⟩
        refine mmF ?_
        rw [F_extend, if_neg hbad, ev, if_neg h4, if_neg (Int32.not_lt.mpr h5), nI_clamp (by omega)]
        simp [mm_sI, va_up]
      · exact mmF (by rw [F_extend, if_neg hbad, ev, if_neg h4, if_pos h5])
      · exact mmF (by rw [F_extend, if_neg hbad, ev, if_pos h4])
    · exact mmF (by rw [F_extend, ev, if_pos (show _ ∨ _ ∨ isX ms p b from Or.inr (Or.inr (hx.t h3)))])
/-! want -/
def F_want (ms : mm_S) (a b : Int32) : Int32 × mm_S :=
  if ¬ isP ms a ∨ ¬ isP ms b ∨ a = b then (-1, ms)
  else if ms.1 7 0 = 30 then (-2, ms)
  else if 0 < ms.1 24 0 then (-4, ms)
  else (ms.1 7 0 + 1, mm_sI (mm_sI (mm_sI ms 8 (nN ms 7 0) a) 9 (nN ms 7 0) b) 7 0 (ms.1 7 0 + 1))
theorem X4_want {a b : Int32} (hw : iB (ms.1 7 0) 30) : mm_C g yX4_want wX4_want 2 h M0 ms [.ref h, .int a, .int b] (some (.int (F_want ms a b).1)) (F_want ms a b).2 := by
  refine rb_Ct.of (by decide) (Nat.le_of_ble_eq_true rfl) rfl ?_
  refine sgX4_want_0 ⟨_, _, _, X4_isPart, rb_dpk (by decide), fun h1 => ?_, fun h1 => ⟨_, _, _, X4_isPart, rb_dpk (by decide), fun h2 => ?_, fun h2 => ⟨fun h3 => ⟨fun h4 => ⟨fun h5 => ?_, fun h5 => ?_⟩, fun h4 => ?_⟩, fun h3 => ?_⟩⟩⟩ <;> rw [pIn0] at *
  · exact mmF (by rw [F_want, if_pos (Or.inl h1)])
  · exact mmF (by rw [F_want, if_pos (Or.inr (Or.inl h2))])
  all_goals (have h1 := Decidable.not_not.mp h1; have h2 := Decidable.not_not.mp h2)
  · have hn := hw.n (by decide)
    have hn4 : nN ms 7 0 ≠ 30 := fun q => h4 (by rw [hn.1, q]; rfl)
    refine ⟨?_, ?_, ?_⟩
    · rw [hn.1]; exact vp_in_nI (N := 30) (by omega) (by decide)
    · rw [hn.1]; exact vp_in_nI (N := 30) (by omega) (by decide)
    · exact mmF (by rw [F_want, if_neg (by rintro (q | q | q); exact q h1; exact q h2; exact h3 q), if_neg h4, if_neg (Int32.not_lt.mpr h5)])
  · exact mmF (by rw [F_want, if_neg (by rintro (q | q | q); exact q h1; exact q h2; exact h3 q), if_neg h4, if_pos h5])
  · exact mmF (by rw [F_want, if_neg (by rintro (q | q | q); exact q h1; exact q h2; exact h3 q), if_pos h4])
  · exact mmF (by rw [F_want, if_pos (Or.inr (Or.inr h3))])
end M2
