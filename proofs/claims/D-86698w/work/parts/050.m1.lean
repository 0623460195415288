set_option maxRecDepth 100000
/-- a contract of the model: its body, with d frames -/
abbrev mm_k1 (g : rb_G) (d h : Nat) (M0 : rb_H) (r : Option Value) (ms' : mm_S) : rb_K := (g, rb_rm d (0, 0), (fun o M' => o = .returned r ∧ M' = mm_H h ms' M0), 0, 0)
theorem rb_dpk {g : rb_G} {d d' : Nat} {n : Nat × Nat} {Post : Outcome → rb_H → Prop} {m : Nat × Nat} (h : d' < d) : rb_dp (g, rb_rm d n, Post, m) d' := ⟨h, by show 40 * (d' + 1) ≤ 40 * d; omega⟩
theorem X4_in {g : rb_G} {M : rb_H} {a b c : Int32} : rb_Ct g yX4_in wX4_in 0 (0, 0) [.int a, .int b, .int c] M (fun o M' => o = .returned (some (.int (if b ≤ a ∧ a ≤ c then 1 else 0))) ∧ M' = M) := by
  refine rb_Ct.of (by decide) (Nat.le_of_ble_eq_true rfl) rfl ?_
  refine sgX4_in_0 ⟨fun h => ?_, fun h => ⟨fun h' => ?_, fun h' => ?_⟩⟩
  · refine ⟨?_, rfl⟩
    rw [if_neg (fun q => absurd q.1 (Int32.not_le.mpr h))]
  · refine ⟨?_, rfl⟩
    rw [if_neg (fun q => absurd q.2 (Int32.not_le.mpr h'))]
  · refine ⟨?_, rfl⟩
    rw [if_pos ⟨h, h'⟩]
theorem X4_inC {g : rb_G} {M0 : rb_H} {h : Nat} {ms : mm_S} {a b c : Int32} : mm_C g yX4_in wX4_in 0 h M0 ms [.int a, .int b, .int c] (some (.int (if b ≤ a ∧ a ≤ c then 1 else 0))) ms := X4_in
theorem X4_isPart {g : rb_G} {M0 : rb_H} {h : Nat} {ms : mm_S} {a : Int32} : mm_C g yX4_isPart wX4_isPart 1 h M0 ms [.ref h, .int a] (some (.int (if 0 ≤ a ∧ a ≤ ms.1 0 0 - 1 then 1 else 0))) ms := by
  refine rb_Ct.of (by decide) (Nat.le_of_ble_eq_true rfl) rfl ?_
  refine sgX4_isPart_0 ⟨_, _, _, X4_inC, rb_dpk (by decide), ?_, rfl, rfl⟩
  split <;> decide
def nv (x : Int32) : Nat := x.toNatClampNeg
/-- x is one of 0..b -/
def iB (x : Int32) (b : Nat) : Prop := ∃ n : Nat, n ≤ b ∧ x = nI n
def iN (x : Int32) (b : Nat) : Prop := x = -9 ∨ iB x b
theorem pIn_nat {x : Int32} {b : Nat} (hb : b < 2 ^ 31) : (0 ≤ x ∧ x ≤ nI b) ↔ ∃ n : Nat, n ≤ b ∧ x = nI n := by
  constructor
  · rintro ⟨h1, h2⟩
    obtain ⟨j, hj, rfl⟩ := nI_of (x := x) (by intro h; exact absurd h1 (Int32.not_le.mpr h))
    exact ⟨j, (nI_leI hj hb).mp h2, rfl⟩
  · rintro ⟨n, hn, rfl⟩
    exact ⟨nI_pos' (by omega), nI_le hn hb⟩
theorem pIn_pred {x : Int32} {b : Nat} (hb : b < 2 ^ 31) : (0 ≤ x ∧ x ≤ nI b - 1) ↔ ∃ n : Nat, n < b ∧ x = nI n := by
  cases b with
  | zero =>
    constructor
    · rintro ⟨h1, h2⟩
      exact absurd (Int32.le_trans h1 h2) (by decide)
    · rintro ⟨n, hn, _⟩; omega
  | succ b =>
    rw [nI_pred, pIn_nat (by omega)]
    constructor
    · rintro ⟨n, hn, rfl⟩; exact ⟨n, by omega, rfl⟩
    · rintro ⟨n, hn, rfl⟩; exact ⟨n, by omega, rfl⟩
theorem pIn0 {a b c : Int32} : ((if b ≤ a ∧ a ≤ c then (1 : Int32) else 0) = 0) ↔ ¬ (b ≤ a ∧ a ≤ c) := by
  split <;> simp_all
def F_part (ms : mm_S) (a b c : Int32) : Int32 × mm_S :=
  if ¬ (0 ≤ a ∧ a ≤ 4) ∨ ¬ (0 ≤ b ∧ b ≤ 2) ∨ ¬ (0 ≤ c ∧ c ≤ 2) then (-1, ms)
  else if ms.1 0 0 = 24 then (-2, ms)
  else (ms.1 0 0, mm_sI (mm_sI (mm_sI (mm_sI ms 1 (nv (ms.1 0 0)) a) 2 (nv (ms.1 0 0)) b) 3 (nv (ms.1 0 0)) c) 0 0 (ms.1 0 0 + 1))
theorem X4_part {g : rb_G} {M0 : rb_H} {h : Nat} {ms : mm_S} {a b c : Int32} (hp : iB (ms.1 0 0) 24) : mm_C g yX4_part wX4_part 1 h M0 ms [.ref h, .int a, .int b, .int c] (some (.int (F_part ms a b c).1)) (F_part ms a b c).2 := by
  refine rb_Ct.of (by decide) (Nat.le_of_ble_eq_true rfl) rfl ?_
  refine sgX4_part_0 ⟨_, _, _, X4_inC, rb_dpk (by decide), fun h1 => ?_, fun h1 => ⟨_, _, _, X4_inC, rb_dpk (by decide), fun h2 => ?_, fun h2 => ⟨_, _, _, X4_inC, rb_dpk (by decide), fun h3 => ⟨fun h4 => ?_, fun h4 => ?_⟩, fun h3 => ?_⟩⟩⟩ <;> rw [pIn0] at * 
  · simp [F_part, h1]
  · simp [F_part, h2]
  · have h1' := Decidable.not_not.mp h1
    have h2' := Decidable.not_not.mp h2
    have h3' := Decidable.not_not.mp h3
    obtain ⟨p, hp, e⟩ := hp
    have hp' : p < 24 := by
      rcases Nat.lt_or_ge p 24 with q | q
      · exact q
      · exact absurd (show ms.1 0 0 = 24 by rw [e, show p = 24 by omega]; rfl) h4
    refine ⟨?_, ?_, ?_, ?_, ?_⟩
    · rw [e]; exact vp_in_nI hp' (by decide)
    · rw [e]; exact vp_in_nI hp' (by decide)
    · rw [e]; exact vp_in_nI hp' (by decide)
    · simp only [F_part, h1', h2', h3', h4]
      simp
    · simp only [F_part, h1', h2', h3', h4]
      simp [nv]
  · simp [F_part, h1, h2, h3, h4]
  · simp [F_part, h3]
/-- the boolean r says whether P -/
def zB (r : Int32) (P : Prop) : Prop := (r = 1 ∧ P) ∨ (r = 0 ∧ ¬ P)
theorem zB.nar {r : Int32} {P : Prop} (h : zB r P) : narrow .boolean (.int r) = .int r := by
  rcases h with ⟨rfl, _⟩ | ⟨rfl, _⟩ <;> rfl
theorem zB.t {r : Int32} {P : Prop} (h : zB r P) (h1 : ¬ r = 0) : P := by
  rcases h with ⟨rfl, h⟩ | ⟨rfl, h⟩
  · exact h
  · exact absurd rfl h1
theorem zB.f {r : Int32} {P : Prop} (h : zB r P) (h1 : r = 0) : ¬ P := by
  rcases h with ⟨rfl, h⟩ | ⟨rfl, h⟩
  · exact absurd h1 (by decide)
  · exact h
theorem X4_isExtLoop {κ : rb_K} {M0 : rb_H} {h : Nat} {ms : mm_S} {p m : Nat} {o : Int32} (hp : p < 24) (hm : ms.1 4 p = nI m) (hm4 : m ≤ 4) (hP : ∀ r, zB r (∃ k, k < m ∧ ms.1 5 (4 * p + k) = o) → κ.2.2.1 (.returned (some (.int r))) (mm_H h ms M0)) :
    ∀ d j, j + d = m → ∀ r, zB r (∃ k, k < j ∧ ms.1 5 (4 * p + k) = o) → rb_Bd κ mX4_isExtended (0, 0) (mm_H h ms M0) 5 [some (.ref h), some (.int (nI p)), some (.int o), some (.int r), some (.int (nI j))] [] := by
  intro d
  induction d with
  | zero =>
    intro j hj r hr
    obtain rfl : j = m := by omega
    refine sgX4_isExtended_5 ⟨vp_in_nI hp (by decide), fun _ => ⟨hr.nar, hP r hr⟩, fun hlt => ?_⟩
    rw [nI_clamp (by omega), hm] at hlt
    exact absurd hlt (nI_nlt (by omega) (by omega))
  | succ d ih =>
    intro j hj r hr
    have e4 : (4 : Int32) * nI p + nI j = nI (4 * p + j) := by rw [show (4 : Int32) = nI 4 from rfl, pk_mul, nI_add]
    refine sgX4_isExtended_5 ⟨vp_in_nI hp (by decide), fun hle => ?_, fun hlt => ⟨fun h1 => ?_, fun h1 => ⟨?_, fun h2 => ?_, fun h2 => ?_⟩⟩⟩
    · rw [nI_clamp (by omega), hm] at hle
      exact absurd hle (nI_ge (by omega) (by omega))
    · rw [nI_1]
      refine ih (j + 1) (by omega) 1 (Or.inl ⟨rfl, ?_⟩)
      obtain ⟨k, hk, hk'⟩ := hr.t h1
      exact ⟨k, by omega, hk'⟩
    · rw [e4]; exact vp_in_nI (N := 96) (by omega) (by decide)
    · rw [e4, nI_clamp (by omega)] at h2
      rw [nI_1]
      refine ih (j + 1) (by omega) 0 (Or.inr ⟨rfl, ?_⟩)
      rintro ⟨k, hk, hk'⟩
      rcases Nat.lt_or_ge k j with q | q
      · exact hr.f h1 ⟨k, q, hk'⟩
      · obtain rfl : k = j := by omega
        exact h2 hk'
    · rw [e4, nI_clamp (by omega)] at h2
      rw [nI_1]
      exact ih (j + 1) (by omega) 1 (Or.inl ⟨rfl, j, by omega, h2⟩)
theorem X4_isExtended {g : rb_G} {M0 : rb_H} {h : Nat} {ms : mm_S} {p : Nat} {o : Int32} (hp : p < 24) (hm : iB (ms.1 4 p) 4) : ∃ r, zB r (∃ k, k < nv (ms.1 4 p) ∧ ms.1 5 (4 * p + k) = o) ∧ mm_C g yX4_isExtended wX4_isExtended 0 h M0 ms [.ref h, .int (nI p), .int o] (some (.int r)) ms := by
  obtain ⟨m, hm4, hm⟩ := hm
  have em : nv (ms.1 4 p) = m := by rw [nv, hm, nI_clamp (by omega)]
  rw [em]
  refine ⟨if (∃ k, k < m ∧ ms.1 5 (4 * p + k) = o) then 1 else 0, ?_, ?_⟩
  · split
    · rename_i q; exact Or.inl ⟨rfl, q⟩
    · rename_i q; exact Or.inr ⟨rfl, q⟩
  · refine rb_Ct.of (by decide) (Nat.le_of_ble_eq_true rfl) rfl ?_
    refine sgX4_isExtended_0 ?_
    refine X4_isExtLoop hp hm hm4 ?_ m 0 (by omega) 0 (Or.inr ⟨rfl, by rintro ⟨k, hk, _⟩; omega⟩)
    intro r hr
    refine ⟨?_, rfl⟩
    rcases hr with ⟨rfl, q⟩ | ⟨rfl, q⟩
    · rw [if_pos q]
    · rw [if_neg q]
