set_option maxRecDepth 100000
/-! indices -/
theorem nv_nI {n : Nat} (h : n < 2 ^ 31) : nv (nI n) = n := nI_clamp h
theorem ix2 (p i : Nat) : (2 : Int32) * nI p + nI i = nI (2 * p + i) := by rw [show (2 : Int32) = nI 2 from rfl, pk_mul, nI_add]
theorem ix4 (p i : Nat) : (4 : Int32) * nI p + nI i = nI (4 * p + i) := by rw [show (4 : Int32) = nI 4 from rfl, pk_mul, nI_add]
theorem ix10 (p i : Nat) : (10 : Int32) * nI p + nI i = nI (10 * p + i) := by rw [show (10 : Int32) = nI 10 from rfl, pk_mul, nI_add]
theorem ix12 (p i : Nat) : (12 : Int32) * nI p + nI i = nI (12 * p + i) := by rw [show (12 : Int32) = nI 12 from rfl, pk_mul, nI_add]
theorem ix24 (p i : Nat) : (24 : Int32) * nI p + nI i = nI (24 * p + i) := by rw [show (24 : Int32) = nI 24 from rfl, pk_mul, nI_add]
theorem ix25 (p i : Nat) : (25 : Int32) * nI p + nI i = nI (25 * p + i) := by rw [show (25 : Int32) = nI 25 from rfl, pk_mul, nI_add]
theorem ix48 (p i : Nat) : (48 : Int32) * nI p + nI i = nI (48 * p + i) := by rw [show (48 : Int32) = nI 48 from rfl, pk_mul, nI_add]
/-- the boolean of P -/
noncomputable def bz (P : Prop) : Int32 := @ite _ P (Classical.propDecidable P) 1 0
theorem bz_t {P : Prop} (h : P) : bz P = 1 := by unfold bz; rw [if_pos h]
theorem bz_f {P : Prop} (h : ¬ P) : bz P = 0 := by unfold bz; rw [if_neg h]
theorem bz_0 {P : Prop} : bz P = 0 ↔ ¬ P := by
  by_cases h : P
  · rw [bz_t h]; exact ⟨fun q => absurd q (by decide), fun q => absurd h q⟩
  · rw [bz_f h]; exact ⟨fun _ => h, fun _ => rfl⟩
theorem bz_1 {P : Prop} : ¬ bz P = 0 ↔ P := by rw [bz_0]; exact Classical.not_not
theorem bz_nar {P : Prop} : narrow .boolean (.int (bz P)) = .int (bz P) := by
  by_cases h : P
  · rw [bz_t h]; rfl
  · rw [bz_f h]; rfl
theorem bz_c {P Q : Prop} (h : P ↔ Q) : bz P = bz Q := by rw [propext h]
theorem bz_z {x : Int32} {P : Prop} (h : zB x P) : x = bz P := by
  rcases h with ⟨rfl, q⟩ | ⟨rfl, q⟩
  · rw [bz_t q]
  · rw [bz_f q]
theorem bz_if {P : Prop} [Decidable P] : (if P then (1 : Int32) else 0) = bz P := by
  by_cases h : P
  · rw [bz_t h, if_pos h]
  · rw [bz_f h, if_neg h]
theorem pIn_n {ms : mm_S} {k i b : Nat} (h : iB (ms.1 k i) b) (hb : b < 2 ^ 31) {a : Int32} : (0 ≤ a ∧ a ≤ ms.1 k i - 1) ↔ ∃ p, p < nN ms k i ∧ a = nI p := by
  have e := h.n hb
  have q := pIn_pred (x := a) (b := nN ms k i) (by omega)
  rw [← e.1] at q
  exact q
/-! lines that are alike -/
def alike (ms : mm_S) (r o n : Nat) : Prop := n ≤ nN ms 25 r ∧ n ≤ nN ms 25 o ∧ ∀ i, i < n → ms.1 26 (24 * r + i) = ms.1 26 (24 * o + i)
def isStep (ms : mm_S) (r n k : Nat) : Prop := k ≤ r ∧ alike ms r k n ∧ ∀ j, j < k → ¬ alike ms r j n
theorem isStep_ex {ms : mm_S} {r n : Nat} (h : n ≤ nN ms 25 r) : ∃ k, isStep ms r n k := by
  have key : ∀ d k, k + d = r → (∀ j, j < k → ¬ alike ms r j n) → ∃ k, isStep ms r n k := by
    intro d
    induction d with
    | zero =>
      intro k hk hno
      obtain rfl : k = r := by omega
      exact ⟨k, Nat.le_refl _, ⟨h, h, fun _ _ => rfl⟩, hno⟩
    | succ d ih =>
      intro k hk hno
      by_cases ha : alike ms r k n
      · exact ⟨k, by omega, ha, hno⟩
      · refine ih (k + 1) (by omega) fun j hj => ?_
        rcases Nat.lt_or_ge j k with q | q
        · exact hno j q
        · obtain rfl : j = k := by omega
          exact ha
  exact key r 0 (by omega) (fun j hj => by omega)
noncomputable def stepF (ms : mm_S) (r n : Nat) : Nat := @dite _ (∃ k, isStep ms r n k) (Classical.propDecidable _) (fun h => Classical.choose h) (fun _ => 0)
theorem stepF_spec {ms : mm_S} {r n : Nat} (h : n ≤ nN ms 25 r) : isStep ms r n (stepF ms r n) := by
  unfold stepF
  rw [dif_pos (isStep_ex h)]
  exact Classical.choose_spec (isStep_ex h)
theorem stepF_uniq {ms : mm_S} {r n k : Nat} (h : isStep ms r n k) (hn : n ≤ nN ms 25 r) : stepF ms r n = k := by
  have q := stepF_spec hn
  rcases Nat.lt_trichotomy (stepF ms r n) k with e | e | e
  · exact absurd q.2.1 (h.2.2 _ e)
  · exact e
  · exact absurd h.2.1 (q.2.2 _ e)
section M3
variable {g : rb_G} {M0 : rb_H} {h : Nat} {ms : mm_S}
theorem X4_alikeLoop {κ : rb_K} {r o n : Nat} (hr : r < 24) (ho : o < 24) (hn : n ≤ 24) (hp : ∀ P : Prop, (P ↔ ∀ i, i < n → ms.1 26 (24 * r + i) = ms.1 26 (24 * o + i)) → κ.2.2.1 (.returned (some (.int (bz P)))) (mm_H h ms M0)) :
    ∀ d j, j + d = n → (∀ i, i < j → ms.1 26 (24 * r + i) = ms.1 26 (24 * o + i)) → rb_Bd κ mX4_areAlike (0, 0) (mm_H h ms M0) 30 [some (.ref h), some (.int (nI r)), some (.int (nI o)), some (.int (nI n)), some (.int 1), some (.int (nI j))] [] := by
  intro d
  induction d with
  | zero =>
    intro j hj hall
    obtain rfl : j = n := by omega
    refine sgX4_areAlike_30 ⟨fun _ => ⟨rfl, ?_⟩, fun h1 => absurd h1 (nI_nlt (Nat.le_refl _) (by omega))⟩
    have := hp True ⟨fun _ => hall, fun _ => trivial⟩
    rw [bz_t trivial] at this
    exact this
  | succ d ih =>
    intro j hj hall
    refine sgX4_areAlike_30 ⟨fun h1 => absurd h1 (nI_ge (by omega) (by omega)), fun _ => ⟨fun h2 => absurd h2 (by decide), fun _ => ?_⟩⟩
    rw [ix24, ix24, nI_clamp (by omega), nI_clamp (by omega), nI_1]
    refine ⟨vp_in_nI (N := 576) (by omega) (by decide), vp_in_nI (N := 576) (by omega) (by decide), fun h3 => ?_, fun h3 => ?_⟩
    · have hf := hp False ⟨False.elim, fun q => absurd (q j (by omega)) h3⟩
      rw [bz_f id] at hf
      refine sgX4_areAlike_30 ⟨fun _ => ⟨rfl, hf⟩, fun _ => ⟨fun _ => ⟨rfl, hf⟩, fun h4 => absurd rfl h4⟩⟩
    · refine ih (j + 1) (by omega) fun i hi => ?_
      rcases Nat.lt_or_ge i j with q | q
      · exact hall i q
      · obtain rfl : i = j := by omega
        exact h3
theorem X4_areAlike {r o n : Nat} (hr : r < 24) (ho : o < 24) (hn : n < 2 ^ 31) (h1 : iB (ms.1 25 r) 24) (h2 : iB (ms.1 25 o) 24) : mm_C g yX4_areAlike wX4_areAlike 0 h M0 ms [.ref h, .int (nI r), .int (nI o), .int (nI n)] (some (.int (bz (alike ms r o n)))) ms := by
  have e1 := h1.n (by decide)
  have e2 := h2.n (by decide)
  refine rb_Ct.of (by decide) (Nat.le_of_ble_eq_true rfl) rfl ?_
  have hbad : ¬ alike ms r o n → ∀ j, rb_Bd (mm_k1 g 0 h M0 (some (.int (bz (alike ms r o n)))) ms) mX4_areAlike (0, 0) (mm_H h ms M0) 30 [some (.ref h), some (.int (nI r)), some (.int (nI o)), some (.int (nI n)), some (.int 0), some (.int j)] [] := by
    intro hna j
    have hf : (mm_k1 g 0 h M0 (some (.int (bz (alike ms r o n)))) ms).2.2.1 (.returned (some (.int 0))) (mm_H h ms M0) := ⟨by rw [bz_f hna], rfl⟩
    exact sgX4_areAlike_30 ⟨fun _ => ⟨rfl, hf⟩, fun _ => ⟨fun _ => ⟨rfl, hf⟩, fun h4 => absurd rfl h4⟩⟩
  refine sgX4_areAlike_0 ?_
  rw [nI_clamp (by omega), nI_clamp (by omega)]
  refine ⟨vp_in_nI (N := 24) hr (by decide), fun h3 => hbad (fun q => ?_) _, fun h3 => ⟨vp_in_nI (N := 24) ho (by decide), fun h4 => hbad (fun q => ?_) _, fun h4 => ?_⟩⟩
  · rw [e1.1, nI_ltI (by omega) (by omega)] at h3
    have := q.1
    omega
  · rw [e2.1, nI_ltI (by omega) (by omega)] at h4
    have := q.2.1
    omega
  · rw [e1.1, nI_leI (by omega) (by omega)] at h3
    rw [e2.1, nI_leI (by omega) (by omega)] at h4
    refine X4_alikeLoop hr ho (by omega) ?_ n 0 (by omega) (fun i hi => by omega)
    intro P hP
    exact ⟨by rw [bz_c (Q := alike ms r o n) (hP.trans ⟨fun q => ⟨h3, h4, q⟩, fun q => q.2.2⟩)], rfl⟩
theorem X4_isUnder {r o : Nat} (hr : r < 24) (ho : o < 24) (h1 : iB (ms.1 25 r) 24) (h2 : iB (ms.1 25 o) 24) : mm_C g yX4_isUnder wX4_isUnder 1 h M0 ms [.ref h, .int (nI r), .int (nI o)] (some (.int (bz (alike ms r o (nN ms 25 o))))) ms := by
  have e2 := h2.n (by decide)
  refine rb_Ct.of (by decide) (Nat.le_of_ble_eq_true rfl) rfl ?_
  refine sgX4_isUnder_0 ?_
  rw [nI_clamp (by omega)]
  refine ⟨vp_in_nI (N := 24) ho (by decide), ?_⟩
  have hA := X4_areAlike (g := g) (M0 := M0) (h := h) (ms := ms) (n := nN ms 25 o) hr ho (by omega) h1 h2
  rw [← e2.1] at hA
  exact ⟨_, _, _, hA, rb_dpk (by decide), bz_nar, rfl, rfl⟩
theorem X4_stepLoop {κ : rb_K} {r i : Nat} (hr : r < 24) (hi : i < nN ms 25 r) (hL : ∀ o, o ≤ r → iB (ms.1 25 o) 24) (hd : rb_dp κ 0) (hp : κ.2.2.1 (.returned (some (.int (nI (stepF ms r (i + 1)))))) (mm_H h ms M0)) :
    ∀ d k, k + d = r → (∀ j, j < k → ¬ alike ms r j (i + 1)) → rb_Bd κ mX4_stepOf (0, 0) (mm_H h ms M0) 2 [some (.ref h), some (.int (nI r)), some (.int (nI i)), some (.int (nI k))] [] := by
  have er := (hL r (Nat.le_refl _)).n (by decide)
  intro d
  induction d with
  | zero =>
    intro k hk hno
    obtain rfl : k = r := by omega
    have hA := X4_areAlike (g := κ.1) (M0 := M0) (h := h) (ms := ms) (n := i + 1) hr hr (by omega) (hL _ (by omega)) (hL _ (by omega))
    rw [← nI_1] at hA
    have ha : alike ms k k (i + 1) := ⟨hi, hi, fun _ _ => rfl⟩
    have hs : isStep ms k (i + 1) k := ⟨Nat.le_refl _, ha, hno⟩
    rw [stepF_uniq hs hi] at hp
    exact sgX4_stepOf_2 ⟨_, _, _, hA, hd, fun _ => hp, fun h1 => absurd h1 (bz_1.mpr ha)⟩
  | succ d ih =>
    intro k hk hno
    have hA := X4_areAlike (g := κ.1) (M0 := M0) (h := h) (ms := ms) (n := i + 1) hr (show k < 24 by omega) (by omega) (hL _ (by omega)) (hL _ (by omega))
    rw [← nI_1] at hA
    refine sgX4_stepOf_2 ⟨_, _, _, hA, hd, fun h1 => ?_, fun h1 => ?_⟩
    · have hs : isStep ms r (i + 1) k := ⟨by omega, bz_1.mp h1, hno⟩
      rw [stepF_uniq hs hi] at hp
      exact hp
    · rw [nI_1]
      refine ih (k + 1) (by omega) fun j hj => ?_
      rcases Nat.lt_or_ge j k with q | q
      · exact hno j q
      · obtain rfl : j = k := by omega
        exact bz_0.mp h1
theorem X4_stepOf {r i : Nat} (hr : r < 24) (hi : i < nN ms 25 r) (hL : ∀ o, o ≤ r → iB (ms.1 25 o) 24) : mm_C g yX4_stepOf wX4_stepOf 1 h M0 ms [.ref h, .int (nI r), .int (nI i)] (some (.int (nI (stepF ms r (i + 1))))) ms := by
  refine rb_Ct.of (by decide) (Nat.le_of_ble_eq_true rfl) rfl ?_
  exact sgX4_stepOf_0 (X4_stepLoop hr hi hL (rb_dpk (by decide)) ⟨rfl, rfl⟩ r 0 (by omega) (fun j hj => by omega))
theorem X4_startedAt {r i : Nat} (hr : r < 24) (hi : i < nN ms 25 r) (hL : ∀ o, o ≤ r → iB (ms.1 25 o) 24) : mm_C g yX4_startedAt wX4_startedAt 2 h M0 ms [.ref h, .int (nI r), .int (nI i)] (some (.int (ms.1 32 (24 * stepF ms r (i + 1) + i)))) ms := by
  have e := (hL r (Nat.le_refl _)).n (by decide)
  have hs := (stepF_spec (ms := ms) (r := r) (n := i + 1) hi).1
  refine rb_Ct.of (by decide) (Nat.le_of_ble_eq_true rfl) rfl ?_
  refine sgX4_startedAt_0 ⟨_, _, _, X4_stepOf hr hi hL, rb_dpk (by decide), ?_⟩
  rw [ix24, nI_clamp (by omega)]
  exact ⟨vp_in_nI (N := 576) (by omega) (by decide), rfl, rfl⟩
/-! what the questions answer -/
def F_ring (ms : mm_S) (a : Int32) : Int32 := if 0 ≤ a ∧ a ≤ ms.1 34 0 - 1 then ms.1 33 (nv a) else -9
def F_lacks (ms : mm_S) (a : Int32) : Int32 := if a = 0 then ms.1 35 0 else if a = 1 then ms.1 36 0 else -1
def F_threw (ms : mm_S) (a : Int32) : Int32 := if a = 0 then ms.1 64 0 else if a = 1 then ms.1 65 0 else if a = 2 then ms.1 66 0 else -1
def F_line (ms : mm_S) (a i : Int32) : Int32 := if ¬ isRo ms a then -1 else if 0 ≤ i ∧ i ≤ ms.1 25 (nv a) - 1 then ms.1 26 (24 * nv a + nv i) else -9
def chV (b : Nat) : Int32 := nI (2 * (b / 25)) + (if b % 25 < 12 then 0 else 1)
def F_chain (ms : mm_S) (a m i : Int32) : Int32 := if ¬ isRo ms a ∨ ¬ isM m then -1 else if 0 ≤ i ∧ i ≤ ms.1 28 (12 * nv a + nv m) - 1 then chV (nN ms 29 (48 * (12 * nv a + nv m) + nv i)) else -9
noncomputable def F_under (ms : mm_S) (a b : Int32) : Int32 := if ¬ isRo ms a ∨ ¬ isRo ms b then -1 else bz (alike ms (nv a) (nv b) (nN ms 25 (nv b)))
noncomputable def F_step (ms : mm_S) (a i : Int32) : Int32 := if ¬ isRo ms a then -1 else if 0 ≤ i ∧ i ≤ ms.1 25 (nv a) - 1 then nI (stepF ms (nv a) (nv i + 1)) else -9
noncomputable def F_started (ms : mm_S) (a i : Int32) : Int32 := if ¬ isRo ms a then -1 else if 0 ≤ i ∧ i ≤ ms.1 25 (nv a) - 1 then ms.1 32 (24 * stepF ms (nv a) (nv i + 1) + nv i) else -9
theorem X4_ring {a : Int32} (hR : iB (ms.1 34 0) 24) : mm_C g yX4_ring wX4_ring 1 h M0 ms [.ref h, .int a] (some (.int (F_ring ms a))) ms := by
  have e := hR.n (by decide)
  refine rb_Ct.of (by decide) (Nat.le_of_ble_eq_true rfl) rfl ?_
  refine sgX4_ring_0 ⟨_, _, _, X4_inC, rb_dpk (by decide), fun h1 => ⟨?_, rfl⟩, fun h1 => ?_⟩ <;> rw [pIn0] at h1
  · rw [F_ring, if_neg h1]
  · have h1 := Decidable.not_not.mp h1
    rw [F_ring, if_pos h1]
    obtain ⟨i, hi, rfl⟩ := (pIn_n hR (by decide)).mp h1
    exact ⟨vp_in_nI (N := 24) (by omega) (by decide), rfl, rfl⟩
theorem X4_line {a i : Int32} (hR : iB (ms.1 24 0) 24) (hL : ∀ r, r < nN ms 24 0 → iB (ms.1 25 r) 24) : mm_C g yX4_line wX4_line 2 h M0 ms [.ref h, .int a, .int i] (some (.int (F_line ms a i))) ms := by
  have e := hR.n (by decide)
  refine rb_Ct.of (by decide) (Nat.le_of_ble_eq_true rfl) rfl ?_
  refine sgX4_line_0 ⟨_, _, _, X4_isRole, rb_dpk (by decide), fun h1 => ?_, fun h1 => ⟨?_, rfl⟩⟩ <;> rw [pIn0] at h1
  · have h1 := Decidable.not_not.mp h1
    rw [F_line, if_neg (fun q => q h1)]
    obtain ⟨r, hr, rfl⟩ := (isRo_iff hR).mp h1
    have ev : (nI r).toNatClampNeg = r := nI_clamp (by omega)
    rw [nv_nI (by omega), ev]
    refine ⟨vp_in_nI (N := 24) (by omega) (by decide), _, _, _, X4_inC, rb_dpk (by decide), fun h2 => ⟨?_, rfl⟩, fun h2 => ?_⟩ <;> rw [pIn0] at h2
    · rw [if_neg h2]
    · have h2 := Decidable.not_not.mp h2
      rw [if_pos h2]
      obtain ⟨j, hj, rfl⟩ := (pIn_n (hL r hr) (by decide)).mp h2
      have e2 := (hL r hr).n (by decide)
      rw [ix24, nv_nI (by omega), nI_clamp (show 24 * r + j < 2 ^ 31 by omega)]
      exact ⟨vp_in_nI (N := 576) (by omega) (by decide), rfl, rfl⟩
  · rw [F_line, if_pos h1]
end M3
