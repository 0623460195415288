set_option maxRecDepth 100000
/-! weaving: the ring and the line in the model -/
section W4
variable {g : rb_G} {M0 : rb_H} {h : Nat} {I L : Nat → Prop} {f : Nat → Nat} {n t : Nat}
theorem X4_leastA {ms0 ms : mm_S} {l : List Nat} {q : Nat} {x : Int32} (D : Dr ms0) (hs : sameX l ms0 ms) (hl : ∀ k, k ∈ [0, 1, 2, 3, 4, 5, 6, 7, 8, 9, 10, 16, 17, 18, 21, 22, 23] → k ∉ l) (hI : ∀ x, x < nN ms0 0 0 → (ms.1 37 x ≠ 0 ↔ I x)) (hL : ∀ x, x < nN ms0 0 0 → (ms.1 38 x ≠ 0 ↔ L x)) (hq : q < nN ms0 0 0) (hx : isL (la ms0 I L q) (nN ms0 0 0) x) : mm_C g yX4_leastAhead wX4_leastAhead 2 h M0 ms [.ref h, .int (nI q)] (some (.int x)) ms := by
  have e0 : nN ms 0 0 = nN ms0 0 0 := hs.nn (hl 0 (by decide)) 0
  have eA : Ah ms = Ah ms0 := Ah_same hs (fun k hk => hl k (by
    revert k; decide))
  refine X4_leastAhead (Dr_same hs hl D) (by rw [e0]; exact hq) ?_
  rw [e0]
  refine isL_congr (fun p hp => ?_) hx
  unfold la
  rw [hL p hp, eA]
  rw [Ah_congr (ms := ms0) (I := fun x => ms.1 37 x ≠ 0) (J := I) (fun x hx => hI x hx)]
theorem X4_ring32n {ms : mm_S} {κ : rb_K} {a1 v : Int32} {m : Nat} (hm : m ≤ 26) (hv : ∀ i, i < m → ms.1 39 i ≠ v) (hk : rb_Bd κ mX4_tellRing (0, 0) (mm_H h ms M0) 8 [some (.ref h), some (.int a1), some (.int (nI m)), some (.int v), some (.int (-9)), none] []) :
    ∀ d j, j + d = m → rb_Bd κ mX4_tellRing (0, 0) (mm_H h ms M0) 32 [some (.ref h), some (.int a1), some (.int (nI m)), some (.int v), some (.int (-9)), some (.int (nI j))] [] := by
  intro d
  induction d with
  | zero =>
    intro j hj
    obtain rfl : j = m := by omega
    exact sgX4_tellRing_32 ⟨fun _ => rb_weak (by simp [rb_wk]) hk, fun q => absurd q (nI_nlt (Nat.le_refl _) (by omega))⟩
  | succ d ih =>
    intro j hj
    refine sgX4_tellRing_32 ⟨fun q => absurd q (nI_ge (by omega) (by omega)), fun _ => ⟨fun q => absurd q (by decide), fun _ => ⟨vp_in_nI (N := 26) (by omega) (by decide), ?_⟩⟩⟩
    rw [nI_clamp (by omega), nI_1]
    exact ⟨fun _ => ih (j + 1) (by omega), fun q => absurd q (hv j (by omega))⟩
theorem X4_ring32y {ms : mm_S} {κ : rb_K} {a1 v : Int32} {m t : Nat} (hm : m ≤ 26) (ht : t < m) (hv : ∀ i, i < t → ms.1 39 i ≠ v) (he : ms.1 39 t = v) (hk : rb_Bd κ mX4_tellRing (0, 0) (mm_H h ms M0) 8 [some (.ref h), some (.int a1), some (.int (nI m)), some (.int v), some (.int (nI t)), none] []) :
    ∀ d j, j + d = t → rb_Bd κ mX4_tellRing (0, 0) (mm_H h ms M0) 32 [some (.ref h), some (.int a1), some (.int (nI m)), some (.int v), some (.int (-9)), some (.int (nI j))] [] := by
  intro d
  induction d with
  | zero =>
    intro j hj
    obtain rfl : j = t := by omega
    refine sgX4_tellRing_32 ⟨fun q => absurd q (nI_ge (by omega) (by omega)), fun _ => ⟨fun q => absurd q (by decide), fun _ => ⟨vp_in_nI (N := 26) (by omega) (by decide), ?_⟩⟩⟩
    rw [nI_clamp (by omega), nI_1]
    refine ⟨fun q => absurd he q, fun _ => sgX4_tellRing_32 ⟨fun _ => rb_weak (by simp [rb_wk]) hk, fun _ => ⟨fun _ => rb_weak (by simp [rb_wk]) hk, fun q => absurd q (nI_pos (by omega))⟩⟩⟩
  | succ d ih =>
    intro j hj
    refine sgX4_tellRing_32 ⟨fun q => absurd q (nI_ge (by omega) (by omega)), fun _ => ⟨fun q => absurd q (by decide), fun _ => ⟨vp_in_nI (N := 26) (by omega) (by decide), ?_⟩⟩⟩
    rw [nI_clamp (by omega), nI_1]
    exact ⟨fun _ => ih (j + 1) (by omega), fun q => absurd q (hv j (by omega))⟩
theorem X4_ring81 {a1 a3 a4 : Int32} (hn : n ≤ 24) : ∀ d c, t + c + d = n → ∀ ms : mm_S, ms.1 34 0 = nI c → ∃ ms', sameX [33, 34] ms ms' ∧ ms'.1 34 0 = nI (n - t) ∧ (∀ i, i < c → ms'.1 33 i = ms.1 33 i) ∧ (∀ i, c ≤ i → i < n - t → ms'.1 33 i = ms.1 39 (t + i)) ∧ ∀ κ : rb_K, κ.2.2.1 (.returned none) (mm_H h ms' M0) → rb_Bd κ mX4_tellRing (0, 0) (mm_H h ms M0) 81 [some (.ref h), some (.int a1), some (.int (nI n)), some (.int a3), some (.int a4), some (.int (nI (t + c)))] [] := by
  intro d
  induction d with
  | zero =>
    intro c hc ms h0
    obtain rfl : c = n - t := by omega
    have : t + (n - t) = n := by omega
    refine ⟨ms, .refl, h0, fun _ _ => rfl, fun i k1 k2 => by omega, fun κ hk => sgX4_tellRing_81 ⟨fun _ => hk, fun q => absurd q (nI_nlt (by omega) (by omega))⟩⟩
  | succ d ih =>
    intro c hc ms h0
    obtain ⟨ms', h1, h2, h3, h4, h5⟩ := ih (c + 1) (by omega) (mm_sI (mm_sI ms 33 c (ms.1 39 (t + c))) 34 0 (nI (c + 1))) (by rw [mm_sI_k, va_up_self])
    have e33 : (mm_sI (mm_sI ms 33 c (ms.1 39 (t + c))) 34 0 (nI (c + 1))).1 33 = va_up (ms.1 33) c (ms.1 39 (t + c)) := by rw [mm_sI_ne (by decide), mm_sI_k]
    refine ⟨ms', sameX.trans (sameX.trans (.sI (by decide)) (.sI (by decide))) h1, h2, fun i k1 => ?_, fun i k1 k2 => ?_, fun κ hk => sgX4_tellRing_81 ⟨fun q => absurd q (nI_ge (by omega) (by omega)), fun _ => ?_⟩⟩
    · rw [h3 i (by omega), e33]
      simp only [va_up, if_neg (show ¬ i = c by omega)]
    · rcases Nat.lt_or_ge c i with r | r
      · rw [h4 i (by omega) k2, mm_sI_ne (by decide), mm_sI_ne (by decide)]
      · obtain rfl : i = c := by omega
        rw [h3 i (by omega), e33, va_up_self]
    · rw [nI_clamp (by omega), h0, nI_clamp (by omega), nI_1, nI_1]
      exact ⟨vp_in_nI (N := 26) (by omega) (by decide), vp_in_nI (N := 24) (by omega) (by decide), h5 κ hk⟩
theorem X4_ring8 {ms0 : mm_S} {a1 : Int32} (D : Dr ms0) (hI : ∀ x, x < nN ms0 0 0 → (ms0.1 37 x ≠ 0 ↔ I x)) (hL : ∀ x, x < nN ms0 0 0 → (ms0.1 38 x ≠ 0 ↔ L x)) (R : Rg ms0 I L f n t) : ∀ d j, j + d + 1 = n → ∀ ms : mm_S, sameX [33, 34, 39] ms0 ms → (∀ i, i < j → ms.1 39 i = nI (f i)) → ∃ ms', sameX [33, 34, 39] ms0 ms' ∧ ms'.1 34 0 = nI (n - t) ∧ (∀ i, i < n - t → ms'.1 33 i = nI (f (t + i))) ∧ ∀ κ : rb_K, rb_dp κ 2 → κ.2.2.1 (.returned none) (mm_H h ms' M0) → rb_Bd κ mX4_tellRing (0, 0) (mm_H h ms M0) 8 [some (.ref h), some (.int a1), some (.int (nI j)), some (.int (nI (f j))), some (.int (-9)), none] [] := by
  obtain ⟨R1, R2, R3, R4, R5, R6⟩ := R
  have hP := D.P
  intro d
  induction d with
  | zero =>
    intro j hj ms hs hp
    have hs1 : sameX [33, 34, 39] ms0 (mm_sI ms 39 j (nI (f j))) := hs.trans (.sI (by decide))
    have e39 : ∀ i, i < n → (mm_sI ms 39 j (nI (f j))).1 39 i = nI (f i) := by
      intro i hi
      rw [mm_sI_k]
      by_cases e : i = j
      · rw [e, va_up_self]
      · simp only [va_up, if_neg e]; exact hp i (by omega)
    have hs2 : sameX [33, 34, 39] (mm_sI ms 39 j (nI (f j))) (mm_sI (mm_sI ms 39 j (nI (f j))) 34 0 0) := .sI (by decide)
    obtain ⟨ms', h1, h2, -, h4, h5⟩ := X4_ring81 (M0 := M0) (h := h) (a1 := a1) (a3 := nI (f t)) (a4 := nI t) (n := n) (t := t) R2 (n - t) 0 (by omega) (mm_sI (mm_sI ms 39 j (nI (f j))) 34 0 0) (by rw [mm_sI_k, va_up_self]; rfl)
    refine ⟨ms', (hs1.trans hs2).trans (h1.mono (by decide)), h2, fun i hi => ?_, fun κ hd hk => sgX4_tellRing_8 ⟨fun q => absurd q (by decide), fun _ => ?_⟩⟩
    · rw [h4 i (by omega) hi, mm_sI_ne (by decide), e39 _ (by omega)]
    · rw [nI_clamp (by omega), nI_1]
      have hx := R5 j (by omega)
      rw [show j + 1 = n by omega, R6] at hx
      rw [show j + 1 = n by omega]
      refine ⟨vp_in_nI (N := 26) (by omega) (by decide), _, _, _, X4_leastA D hs1 (by decide) (fun x hx => by rw [hs1.2 37 (by decide)]; exact hI x hx) (fun x hx => by rw [hs1.2 38 (by decide)]; exact hL x hx) (R3 j (by omega)).1 hx, hd, ?_⟩
      refine X4_ring32y (t := t) (by omega) R1 (fun i hi => ?_) (e39 t R1) ?_ t 0 (by omega)
      · rw [e39 i (by omega)]
        intro q
        exact R4 i t hi R1 ((nI_eq (by have := (R3 i (by omega)).1; omega) (by have := (R3 t R1).1; omega)).mp q)
      · exact sgX4_tellRing_8 ⟨fun _ => h5 κ hk, fun q => absurd q (nI_pos (by omega))⟩
  | succ d ih =>
    intro j hj ms hs hp
    have hs1 : sameX [33, 34, 39] ms0 (mm_sI ms 39 j (nI (f j))) := hs.trans (.sI (by decide))
    have e39 : ∀ i, i < j + 1 → (mm_sI ms 39 j (nI (f j))).1 39 i = nI (f i) := by
      intro i hi
      rw [mm_sI_k]
      by_cases e : i = j
      · rw [e, va_up_self]
      · simp only [va_up, if_neg e]; exact hp i (by omega)
    obtain ⟨ms', h1, h2, h3, h4⟩ := ih (j + 1) (by omega) _ hs1 e39
    refine ⟨ms', h1, h2, h3, fun κ hd hk => sgX4_tellRing_8 ⟨fun q => absurd q (by decide), fun _ => ?_⟩⟩
    rw [nI_clamp (by omega), nI_1]
    refine ⟨vp_in_nI (N := 26) (by omega) (by decide), _, _, _, X4_leastA D hs1 (by decide) (fun x hx => by rw [hs1.2 37 (by decide)]; exact hI x hx) (fun x hx => by rw [hs1.2 38 (by decide)]; exact hL x hx) (R3 j (by omega)).1 (R5 j (by omega)), hd, ?_⟩
    refine X4_ring32n (by omega) (fun i hi => ?_) (h4 κ hd hk) (j + 1) 0 (by omega)
    rw [e39 i hi]
    intro q
    exact R4 i (j + 1) hi (by omega) ((nI_eq (by have := (R3 i (by omega)).1; omega) (by have := (R3 (j + 1) (by omega)).1; omega)).mp q)
theorem X4_tellRing {ms : mm_S} (D : Dr ms) (hI : ∀ x, x < nN ms 0 0 → (ms.1 37 x ≠ 0 ↔ I x)) (hL : ∀ x, x < nN ms 0 0 → (ms.1 38 x ≠ 0 ↔ L x)) (R : Rg ms I L f n t) : ∃ ms', sameX [33, 34, 39] ms ms' ∧ ms'.1 34 0 = nI (n - t) ∧ (∀ i, i < n - t → ms'.1 33 i = nI (f (t + i))) ∧ mm_C g yX4_tellRing wX4_tellRing 3 h M0 ms [.ref h, .int (nI (f 0))] none ms' := by
  have hn := R.1
  obtain ⟨ms', h1, h2, h3, h4⟩ := X4_ring8 (M0 := M0) (h := h) (a1 := nI (f 0)) D hI hL R (n - 1) 0 (by omega) ms .refl (fun i hi => by omega)
  refine ⟨ms', h1, h2, h3, ?_⟩
  refine rb_Ct.of (by decide) (Nat.le_of_ble_eq_true rfl) rfl ?_
  exact sgX4_tellRing_0 (h4 _ (rb_dpk (by decide)) ⟨rfl, rfl⟩)
end W4
