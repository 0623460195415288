set_option maxRecDepth 100000
/-! weaving: what is in (the model's close) -/
/-- ms' is as ms but for the fields l -/
def sameX (l : List Nat) (ms ms' : mm_S) : Prop := ms'.2 = ms.2 ∧ ∀ k, k ∉ l → ms'.1 k = ms.1 k
theorem sameX.refl {l : List Nat} {ms : mm_S} : sameX l ms ms := ⟨rfl, fun _ _ => rfl⟩
theorem sameX.trans {l : List Nat} {a b c : mm_S} (h1 : sameX l a b) (h2 : sameX l b c) : sameX l a c := ⟨h2.1.trans h1.1, fun k hk => (h2.2 k hk).trans (h1.2 k hk)⟩
theorem sameX.mono {l l' : List Nat} {a b : mm_S} (h : sameX l a b) (hl : ∀ k, k ∈ l → k ∈ l') : sameX l' a b := ⟨h.1, fun k hk => h.2 k (fun q => hk (hl k q))⟩
theorem sameX.sI {l : List Nat} {ms : mm_S} {k i : Nat} {x : Int32} (hk : k ∈ l) : sameX l ms (mm_sI ms k i x) := ⟨rfl, fun j hj => mm_sI_ne (fun e => hj (e ▸ hk))⟩
theorem sameX.nn {l : List Nat} {a b : mm_S} (h : sameX l a b) {k : Nat} (hk : k ∉ l) (i : Nat) : nN b k i = nN a k i := by unfold nN; rw [h.2 k hk]
theorem Dr_same {l : List Nat} {a b : mm_S} (h : sameX l a b) (hl : ∀ k, k ∈ [0, 1, 2, 3, 4, 5, 6, 7, 8, 9, 10, 16, 17, 18, 21, 22, 23] → k ∉ l) (D : Dr a) : Dr b := by
  have e := fun k hk => h.2 k (hl k hk)
  unfold Dr IvP IvW IvD nN
  rw [e 0 (by decide), e 1 (by decide), e 2 (by decide), e 3 (by decide), e 4 (by decide), e 5 (by decide), e 6 (by decide), e 7 (by decide), e 8 (by decide), e 9 (by decide), e 10 (by decide), e 16 (by decide), e 17 (by decide), e 18 (by decide), e 21 (by decide), e 22 (by decide), e 23 (by decide)]
  exact D
theorem Ah_same {l : List Nat} {a b : mm_S} (h : sameX l a b) (hl : ∀ k, k ∈ [0, 4, 5, 7, 8, 9, 16, 17] → k ∉ l) : Ah b = Ah a := by
  have e := fun k hk => h.2 k (hl k hk)
  funext I p q
  unfold Ah told nN
  rw [e 0 (by decide), e 4 (by decide), e 5 (by decide), e 7 (by decide), e 8 (by decide), e 9 (by decide), e 16 (by decide), e 17 (by decide)]
/-- the part p is in: named, or extended by one that is in -/
def Cl (ms : mm_S) (p : Nat) : Prop := ∀ S : Nat → Prop, (∀ k, k < nN ms 16 0 → S (nN ms 17 k)) → (∀ q k, S q → k < nN ms 4 q → S (nN ms 5 (4 * q + k))) → S p
theorem Cl_same {l : List Nat} {a b : mm_S} (h : sameX l a b) (hl : ∀ k, k ∈ [4, 5, 16, 17] → k ∉ l) : Cl b = Cl a := by
  have e := fun k hk => h.2 k (hl k hk)
  funext p
  unfold Cl nN
  rw [e 4 (by decide), e 5 (by decide), e 16 (by decide), e 17 (by decide)]
theorem Cl.nm {ms : mm_S} {k : Nat} (h : k < nN ms 16 0) : Cl ms (nN ms 17 k) := fun _ h1 _ => h1 k h
theorem Cl.ex {ms : mm_S} {q k : Nat} (h : Cl ms q) (hk : k < nN ms 4 q) : Cl ms (nN ms 5 (4 * q + k)) := fun S h1 h2 => h2 q k (h S h1 h2) hk
theorem Dr.nm {ms : mm_S} (D : Dr ms) {k : Nat} (h : k < nN ms 16 0) : nN ms 17 k < nN ms 0 0 ∧ ms.1 17 k = nI (nN ms 17 k) := by
  obtain ⟨p, hp, e⟩ := D.2.2.1.2.1 k h
  have hP := D.P
  have : nN ms 17 k = p := by unfold nN; rw [e, nI_clamp (by omega)]
  rw [this]
  exact ⟨hp, e⟩
theorem Dr.ex {ms : mm_S} (D : Dr ms) {q k : Nat} (hq : q < nN ms 0 0) (h : k < nN ms 4 q) : nN ms 5 (4 * q + k) < q ∧ ms.1 5 (4 * q + k) = nI (nN ms 5 (4 * q + k)) := by
  obtain ⟨p, hp, e⟩ := (D.1.2.1 q hq).2.2.2.2.1 k h
  have hP := D.P
  have : nN ms 5 (4 * q + k) = p := by unfold nN; rw [e, nI_clamp (by omega)]
  rw [this]
  exact ⟨hp, e⟩
theorem Cl.lt {ms : mm_S} (D : Dr ms) {p : Nat} (h : Cl ms p) : p < nN ms 0 0 := by
  refine h (fun q => q < nN ms 0 0) (fun k hk => (D.nm hk).1) (fun q k hq hk => ?_)
  have := (D.ex hq hk).1
  show nN ms 5 (4 * q + k) < nN ms 0 0
  omega
section W2
variable {g : rb_G} {M0 : rb_H} {h : Nat}
theorem X4_close2 : ∀ d j, j + d = 24 → ∀ ms : mm_S, ∃ ms', sameX [37] ms ms' ∧ (∀ i, j ≤ i → i < 24 → ms'.1 37 i = 0) ∧ (∀ i, i < j → ms'.1 37 i = ms.1 37 i) ∧ ∀ κ : rb_K, rb_Bd κ mX4_close (0, 0) (mm_H h ms' M0) 23 [some (.ref h), some (.int 0), none] [] → rb_Bd κ mX4_close (0, 0) (mm_H h ms M0) 2 [some (.ref h), some (.int (nI j)), none] [] := by
  intro d
  induction d with
  | zero =>
    intro j hj ms
    obtain rfl : j = 24 := by omega
    exact ⟨ms, .refl, fun i h1 h2 => by omega, fun _ _ => rfl, fun κ hk => sgX4_close_2 ⟨fun _ => hk, fun q => absurd q (by decide)⟩⟩
  | succ d ih =>
    intro j hj ms
    obtain ⟨ms', h1, h2, h3, h4⟩ := ih (j + 1) (by omega) (mm_sI ms 37 j 0)
    refine ⟨ms', sameX.trans (.sI (by decide)) h1, fun i k1 k2 => ?_, fun i k1 => ?_, fun κ hk => sgX4_close_2 ⟨fun q => absurd q (nI_ge (b := 24) (by omega) (by omega)), fun _ => ⟨vp_in_nI (N := 24) (by omega) (by decide), ?_⟩⟩⟩
    · rcases Nat.lt_or_ge j i with r | r
      · exact h2 i (by omega) k2
      · obtain rfl : i = j := by omega
        rw [h3 i (by omega), mm_sI_k, va_up_self]
    · rw [h3 i (by omega), mm_sI_k]
      simp only [va_up, if_neg (show ¬ i = j by omega)]
    · rw [nI_clamp (by omega), nI_1]
      exact h4 κ hk
/-- booleans -/
def isZ (f : Nat → Int32) : Prop := ∀ i, i < 24 → f i = 0 ∨ f i = 1
theorem isZ.up {f : Nat → Int32} (hf : isZ f) (k : Nat) : isZ (va_up f k 1) := by
  intro i hi
  by_cases e : i = k
  · rw [e, va_up_self]; exact Or.inr rfl
  · simp only [va_up, if_neg e]; exact hf i hi
theorem up_ne {f : Nat → Int32} {k i : Nat} : va_up f k 1 i ≠ 0 ↔ f i ≠ 0 ∨ i = k := by
  by_cases e : i = k
  · rw [e, va_up_self]; exact ⟨fun _ => Or.inr rfl, fun _ => by decide⟩
  · simp only [va_up, if_neg e]
    exact ⟨Or.inl, fun r => r.resolve_right e⟩
theorem X4_close23 : ∀ d j, ∀ ms : mm_S, Dr ms → isZ (ms.1 37) → j + d = nN ms 16 0 → ∃ ms', sameX [37] ms ms' ∧ isZ (ms'.1 37) ∧ (∀ i, ms'.1 37 i ≠ 0 ↔ ms.1 37 i ≠ 0 ∨ ∃ k, j ≤ k ∧ k < nN ms 16 0 ∧ nN ms 17 k = i) ∧ ∀ κ : rb_K, rb_Bd κ mX4_close (0, 0) (mm_H h ms' M0) 56 [some (.ref h), some (.int (ms.1 0 0 - 1)), none] [] → rb_Bd κ mX4_close (0, 0) (mm_H h ms M0) 23 [some (.ref h), some (.int (nI j)), none] [] := by
  intro d
  induction d with
  | zero =>
    intro j ms D hZ hj
    have hN := D.N
    refine ⟨ms, .refl, hZ, fun i => ⟨Or.inl, fun r => r.resolve_right ?_⟩, fun κ hk => sgX4_close_23 ⟨fun _ => hk, fun q => absurd q (by rw [hN.1]; exact nI_nlt (by omega) (by omega))⟩⟩
    rintro ⟨k, k1, k2, -⟩; omega
  | succ d ih =>
    intro j ms D hZ hj
    have hN := D.N
    have hP := D.P
    have hn := D.nm (k := j) (by omega)
    have hs : sameX [37] ms (mm_sI ms 37 (nN ms 17 j) 1) := .sI (by decide)
    obtain ⟨ms', h1, h2, h3, h4⟩ := ih (j + 1) (mm_sI ms 37 (nN ms 17 j) 1) (Dr_same hs (by decide) D) (by rw [mm_sI_k]; exact hZ.up _) (by rw [hs.nn (by decide)]; omega)
    refine ⟨ms', hs.trans h1, h2, fun i => ?_, fun κ hk => sgX4_close_23 ⟨fun q => absurd q (by rw [hN.1]; exact nI_ge (by omega) (by omega)), fun _ => ?_⟩⟩
    · rw [h3 i, mm_sI_k, up_ne, hs.nn (by decide)]
      constructor
      · rintro ((r | r) | ⟨k, k1, k2, k3⟩)
        · exact Or.inl r
        · exact Or.inr ⟨j, by omega, by omega, r.symm⟩
        · rw [hs.nn (by decide)] at k3
          exact Or.inr ⟨k, by omega, k2, k3⟩
      · rintro (r | ⟨k, k1, k2, k3⟩)
        · exact Or.inl (Or.inl r)
        · rcases Nat.lt_or_ge j k with q | q
          · exact Or.inr ⟨k, by omega, k2, by rw [hs.nn (by decide)]; exact k3⟩
          · obtain rfl : k = j := by omega
            exact Or.inl (Or.inr k3.symm)
    · rw [nI_clamp (by omega), nI_1, hn.2, nI_clamp (by omega)]
      refine ⟨vp_in_nI (N := 8) (by omega) (by decide), vp_in_nI (N := 24) (by omega) (by decide), h4 κ ?_⟩
      rw [mm_sI_ne (by decide)]
      exact hk
theorem X4_close62 {p : Nat} : ∀ d j, ∀ ms : mm_S, Dr ms → p < nN ms 0 0 → isZ (ms.1 37) → ms.1 37 p ≠ 0 → j + d = nN ms 4 p → ∃ ms', sameX [37] ms ms' ∧ isZ (ms'.1 37) ∧ (∀ i, ms'.1 37 i ≠ 0 ↔ ms.1 37 i ≠ 0 ∨ ∃ k, j ≤ k ∧ k < nN ms 4 p ∧ nN ms 5 (4 * p + k) = i) ∧ ∀ κ : rb_K, rb_Bd κ mX4_close (0, 0) (mm_H h ms' M0) 56 [some (.ref h), some (.int (nI p + -1)), none] [] → rb_Bd κ mX4_close (0, 0) (mm_H h ms M0) 62 [some (.ref h), some (.int (nI p)), some (.int (nI j))] [] := by
  intro d
  induction d with
  | zero =>
    intro j ms D hp hZ h0 hj
    have hP := D.P
    have hE := D.E hp
    refine ⟨ms, .refl, hZ, fun i => ⟨Or.inl, fun r => r.resolve_right ?_⟩, fun κ hk => sgX4_close_62 ?_⟩
    · rintro ⟨k, k1, k2, -⟩; omega
    · rw [nI_clamp (by omega), hE.1]
      exact ⟨vp_in_nI (N := 24) (by omega) (by decide), fun _ => rb_weak (by simp [rb_wk]) hk, fun q => absurd q (nI_nlt (by omega) (by omega))⟩
  | succ d ih =>
    intro j ms D hp hZ h0 hj
    have hP := D.P
    have hE := D.E hp
    have hn := D.ex (k := j) hp (by omega)
    have hs : sameX [37] ms (mm_sI ms 37 (nN ms 5 (4 * p + j)) 1) := .sI (by decide)
    obtain ⟨ms', h1, h2, h3, h4⟩ := ih (j + 1) (mm_sI ms 37 (nN ms 5 (4 * p + j)) 1) (Dr_same hs (by decide) D) (by rw [hs.nn (by decide)]; exact hp) (by rw [mm_sI_k]; exact hZ.up _) (by rw [mm_sI_k]; exact up_ne.mpr (Or.inl h0)) (by rw [hs.nn (by decide)]; omega)
    refine ⟨ms', hs.trans h1, h2, fun i => ?_, fun κ hk => sgX4_close_62 ?_⟩
    · rw [h3 i, mm_sI_k, up_ne, hs.nn (by decide)]
      constructor
      · rintro ((r | r) | ⟨k, k1, k2, k3⟩)
        · exact Or.inl r
        · exact Or.inr ⟨j, by omega, by omega, r.symm⟩
        · rw [hs.nn (by decide)] at k3
          exact Or.inr ⟨k, by omega, k2, k3⟩
      · rintro (r | ⟨k, k1, k2, k3⟩)
        · exact Or.inl (Or.inl r)
        · rcases Nat.lt_or_ge j k with q | q
          · exact Or.inr ⟨k, by omega, k2, by rw [hs.nn (by decide)]; exact k3⟩
          · obtain rfl : k = j := by omega
            exact Or.inl (Or.inr k3.symm)
    · rw [nI_clamp (by omega), ix4, nI_1, nI_clamp (by omega), hE.1]
      refine ⟨vp_in_nI (N := 24) (by omega) (by decide), fun q => absurd q (nI_ge (by omega) (by omega)), fun _ => ⟨vp_in_nI (N := 24) (by omega) (by decide), fun q => absurd q h0, fun _ => ⟨vp_in_nI (N := 96) (by omega) (by decide), ?_⟩⟩⟩
      rw [hn.2, nI_clamp (by omega)]
      exact ⟨vp_in_nI (N := 24) (by omega) (by decide), h4 κ hk⟩
theorem X4_close56 : ∀ d, ∀ ms : mm_S, Dr ms → isZ (ms.1 37) → (∀ i, ms.1 37 i ≠ 0 → i < 24 → Cl ms i) → (∀ q k, d ≤ q → q < nN ms 0 0 → ms.1 37 q ≠ 0 → k < nN ms 4 q → ms.1 37 (nN ms 5 (4 * q + k)) ≠ 0) → d ≤ nN ms 0 0 → ∃ ms', sameX [37] ms ms' ∧ isZ (ms'.1 37) ∧ (∀ i, ms.1 37 i ≠ 0 → ms'.1 37 i ≠ 0) ∧ (∀ i, ms'.1 37 i ≠ 0 → i < 24 → Cl ms i) ∧ (∀ q k, q < nN ms 0 0 → ms'.1 37 q ≠ 0 → k < nN ms 4 q → ms'.1 37 (nN ms 5 (4 * q + k)) ≠ 0) ∧ ∀ κ : rb_K, rb_Bd κ mX4_close (0, 0) (mm_H h ms' M0) 111 [some (.ref h), some (.int 0), none] [] → rb_Bd κ mX4_close (0, 0) (mm_H h ms M0) 56 [some (.ref h), some (.int (nI d + -1)), none] [] := by
  intro d
  induction d with
  | zero =>
    intro ms D hZ hc hk hd
    exact ⟨ms, .refl, hZ, fun _ q => q, hc, fun q k h1 => hk q k (by omega) h1, fun κ hk => sgX4_close_56 ⟨fun _ => hk, fun q => absurd q (by decide)⟩⟩
  | succ d ih =>
    intro ms D hZ hc hk hd
    have hP := D.P
    have hE := D.E (p := d) (by omega)
    have e1 : nI (d + 1) + -1 = nI d := (Int32.sub_eq_add_neg _ _).symm.trans (nI_pred d)
    rw [e1]
    by_cases h0 : ms.1 37 d = 0
    · obtain ⟨ms', h1, h2, h3, h4, h5, h6⟩ := ih ms D hZ hc (fun q k k1 k2 k3 => by
        rcases Nat.lt_or_ge d q with r | r
        · exact hk q k r k2 k3
        · obtain rfl : q = d := by omega
          exact absurd h0 k3) (by omega)
      refine ⟨ms', h1, h2, h3, h4, h5, fun κ hk => sgX4_close_56 ⟨fun q => absurd q (nI_pos (by omega)), fun _ => sgX4_close_62 ?_⟩⟩
      rw [nI_clamp (by omega)]
      have h7 := h6 κ hk
      exact ⟨vp_in_nI (N := 24) (by omega) (by decide), fun _ => rb_weak (by simp [rb_wk]) h7, fun _ => ⟨vp_in_nI (N := 24) (by omega) (by decide), fun _ => rb_weak (by simp [rb_wk]) h7, fun q => absurd h0 q⟩⟩
    · obtain ⟨m1, a1, a2, a3, a4⟩ := X4_close62 (M0 := M0) (h := h) (p := d) (nN ms 4 d) 0 ms D (by omega) hZ h0 (by omega)
      have D1 := Dr_same a1 (by decide) D
      have hc1 : Cl m1 = Cl ms := Cl_same a1 (by decide)
      obtain ⟨ms', h1, h2, h3, h4, h5, h6⟩ := ih m1 D1 a2 (fun i k1 k2 => by
          rw [hc1]
          rcases (a3 i).mp k1 with r | ⟨k, -, k3, rfl⟩
          · exact hc i r k2
          · exact Cl.ex (hc d h0 (by omega)) k3) (fun q k k1 k2 k3 k4 => by
          rw [a1.nn (by decide)] at k2 k4
          rw [a1.nn (by decide), a3]
          rcases Nat.lt_or_ge d q with r | r
          · have r3 : ms.1 37 q ≠ 0 := by
              rcases (a3 q).mp k3 with z | ⟨k', -, z1, z2⟩
              · exact z
              · have := (D.ex (q := d) (by omega) z1).1
                omega
            exact Or.inl (hk q k r k2 r3 k4)
          · obtain rfl : q = d := by omega
            exact Or.inr ⟨k, by omega, k4, rfl⟩) (by rw [a1.nn (by decide)]; omega)
      refine ⟨ms', a1.trans h1, h2, fun i k1 => h3 i ((a3 i).mpr (Or.inl k1)), fun i k1 k2 => by rw [← hc1]; exact h4 i k1 k2, fun q k k1 k2 k3 => ?_, fun κ hk => sgX4_close_56 ⟨fun q => absurd q (nI_pos (by omega)), fun _ => a4 κ (h6 κ hk)⟩⟩
      have := h5 q k (by rw [a1.nn (by decide)]; exact k1) k2 (by rw [a1.nn (by decide)]; exact k3)
      rw [a1.nn (by decide)] at this
      exact this
theorem X4_close111 : ∀ d j, j + d = 24 → ∀ ms : mm_S, isZ (ms.1 37) → ∃ ms', sameX [38] ms ms' ∧ (∀ i, j ≤ i → i < 24 → ms'.1 38 i = ms.1 37 i) ∧ (∀ i, i < j → ms'.1 38 i = ms.1 38 i) ∧ ∀ κ : rb_K, κ.2.2.1 (.returned none) (mm_H h ms' M0) → rb_Bd κ mX4_close (0, 0) (mm_H h ms M0) 111 [some (.ref h), some (.int (nI j)), none] [] := by
  intro d
  induction d with
  | zero =>
    intro j hj ms hZ
    obtain rfl : j = 24 := by omega
    exact ⟨ms, .refl, fun i h1 h2 => by omega, fun _ _ => rfl, fun κ hk => sgX4_close_111 ⟨fun _ => hk, fun q => absurd q (by decide)⟩⟩
  | succ d ih =>
    intro j hj ms hZ
    obtain ⟨ms', h1, h2, h3, h4⟩ := ih (j + 1) (by omega) (mm_sI ms 38 j (ms.1 37 j)) hZ
    refine ⟨ms', sameX.trans (.sI (by decide)) h1, fun i k1 k2 => ?_, fun i k1 => ?_, fun κ hk => sgX4_close_111 ⟨fun q => absurd q (nI_ge (b := 24) (by omega) (by omega)), fun _ => ⟨vp_in_nI (N := 24) (by omega) (by decide), vp_in_nI (N := 24) (by omega) (by decide), ?_, ?_⟩⟩⟩
    · rcases Nat.lt_or_ge j i with r | r
      · exact h2 i (by omega) k2
      · obtain rfl : i = j := by omega
        rw [h3 i (by omega), mm_sI_k, va_up_self]
    · rw [h3 i (by omega), mm_sI_k]
      simp only [va_up, if_neg (show ¬ i = j by omega)]
    · rw [nI_clamp (by omega)]
      rcases hZ j (by omega) with r | r <;> rw [r] <;> decide
    · rw [nI_clamp (by omega), nI_1]
      exact h4 κ hk
theorem X4_close {ms : mm_S} (D : Dr ms) : ∃ ms', sameX [37, 38] ms ms' ∧ (∀ i, i < 24 → (ms'.1 37 i ≠ 0 ↔ Cl ms i)) ∧ (∀ i, i < 24 → (ms'.1 38 i ≠ 0 ↔ Cl ms i)) ∧ mm_C g yX4_close wX4_close 0 h M0 ms [.ref h] none ms' := by
  have hP := D.P
  obtain ⟨m1, a1, a2, -, a4⟩ := X4_close2 (M0 := M0) (h := h) 24 0 rfl ms
  have D1 := Dr_same a1 (by decide) D
  have Z1 : isZ (m1.1 37) := fun i hi => Or.inl (a2 i (by omega) hi)
  obtain ⟨m2, b1, b2, b3, b4⟩ := X4_close23 (M0 := M0) (h := h) (nN m1 16 0) 0 m1 D1 Z1 (by omega)
  have D2 := Dr_same b1 (by decide) D1
  have s2 : sameX [37] ms m2 := a1.trans b1
  have c2 : Cl m2 = Cl ms := Cl_same s2 (by decide)
  obtain ⟨m3, e1, e2, e3, e4, e5, e6⟩ := X4_close56 (M0 := M0) (h := h) (nN m2 0 0) m2 D2 b2 (fun i k1 k2 => by
      rcases (b3 i).mp k1 with r | ⟨k, -, k3, rfl⟩
      · exact absurd (a2 i (by omega) k2) r
      · rw [c2, ← Cl_same a1 (by decide)]
        exact Cl.nm k3) (fun q k k1 k2 => by omega) (Nat.le_refl _)
  have s3 : sameX [37] ms m3 := s2.trans e1
  obtain ⟨m4, f1, f2, -, f4⟩ := X4_close111 (M0 := M0) (h := h) 24 0 rfl m3 e2
  have key : ∀ i, i < 24 → (m3.1 37 i ≠ 0 ↔ Cl ms i) := by
    intro i hi
    refine ⟨fun q => by rw [← c2]; exact e4 i q hi, fun q => ?_⟩
    have := q (fun j => j < nN ms 0 0 ∧ m3.1 37 j ≠ 0) (fun k hk => ⟨(D.nm hk).1, e3 _ ((b3 _).mpr (Or.inr ⟨k, by omega, by rw [a1.nn (by decide)]; exact hk, a1.nn (by decide) k⟩))⟩) (fun q k r hk => by
      have := D.ex r.1 hk
      refine ⟨by omega, ?_⟩
      have z := e5 q k (by rw [s2.nn (by decide)]; exact r.1) r.2 (by rw [s2.nn (by decide)]; exact hk)
      rw [s2.nn (by decide)] at z
      exact z)
    exact this.2
  refine ⟨m4, (s3.mono (by decide)).trans (f1.mono (by decide)), fun i hi => ?_, fun i hi => ?_, ?_⟩
  · rw [f1.2 37 (by decide)]; exact key i hi
  · rw [f2 i (by omega) hi]; exact key i hi
  · refine rb_Ct.of (by decide) (Nat.le_of_ble_eq_true rfl) rfl ?_
    refine sgX4_close_0 (a4 _ (b4 _ ?_))
    have e0 : m1.1 0 0 - 1 = nI (nN m2 0 0) + -1 := by
      rw [a1.2 0 (by decide), s2.nn (by decide), hP.1]
      exact Int32.sub_eq_add_neg _ _
    rw [e0]
    exact e6 _ (f4 _ ⟨rfl, rfl⟩)
end W2
