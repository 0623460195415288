set_option maxRecDepth 100000
/-! weaving: woven and weave in the model -/
/-- what weaving answers, and what is after it (before the draft is emptied) -/
def Wv (ms : mm_S) (r : Int32) (m' : mm_S) : Prop :=
  (ms.1 24 0 = 24 ∧ r = -2 ∧ m' = ms) ∨ (¬ ms.1 24 0 = 24 ∧ ms.1 16 0 = 0 ∧ r = -4 ∧ m' = ms) ∨
  (¬ ms.1 24 0 = 24 ∧ ¬ ms.1 16 0 = 0 ∧ low (nN ms 24 0) ms m' ∧ ∃ l L', Ln ms (Cl ms) l (Cl ms) L' ∧ l.length ≤ 24 ∧
    ((∃ f n t, Rg ms (Cl ms) L' f n t ∧ (∀ q, q < f 0 → ¬ L' q) ∧ r = -6 ∧ sameX [25, 26, 33, 34, 37, 38, 39] ms m' ∧ m'.1 34 0 = nI (n - t) ∧ ∀ i, i < n - t → m'.1 33 i = nI (f (t + i))) ∨
    ((∀ p, p < nN ms 0 0 → ¬ L' p) ∧
      ((∃ i m, lkAt ms (fun m => chL ms m l) l i m ∧ r = -8 ∧ sameX [25, 26, 28, 29, 35, 36, 37, 38] ms m' ∧ m'.1 35 0 = nI (l.getD i 0) ∧ m'.1 36 0 = nI m) ∨
      ((∀ i m, i < l.length → m < 12 → ¬ lk ms (fun m => chL ms m l) l i m) ∧
        ((∃ b, b < 4 ∧ alBad ms (fun m => chL ms m l) b ∧ (∀ c, c < b → ¬ alBad ms (fun m => chL ms m l) c) ∧ r = -8 ∧ sameX [25, 26, 28, 29, 30, 31, 35, 36, 37, 38] ms m' ∧ m'.1 35 0 = ms.1 21 b ∧ m'.1 36 0 = ms.1 22 b) ∨
        (r = nI (nN ms 24 0) ∧ sameX [24, 25, 26, 27, 28, 29, 30, 31, 32, 37, 38] ms m' ∧ m'.1 24 0 = nI (nN ms 24 0 + 1) ∧ rowL m' (nN ms 24 0) l ∧ (∀ m, m < 12 → rowC m' (12 * nN ms 24 0 + m) (chL ms m l)) ∧ (∀ b, b < 4 → ¬ alBad ms (fun m => chL ms m l) b ∧ alRes ms (fun m => chL ms m l) (nN ms 24 0) m' b) ∧
          (∀ p, p < 24 → p ∉ l → m'.1 27 (24 * nN ms 24 0 + p) = -9) ∧ ∀ i, i < l.length → m'.1 27 (24 * nN ms 24 0 + l.getD i 0) = nI i ∧ m'.1 32 (24 * nN ms 24 0 + i) = 0)))))))
/-- the draft emptied -/
def clr (m : mm_S) : mm_S := mm_sI (mm_sI (mm_sI (mm_sI (mm_sI (mm_sI m 16 0 0) 18 0 0) 23 0 0) 23 1 0) 23 2 0) 23 3 0
section W8
variable {g : rb_G} {M0 : rb_H} {h : Nat}
theorem X4_wovCh {ms0 : mm_S} {R : Nat} {l : List Nat} (hR : R < 24) (h24 : ms0.1 24 0 = nI R) (hE : iB (ms0.1 18 0) 6) (hB : ∀ b, b < 600 → iN (ms0.1 10 b) 10) (hl : rowL ms0 R l) (hn : l.length ≤ 24) (hlt : ∀ p, p ∈ l → p < 24) : ∀ d m, m + d = 12 → ∀ ms : mm_S, sameX [28, 29] ms0 ms → (∀ k, k < m → rowC ms (12 * R + k) (chL ms0 k l)) → ∃ ms', sameX [28, 29] ms0 ms' ∧ low R ms ms' ∧ (∀ k, k < 12 → rowC ms' (12 * R + k) (chL ms0 k l)) ∧ ∀ κ : rb_K, κ.1 = g → rb_dp κ 1 → rb_Bd κ mX4_woven (0, 0) (mm_H h ms' M0) 38 [some (.ref h), some (.int (nI 12))] [] → rb_Bd κ mX4_woven (0, 0) (mm_H h ms M0) 38 [some (.ref h), some (.int (nI m))] [] := by
  intro d
  induction d with
  | zero =>
    intro m hm ms hs hC
    obtain rfl : m = 12 := by omega
    exact ⟨ms, hs, .refl, hC, fun κ _ _ hk => hk⟩
  | succ d ih =>
    intro m hm ms hs hC
    have hl1 : rowL ms R l := by
      unfold rowL
      rw [hs.2 25 (by decide), hs.2 26 (by decide)]
      exact hl
    obtain ⟨m1, a1, a2, a3, a4, a5⟩ := X4_chain (g := g) (M0 := M0) (h := h) (ms := ms) (R := R) (m := m) (l := l) hR (by omega) (by rw [hs.2 18 (by decide)]; exact hE) (by rw [hs.2 10 (by decide)]; exact hB) hl1 hn hlt
    have ech : chL ms = chL ms0 := chL_same hs (by decide)
    rw [ech] at a2
    have lowm : low R ms m1 := by
      intro k x k1 k2 k3
      by_cases e1 : k = 28
      · subst e1
        have k3 : x < 12 * R := k3
        exact a3 x (by omega)
      · by_cases e2 : k = 29
        · subst e2
          have k3 : x < 576 * R := k3
          exact a4 x (by omega)
        · rw [a1.2 k (by simp [e1, e2])]
    obtain ⟨ms', b1, b2, b3, b4⟩ := ih (m + 1) (by omega) m1 (hs.trans a1) (fun k hk => by
      rcases Nat.lt_or_ge k m with r | r
      · have hck := hC k r
        have hlen := chL_len ms0 k l
        refine ⟨by rw [a3 _ (by omega)]; exact hck.1, fun i hi => ?_⟩
        rw [a4 _ (by omega)]
        exact hck.2 i hi
      · obtain rfl : k = m := by omega
        exact a2)
    refine ⟨ms', b1, lowm.trans b2, b3, fun κ hg hd hk => sgX4_woven_38 ⟨fun q => absurd q (nI_ge (b := 12) (by omega) (by omega)), fun _ => ?_⟩⟩
    subst hg
    rw [hs.2 24 (by decide), h24, nI_1]
    exact ⟨_, _, a5, hd, b4 κ rfl hd hk⟩
theorem X4_wov75 {R : Nat} (hR : R < 24) : ∀ d j, j + d = 24 → ∀ ms : mm_S, ms.1 24 0 = nI R → ∃ ms', sameX [27] ms ms' ∧ low R ms ms' ∧ (∀ p, j ≤ p → p < 24 → ms'.1 27 (24 * R + p) = -9) ∧ (∀ p, p < j → ms'.1 27 (24 * R + p) = ms.1 27 (24 * R + p)) ∧ ∀ κ : rb_K, rb_Bd κ mX4_woven (0, 0) (mm_H h ms' M0) 105 [some (.ref h), some (.int 0)] [] → rb_Bd κ mX4_woven (0, 0) (mm_H h ms M0) 75 [some (.ref h), some (.int (nI j))] [] := by
  intro d
  induction d with
  | zero =>
    intro j hj ms h24
    obtain rfl : j = 24 := by omega
    exact ⟨ms, .refl, .refl, fun p h1 h2 => by omega, fun _ _ => rfl, fun κ hk => sgX4_woven_75 ⟨fun _ => hk, fun q => absurd q (by decide)⟩⟩
  | succ d ih =>
    intro j hj ms h24
    obtain ⟨ms', h1, h2, h3, h4, h5⟩ := ih (j + 1) (by omega) (mm_sI ms 27 (24 * R + j) (-9)) (by rw [mm_sI_ne (by decide)]; exact h24)
    refine ⟨ms', sameX.trans (.sI (by decide)) h1, low.trans (.sI (by show 24 * R ≤ _; omega)) h2, fun p k1 k2 => ?_, fun p k1 => ?_, fun κ hk => sgX4_woven_75 ⟨fun q => absurd q (nI_ge (b := 24) (by omega) (by omega)), fun _ => ?_⟩⟩
    · rcases Nat.lt_or_ge j p with r | r
      · exact h3 p (by omega) k2
      · obtain rfl : p = j := by omega
        rw [h4 p (by omega), mm_sI_k, va_up_self]
    · rw [h4 p (by omega), mm_sI_k]
      simp only [va_up, if_neg (show ¬ 24 * R + p = 24 * R + j by omega)]
    · rw [h24, ix24, nI_clamp (by omega), nI_1]
      exact ⟨vp_in_nI (N := 576) (by omega) (by decide), h5 κ hk⟩
theorem getD_inj : ∀ (l : List Nat), l.Nodup → ∀ i j, i < l.length → j < l.length → l.getD i 0 = l.getD j 0 → i = j := by
  intro l
  induction l with
  | nil => intro _ i j hi; exact absurd hi (Nat.not_lt_zero _)
  | cons p l ih =>
    intro hn i j hi hj e
    rw [List.length_cons] at hi hj
    have hn := List.nodup_cons.mp hn
    cases i with
    | zero =>
      cases j with
      | zero => rfl
      | succ j =>
        have e : p = l.getD j 0 := e
        exact absurd (e ▸ getD_mem l j (by omega)) hn.1
    | succ i =>
      cases j with
      | zero =>
        have e : l.getD i 0 = p := e
        exact absurd (e ▸ getD_mem l i (by omega)) hn.1
      | succ j =>
        have e : l.getD i 0 = l.getD j 0 := e
        rw [ih hn.2 i j (by omega) (by omega) e]
theorem X4_wov105 {R : Nat} {l : List Nat} (hR : R < 24) (hn : l.length ≤ 24) (hlt : ∀ p, p ∈ l → p < 24) (hnd : l.Nodup) : ∀ d j, j + d = l.length → ∀ ms : mm_S, ms.1 24 0 = nI R → rowL ms R l → ∃ ms', sameX [24, 27, 32] ms ms' ∧ low R ms ms' ∧ ms'.1 24 0 = nI (R + 1) ∧ (∀ i, j ≤ i → i < l.length → ms'.1 27 (24 * R + l.getD i 0) = nI i ∧ ms'.1 32 (24 * R + i) = 0) ∧ (∀ p, p < 24 → (∀ i, j ≤ i → i < l.length → l.getD i 0 ≠ p) → ms'.1 27 (24 * R + p) = ms.1 27 (24 * R + p)) ∧ (∀ i, i < j → ms'.1 32 (24 * R + i) = ms.1 32 (24 * R + i)) ∧ ∀ κ : rb_K, κ.2.2.1 (.returned (some (.int (nI R)))) (mm_H h ms' M0) → rb_Bd κ mX4_woven (0, 0) (mm_H h ms M0) 105 [some (.ref h), some (.int (nI j))] [] := by
  intro d
  induction d with
  | zero =>
    intro j hj ms h24 hl
    obtain rfl : j = l.length := by omega
    refine ⟨mm_sI ms 24 0 (nI (R + 1)), .sI (by decide), .sI (by show 0 * R ≤ _; omega), by rw [mm_sI_k, va_up_self], fun i h1 h2 => by omega, fun p _ _ => by rw [mm_sI_ne (by decide)], fun i _ => by rw [mm_sI_ne (by decide)], fun κ hP => sgX4_woven_105 ?_⟩
    rw [h24, nI_clamp (by omega), hl.1, nI_1, nI_pred]
    exact ⟨vp_in_nI (N := 24) (by omega) (by decide), fun _ => hP, fun q => absurd q (nI_nlt (Nat.le_refl _) (by omega))⟩
  | succ d ih =>
    intro j hj ms h24 hl
    have hp := hlt _ (getD_mem l j (by omega))
    obtain ⟨ms', h1, h2, h3, h4, h5, h6, h7⟩ := ih (j + 1) (by omega) (mm_sI (mm_sI ms 27 (24 * R + l.getD j 0) (nI j)) 32 (24 * R + j) 0) (by rw [mm_sI_ne (by decide), mm_sI_ne (by decide)]; exact h24) (by
      unfold rowL
      rw [mm_sI_ne (by decide), mm_sI_ne (by decide), mm_sI_ne (by decide), mm_sI_ne (by decide)]
      exact hl)
    have e27 : (mm_sI (mm_sI ms 27 (24 * R + l.getD j 0) (nI j)) 32 (24 * R + j) 0).1 27 = va_up (ms.1 27) (24 * R + l.getD j 0) (nI j) := by rw [mm_sI_ne (by decide), mm_sI_k]
    have e32 : (mm_sI (mm_sI ms 27 (24 * R + l.getD j 0) (nI j)) 32 (24 * R + j) 0).1 32 = va_up (ms.1 32) (24 * R + j) 0 := by rw [mm_sI_k, mm_sI_ne (by decide)]
    refine ⟨ms', sameX.trans (sameX.trans (.sI (by decide)) (.sI (by decide))) h1, low.trans (low.trans (.sI (by show 24 * R ≤ _; omega)) (.sI (by show 24 * R ≤ _; omega))) h2, h3, fun i k1 k2 => ?_, fun p k1 k2 => ?_, fun i k1 => ?_, fun κ hP => sgX4_woven_105 ?_⟩
    · rcases Nat.lt_or_ge j i with r | r
      · exact h4 i (by omega) k2
      · obtain rfl : i = j := by omega
        rw [h5 _ hp (fun i' z1 z2 z3 => by have := getD_inj l hnd i' i z2 (by omega) z3; omega), h6 i (by omega), e27, e32, va_up_self, va_up_self]
        exact ⟨rfl, rfl⟩
    · rw [h5 p k1 (fun i z1 z2 => k2 i (by omega) z2), e27]
      have := k2 j (by omega) (by omega)
      simp only [va_up, if_neg (show ¬ 24 * R + p = 24 * R + l.getD j 0 by omega)]
    · rw [h6 i (by omega), e32]
      simp only [va_up, if_neg (show ¬ 24 * R + i = 24 * R + j by omega)]
    · rw [h24, nI_clamp (by omega), hl.1, ix24, nI_clamp (n := 24 * R + j) (by omega), hl.2 j (by omega), ix24, nI_clamp (by omega)]
      simp only [nI_1]
      exact ⟨vp_in_nI (N := 24) (by omega) (by decide), fun q => absurd q (nI_ge (by omega) (by omega)), fun _ => ⟨vp_in_nI (N := 576) (by omega) (by decide), vp_in_nI (N := 576) (by omega) (by decide), vp_in_nI (N := 576) (by omega) (by decide), h7 κ hP⟩⟩
theorem chL_lt {ms : mm_S} {m : Nat} (hm : m < 12) : ∀ l : List Nat, (∀ p, p ∈ l → p < 24) → ∀ b, b ∈ chL ms m l → b < 600 := by
  intro l
  induction l with
  | nil => intro _ b hb; exact (List.not_mem_nil hb).elim
  | cons p l ih =>
    intro hl b hb
    have hp := hl p List.mem_cons_self
    rcases List.mem_append.mp hb with r | r
    · unfold chP at r
      rcases List.mem_append.mp r with r | r
      · split at r
        · have := List.mem_singleton.mp r; omega
        · exact (List.not_mem_nil r).elim
      · split at r
        · have := List.mem_singleton.mp r; omega
        · exact (List.not_mem_nil r).elim
    · exact ih (fun q hq => hl q (List.mem_cons_of_mem _ hq)) b r
theorem X4_woven {ms : mm_S} (D : Dr ms) (hR : iB (ms.1 24 0) 24) (hB : ∀ b, b < 600 → iN (ms.1 10 b) 10) : ∃ r m', Wv ms r m' ∧ mm_C g yX4_woven wX4_woven 5 h M0 ms [.ref h] (some (.int r)) m' := by
  have hP := D.P
  have hRn := hR.n (by decide)
  by_cases e24 : ms.1 24 0 = 24
  · refine ⟨-2, ms, Or.inl ⟨e24, rfl, rfl⟩, ?_⟩
    refine rb_Ct.of (by decide) (Nat.le_of_ble_eq_true rfl) rfl ?_
    exact sgX4_woven_0 ⟨fun q => absurd e24 q, fun _ => ⟨rfl, rfl⟩⟩
  by_cases e16 : ms.1 16 0 = 0
  · refine ⟨-4, ms, Or.inr (Or.inl ⟨e24, e16, rfl, rfl⟩), ?_⟩
    refine rb_Ct.of (by decide) (Nat.le_of_ble_eq_true rfl) rfl ?_
    exact sgX4_woven_0 ⟨fun _ => ⟨fun q => absurd e16 q, fun _ => ⟨rfl, rfl⟩⟩, fun q => absurd q e24⟩
  have hR24 : nN ms 24 0 < 24 := by
    rcases Nat.lt_or_ge (nN ms 24 0) 24 with r | r
    · exact r
    · have : nN ms 24 0 = 24 := by omega
      exact absurd (by rw [hRn.1, this]; rfl) e24
  generalize eR : nN ms 24 0 = R at hR24 hRn
  obtain ⟨l, L', hl, hlen, hcase⟩ := X4_lay (g := g) (M0 := M0) (h := h) D hR24
  obtain ⟨o1, o2, o3, o4, o5⟩ := hl.out
  have hlt : ∀ p, p ∈ l → p < 24 := fun p hp => by have := (o1 p hp).1; omega
  rcases hcase with ⟨hno, m1, a1, a2, a3, a4⟩ | ⟨f, n, t, hRg, hq, m1, a1, a2, a3, a4, a5⟩
  · have e24' : m1.1 24 0 = nI R := by rw [a1.2 24 (by decide)]; exact hRn.1
    obtain ⟨m2, b1, b2, b3, b4⟩ := X4_wovCh (g := g) (M0 := M0) (h := h) hR24 e24' (by rw [a1.2 18 (by decide)]; exact D.2.2.2.1) (by rw [a1.2 10 (by decide)]; exact hB) a3 hlen hlt 12 0 rfl m1 .refl (fun k hk => by omega)
    have ech : chL m1 = chL ms := chL_same a1 (by decide)
    rw [ech] at b3
    have s2 : sameX [25, 26, 28, 29, 37, 38] ms m2 := (a1.mono (by decide)).trans (b1.mono (by decide))
    have low2 : low R ms m2 := a2.trans b2
    have row2 : rowL m2 R l := by
      unfold rowL
      rw [b1.2 25 (by decide), b1.2 26 (by decide)]
      exact a3
    have hCC : ∀ m, m < 12 → rowC m2 (12 * R + m) ((fun m => chL ms m l) m) ∧ ((fun m => chL ms m l) m).length ≤ 48 ∧ ∀ b, b ∈ (fun m => chL ms m l) m → b < 600 := fun m hm => ⟨b3 m hm, by have := chL_len ms m l; show (chL ms m l).length ≤ 48; omega, chL_lt hm l hlt⟩
    have lk2 : lk m2 (fun m => chL ms m l) = lk ms (fun m => chL ms m l) := by
      funext l' i m
      unfold lk
      rw [s2.2 6 (by decide)]
    have bad2 : alBad m2 (fun m => chL ms m l) = alBad ms (fun m => chL ms m l) := by
      funext a
      unfold alBad nN
      rw [s2.2 21 (by decide), s2.2 22 (by decide), s2.2 23 (by decide)]
    have res2 : alRes m2 (fun m => chL ms m l) = alRes ms (fun m => chL ms m l) := by
      funext R' m' a
      unfold alRes nN
      rw [s2.2 21 (by decide), s2.2 22 (by decide), s2.2 23 (by decide)]
    have hA2 : ∀ a, a < 4 → m2.1 23 a = 0 ∨ (m2.1 23 a = 1 ∧ ∃ p m, p < nN m2 0 0 ∧ m < 12 ∧ m2.1 21 a = nI p ∧ m2.1 22 a = nI m) := by
      unfold nN
      rw [s2.2 21 (by decide), s2.2 22 (by decide), s2.2 23 (by decide), s2.2 0 (by decide)]
      exact D.2.2.2.2
    have start : ∀ κ : rb_K, κ.1 = g → rb_dp κ 4 → rb_Bd κ mX4_woven (0, 0) (mm_H h m2 M0) 38 [some (.ref h), some (.int (nI 12))] [] → rb_Bd κ mX4_woven (0, 0) (mm_H h ms M0) 0 [some (.ref h), none] [] := by
      intro κ hg hd hk
      subst hg
      refine sgX4_woven_0 ⟨fun _ => ⟨fun _ => ?_, fun q => absurd q e16⟩, fun q => absurd q e24⟩
      rw [hRn.1]
      exact ⟨_, _, _, a4, hd, fun _ => b4 κ rfl (rb_dp_le hd (by decide)) hk, fun q => absurd q (by decide)⟩
    have h24m : m2.1 24 0 = nI R := by rw [s2.2 24 (by decide)]; exact hRn.1
    rcases X4_lacksAny (g := g) (M0 := M0) (h := h) hR24 row2 hlen hlt hA2 (by rw [s2.nn (by decide)]; exact hP.2) hCC with ⟨i, m, m3, c1, rfl, c3⟩ | ⟨hnl, x, m3, c1, c2, c3⟩
    · refine ⟨-8, mm_sI (mm_sI m2 35 0 (nI (l.getD i 0))) 36 0 (nI m), Or.inr (Or.inr ⟨e24, e16, ?_, l, L', hl, hlen, Or.inr ⟨hno, Or.inl ⟨i, m, ?_, rfl, ?_, ?_, ?_⟩⟩⟩), ?_⟩
      · rw [eR]
        exact (low2.trans (.sI (by show 0 * R ≤ _; omega))).trans (.sI (by show 0 * R ≤ _; omega))
      · unfold lkAt at c1 ⊢
        rw [lk2] at c1
        exact c1
      · exact sameX.trans (sameX.trans (s2.mono (by decide)) (.sI (by decide))) (.sI (by decide))
      · rw [mm_sI_ne (by decide), mm_sI_k, va_up_self]
      · rw [mm_sI_k, va_up_self]
      · refine rb_Ct.of (by decide) (Nat.le_of_ble_eq_true rfl) rfl ?_
        refine start _ rfl (rb_dpk (by decide)) (sgX4_woven_38 ⟨fun _ => ?_, fun q => absurd q (by decide)⟩)
        rw [h24m]
        exact ⟨_, _, _, c3, rb_dpk (by decide), fun q => absurd q (by decide), fun _ => ⟨rfl, rfl⟩⟩
    · rw [lk2] at hnl
      rcases c2 with ⟨rfl, z1, b, z2, z3, z4, z5, z6⟩ | ⟨rfl, z1, z2⟩
      · refine ⟨-8, m3, Or.inr (Or.inr ⟨e24, e16, ?_, l, L', hl, hlen, Or.inr ⟨hno, Or.inr ⟨hnl, Or.inl ⟨b, z2, ?_, ?_, rfl, ?_, ?_, ?_⟩⟩⟩⟩), ?_⟩
        · rw [eR]; exact low2.trans c1
        · rw [← bad2]; exact z3
        · rw [← bad2]; exact z4
        · exact (s2.mono (by decide)).trans (z1.mono (by decide))
        · rw [z5, s2.2 21 (by decide)]
        · rw [z6, s2.2 22 (by decide)]
        · refine rb_Ct.of (by decide) (Nat.le_of_ble_eq_true rfl) rfl ?_
          refine start _ rfl (rb_dpk (by decide)) (sgX4_woven_38 ⟨fun _ => ?_, fun q => absurd q (by decide)⟩)
          rw [h24m]
          exact ⟨_, _, _, c3, rb_dpk (by decide), fun q => absurd q (by decide), fun _ => ⟨rfl, rfl⟩⟩
      · obtain ⟨m4, d1, d2, d3, -, d5⟩ := X4_wov75 (M0 := M0) (h := h) hR24 24 0 rfl m3 (by rw [z1.2 24 (by decide)]; exact h24m)
        obtain ⟨m5, f1, f2, f3, f4, f5, -, f7⟩ := X4_wov105 (M0 := M0) (h := h) hR24 hlen hlt o2 l.length 0 (Nat.zero_add _) m4 (by rw [d1.2 24 (by decide), z1.2 24 (by decide)]; exact h24m) (by
          unfold rowL
          rw [d1.2 25 (by decide), d1.2 26 (by decide), z1.2 25 (by decide), z1.2 26 (by decide)]
          exact row2)
        refine ⟨nI R, m5, Or.inr (Or.inr ⟨e24, e16, ?_, l, L', hl, hlen, Or.inr ⟨hno, Or.inr ⟨hnl, Or.inr ⟨?_, ?_, ?_, ?_, ?_, ?_, ?_, ?_⟩⟩⟩⟩), ?_⟩
        · rw [eR]; exact ((low2.trans c1).trans d2).trans f2
        · rw [eR]
        · exact (((s2.mono (by decide)).trans (z1.mono (by decide))).trans (d1.mono (by decide))).trans (f1.mono (by decide))
        · rw [eR]; exact f3
        · rw [eR]
          unfold rowL
          rw [f1.2 25 (by decide), f1.2 26 (by decide), d1.2 25 (by decide), d1.2 26 (by decide), z1.2 25 (by decide), z1.2 26 (by decide)]
          exact row2
        · rw [eR]
          intro m hm
          unfold rowC
          rw [f1.2 28 (by decide), f1.2 29 (by decide), d1.2 28 (by decide), d1.2 29 (by decide), z1.2 28 (by decide), z1.2 29 (by decide)]
          exact b3 m hm
        · rw [eR]
          intro b hb
          have := z2 b hb
          rw [bad2, res2] at this
          refine ⟨this.1, ?_⟩
          have r := this.2
          unfold alRes at r ⊢
          rw [f1.2 30 (by decide), f1.2 31 (by decide), d1.2 30 (by decide), d1.2 31 (by decide)]
          exact r
        · rw [eR]
          intro p hp hpl
          rw [f5 p hp (fun i _ hi e => hpl (e ▸ getD_mem l i hi))]
          exact d3 p (by omega) hp
        · rw [eR]
          intro i hi
          exact f4 i (by omega) hi
        · refine rb_Ct.of (by decide) (Nat.le_of_ble_eq_true rfl) rfl ?_
          refine start _ rfl (rb_dpk (by decide)) (sgX4_woven_38 ⟨fun _ => ?_, fun q => absurd q (by decide)⟩)
          rw [h24m]
          exact ⟨_, _, _, c3, rb_dpk (by decide), fun _ => d5 _ (f7 _ ⟨rfl, rfl⟩), fun q => absurd rfl q⟩
  · refine ⟨-6, m1, Or.inr (Or.inr ⟨e24, e16, by rw [eR]; exact a2, l, L', hl, hlen, Or.inl ⟨f, n, t, hRg, hq, rfl, a1, a3, a4⟩⟩), ?_⟩
    refine rb_Ct.of (by decide) (Nat.le_of_ble_eq_true rfl) rfl ?_
    refine sgX4_woven_0 ⟨fun _ => ⟨fun _ => ?_, fun q => absurd q e16⟩, fun q => absurd q e24⟩
    rw [hRn.1]
    exact ⟨_, _, _, a5, rb_dpk (by decide), fun q => absurd rfl q, fun _ => ⟨rfl, rfl⟩⟩
theorem X4_weave {ms : mm_S} (D : Dr ms) (hR : iB (ms.1 24 0) 24) (hB : ∀ b, b < 600 → iN (ms.1 10 b) 10) : ∃ r m', Wv ms r m' ∧ mm_C g yX4_weave wX4_weave 6 h M0 ms [.ref h] (some (.int r)) (clr m') := by
  obtain ⟨r, m', h1, h2⟩ := X4_woven (g := g) (M0 := M0) (h := h) D hR hB
  refine ⟨r, m', h1, ?_⟩
  refine rb_Ct.of (by decide) (Nat.le_of_ble_eq_true rfl) rfl ?_
  refine sgX4_weave_0 ⟨_, _, _, h2, rb_dpk (by decide), ?_⟩
  have st : ∀ (κ : rb_K) j, j < 4 → ∀ ms : mm_S, rb_Bd κ mX4_weave (0, 0) (mm_H h (mm_sI ms 23 j 0) M0) 17 [some (.ref h), some (.int r), some (.int (nI (j + 1)))] [] → rb_Bd κ mX4_weave (0, 0) (mm_H h ms M0) 17 [some (.ref h), some (.int r), some (.int (nI j))] [] := by
    intro κ j hj ms hk
    refine sgX4_weave_17 ⟨fun q => absurd q (nI_ge (b := 4) (by omega) (by omega)), fun _ => ⟨vp_in_nI (N := 4) (by omega) (by decide), ?_⟩⟩
    rw [nI_clamp (by omega), nI_1]
    exact hk
  exact st _ 0 (by decide) _ (st _ 1 (by decide) _ (st _ 2 (by decide) _ (st _ 3 (by decide) _ (sgX4_weave_17 ⟨fun _ => ⟨rfl, rfl⟩, fun q => absurd q (by decide)⟩))))
end W8
