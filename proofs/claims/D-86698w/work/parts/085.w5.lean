set_option maxRecDepth 100000
/-! weaving: the line in the model -/
def lz : Nat → Nat
  | 25 => 1 | 26 => 24 | 27 => 24 | 28 => 12 | 29 => 576 | 30 => 4 | 31 => 4 | 32 => 24 | _ => 0
/-- the roles below R are the same -/
def low (R : Nat) (ms ms' : mm_S) : Prop := ∀ k x, 25 ≤ k → k ≤ 32 → x < lz k * R → ms'.1 k x = ms.1 k x
theorem low.refl {R : Nat} {ms : mm_S} : low R ms ms := fun _ _ _ _ _ => rfl
theorem low.trans {R : Nat} {a b c : mm_S} (h1 : low R a b) (h2 : low R b c) : low R a c := fun k x k1 k2 k3 => (h2 k x k1 k2 k3).trans (h1 k x k1 k2 k3)
theorem low.sI {R : Nat} {ms : mm_S} {k i : Nat} {v : Int32} (h : lz k * R ≤ i) : low R ms (mm_sI ms k i v) := by
  intro j x _ _ h3
  by_cases e : j = k
  · subst e
    rw [mm_sI_k]
    simp only [va_up, if_neg (show ¬ x = i by omega)]
  · rw [mm_sI_ne e]
theorem low.same {R : Nat} {l : List Nat} {ms ms' : mm_S} (h : sameX l ms ms') (hl : ∀ k, k ∈ [25, 26, 27, 28, 29, 30, 31, 32] → k ∉ l) : low R ms ms' := by
  intro k x h1 h2 _
  rw [h.2 k (hl k (by
    have : k = 25 ∨ k = 26 ∨ k = 27 ∨ k = 28 ∨ k = 29 ∨ k = 30 ∨ k = 31 ∨ k = 32 := by omega
    rcases this with r | r | r | r | r | r | r | r <;> rw [r] <;> decide))]
theorem rb_dp_le {κ : rb_K} {d d' : Nat} (h : rb_dp κ d) (hd : d' ≤ d) : rb_dp κ d' := ⟨by have := h.1; omega, by have := h.2; omega⟩
section W5
variable {g : rb_G} {M0 : rb_H} {h : Nat} {I : Nat → Prop}
theorem X4_layNo {L : Nat → Prop} {ms0 ms : mm_S} {κ : rb_K} {a1 : Int32} {j : Nat} (D : Dr ms0) (hs : sameX [25, 26, 38] ms0 ms) (hI : ∀ x, x < nN ms0 0 0 → (ms0.1 37 x ≠ 0 ↔ I x)) (hL : ∀ x, x < nN ms0 0 0 → (ms.1 38 x ≠ 0 ↔ L x)) (hj : j < nN ms0 0 0) (hno : ¬ nx ms0 I L j) (hd : rb_dp κ 2) (hk : rb_Bd κ mX4_lay (0, 0) (mm_H h ms M0) 21 [some (.ref h), some (.int a1), some (.int 0), some (.int (nI (j + 1)))] []) : rb_Bd κ mX4_lay (0, 0) (mm_H h ms M0) 21 [some (.ref h), some (.int a1), some (.int 0), some (.int (nI j))] [] := by
  have hP := D.P
  have e0 : ms.1 0 0 = nI (nN ms0 0 0) := by rw [hs.2 0 (by decide)]; exact hP.1
  refine sgX4_lay_21 ⟨fun q => absurd q (by rw [e0]; exact nI_ge (by omega) (by omega)), fun _ => ⟨fun q => absurd rfl q, fun _ => ⟨vp_in_nI (N := 24) (by omega) (by decide), ?_⟩⟩⟩
  rw [nI_clamp (by omega), nI_1]
  refine ⟨fun _ => hk, fun h1 => ?_⟩
  obtain ⟨x, hx⟩ := isL_ex (la ms0 I L j) (nN ms0 0 0)
  refine ⟨_, _, _, X4_leastA D hs (by decide) (fun x hx => by rw [hs.2 37 (by decide)]; exact hI x hx) hL hj hx, hd, fun _ => hk, fun h2 => ?_⟩
  rcases hx with ⟨-, k2⟩ | ⟨p, k1, -, -, rfl⟩
  · exact absurd ⟨(hL j hj).mp h1, k2⟩ hno
  · exact absurd h2 (nI_pos (by omega))
theorem X4_layYes {L : Nat → Prop} {ms0 ms : mm_S} {κ : rb_K} {R m : Nat} {j : Nat} (D : Dr ms0) (hR : R < 24) (hm : m < 24) (hs : sameX [25, 26, 38] ms0 ms) (hI : ∀ x, x < nN ms0 0 0 → (ms0.1 37 x ≠ 0 ↔ I x)) (hL : ∀ x, x < nN ms0 0 0 → (ms.1 38 x ≠ 0 ↔ L x)) (hj : j < nN ms0 0 0) (hy : nx ms0 I L j) (hd : rb_dp κ 2) (h25 : ms.1 25 R = nI m) (hk : rb_Bd κ mX4_lay (0, 0) (mm_H h (mm_sI (mm_sI (mm_sI ms 26 (24 * R + m) (nI j)) 25 R (nI (m + 1))) 38 j 0) M0) 21 [some (.ref h), some (.int (nI R)), some (.int 0), some (.int (nI 0))] []) : rb_Bd κ mX4_lay (0, 0) (mm_H h ms M0) 21 [some (.ref h), some (.int (nI R)), some (.int 0), some (.int (nI j))] [] := by
  have hP := D.P
  have e0 : ms.1 0 0 = nI (nN ms0 0 0) := by rw [hs.2 0 (by decide)]; exact hP.1
  refine sgX4_lay_21 ⟨fun q => absurd q (by rw [e0]; exact nI_ge (by omega) (by omega)), fun _ => ⟨fun q => absurd rfl q, fun _ => ⟨vp_in_nI (N := 24) (by omega) (by decide), ?_⟩⟩⟩
  rw [nI_clamp (by omega), nI_1]
  refine ⟨fun h1 => absurd h1 ((hL j hj).mpr hy.1), fun h1 => ?_⟩
  refine ⟨_, _, _, X4_leastA (x := -9) D hs (by decide) (fun x hx => by rw [hs.2 37 (by decide)]; exact hI x hx) hL hj (Or.inl ⟨rfl, hy.2⟩), hd, fun h2 => absurd h2 (by decide), fun h2 => ?_⟩
  rw [nI_clamp (by omega), h25, ix24, nI_clamp (by omega), nI_1]
  have hv : vp_in (nI R) (mm_l 25) := vp_in_nI (N := 24) (by omega) (by decide)
  refine ⟨hv, vp_in_nI (N := 576) (by omega) (by decide), hv, hv, vp_in_nI (N := 24) (by omega) (by decide), ?_⟩
  have h13 : rb_Bd κ mX4_lay (0, 0) (mm_H h (mm_sI (mm_sI (mm_sI ms 26 (24 * R + m) (nI j)) 25 R (nI (m + 1))) 38 j 0) M0) 13 [some (.ref h), some (.int (nI R)), some (.int 1), none] [] := sgX4_lay_13 ⟨fun q => absurd q (by decide), fun _ => hk⟩
  exact sgX4_lay_21 ⟨fun _ => rb_weak (by simp [rb_wk]) h13, fun _ => ⟨fun _ => rb_weak (by simp [rb_wk]) h13, fun q => absurd q (by decide)⟩⟩
theorem X4_laySkip {L : Nat → Prop} {ms0 ms : mm_S} {κ : rb_K} {a1 : Int32} {p : Nat} (D : Dr ms0) (hs : sameX [25, 26, 38] ms0 ms) (hI : ∀ x, x < nN ms0 0 0 → (ms0.1 37 x ≠ 0 ↔ I x)) (hL : ∀ x, x < nN ms0 0 0 → (ms.1 38 x ≠ 0 ↔ L x)) (hp : p ≤ nN ms0 0 0) (hno : ∀ q, q < p → ¬ nx ms0 I L q) (hd : rb_dp κ 2) (hk : rb_Bd κ mX4_lay (0, 0) (mm_H h ms M0) 21 [some (.ref h), some (.int a1), some (.int 0), some (.int (nI p))] []) : ∀ d j, j + d = p → rb_Bd κ mX4_lay (0, 0) (mm_H h ms M0) 21 [some (.ref h), some (.int a1), some (.int 0), some (.int (nI j))] [] := by
  intro d
  induction d with
  | zero => intro j hj; obtain rfl : j = p := by omega
            exact hk
  | succ d ih => intro j hj; exact X4_layNo D hs hI hL (by omega) (hno j (by omega)) hd (ih (j + 1) (by omega))
theorem X4_layLine {ms0 : mm_S} {R : Nat} (D : Dr ms0) (hR : R < 24) (hI : ∀ x, x < nN ms0 0 0 → (ms0.1 37 x ≠ 0 ↔ I x)) (L' : Nat → Prop) : ∀ (l : List Nat) (m : Nat) (L : Nat → Prop) (ms : mm_S), Ln ms0 I l L L' → sameX [25, 26, 38] ms0 ms → (∀ x, x < nN ms0 0 0 → (ms.1 38 x ≠ 0 ↔ L x)) → ms.1 25 R = nI m → m + l.length ≤ 24 → ∃ ms', sameX [25, 26, 38] ms0 ms' ∧ low R ms ms' ∧ ms'.1 25 R = nI (m + l.length) ∧ (∀ i, i < m → ms'.1 26 (24 * R + i) = ms.1 26 (24 * R + i)) ∧ (∀ i, i < l.length → ms'.1 26 (24 * R + (m + i)) = nI (l.getD i 0)) ∧ (∀ x, x < nN ms0 0 0 → (ms'.1 38 x ≠ 0 ↔ L' x)) ∧ ∀ κ : rb_K, rb_dp κ 2 → rb_Bd κ mX4_lay (0, 0) (mm_H h ms' M0) 97 [some (.ref h), some (.int (nI R)), some (.int 0), some (.int 0)] [] → rb_Bd κ mX4_lay (0, 0) (mm_H h ms M0) 21 [some (.ref h), some (.int (nI R)), some (.int 0), some (.int (nI 0))] [] := by
  have hP := D.P
  intro l
  induction l with
  | nil =>
    rintro m L ms ⟨h1, rfl⟩ hs hL h25 hm
    have e0 : ms.1 0 0 = nI (nN ms0 0 0) := by rw [hs.2 0 (by decide)]; exact hP.1
    refine ⟨ms, hs, .refl, h25, fun _ _ => rfl, fun i hi => absurd hi (Nat.not_lt_zero _), hL, fun κ hd hk => ?_⟩
    refine X4_laySkip D hs hI hL (Nat.le_refl _) h1 hd ?_ _ 0 (Nat.zero_add _)
    refine sgX4_lay_21 ⟨fun _ => rb_weak (by simp [rb_wk]) (sgX4_lay_13 (κ := κ) (M0 := M0) (h := h) (ms := ms) (a1 := nI R) (a2 := 0) ⟨fun _ => hk, fun q => absurd rfl q⟩), fun q => absurd q (by rw [e0]; exact nI_nlt (Nat.le_refl _) (by omega))⟩
  | cons p l ih =>
    rintro m L ms ⟨h1, h2, h3, h4⟩ hs hL h25 hm
    rw [List.length_cons] at hm
    have hs1 : sameX [25, 26, 38] ms0 (mm_sI (mm_sI (mm_sI ms 26 (24 * R + m) (nI p)) 25 R (nI (m + 1))) 38 p 0) := sameX.trans (sameX.trans (sameX.trans hs (.sI (by decide))) (.sI (by decide))) (.sI (by decide))
    have hlow : low R ms (mm_sI (mm_sI (mm_sI ms 26 (24 * R + m) (nI p)) 25 R (nI (m + 1))) 38 p 0) := low.trans (low.trans (.sI (by show 24 * R ≤ _; omega)) (.sI (by show 1 * R ≤ _; omega))) (.sI (by show 0 * R ≤ _; omega))
    have e26 : (mm_sI (mm_sI (mm_sI ms 26 (24 * R + m) (nI p)) 25 R (nI (m + 1))) 38 p 0).1 26 = va_up (ms.1 26) (24 * R + m) (nI p) := by rw [mm_sI_ne (by decide), mm_sI_ne (by decide), mm_sI_k]
    obtain ⟨ms', k1, k2, k3, k4, k5, k6, k7⟩ := ih (m + 1) _ (mm_sI (mm_sI (mm_sI ms 26 (24 * R + m) (nI p)) 25 R (nI (m + 1))) 38 p 0) h4 hs1 (fun x hx => by
        rw [mm_sI_k, mm_sI_ne (by decide), mm_sI_ne (by decide)]
        by_cases e : x = p
        · rw [e, va_up_self]
          exact ⟨fun q => absurd rfl q, fun q => absurd rfl q.2⟩
        · simp only [va_up, if_neg e]
          rw [hL x hx]
          exact ⟨fun q => ⟨q, e⟩, fun q => q.1⟩) (by rw [mm_sI_ne (by decide), mm_sI_k, va_up_self]) (by omega)
    refine ⟨ms', k1, hlow.trans k2, by rw [k3, List.length_cons]; congr 1; omega, fun i hi => ?_, fun i hi => ?_, k6, fun κ hd hk => ?_⟩
    · rw [k4 i (by omega), e26]
      simp only [va_up, if_neg (show ¬ 24 * R + i = 24 * R + m by omega)]
    · rw [List.length_cons] at hi
      cases i with
      | zero => rw [Nat.add_zero, k4 m (by omega), e26, va_up_self]; rfl
      | succ i =>
        have := k5 i (by omega)
        rw [show m + 1 + i = m + (i + 1) by omega] at this
        rw [this]; rfl
    · refine X4_laySkip D hs hI hL (by omega) h3 hd ?_ p 0 (Nat.zero_add _)
      exact X4_layYes D hR (by omega) hs hI hL h1 h2 hd h25 (k7 κ hd hk)
theorem X4_layEnd1 {ms : mm_S} {κ : rb_K} {a1 a2 : Int32} {p : Nat} (hP : ms.1 0 0 = nI (nN ms 0 0) ∧ nN ms 0 0 ≤ 24) (hp : p ≤ nN ms 0 0) (hno : ∀ q, q < p → ms.1 38 q = 0) (hk : rb_Bd κ mX4_lay (0, 0) (mm_H h ms M0) 97 [some (.ref h), some (.int a1), some (.int a2), some (.int (nI p))] []) : ∀ d j, j + d = p → rb_Bd κ mX4_lay (0, 0) (mm_H h ms M0) 97 [some (.ref h), some (.int a1), some (.int a2), some (.int (nI j))] [] := by
  intro d
  induction d with
  | zero => intro j hj; obtain rfl : j = p := by omega
            exact hk
  | succ d ih =>
    intro j hj
    refine sgX4_lay_97 ⟨fun q => absurd q (by rw [hP.1]; exact nI_ge (by omega) (by omega)), fun _ => ⟨vp_in_nI (N := 24) (by omega) (by decide), ?_⟩⟩
    rw [nI_clamp (by omega), nI_1]
    exact ⟨fun _ => ih (j + 1) (by omega), fun q => absurd (hno j (by omega)) q⟩
/-- the line l of a draft lies as the role R's -/
def rowL (ms : mm_S) (R : Nat) (l : List Nat) : Prop := ms.1 25 R = nI l.length ∧ ∀ i, i < l.length → ms.1 26 (24 * R + i) = nI (l.getD i 0)
theorem X4_lay {ms : mm_S} {R : Nat} (D : Dr ms) (hR : R < 24) : ∃ l L', Ln ms (Cl ms) l (Cl ms) L' ∧ l.length ≤ 24 ∧
    (((∀ p, p < nN ms 0 0 → ¬ L' p) ∧ ∃ ms', sameX [25, 26, 37, 38] ms ms' ∧ low R ms ms' ∧ rowL ms' R l ∧ mm_C g yX4_lay wX4_lay 4 h M0 ms [.ref h, .int (nI R)] (some (.int 1)) ms') ∨
    ∃ f n t, Rg ms (Cl ms) L' f n t ∧ (∀ q, q < f 0 → ¬ L' q) ∧ ∃ ms', sameX [25, 26, 33, 34, 37, 38, 39] ms ms' ∧ low R ms ms' ∧ ms'.1 34 0 = nI (n - t) ∧ (∀ i, i < n - t → ms'.1 33 i = nI (f (t + i))) ∧ mm_C g yX4_lay wX4_lay 4 h M0 ms [.ref h, .int (nI R)] (some (.int 0)) ms') := by
  have hP := D.P
  obtain ⟨m0, a1, a2, a3, a4⟩ := X4_close (g := g) (M0 := M0) (h := h) D
  have s1 : sameX [25, 37, 38] ms (mm_sI m0 25 R 0) := (a1.mono (by decide)).trans (.sI (by decide))
  have D1 := Dr_same s1 (by decide) D
  have low1 : low R ms (mm_sI m0 25 R 0) := (low.same a1 (by decide)).trans (.sI (by show 1 * R ≤ _; omega))
  have n1 : nN (mm_sI m0 25 R 0) 0 0 = nN ms 0 0 := s1.nn (by decide) 0
  have A1 : Ah (mm_sI m0 25 R 0) = Ah ms := Ah_same s1 (by decide)
  have eLa : la (mm_sI m0 25 R 0) = la ms := by funext I L p q; unfold la; rw [A1]
  have eNx : nx (mm_sI m0 25 R 0) = nx ms := by funext I L p; unfold nx; rw [eLa, n1]
  have eLn : ∀ (l : List Nat) (L L' : Nat → Prop), Ln (mm_sI m0 25 R 0) (Cl ms) l L L' ↔ Ln ms (Cl ms) l L L' := by
    intro l
    induction l with
    | nil => intro L L'; unfold Ln; rw [n1, eNx]
    | cons p l ih => intro L L'; unfold Ln; rw [n1, eNx, ih]
  have hI1 : ∀ x, x < nN (mm_sI m0 25 R 0) 0 0 → ((mm_sI m0 25 R 0).1 37 x ≠ 0 ↔ Cl ms x) := by
    intro x hx
    rw [n1] at hx
    rw [mm_sI_ne (by decide)]
    exact a2 x (by omega)
  have hL1 : ∀ x, x < nN (mm_sI m0 25 R 0) 0 0 → ((mm_sI m0 25 R 0).1 38 x ≠ 0 ↔ Cl ms x) := by
    intro x hx
    rw [n1] at hx
    rw [mm_sI_ne (by decide)]
    exact a3 x (by omega)
  obtain ⟨l, L', hl⟩ := Ln_ex (ms := ms) (I := Cl ms) (nN ms 0 0) (Cl ms) (cnt_le _ _)
  obtain ⟨o1, o2, o3, o4, o5⟩ := hl.out
  have hlen : l.length ≤ 24 := by
    have := cnt_le (Cl ms) (nN ms 0 0)
    omega
  obtain ⟨m2, b1, b2, b3, -, b5, b6, b7⟩ := X4_layLine (M0 := M0) (h := h) D1 hR hI1 L' l 0 (Cl ms) (mm_sI m0 25 R 0) ((eLn _ _ _).mpr hl) .refl hL1 (by rw [mm_sI_k, va_up_self]; rfl) (by omega)
  rw [Nat.zero_add] at b3
  have s2 : sameX [25, 26, 37, 38] ms m2 := (s1.mono (by decide)).trans (b1.mono (by decide))
  have low2 : low R ms m2 := low1.trans b2
  have n2 : nN m2 0 0 = nN ms 0 0 := s2.nn (by decide) 0
  have P2 : m2.1 0 0 = nI (nN m2 0 0) ∧ nN m2 0 0 ≤ 24 := by rw [n2, s2.2 0 (by decide)]; exact hP
  have row2 : rowL m2 R l := ⟨b3, fun i hi => by have := b5 i hi; rw [Nat.zero_add] at this; exact this⟩
  have start : ∀ κ : rb_K, rb_dp κ 2 → κ.1 = g → rb_Bd κ mX4_lay (0, 0) (mm_H h m2 M0) 97 [some (.ref h), some (.int (nI R)), some (.int 0), some (.int 0)] [] → rb_Bd κ mX4_lay (0, 0) (mm_H h ms M0) 0 [some (.ref h), some (.int (nI R)), none, none] [] := by
    intro κ hd hg hk
    subst hg
    refine sgX4_lay_0 ⟨_, _, a4, rb_dp_le hd (by decide), vp_in_nI (N := 24) (by omega) (by decide), ?_⟩
    rw [nI_clamp (by omega)]
    exact sgX4_lay_13 ⟨fun q => absurd q (by decide), fun _ => b7 κ hd hk⟩
  refine ⟨l, L', hl, hlen, ?_⟩
  by_cases e : ∃ p, p < nN ms 0 0 ∧ L' p
  · obtain ⟨p, p1, p2⟩ := e
    obtain ⟨q, q1, q2, q3⟩ := leastN (P := L') p p2
    obtain ⟨f, n, t, f0, hRg⟩ := Rg_ex (I := Cl ms) (L := L') (p := q) hP.2 (by omega) q2 o4
    have D2 := Dr_same s2 (by decide) D
    have hRg2 : Rg m2 (Cl ms) L' f n t := by
      have : la m2 = la ms := by funext I L p q; unfold la; rw [Ah_same s2 (by decide)]
      unfold Rg
      rw [n2, this]
      exact hRg
    obtain ⟨m3, c1, c2, c3, c4⟩ := X4_tellRing (g := g) (M0 := M0) (h := h) (I := Cl ms) (L := L') D2 (fun x hx => by rw [n2] at hx; rw [b1.2 37 (by decide)]; exact hI1 x (by rw [n1]; exact hx)) (fun x hx => by rw [n2] at hx; exact b6 x (by rw [n1]; exact hx)) hRg2
    refine Or.inr ⟨f, n, t, hRg, by rw [f0]; exact q3, m3, (s2.mono (by decide)).trans (c1.mono (by decide)), low2.trans (low.same c1 (by decide)), c2, c3, ?_⟩
    refine rb_Ct.of (by decide) (Nat.le_of_ble_eq_true rfl) rfl ?_
    refine start _ (rb_dpk (by decide)) rfl ?_
    have hq38 : ∀ z, z < q → m2.1 38 z = 0 := by
      intro z hz
      have := b6 z (by rw [n1]; omega)
      exact Classical.not_not.mp (fun w => q3 z hz (this.mp w))
    refine X4_layEnd1 (p := q) P2 (by rw [n2]; omega) hq38 ?_ q 0 (Nat.zero_add _)
    refine sgX4_lay_97 ⟨fun z => absurd z (by rw [P2.1]; exact nI_ge (by rw [n2]; omega) (by omega)), fun _ => ⟨vp_in_nI (N := 24) (by omega) (by decide), ?_⟩⟩
    rw [nI_clamp (by omega), nI_1]
    rw [f0] at c4
    exact ⟨fun z => absurd z ((b6 q (by rw [n1]; omega)).mpr q2), fun _ => ⟨_, _, c4, rb_dpk (by decide), rfl, rfl⟩⟩
  · have hno : ∀ p, p < nN ms 0 0 → ¬ L' p := fun p hp q => e ⟨p, hp, q⟩
    refine Or.inl ⟨hno, m2, s2, low2, row2, ?_⟩
    refine rb_Ct.of (by decide) (Nat.le_of_ble_eq_true rfl) rfl ?_
    refine start _ (rb_dpk (by decide)) rfl ?_
    have h38 : ∀ z, z < nN m2 0 0 → m2.1 38 z = 0 := by
      intro z hz
      rw [n2] at hz
      have := b6 z (by rw [n1]; exact hz)
      exact Classical.not_not.mp (fun w => hno z hz (this.mp w))
    refine X4_layEnd1 P2 (Nat.le_refl _) h38 ?_ _ 0 (Nat.zero_add _)
    exact sgX4_lay_97 ⟨fun _ => ⟨rfl, rfl⟩, fun z => absurd z (by rw [P2.1]; exact nI_nlt (Nat.le_refl _) (by omega))⟩
end W5
