set_option maxRecDepth 100000
section M6
variable {g : rb_G} {M0 : rb_H} {h : Nat} {ms : mm_S} {B : Nat}
def F_body (ms : mm_S) (a u m c : Int32) : Int32 × mm_S :=
  if ¬ isP ms a ∨ ¬ (0 ≤ u ∧ u ≤ 2) ∨ (u ≠ 2 ∧ ¬ isM m) ∨ (c ≠ -9 ∧ ¬ (0 ≤ c ∧ c ≤ 16)) then (-1, ms)
  else if 0 < ms.1 24 0 then (-4, ms)
  else (1, mm_sI (mm_sI (mm_sI ms 15 0 (F_bodyOf a u m)) 10 (nv (F_bodyOf a u m)) 0) 11 (nv (F_bodyOf a u m)) c)
theorem F_bodyOf_n {p : Nat} {u m : Int32} (hp : p < 24) (hu : 0 ≤ u ∧ u ≤ 2) (hm : u ≠ 2 → isM m) : ∃ b, b < 600 ∧ b / 25 = p ∧ F_bodyOf (nI p) u m = nI b ∧ buse b = u ∧ bmem b = (if u = 2 then -9 else m) := by
  obtain ⟨u, hu', rfl⟩ := (pIn_nat (b := 2) (by decide)).mp hu
  by_cases h2 : u = 2
  · subst h2
    refine ⟨25 * p + 24, by omega, by omega, ?_, ?_, ?_⟩
    · rw [F_bodyOf, if_pos (show nI 2 = 2 from rfl), show (24 : Int32) = nI 24 from rfl, ix25]
    · rw [buse, if_pos (by omega)]; rfl
    · rw [bmem, if_pos (by omega), if_pos (show nI 2 = 2 from rfl)]
  · have hne : ¬ nI u = (2 : Int32) := fun q => h2 ((nI_eq (b := 2) (by omega) (by decide)).mp q)
    obtain ⟨m, hm', rfl⟩ := isM_iff.mp (hm hne)
    have hu1 : u = 0 ∨ u = 1 := by omega
    refine ⟨25 * p + (12 * u + m), by omega, by omega, ?_, ?_, ?_⟩
    · rw [F_bodyOf, if_neg hne, ix12, ix25]
    · rw [buse, if_neg (by omega)]
      rcases hu1 with rfl | rfl
      · rw [if_pos (by omega)]; rfl
      · rw [if_neg (by omega)]; rfl
    · rw [bmem, if_neg (by omega), if_neg hne]
      congr 1
      rcases hu1 with rfl | rfl <;> omega
theorem X4_body {a u m c : Int32} (I : Inv B ms) : mm_C g yX4_body wX4_body 2 h M0 ms [.ref h, .int a, .int u, .int m, .int c] (some (.int (F_body ms a u m c).1)) (F_body ms a u m c).2 := by
  have hpn := I.pn
  refine rb_Ct.of (by decide) (Nat.le_of_ble_eq_true rfl) rfl ?_
  by_cases h1 : ¬ isP ms a
  · refine sgX4_body_0 ⟨_, _, _, X4_isPart, rb_dpk (by decide), fun h2 => mmF (by rw [F_body, if_pos (Or.inl h1)]), fun h2 => absurd (by rw [pIn0]; exact h1) h2⟩
  have h1 := Classical.not_not.mp h1
  by_cases h2 : ¬ (0 ≤ u ∧ u ≤ 2)
  · refine sgX4_body_0 ⟨_, _, _, X4_isPart, rb_dpk (by decide), fun h3 => absurd h1 (pIn0.mp h3), fun h3 => ⟨_, _, _, X4_inC, rb_dpk (by decide), fun h4 => mmF (by rw [F_body, if_pos (Or.inr (Or.inl h2))]), fun h4 => absurd (by rw [pIn0]; exact h2) h4⟩⟩
  have h2 := Classical.not_not.mp h2
  by_cases h3 : u ≠ 2 ∧ ¬ isM m
  · refine sgX4_body_0 ⟨_, _, _, X4_isPart, rb_dpk (by decide), fun h4 => absurd h1 (pIn0.mp h4), fun h4 => ⟨_, _, _, X4_inC, rb_dpk (by decide), fun h5 => absurd h2 (pIn0.mp h5), fun h5 => ⟨fun h6 => absurd h6 h3.1, fun h6 => ⟨_, _, _, X4_isMemberC, rb_dpk (by decide), fun h7 => mmF (by rw [F_body, if_pos (Or.inr (Or.inr (Or.inl h3)))]), fun h7 => absurd (by rw [pIn0]; exact h3.2) h7⟩⟩⟩⟩
  have h3' : u ≠ 2 → isM m := fun q => Classical.not_not.mp fun q2 => h3 ⟨q, q2⟩
  have hh1 := h1
  obtain ⟨p, hp, rfl⟩ := (isP_iff I.P).mp h1
  obtain ⟨b, hb, hb2, eb, -, -⟩ := F_bodyOf_n (p := p) (by omega) h2 h3'
  have hbad : ∀ q : ¬ (c ≠ -9 ∧ ¬ (0 ≤ c ∧ c ≤ 16)), ¬ (¬ isP ms (nI p) ∨ ¬ (0 ≤ u ∧ u ≤ 2) ∨ (u ≠ 2 ∧ ¬ isM m) ∨ (c ≠ -9 ∧ ¬ (0 ≤ c ∧ c ≤ 16))) := by
    intro q
    rintro (q' | q' | q' | q')
    · exact q' hh1
    · exact q' h2
    · exact h3 q'
    · exact q q'
  have fin : (¬ (c ≠ -9 ∧ ¬ (0 ≤ c ∧ c ≤ 16))) → (ms.1 24 0 ≤ 0 → ∃ (x : Int32) (ms' : mm_S) (d : Nat), mm_C g yX4_bodyOf wX4_bodyOf d h M0 ms [.int (nI p), .int u, .int m] (some (.int x)) ms' ∧ rb_dp (mm_k1 g 2 h M0 (some (.int (F_body ms (nI p) u m c).1)) (F_body ms (nI p) u m c).2) d ∧ (vp_in x (mm_l 10) ∧ vp_in x (mm_l 11) ∧ (mm_k1 g 2 h M0 (some (.int (F_body ms (nI p) u m c).1)) (F_body ms (nI p) u m c).2).2.2.1 (.returned (some (.int 1))) (mm_H h (mm_sI (mm_sI (mm_sI ms' 15 0 x) 10 x.toNatClampNeg 0) 11 x.toNatClampNeg c) M0))) ∧
      (0 < ms.1 24 0 → (mm_k1 g 2 h M0 (some (.int (F_body ms (nI p) u m c).1)) (F_body ms (nI p) u m c).2).2.2.1 (.returned (some (.int (-4)))) (mm_H h ms M0)) := by
    intro q
    refine ⟨fun h5 => ⟨_, _, _, X4_bodyOf, rb_dpk (by decide), ?_, ?_, ?_⟩, fun h5 => mmF (by rw [F_body, if_neg (hbad q), if_pos h5])⟩
    · rw [eb]; exact vp_in_nI (N := 601) (by omega) (by decide)
    · rw [eb]; exact vp_in_nI (N := 601) (by omega) (by decide)
    · exact mmF (by rw [F_body, if_neg (hbad q), if_neg (Int32.not_lt.mpr h5)]; rfl)
  refine sgX4_body_0 ⟨_, _, _, X4_isPart, rb_dpk (by decide), fun h4 => absurd hh1 (pIn0.mp h4), fun _ => ⟨_, _, _, X4_inC, rb_dpk (by decide), fun h5 => absurd h2 (pIn0.mp h5), fun _ => ⟨fun h6 => ⟨fun h7 => fin (fun q => q.1 h7), fun h7 => ⟨_, _, _, X4_inC, rb_dpk (by decide), fun h8 => fin (fun q => by rw [pIn0] at h8; exact h8 q.2), fun h8 => ?_⟩⟩, fun h6 => ⟨_, _, _, X4_isMemberC, rb_dpk (by decide), fun h7 => absurd (h3' h6) (pIn0.mp h7), fun _ => ⟨fun h7 => fin (fun q => q.1 h7), fun h7 => ⟨_, _, _, X4_inC, rb_dpk (by decide), fun h8 => fin (fun q => by rw [pIn0] at h8; exact h8 q.2), fun h8 => ?_⟩⟩⟩⟩⟩⟩
  · rw [pIn0] at h8
    exact mmF (by rw [F_body, if_pos (Or.inr (Or.inr (Or.inr ⟨h7, h8⟩)))])
  · rw [pIn0] at h8
    exact mmF (by rw [F_body, if_pos (Or.inr (Or.inr (Or.inr ⟨h7, h8⟩)))])
def F_wish (ms : mm_S) (a m : Int32) : Int32 × mm_S :=
  if ¬ isP ms a ∨ ¬ isM m then (-1, ms) else if 0 < ms.1 24 0 then (-4, ms) else (1, mm_sI ms 6 (12 * nv a + nv m) 1)
theorem X4_wish {a m : Int32} (I : Inv B ms) : mm_C g yX4_wish wX4_wish 2 h M0 ms [.ref h, .int a, .int m] (some (.int (F_wish ms a m).1)) (F_wish ms a m).2 := by
  have hpn := I.pn
  refine rb_Ct.of (by decide) (Nat.le_of_ble_eq_true rfl) rfl ?_
  refine sgX4_wish_0 ⟨_, _, _, X4_isPart, rb_dpk (by decide), fun h1 => ?_, fun h1 => ⟨_, _, _, X4_isMemberC, rb_dpk (by decide), fun h2 => ⟨fun h3 => ?_, fun h3 => ?_⟩, fun h2 => ?_⟩⟩ <;> rw [pIn0] at *
  · exact mmF (by rw [F_wish, if_pos (Or.inl h1)])
  · have hb : ¬ (¬ isP ms a ∨ ¬ isM m) := by rintro (q | q); exact h1 q; exact h2 q
    obtain ⟨p, hp, rfl⟩ := (isP_iff I.P).mp (Decidable.not_not.mp h1)
    obtain ⟨k, hk, rfl⟩ := isM_iff.mp (Decidable.not_not.mp h2)
    rw [ix12]
    refine ⟨vp_in_nI (N := 288) (by omega) (by decide), mmF ?_⟩
    rw [F_wish, if_neg hb, if_neg (Int32.not_lt.mpr h3), nI_clamp (by omega), nv_nI (by omega), nv_nI (by omega)]
  · exact mmF (by rw [F_wish, if_neg (by rintro (q | q); exact h1 q; exact h2 q), if_pos h3])
  · exact mmF (by rw [F_wish, if_pos (Or.inr h2)])
def F_exclude (ms : mm_S) (a m : Int32) : Int32 × mm_S :=
  if ¬ isP ms a ∨ ¬ isM m then (-1, ms) else if ms.1 18 0 = 6 then (-2, ms) else (ms.1 18 0 + 1, mm_sI (mm_sI (mm_sI ms 19 (nN ms 18 0) a) 20 (nN ms 18 0) m) 18 0 (ms.1 18 0 + 1))
theorem X4_exclude {a m : Int32} (I : Inv B ms) : mm_C g yX4_exclude wX4_exclude 2 h M0 ms [.ref h, .int a, .int m] (some (.int (F_exclude ms a m).1)) (F_exclude ms a m).2 := by
  have hx := I.2.2.2.1.2.1
  have hn := hx.n (by decide)
  refine rb_Ct.of (by decide) (Nat.le_of_ble_eq_true rfl) rfl ?_
  refine sgX4_exclude_0 ⟨_, _, _, X4_isPart, rb_dpk (by decide), fun h1 => ?_, fun h1 => ⟨_, _, _, X4_isMemberC, rb_dpk (by decide), fun h2 => ⟨fun h3 => ?_, fun h3 => ?_⟩, fun h2 => ?_⟩⟩ <;> rw [pIn0] at *
  · exact mmF (by rw [F_exclude, if_pos (Or.inl h1)])
  · have hb : ¬ (¬ isP ms a ∨ ¬ isM m) := by rintro (q | q); exact h1 q; exact h2 q
    have hn6 : nN ms 18 0 ≠ 6 := fun q => h3 (by rw [hn.1, q]; rfl)
    have hv : vp_in (ms.1 18 0) 6 := by rw [hn.1]; exact vp_in_nI (by omega) (by decide)
    exact ⟨hv, hv, mmF (by rw [F_exclude, if_neg hb, if_neg h3])⟩
  · exact mmF (by rw [F_exclude, if_neg (by rintro (q | q); exact h1 q; exact h2 q), if_pos h3])
  · exact mmF (by rw [F_exclude, if_pos (Or.inr h2)])
def F_alias (ms : mm_S) (a p m : Int32) : Int32 × mm_S :=
  if ¬ (0 ≤ a ∧ a ≤ 3) ∨ ¬ isP ms p ∨ ¬ isM m then (-1, ms) else (1, mm_sI (mm_sI (mm_sI ms 23 (nv a) 1) 21 (nv a) p) 22 (nv a) m)
theorem X4_alias {a p m : Int32} : mm_C g yX4_alias wX4_alias 2 h M0 ms [.ref h, .int a, .int p, .int m] (some (.int (F_alias ms a p m).1)) (F_alias ms a p m).2 := by
  refine rb_Ct.of (by decide) (Nat.le_of_ble_eq_true rfl) rfl ?_
  refine sgX4_alias_0 ⟨_, _, _, X4_inC, rb_dpk (by decide), fun h1 => ?_, fun h1 => ⟨_, _, _, X4_isPart, rb_dpk (by decide), fun h2 => ?_, fun h2 => ⟨_, _, _, X4_isMemberC, rb_dpk (by decide), fun h3 => ?_, fun h3 => ?_⟩⟩⟩ <;> rw [pIn0] at *
  · exact mmF (by rw [F_alias, if_pos (Or.inl h1)])
  · exact mmF (by rw [F_alias, if_pos (Or.inr (Or.inl h2))])
  · obtain ⟨k, hk, rfl⟩ := (pIn_nat (b := 3) (by decide)).mp (Decidable.not_not.mp h1)
    have hv : vp_in (nI k) 4 := vp_in_nI (by omega) (by decide)
    exact ⟨hv, hv, hv, mmF (by rw [F_alias, if_neg (by rintro (q | q | q); exact h1 q; exact h2 q; exact h3 q)]; rfl)⟩
  · exact mmF (by rw [F_alias, if_pos (Or.inr (Or.inr h3))])
abbrev isNm (ms : mm_S) (a : Int32) : Prop := ∃ k, k < nN ms 16 0 ∧ ms.1 17 k = a
def F_name (ms : mm_S) (a : Int32) : Int32 × mm_S :=
  if ¬ isP ms a ∨ isNm ms a then (-1, ms) else if ms.1 16 0 = 8 then (-2, ms) else (ms.1 16 0 + 1, mm_sI (mm_sI ms 17 (nN ms 16 0) a) 16 0 (ms.1 16 0 + 1))
theorem X4_nameLoop {a : Int32} (hN : iB (ms.1 16 0) 8) : ∀ d j, j + d = nN ms 16 0 → ∀ r, zB r (∃ k, k < j ∧ ms.1 17 k = a) → rb_Bd (mm_k1 g 2 h M0 (some (.int (F_name ms a).1)) (F_name ms a).2) mX4_name (0, 0) (mm_H h ms M0) 4 [some (.ref h), some (.int a), some (.int r), some (.int (nI j))] [] := by
  have hn := hN.n (by decide)
  intro d
  induction d with
  | zero =>
    intro j hj r hr
    obtain rfl : j = nN ms 16 0 := by omega
    refine sgX4_name_4 ⟨fun _ => ⟨_, _, _, X4_isPart, rb_dpk (by decide), fun h1 => ?_, fun h1 => ⟨fun h2 => ⟨fun h3 => ?_, fun h3 => ?_⟩, fun h2 => ?_⟩⟩, fun h1 => ?_⟩
    · rw [pIn0] at h1
      exact mmF (by rw [F_name, if_pos (Or.inl h1)])
    · rw [pIn0] at h1
      have h2 := hr.f h2
      have hn8 : nN ms 16 0 ≠ 8 := fun q => h3 (by rw [hn.1, q]; rfl)
      refine ⟨?_, mmF (by rw [F_name, if_neg (by rintro (q | q); exact h1 q; exact h2 q), if_neg h3])⟩
      rw [hn.1]; exact vp_in_nI (N := 8) (by omega) (by decide)
    · rw [pIn0] at h1
      have h2 := hr.f h2
      exact mmF (by rw [F_name, if_neg (by rintro (q | q); exact h1 q; exact h2 q), if_pos h3])
    · exact mmF (by rw [F_name, if_pos (show _ ∨ isNm ms a from Or.inr (hr.t h2))])
    · rw [hn.1] at h1
      exact absurd h1 (nI_nlt (Nat.le_refl _) (by omega))
  | succ d ih =>
    intro j hj r hr
    refine sgX4_name_4 ⟨fun h1 => ?_, fun _ => ⟨fun h1 => ?_, fun h1 => ?_⟩⟩
    · rw [hn.1] at h1
      exact absurd h1 (nI_ge (by omega) (by omega))
    · rw [nI_1]
      obtain ⟨k, hk, hk'⟩ := hr.t h1
      exact ih (j + 1) (by omega) 1 (Or.inl ⟨rfl, k, by omega, hk'⟩)
    · have h1 := hr.f h1
      rw [nI_1, nI_clamp (by omega)]
      refine ⟨vp_in_nI (N := 8) (by omega) (by decide), fun h2 => ih (j + 1) (by omega) 0 (Or.inr ⟨rfl, ?_⟩), fun h2 => ih (j + 1) (by omega) 1 (Or.inl ⟨rfl, j, by omega, h2⟩)⟩
      rintro ⟨k, hk, hk'⟩
      rcases Nat.lt_or_ge k j with q | q
      · exact h1 ⟨k, q, hk'⟩
      · obtain rfl : k = j := by omega
        exact h2 hk'
theorem X4_name {a : Int32} (I : Inv B ms) : mm_C g yX4_name wX4_name 2 h M0 ms [.ref h, .int a] (some (.int (F_name ms a).1)) (F_name ms a).2 := by
  refine rb_Ct.of (by decide) (Nat.le_of_ble_eq_true rfl) rfl ?_
  exact sgX4_name_0 (X4_nameLoop I.2.2.2.1.1.1 (nN ms 16 0) 0 (by omega) 0 (Or.inr ⟨rfl, by rintro ⟨k, hk, -⟩; omega⟩))
end M6
