set_option maxRecDepth 100000
/-! weaving: what stands ahead of what -/
/-- the place of v among the first j of f, the last one found; -9: none -/
def at_ (f : Nat → Int32) (v : Int32) (j : Nat) (x : Int32) : Prop := (x = -9 ∧ ∀ i, i < j → f i ≠ v) ∨ ∃ i, i < j ∧ f i = v ∧ x = nI i
theorem at_0 {f : Nat → Int32} {v : Int32} : at_ f v 0 (-9) := Or.inl ⟨rfl, fun i hi => by omega⟩
theorem at_y {f : Nat → Int32} {v : Int32} {j : Nat} (e : f j = v) : at_ f v (j + 1) (nI j) := Or.inr ⟨j, by omega, e, rfl⟩
theorem at_n {f : Nat → Int32} {v : Int32} {j : Nat} {x : Int32} (e : ¬ f j = v) (h : at_ f v j x) : at_ f v (j + 1) x := by
  rcases h with ⟨h1, h2⟩ | ⟨i, h1, h2, h3⟩
  · refine Or.inl ⟨h1, fun i hi => ?_⟩
    rcases Nat.lt_or_ge i j with q | q
    · exact h2 i q
    · obtain rfl : i = j := by omega
      exact e
  · exact Or.inr ⟨i, by omega, h2, h3⟩
/-- v comes ahead of w among the first n of f -/
def bef (f : Nat → Int32) (n : Nat) (v w : Int32) : Prop := ∃ i j, i < j ∧ j < n ∧ f i = v ∧ f j = w
theorem at_no1 {f : Nat → Int32} {v w x : Int32} {n : Nat} (hx : at_ f v n x) (hn : n < 2 ^ 31) (h : x < 0) : ¬ bef f n v w := by
  rintro ⟨i, j, h1, h2, h3, h4⟩
  rcases hx with ⟨-, q⟩ | ⟨k, q1, q2, rfl⟩
  · exact q i (by omega) h3
  · exact nI_pos (by omega) h
theorem at_no2 {f : Nat → Int32} {v w y : Int32} {n : Nat} (hy : at_ f w n y) (hn : n < 2 ^ 31) (h : y < 0) : ¬ bef f n v w := by
  rintro ⟨i, j, h1, h2, h3, h4⟩
  rcases hy with ⟨-, q⟩ | ⟨k, q1, q2, rfl⟩
  · exact q j (by omega) h4
  · exact nI_pos (by omega) h
theorem at_iff {f : Nat → Int32} {v w x y : Int32} {n : Nat} (hd : ∀ i j, i < j → j < n → f i ≠ f j) (hx : at_ f v n x) (hy : at_ f w n y) (hn : n < 2 ^ 31) (h1 : 0 ≤ x) (h2 : 0 ≤ y) : (x < y ↔ bef f n v w) := by
  rcases hx with ⟨rfl, -⟩ | ⟨i, q1, q2, rfl⟩
  · exact absurd h1 (by decide)
  rcases hy with ⟨rfl, -⟩ | ⟨j, r1, r2, rfl⟩
  · exact absurd h2 (by decide)
  rw [nI_ltI (by omega) (by omega)]
  have uniq : ∀ a b, a < n → b < n → f a = f b → a = b := by
    intro a b ha hb e
    rcases Nat.lt_trichotomy a b with q | q | q
    · exact absurd e (hd a b q hb)
    · exact q
    · exact absurd e.symm (hd b a q ha)
  constructor
  · intro q
    exact ⟨i, j, q, r1, q2, r2⟩
  · rintro ⟨a, b, k1, k2, k3, k4⟩
    have e1 := uniq a i (by omega) q1 (by rw [k3, q2])
    have e2 := uniq b j k2 r1 (by rw [k4, r2])
    omega
def Dr (ms : mm_S) : Prop := IvP ms ∧ IvW ms ∧ IvD ms
theorem Dr.P {ms : mm_S} (D : Dr ms) : ms.1 0 0 = nI (nN ms 0 0) ∧ nN ms 0 0 ≤ 24 := D.1.1.n (by decide)
theorem Dr.N {ms : mm_S} (D : Dr ms) : ms.1 16 0 = nI (nN ms 16 0) ∧ nN ms 16 0 ≤ 8 := D.2.2.1.1.n (by decide)
theorem Dr.E {ms : mm_S} (D : Dr ms) {p : Nat} (hp : p < nN ms 0 0) : ms.1 4 p = nI (nN ms 4 p) ∧ nN ms 4 p ≤ 4 := (D.1.2.1 p hp).2.2.2.1.n (by decide)
def told (ms : mm_S) (x : Nat) (p q : Int32) : Prop := bef (fun k => ms.1 5 (4 * x + k)) (nN ms 4 x) p q
/-- p has to stand ahead of q, where I are those that are in -/
def Ah (ms : mm_S) (I : Nat → Prop) (p q : Nat) : Prop := (∃ k, k < nN ms 4 q ∧ ms.1 5 (4 * q + k) = nI p) ∨ (∃ x, x < nN ms 0 0 ∧ I x ∧ told ms x (nI p) (nI q)) ∨ bef (ms.1 17) (nN ms 16 0) (nI p) (nI q) ∨ (∃ w, w < nN ms 7 0 ∧ ms.1 8 w = nI p ∧ ms.1 9 w = nI q)
section W1
variable {g : rb_G} {M0 : rb_H} {h : Nat} {ms : mm_S} {B : Nat}
theorem X4_toldLoop {x : Nat} {p q : Int32} (D : Dr ms) (hx : x < nN ms 0 0) : ∀ d j, j + d = nN ms 4 x → ∀ a b, at_ (fun k => ms.1 5 (4 * x + k)) p j a → at_ (fun k => ms.1 5 (4 * x + k)) q j b → rb_Bd (mm_k1 g 0 h M0 (some (.int (bz (told ms x p q)))) ms) mX4_isToldBy (0, 0) (mm_H h ms M0) 11 [some (.ref h), some (.int (nI x)), some (.int p), some (.int q), some (.int a), some (.int b), some (.int (nI j))] [] := by
  have hP := D.P
  have hE := D.E hx
  have hdis := (D.1.2.1 x hx).2.2.2.2.2
  intro d
  induction d with
  | zero =>
    intro j hj a b ha hb
    obtain rfl : j = nN ms 4 x := by omega
    refine sgX4_isToldBy_11 ?_
    rw [nI_clamp (by omega), hE.1]
    refine ⟨vp_in_nI (N := 24) (by omega) (by decide), fun _ => ⟨fun h1 => rbz0 (at_no1 ha (by omega) h1), fun h1 => ⟨fun h2 => rbz0 (at_no2 hb (by omega) h2), fun h2 => ⟨fun h3 => rbz0 ?_, fun h3 => rbz1 ?_⟩⟩⟩, fun q => absurd q (nI_nlt (Nat.le_refl _) (by omega))⟩
    · exact fun q => absurd ((at_iff hdis ha hb (by omega) h1 h2).mpr q) (Int32.not_lt.mpr h3)
    · exact (at_iff hdis ha hb (by omega) h1 h2).mp h3
  | succ d ih =>
    intro j hj a b ha hb
    refine sgX4_isToldBy_11 ?_
    rw [nI_clamp (by omega), ix4, nI_1, nI_clamp (by omega)]
    have hv : vp_in (nI (4 * x + j)) (mm_l 5) := vp_in_nI (N := 96) (by omega) (by decide)
    refine ⟨vp_in_nI (N := 24) (by omega) (by decide), fun q => absurd q (by rw [hE.1]; exact nI_ge (by omega) (by omega)), fun _ => ⟨hv, fun h1 => ⟨hv, fun h2 => ?_, fun h2 => ?_⟩, fun h1 => ⟨hv, fun h2 => ?_, fun h2 => ?_⟩⟩⟩
    · exact ih (j + 1) (by omega) a b (at_n h1 ha) (at_n h2 hb)
    · exact ih (j + 1) (by omega) a _ (at_n h1 ha) (at_y h2)
    · exact ih (j + 1) (by omega) _ b (at_y h1) (at_n h2 hb)
    · exact ih (j + 1) (by omega) _ _ (at_y h1) (at_y h2)
theorem X4_isToldBy {x : Nat} {p q : Int32} (D : Dr ms) (hx : x < nN ms 0 0) : mm_C g yX4_isToldBy wX4_isToldBy 0 h M0 ms [.ref h, .int (nI x), .int p, .int q] (some (.int (bz (told ms x p q)))) ms := by
  refine rb_Ct.of (by decide) (Nat.le_of_ble_eq_true rfl) rfl ?_
  exact sgX4_isToldBy_0 (X4_toldLoop D hx (nN ms 4 x) 0 (by omega) _ _ at_0 at_0)
theorem bz_or1 {P Q : Prop} (h : bz P = 0) : bz (P ∨ Q) = bz Q := bz_c ⟨fun q => q.resolve_left (bz_0.mp h), Or.inr⟩
theorem bz_or2 {P Q : Prop} (h : ¬ bz P = 0) : bz (P ∨ Q) = 1 := bz_t (Or.inl (bz_1.mp h))
theorem X4_ahW {κ : rb_K} {p q : Nat} {a b : Int32} {R : Prop} (D : Dr ms) (hP : ∀ x, x = bz (R ∨ ∃ w, w < nN ms 7 0 ∧ ms.1 8 w = nI p ∧ ms.1 9 w = nI q) → κ.2.2.1 (.returned (some (.int x))) (mm_H h ms M0)) :
    ∀ d j, j + d = nN ms 7 0 → ∀ x, x = bz (R ∨ ∃ w, w < j ∧ ms.1 8 w = nI p ∧ ms.1 9 w = nI q) → rb_Bd κ mX4_isAhead (0, 0) (mm_H h ms M0) 152 [some (.ref h), some (.int (nI p)), some (.int (nI q)), some (.int x), some (.int a), some (.int b), some (.int (nI j))] [] := by
  have hW := D.2.1.1.n (by decide)
  intro d
  induction d with
  | zero =>
    intro j hj x hx
    obtain rfl : j = nN ms 7 0 := by omega
    refine sgX4_isAhead_152 ⟨fun _ => ⟨by rw [hx]; exact bz_nar, hP x hx⟩, fun q => absurd q (by rw [hW.1]; exact nI_nlt (Nat.le_refl _) (by omega))⟩
  | succ d ih =>
    intro j hj x hx
    have hmono : (R ∨ ∃ w, w < j ∧ ms.1 8 w = nI p ∧ ms.1 9 w = nI q) → (R ∨ ∃ w, w < j + 1 ∧ ms.1 8 w = nI p ∧ ms.1 9 w = nI q) := by
      rintro (q | ⟨w, h1, h2⟩)
      · exact Or.inl q
      · exact Or.inr ⟨w, by omega, h2⟩
    have hno : x = 0 → ¬ (ms.1 8 j = nI p ∧ ms.1 9 j = nI q) → (0 : Int32) = bz (R ∨ ∃ w, w < j + 1 ∧ ms.1 8 w = nI p ∧ ms.1 9 w = nI q) := by
      intro h0 hne
      rw [bz_f]
      rintro (q | ⟨w, h1, h2⟩)
      · exact (bz_0.mp (hx.symm.trans h0)) (Or.inl q)
      · rcases Nat.lt_or_ge w j with r | r
        · exact (bz_0.mp (hx.symm.trans h0)) (Or.inr ⟨w, r, h2⟩)
        · obtain rfl : w = j := by omega
          exact hne h2
    refine sgX4_isAhead_152 ⟨fun q => absurd q (by rw [hW.1]; exact nI_ge (by omega) (by omega)), fun _ => ⟨fun h1 => ?_, fun h1 => ?_⟩⟩
    · rw [nI_1]
      refine ih (j + 1) (by omega) 1 ?_
      rw [hx, bz_1] at h1
      rw [bz_t (hmono h1)]
    · rw [nI_1, nI_clamp (by omega)]
      have hv : vp_in (nI j) 30 := vp_in_nI (by omega) (by decide)
      refine ⟨hv, fun h2 => ih (j + 1) (by omega) 0 (hno h1 (fun q => h2 q.1)), fun h2 => ⟨hv, fun h3 => ih (j + 1) (by omega) 0 (hno h1 (fun q => h3 q.2)), fun h3 => ih (j + 1) (by omega) 1 ?_⟩⟩
      rw [bz_t (Or.inr ⟨j, by omega, h2, h3⟩)]
theorem X4_ahN {κ : rb_K} {p q : Nat} {R : Prop} {x : Int32} (D : Dr ms) (hx : x = bz R) (hP : ∀ a b y, y = bz (R ∨ bef (ms.1 17) (nN ms 16 0) (nI p) (nI q)) → rb_Bd κ mX4_isAhead (0, 0) (mm_H h ms M0) 152 [some (.ref h), some (.int (nI p)), some (.int (nI q)), some (.int y), some (.int a), some (.int b), some (.int 0)] []) :
    ∀ d j, j + d = nN ms 16 0 → ∀ a b, at_ (ms.1 17) (nI p) j a → at_ (ms.1 17) (nI q) j b → rb_Bd κ mX4_isAhead (0, 0) (mm_H h ms M0) 67 [some (.ref h), some (.int (nI p)), some (.int (nI q)), some (.int x), some (.int a), some (.int b), some (.int (nI j))] [] := by
  have hN := D.N
  have hdis := D.2.2.1.2.2
  intro d
  induction d with
  | zero =>
    intro j hj a b ha hb
    obtain rfl : j = nN ms 16 0 := by omega
    refine sgX4_isAhead_67 ⟨fun _ => ⟨fun h1 => hP _ _ _ ?_, fun h1 => ⟨fun h2 => hP _ _ _ ?_, fun h2 => ⟨fun h3 => hP _ _ _ ?_, fun h3 => ⟨fun h4 => hP _ _ _ ?_, fun h4 => hP _ _ _ ?_⟩⟩⟩⟩, fun q => absurd q (by rw [hN.1]; exact nI_nlt (Nat.le_refl _) (by omega))⟩
    · rw [hx] at h1; rw [bz_or2 h1]
    · rw [hx] at h1; rw [bz_or1 h1, bz_f (at_no1 ha (by omega) h2)]
    · rw [hx] at h1; rw [bz_or1 h1, bz_f (at_no2 hb (by omega) h3)]
    · rw [hx] at h1; rw [bz_or1 h1, bz_f (fun q => absurd ((at_iff hdis ha hb (by omega) h2 h3).mpr q) (Int32.not_lt.mpr h4))]
    · rw [hx] at h1; rw [bz_or1 h1, bz_t ((at_iff hdis ha hb (by omega) h2 h3).mp h4)]
  | succ d ih =>
    intro j hj a b ha hb
    refine sgX4_isAhead_67 ⟨fun q => absurd q (by rw [hN.1]; exact nI_ge (by omega) (by omega)), fun _ => ?_⟩
    rw [nI_1, nI_clamp (by omega)]
    have hv : vp_in (nI j) 8 := vp_in_nI (by omega) (by decide)
    refine ⟨hv, fun h1 => ⟨hv, fun h2 => ?_, fun h2 => ?_⟩, fun h1 => ⟨hv, fun h2 => ?_, fun h2 => ?_⟩⟩
    · exact ih (j + 1) (by omega) a b (at_n h1 ha) (at_n h2 hb)
    · exact ih (j + 1) (by omega) a _ (at_n h1 ha) (at_y h2)
    · exact ih (j + 1) (by omega) _ b (at_y h1) (at_n h2 hb)
    · exact ih (j + 1) (by omega) _ _ (at_y h1) (at_y h2)
theorem X4_ahP {κ : rb_K} {p q : Nat} {R : Prop} (D : Dr ms) (hd : rb_dp κ 0) (hP : ∀ y, y = bz (R ∨ ∃ x, x < nN ms 0 0 ∧ ms.1 37 x ≠ 0 ∧ told ms x (nI p) (nI q)) → rb_Bd κ mX4_isAhead (0, 0) (mm_H h ms M0) 67 [some (.ref h), some (.int (nI p)), some (.int (nI q)), some (.int y), some (.int (-9)), some (.int (-9)), some (.int 0)] []) :
    ∀ d j, j + d = nN ms 0 0 → ∀ y, y = bz (R ∨ ∃ x, x < j ∧ ms.1 37 x ≠ 0 ∧ told ms x (nI p) (nI q)) → rb_Bd κ mX4_isAhead (0, 0) (mm_H h ms M0) 10 [some (.ref h), some (.int (nI p)), some (.int (nI q)), some (.int y), some (.int (nI j)), none, none] [] := by
  have hPn := D.P
  intro d
  induction d with
  | zero =>
    intro j hj y hy
    obtain rfl : j = nN ms 0 0 := by omega
    exact sgX4_isAhead_10 ⟨fun _ => hP y hy, fun q => absurd q (by rw [hPn.1]; exact nI_nlt (Nat.le_refl _) (by omega))⟩
  | succ d ih =>
    intro j hj y hy
    have hno : y = 0 → ¬ (ms.1 37 j ≠ 0 ∧ told ms j (nI p) (nI q)) → (0 : Int32) = bz (R ∨ ∃ x, x < j + 1 ∧ ms.1 37 x ≠ 0 ∧ told ms x (nI p) (nI q)) := by
      intro h0 hne
      rw [bz_f]
      rintro (r | ⟨w, h1, h2⟩)
      · exact (bz_0.mp (hy.symm.trans h0)) (Or.inl r)
      · rcases Nat.lt_or_ge w j with r | r
        · exact (bz_0.mp (hy.symm.trans h0)) (Or.inr ⟨w, r, h2⟩)
        · obtain rfl : w = j := by omega
          exact hne h2
    refine sgX4_isAhead_10 ⟨fun q => absurd q (by rw [hPn.1]; exact nI_ge (by omega) (by omega)), fun _ => ⟨fun h1 => ?_, fun h1 => ?_⟩⟩
    · rw [nI_1]
      refine ih (j + 1) (by omega) 1 ?_
      rw [hy, bz_1] at h1
      rw [bz_t]
      rcases h1 with r | ⟨w, r1, r2⟩
      · exact Or.inl r
      · exact Or.inr ⟨w, by omega, r2⟩
    · rw [nI_1, nI_clamp (by omega)]
      refine ⟨vp_in_nI (N := 24) (by omega) (by decide), fun h2 => ih (j + 1) (by omega) 0 (hno h1 (fun r => r.1 h2)), fun h2 => ⟨_, _, _, X4_isToldBy D (by omega), hd, fun h3 => ih (j + 1) (by omega) 0 (hno h1 (fun r => (bz_0.mp h3) r.2)), fun h3 => ih (j + 1) (by omega) 1 ?_⟩⟩
      rw [bz_t (Or.inr ⟨j, by omega, h2, bz_1.mp h3⟩)]
theorem X4_isAhead {p q : Nat} (D : Dr ms) (hq : q < nN ms 0 0) : mm_C g yX4_isAhead wX4_isAhead 1 h M0 ms [.ref h, .int (nI p), .int (nI q)] (some (.int (bz (Ah ms (fun x => ms.1 37 x ≠ 0) p q)))) ms := by
  have hPn := D.P
  refine rb_Ct.of (by decide) (Nat.le_of_ble_eq_true rfl) rfl ?_
  obtain ⟨x, hx, hC⟩ := X4_isExtended (g := g) (M0 := M0) (h := h) (ms := ms) (p := q) (o := nI p) (by omega) ((D.1.2.1 q hq).2.2.2.1)
  have hx := bz_z hx
  refine sgX4_isAhead_0 ⟨_, _, _, hC, rb_dpk (by decide), ?_⟩
  refine X4_ahP (κ := mm_k1 g 1 h M0 (some (.int (bz (Ah ms (fun x => ms.1 37 x ≠ 0) p q)))) ms) (R := ∃ k, k < nN ms 4 q ∧ ms.1 5 (4 * q + k) = nI p) D (rb_dpk (by decide)) ?_ (nN ms 0 0) 0 (by omega) x ?_
  · intro y hy
    refine X4_ahN (κ := mm_k1 g 1 h M0 (some (.int (bz (Ah ms (fun x => ms.1 37 x ≠ 0) p q)))) ms) D hy ?_ (nN ms 16 0) 0 (by omega) _ _ at_0 at_0
    intro a b z hz
    refine X4_ahW (κ := mm_k1 g 1 h M0 (some (.int (bz (Ah ms (fun x => ms.1 37 x ≠ 0) p q)))) ms) (R := ((∃ k, k < nN ms 4 q ∧ ms.1 5 (4 * q + k) = nI p) ∨ ∃ x, x < nN ms 0 0 ∧ ms.1 37 x ≠ 0 ∧ told ms x (nI p) (nI q)) ∨ bef (ms.1 17) (nN ms 16 0) (nI p) (nI q)) D ?_ (nN ms 7 0) 0 (by omega) z ?_
    · intro w hw
      refine ⟨?_, rfl⟩
      rw [hw]
      congr 4
      refine propext ?_
      unfold Ah
      constructor
      · rintro (((r | r) | r) | r)
        · exact Or.inl r
        · exact Or.inr (Or.inl r)
        · exact Or.inr (Or.inr (Or.inl r))
        · exact Or.inr (Or.inr (Or.inr r))
      · rintro (r | r | r | r)
        · exact Or.inl (Or.inl (Or.inl r))
        · exact Or.inl (Or.inl (Or.inr r))
        · exact Or.inl (Or.inr r)
        · exact Or.inr r
    · rw [hz]
      refine bz_c ⟨Or.inl, fun r => r.resolve_right ?_⟩
      rintro ⟨w, hw, -⟩; omega
  · rw [hx]
    refine bz_c ⟨Or.inl, fun r => r.resolve_right ?_⟩
    rintro ⟨w, hw, -⟩; omega
/-- the least p below n of which Q holds; none -/
def isL (Q : Nat → Prop) (n : Nat) (x : Int32) : Prop := (x = -9 ∧ ∀ p, p < n → ¬ Q p) ∨ ∃ p, p < n ∧ Q p ∧ (∀ q, q < p → ¬ Q q) ∧ x = nI p
theorem isL_uniq {Q : Nat → Prop} {n : Nat} {x y : Int32} (hx : isL Q n x) (hy : isL Q n y) : x = y := by
  rcases hx with ⟨rfl, h1⟩ | ⟨p, h1, h2, h3, rfl⟩
  · rcases hy with ⟨rfl, -⟩ | ⟨q, k1, k2, -⟩
    · rfl
    · exact absurd k2 (h1 q k1)
  · rcases hy with ⟨rfl, k1⟩ | ⟨q, k1, k2, k3, rfl⟩
    · exact absurd h2 (k1 p h1)
    · rcases Nat.lt_trichotomy p q with r | r | r
      · exact absurd h2 (k3 p r)
      · rw [r]
      · exact absurd k2 (h3 q r)
theorem X4_leastLoop {q : Nat} {κ : rb_K} (D : Dr ms) (hq : q < nN ms 0 0) (hd : rb_dp κ 1) (hP : ∀ x, isL (fun p => ms.1 38 p ≠ 0 ∧ p ≠ q ∧ Ah ms (fun x => ms.1 37 x ≠ 0) p q) (nN ms 0 0) x → κ.2.2.1 (.returned (some (.int x))) (mm_H h ms M0)) :
    ∀ d j, j + d = nN ms 0 0 → (∀ p, p < j → ¬ (ms.1 38 p ≠ 0 ∧ p ≠ q ∧ Ah ms (fun x => ms.1 37 x ≠ 0) p q)) → rb_Bd κ mX4_leastAhead (0, 0) (mm_H h ms M0) 2 [some (.ref h), some (.int (nI q)), some (.int (nI j))] [] := by
  have hPn := D.P
  intro d
  induction d with
  | zero =>
    intro j hj hno
    obtain rfl : j = nN ms 0 0 := by omega
    exact sgX4_leastAhead_2 ⟨fun _ => hP _ (Or.inl ⟨rfl, hno⟩), fun r => absurd r (by rw [hPn.1]; exact nI_nlt (Nat.le_refl _) (by omega))⟩
  | succ d ih =>
    intro j hj hno
    have step : ¬ (ms.1 38 j ≠ 0 ∧ j ≠ q ∧ Ah ms (fun x => ms.1 37 x ≠ 0) j q) → rb_Bd κ mX4_leastAhead (0, 0) (mm_H h ms M0) 2 [some (.ref h), some (.int (nI q)), some (.int (nI (j + 1)))] [] := by
      intro hne
      refine ih (j + 1) (by omega) fun p hp => ?_
      rcases Nat.lt_or_ge p j with r | r
      · exact hno p r
      · obtain rfl : p = j := by omega
        exact hne
    refine sgX4_leastAhead_2 ⟨fun r => absurd r (by rw [hPn.1]; exact nI_ge (by omega) (by omega)), fun _ => ?_⟩
    rw [nI_1, nI_clamp (by omega)]
    refine ⟨vp_in_nI (N := 24) (by omega) (by decide), fun h1 => step (fun r => r.1 h1), fun h1 => ⟨fun h2 => step (fun r => r.2.1 ((nI_eq (by omega) (by omega)).mp h2)), fun h2 => ⟨_, _, _, X4_isAhead D hq, hd, fun h3 => step (fun r => (bz_0.mp h3) r.2.2), fun h3 => hP _ (Or.inr ⟨j, by omega, ⟨h1, fun r => h2 (by rw [r]), bz_1.mp h3⟩, hno, rfl⟩)⟩⟩⟩
theorem X4_leastAhead {q : Nat} {x : Int32} (D : Dr ms) (hq : q < nN ms 0 0) (hx : isL (fun p => ms.1 38 p ≠ 0 ∧ p ≠ q ∧ Ah ms (fun x => ms.1 37 x ≠ 0) p q) (nN ms 0 0) x) : mm_C g yX4_leastAhead wX4_leastAhead 2 h M0 ms [.ref h, .int (nI q)] (some (.int x)) ms := by
  refine rb_Ct.of (by decide) (Nat.le_of_ble_eq_true rfl) rfl ?_
  refine sgX4_leastAhead_0 (X4_leastLoop (κ := mm_k1 g 2 h M0 (some (.int x)) ms) D hq (rb_dpk (by decide)) ?_ (nN ms 0 0) 0 (by omega) (fun p hp => by omega))
  intro y hy
  exact ⟨by rw [isL_uniq hx hy], rfl⟩
theorem isL_ex (Q : Nat → Prop) (n : Nat) : ∃ x, isL Q n x := by
  have key : ∀ d j, j + d = n → (∀ p, p < j → ¬ Q p) → ∃ x, isL Q n x := by
    intro d
    induction d with
    | zero =>
      intro j hj hno
      obtain rfl : j = n := by omega
      exact ⟨-9, Or.inl ⟨rfl, hno⟩⟩
    | succ d ih =>
      intro j hj hno
      by_cases hq : Q j
      · exact ⟨nI j, Or.inr ⟨j, by omega, hq, hno, rfl⟩⟩
      · refine ih (j + 1) (by omega) fun p hp => ?_
        rcases Nat.lt_or_ge p j with r | r
        · exact hno p r
        · obtain rfl : p = j := by omega
          exact hq
  exact key n 0 (by omega) (fun p hp => by omega)
end W1
