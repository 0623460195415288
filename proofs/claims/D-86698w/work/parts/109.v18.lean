set_option maxRecDepth 100000
/-! weaving, the class's side: rows that no role has yet -/
def WF : List Nat := [25, 26, 27, 28, 29, 30, 31, 32, 37, 38, 39]
section V18
variable {g : rb_G} {ms m' ms0 : mm_S} {ad : aD} {h : Nat} {B : Nat} {M : rb_H}
theorem low.n25 {Q r : Nat} (hl : low Q ms m') (hr : r < Q) : nN m' 25 r = nN ms 25 r := by
  unfold nN
  rw [hl 25 r (by decide) (by decide) (by show r < 1 * Q; omega)]
theorem low.n26 {Q r i : Nat} (hl : low Q ms m') (hr : r < Q) (hi : i < 24) : nN m' 26 (24 * r + i) = nN ms 26 (24 * r + i) := by
  unfold nN
  rw [hl 26 _ (by decide) (by decide) (by show _ < 24 * Q; omega)]
theorem low.n28 {Q r : Nat} (hl : low Q ms m') (hr : r < 12 * Q) : nN m' 28 r = nN ms 28 r := by
  unfold nN
  rw [hl 28 r (by decide) (by decide) hr]
theorem low.n29 {Q r t : Nat} (hl : low Q ms m') (hr : r < 12 * Q) (ht : t < 48) : nN m' 29 (48 * r + t) = nN ms 29 (48 * r + t) := by
  unfold nN
  rw [hl 29 _ (by decide) (by decide) (by show _ < 576 * Q; omega)]
theorem Inv_low (I : Inv B ms) (s : sameX WF ms m') (hl : low (nN ms 24 0) ms m') : Inv B m' := by
  have hro := fun o ho => (I.ro (o := o) ho).2
  obtain ⟨p1, p2, p3, p4, p5, p6, p7, p8, p9⟩ := I
  have n24 : nN m' 24 0 = nN ms 24 0 := s.nn (by decide) 0
  have n40 : nN m' 40 0 = nN ms 40 0 := s.nn (by decide) 0
  refine ⟨?_, ?_, ?_, ?_, ⟨?_, ?_, ?_⟩, ?_, ?_, ?_, ?_⟩
  · unfold IvP nN
    rw [s.2 0 (by decide), s.2 1 (by decide), s.2 2 (by decide), s.2 3 (by decide), s.2 4 (by decide), s.2 5 (by decide), s.2 6 (by decide), s.2 10 (by decide)]
    exact p1
  · unfold IvW nN
    rw [s.2 0 (by decide), s.2 7 (by decide), s.2 8 (by decide), s.2 9 (by decide)]
    exact p2
  · have eA : aOk m' = aOk ms := by
      funext w p a b
      unfold aOk
      rw [s.2 1 (by decide), s.2 2 (by decide), s.2 3 (by decide)]
    unfold IvB nN
    rw [s.2 10 (by decide), s.2 11 (by decide), s.2 12 (by decide), s.2 13 (by decide), s.2 14 (by decide), s.2 15 (by decide), eA]
    exact p3
  · unfold IvD nN
    rw [s.2 0 (by decide), s.2 16 (by decide), s.2 17 (by decide), s.2 18 (by decide), s.2 21 (by decide), s.2 22 (by decide), s.2 23 (by decide)]
    exact p4
  · rw [s.2 24 (by decide)]; exact p5.1
  · intro r hr
    rw [n24] at hr
    exact rOk_low hl hr (s.2 0 (by decide)) (s.2 10 (by decide)) (p5.2.1 r hr)
  · rw [s.2 34 (by decide)]; exact p5.2.2
  · refine ⟨by rw [s.2 40 (by decide)]; exact p6.1, fun o ho => ?_, fun o i k ho hi hk => ?_⟩
    · rw [n40] at ho
      rw [n24, s.2 41 (by decide)]
      exact p6.2.1 o ho
    · rw [n40] at ho ⊢
      rw [s.nn (by decide) (k := 41), hl.n25 (hro o ho)] at hi
      rw [s.2 43 (by decide), s.2 45 (by decide)]
      exact p6.2.2 o i k ho hi hk
  · have n68 : nN m' 68 0 = nN ms 68 0 := s.nn (by decide) 0
    refine ⟨by rw [s.2 60 (by decide)]; exact p7.1, by rw [s.2 68 (by decide)]; exact p7.2.1, fun q => ?_, ?_⟩
    · rw [s.2 68 (by decide)]
      rw [s.2 24 (by decide)] at q
      exact p7.2.2.1 q
    · rw [n68, s.2 10 (by decide), s.2 69 (by decide), s.2 70 (by decide), s.2 71 (by decide)]
      exact p7.2.2.2
  · rw [s.2 47 (by decide)]; exact p8
  · rw [s.2 50 (by decide)]; exact p9
theorem stX_low (I : Inv B ms) (s : sameX WF ms m') (hl : low (nN ms 24 0) ms m') {t : Nat} : stX m' t ↔ stX ms t := by
  have n40 : nN m' 40 0 = nN ms 40 0 := s.nn (by decide) 0
  have n41 : ∀ o, nN m' 41 o = nN ms 41 o := fun o => s.nn (by decide) o
  unfold stX
  rw [n40, n41, s.2 50 (by decide), s.2 52 (by decide)]
  constructor
  · rintro (⟨h1, h2⟩ | q)
    · rw [hl.n25 (I.ro h1).2] at h2
      exact Or.inl ⟨h1, h2⟩
    · exact Or.inr q
  · rintro (⟨h1, h2⟩ | q)
    · rw [← hl.n25 (I.ro h1).2] at h2
      exact Or.inl ⟨h1, h2⟩
    · exact Or.inr q
theorem stP_low (I : Inv B ms) (s : sameX WF ms m') (hl : low (nN ms 24 0) ms m') {t : Nat} (hx : stX ms t) : stP m' t = stP ms t := by
  have n41 : ∀ o, nN m' 41 o = nN ms 41 o := fun o => s.nn (by decide) o
  have n51 : nN m' 51 0 = nN ms 51 0 := s.nn (by decide) 0
  unfold stP
  by_cases e : t = 2400
  · rw [if_pos e, if_pos e, n51]
  · rw [if_neg e, if_neg e, n41, hl.n26 (I.ro (I.st hx).1).2 (by omega)]
theorem len_low (I : Inv B ms) (s : sameX WF ms m') (hl : low (nN ms 24 0) ms m') (i : Nat) : ∀ l, l < 10 → exL ms l i → lenL m' l i = lenL ms l i ∧ ∀ t, t < lenL ms l i → eltT m' l i t = eltT ms l i t := by
  have n0 : ∀ i, nN m' 0 i = nN ms 0 i := fun i => s.nn (by decide) i
  have n4 : ∀ i, nN m' 4 i = nN ms 4 i := fun i => s.nn (by decide) i
  have n5 : ∀ i, nN m' 5 i = nN ms 5 i := fun i => s.nn (by decide) i
  have n10 : ∀ i, nN m' 10 i = nN ms 10 i := fun i => s.nn (by decide) i
  have n16 : ∀ i, nN m' 16 i = nN ms 16 i := fun i => s.nn (by decide) i
  have n17 : ∀ i, nN m' 17 i = nN ms 17 i := fun i => s.nn (by decide) i
  have n24 : ∀ i, nN m' 24 i = nN ms 24 i := fun i => s.nn (by decide) i
  have n40 : ∀ i, nN m' 40 i = nN ms 40 i := fun i => s.nn (by decide) i
  have n41 : ∀ i, nN m' 41 i = nN ms 41 i := fun i => s.nn (by decide) i
  refine l10 ?_ ?_ ?_ ?_ ?_ ?_ ?_ ?_ ?_ ?_ <;> intro hx <;> refine ⟨?_, fun t ht => ?_⟩ <;> simp only [lenL, eltT, exL] at *
  · exact n0 0
  · exact n24 0
  · exact n40 0
  · exact n16 0
  · rw [n17]
  · exact n4 i
  · rw [n5]
  · exact n10 i
  · exact hl.n25 hx
  · have hn := ((I.role hx).1.n (by decide)).2
    rw [hl.n26 hx (by omega)]
  · exact hl.n28 hx
  · have hn := (I.ch (r := i / 12) (m := i % 12) (by omega) (by omega)).1.2
    have e : 12 * (i / 12) + i % 12 = i := by omega
    rw [e] at hn
    rw [hl.n29 hx (by omega)]
  · rw [n41, hl.n25 (I.ro hx).2]
theorem okL_tr {l i : Nat} (e1 : lenL m' l i = lenL ms l i) {c : rb_E} (hc : okL ms ad l i c) : okL m' ad l i c := by
  obtain ⟨md, rfl⟩ := hc
  exact ⟨md, by rw [e1]⟩
theorem okE_tr {l i : Nat} (e1 : lenL m' l i = lenL ms l i) (e2 : ∀ t, t < lenL ms l i → eltT m' l i t = eltT ms l i t) {c : rb_E} (hc : okE ms ad l i c) : okE m' ad l i c := by
  obtain ⟨cap, h1, h2, h3, rfl⟩ := hc
  refine ⟨cap, by rw [e1]; exact h1, h2, h3, ?_⟩
  rw [e1]
  congr 4
  funext t
  by_cases ht : t < lenL ms l i
  · rw [if_pos ht, if_pos ht, eltL, eltL, e2 t ht]
  · rw [if_neg ht, if_neg ht]
theorem alRf_low (I : Inv B ms) (hl : low (nN ms 24 0) ms m') {r a : Nat} (hr : r < nN ms 24 0) (ha : a < 4) : alRf m' ad r a = alRf ms ad r a := by
  have e30 : m'.1 30 (4 * r + a) = ms.1 30 (4 * r + a) := hl 30 _ (by decide) (by decide) (by show _ < 4 * _; omega)
  have e31 : m'.1 31 (4 * r + a) = ms.1 31 (4 * r + a) := hl 31 _ (by decide) (by decide) (by show _ < 4 * _; omega)
  unfold alRf nN
  rw [e30, e31]
  rcases (I.role hr).2.2.2.2.2.1 a ha with q | ⟨m, t, hm, q1, ht, q2⟩
  · rw [if_pos q, if_pos q]
  · have hn := (I.ch hr hm).1.2
    rw [q1, q2, nI_clamp (by omega), nI_clamp (by omega), if_neg (n9_ne (by omega)), if_neg (n9_ne (by omega))]
    have := hl.n29 (r := 12 * r + m) (t := t) (by omega) (by omega)
    unfold nN at this
    rw [this]
theorem Rep.lowTo (R : Rep g ms ad h ms0 M) (I : Inv B ms) (s : sameX WF ms m') (hl : low (nN ms 24 0) ms m') : Rep g m' ad h ms0 M := by
  have hex : ∀ k i, exX g m' ad k i → exX g ms ad k i := by
    intro k i hx
    by_cases hk : k ∈ [14, 15, 16, 17, 18]
    · simp only [List.mem_cons, List.not_mem_nil, or_false] at hk
      rcases hk with rfl | rfl | rfl | rfl | rfl <;> exact (stX_low I s hl).mp hx
    · refine (exX_dep k i fun F hF => s.F F fun q => ?_).mp hx
      rcases Nat.lt_or_ge k 40 with hk40 | hk40
      · have key : ∀ k, k < 40 → k ∉ [14, 15, 16, 17, 18] → ∀ F, F ∈ eX k → F ∉ WF := by decide
        exact key k hk40 hk F hF q
      · unfold eX at hF
        rw [if_neg (by omega), if_neg (by omega), if_neg (by omega)] at hF
        cases hF
  refine ⟨fun k i hx => ?_, fun k i k' i' hx hx' => R.2.1 k i k' i' (hex k i hx) (hex k' i' hx'), fun l i hl10 hx hd => ?_, R.2.2.2⟩
  · have hx0 := hex k i hx
    obtain ⟨c, q1, q2⟩ := R.1 k i hx0
    refine ⟨c, q1, ?_⟩
    by_cases k2 : 20 ≤ k ∧ k < 30
    · obtain ⟨l, hl10, rfl⟩ : ∃ l, l < 10 ∧ k = 20 + l := ⟨k - 20, by omega, by omega⟩
      rw [ok20 l hl10] at q2 ⊢
      rw [ex20 l hl10] at hx0
      exact okL_tr (len_low I s hl i l hl10 hx0).1 q2
    by_cases k3 : 30 ≤ k ∧ k < 40
    · obtain ⟨l, hl10, rfl⟩ : ∃ l, l < 10 ∧ k = 30 + l := ⟨k - 30, by omega, by omega⟩
      rw [ok30 l hl10] at q2 ⊢
      rw [ex30 l hl10] at hx0
      have := len_low I s hl i l hl10 hx0.1
      exact okE_tr this.1 this.2 q2
    by_cases k11 : k = 11
    · subst k11
      have hi : i < nN ms 24 0 := hx0
      obtain ⟨f, rfl, hf⟩ := q2
      exact ⟨f, rfl, fun a ha => by rw [alRf_low I hl hi ha]; exact hf a ha⟩
    by_cases k12 : k = 12
    · subst k12
      have hi : i < nN ms 24 0 := hx0
      have hn := ((I.role hi).1.n (by decide)).2
      obtain ⟨f, rfl, hf⟩ := q2
      refine ⟨f, rfl, fun j hj => ?_⟩
      rw [hl.n25 hi] at hj
      rw [hl 32 _ (by decide) (by decide) (by show _ < 24 * _; omega)]
      exact hf j hj
    by_cases k15 : k = 15
    · subst k15
      have hs : stX ms i := hx0
      show ok15 m' ad h ms0 i c
      have q2 : ok15 ms ad h ms0 i c := q2
      unfold ok15 at q2 ⊢
      rw [stP_low I s hl hs, s.nn (by decide) (k := 1), s.1]
      exact q2
    by_cases k16 : k = 16
    · subst k16
      have hs : stX ms i := hx0
      show ok16 m' ad h ms0 i c
      have q2 : ok16 ms ad h ms0 i c := q2
      unfold ok16 at q2 ⊢
      rw [stP_low I s hl hs, s.nn (by decide) (k := 2), s.1, s.2 43 (by decide)]
      exact q2
    refine okX_dep (g := g) k i c hx0 (fun F hF => s.F F fun q => ?_) q2
    exact dX_not WF [11, 12, 15, 16, 20, 21, 22, 23, 24, 25, 26, 27, 28, 29, 30, 31, 32, 33, 34, 35, 36, 37, 38, 39] (by decide) k (by simp only [List.mem_cons, List.not_mem_nil, or_false]; omega) F hF q
  · have hx0 : exL ms l i := by
      rw [← ex20 (g := g) (ad := ad) l hl10] at hx ⊢
      exact hex _ _ hx
    rw [(len_low I s hl i l hl10 hx0).1]
    exact R.2.2.1 l i hl10 hx0 hd
end V18
