set_option maxRecDepth 100000
def heapLe (g : rb_G) (a : Nat) : Prop := g.2.1.heap.size ≤ a
/-- only a list's own object refers to its array -/
theorem rX_30 {ms : mm_S} {l k i i' : Nat} (hl : l < 10) (hk : k ≠ 20 + l) : ¬ rX ms k i (30 + l) i' := by
  intro h
  unfold rX at h
  by_cases h1 : k < 20
  · rw [if_pos h1] at h
    unfold rA at h
    by_cases e0 : k = 0
    · rw [if_pos e0] at h
      rcases h with ⟨h, -⟩ | ⟨h, -⟩
      · simp at h; omega
      · omega
    rw [if_neg e0] at h
    by_cases e4 : k = 4
    · rw [if_pos e4] at h
      rcases h with ⟨h, -⟩ | ⟨h, -⟩
      · simp at h; omega
      · omega
    rw [if_neg e4] at h
    by_cases e5 : k = 5
    · rw [if_pos e5] at h
      have := h.1
      omega
    rw [if_neg e5] at h
    by_cases e6 : k = 6
    · rw [if_pos e6] at h
      have := h.1
      omega
    rw [if_neg e6] at h
    by_cases e8 : k = 8
    · rw [if_pos e8] at h
      rcases h with ⟨h, -⟩ | ⟨h, -⟩ <;> omega
    rw [if_neg e8] at h
    by_cases e9 : k = 9
    · rw [if_pos e9] at h
      omega
    rw [if_neg e9] at h
    by_cases e10 : k = 10
    · rw [if_pos e10] at h
      have h := h.1
      simp at h; omega
    rw [if_neg e10] at h
    by_cases e11 : k = 11
    · rw [if_pos e11] at h
      have := h.1
      omega
    rw [if_neg e11] at h
    by_cases e13 : k = 13
    · rw [if_pos e13] at h
      rcases h with ⟨h, -⟩ | ⟨h, -⟩ <;> omega
    rw [if_neg e13] at h
    by_cases e14 : k = 14
    · rw [if_pos e14] at h
      have h := h.1
      simp at h; omega
    rw [if_neg e14] at h
    by_cases e18 : k = 18
    · rw [if_pos e18] at h
      have := h.1
      omega
    rw [if_neg e18] at h
    by_cases e19 : k = 19
    · rw [if_pos e19] at h
      rcases h.2.2 with ⟨h, -⟩ | ⟨h, -⟩ | ⟨h, -⟩ | ⟨h, -⟩ <;> omega
    rw [if_neg e19] at h
    exact h
  rw [if_neg h1] at h
  by_cases h2 : k < 30
  · rw [if_pos h2] at h
    omega
  rw [if_neg h2] at h
  by_cases h3 : k < 40
  · rw [if_pos h3] at h
    obtain ⟨t, -, e⟩ := h
    have : (eltT ms (k - 30) i t).1 < 30 := by
      have : ∀ l, l < 10 → (eltT ms l i t).1 < 30 := l10 (nl rfl) (nl rfl) (nl rfl) (nl rfl) (nl rfl) (nl rfl) (nl rfl) (nl rfl) (nl rfl) (nl rfl)
      exact this _ (by omega)
    rw [← e] at this
    simp at this
    omega
  rw [if_neg h3] at h
  unfold rB at h
  by_cases e72 : k = 72
  · rw [if_pos e72] at h
    omega
  rw [if_neg e72] at h
  by_cases e74 : k = 74
  · rw [if_pos e74] at h
    have := h.1
    omega
  rw [if_neg e74] at h
  exact h
section C6
variable {g : rb_G} {ms ms' : mm_S} {ad : aD} {h : Nat} {ms0 : mm_S} {M M' : rb_H} {B : Nat}
/-- something is added to a list -/
theorem Rep.ladd (R : Rep g ms ad h ms0 M) (hw : rb_Wf g M) (l i : Nat) (hl : l < 10) (hx : exL ms l i) {y : Nat} (hA : LSad g M (ad (20 + l) i) (ad (30 + l) i) (lenL ms l i) (eltL ms ad l i) y M') (Fs : List Nat) (h1 : ∀ F, F ∉ Fs → sameF ms ms' F) (hD : ∀ k, k ≠ 20 + l → k ≠ 30 + l → ∀ F, F ∈ dX k → F ∉ Fs) (hE : ∀ k F, F ∈ eX k → F ∉ Fs)
    (hoth : ∀ j, j ≠ i → exL ms l j → lenL ms' l j = lenL ms l j ∧ ∀ t, t < lenL ms l j → eltT ms' l j t = eltT ms l j t) (hlen : lenL ms' l i = lenL ms l i + 1) (helt : ∀ t, t < lenL ms l i → eltT ms' l i t = eltT ms l i t) (hk : ∀ t, (eltT ms' l i t).1 < 30) (hy : ad (eltT ms' l i (lenL ms l i)).1 (eltT ms' l i (lenL ms l i)).2 = y) :
    ∃ ad', ad' 0 0 = ad 0 0 ∧ Rep g ms' ad' h ms0 M' := by
  obtain ⟨r', ⟨⟨md, hL1⟩, hL2⟩, hr', hot⟩ := hA
  have hL2 : ∃ cap, lenL ms l i + 1 ≤ cap ∧ 1 ≤ cap ∧ cap ≤ 200 ∧ M'.2 r' = some (rb_R 3 cap (fun t => if t < lenL ms l i + 1 then some (if t = lenL ms l i then y else eltL ms ad l i t) else none)) := by
    rcases hL2 with ⟨q, -⟩ | q
    · omega
    · exact q
  have hr0 : heapLe g r' := by
    rcases hr' with ⟨rfl, e, he⟩ | rfl
    · exact (hw.2.2 _ _ he).1
    · exact hw.1
  have hrd : r' ≠ rb_dc g := fun q => by
    have := hw.2.1
    rw [← q] at this
    exact absurd this (Nat.not_lt.mpr hr0)
  let ad' : aD := fun k j => if k = 30 + l ∧ j = i then r' else ad k j
  have ead : ∀ k j, ¬ (k = 30 + l ∧ j = i) → ad' k j = ad k j := fun k j q => if_neg q
  have eself : ad' (30 + l) i = r' := if_pos ⟨rfl, rfl⟩
  have hExL : ∀ j, exL ms' l j ↔ exL ms l j := fun j => exL_dep l hl j (fun F hF => h1 F (hE (20 + l) F (by rw [(dX20 l hl).2.2.1]; exact hF)))
  have hEx : ∀ k j, ¬ (k = 30 + l ∧ j = i) → (exX g ms' ad' k j ↔ exX g ms ad k j) := by
    intro k j hne
    have q1 : exX g ms' ad k j ↔ exX g ms ad k j := exX_dep k j (fun F hF => h1 F (hE k F hF))
    rw [← q1]
    unfold exX
    rw [ead k j hne]
  refine ⟨ad', ead 0 0 (by omega), R.build hw (fun k j => (k = 30 + l ∧ j = i) ∧ r' ≠ ad (30 + l) i) ?_ ?_ ?_ ?_ ?_ ?_⟩
  · intro k j hx' hn
    by_cases hkj : k = 30 + l ∧ j = i
    · obtain ⟨rfl, rfl⟩ := hkj
      have hrr : r' = ad (30 + l) j := Classical.not_not.mp fun q => hn ⟨⟨rfl, rfl⟩, q⟩
      rw [eself, ex30 l hl]
      exact ⟨⟨hx, by rw [← hrr]; exact hrd⟩, hrr⟩
    · exact ⟨(hEx k j hkj).mp hx', ead k j hkj⟩
  · intro k j hx1 hx' hn
    by_cases hkj : k = 30 + l ∧ j = i
    · obtain ⟨rfl, rfl⟩ := hkj
      have hrr : r' = ad (30 + l) j := Classical.not_not.mp fun q => hn ⟨⟨rfl, rfl⟩, q⟩
      obtain ⟨cap, q1, q2, q3, q4⟩ := hL2
      right
      refine ⟨_, by rw [← hrr]; exact q4, ?_⟩
      rw [ok30 l hl]
      refine ⟨cap, by omega, q2, q3, ?_⟩
      rw [hlen]
      congr 4
      funext t
      by_cases ht : t < lenL ms l j + 1
      · rw [if_pos ht, if_pos ht]
        congr 1
        by_cases ht2 : t = lenL ms l j
        · subst ht2
          rw [if_pos rfl]
          show y = ad' _ _
          rw [ead _ _ (by have := hk (lenL ms l j); omega), hy]
        · rw [if_neg ht2]
          show ad _ _ = ad' _ _
          rw [ead _ _ (by have := hk t; omega), helt t (by omega)]
      · rw [if_neg ht, if_neg ht]
    · by_cases hk2 : k = 20 + l ∧ j = i
      · obtain ⟨rfl, rfl⟩ := hk2
        right
        refine ⟨_, hL1, ?_⟩
        rw [ok20 l hl]
        refine ⟨md, ?_⟩
        rw [eself, hlen]
      · have hc : M'.2 (ad k j) = M.2 (ad k j) := by
          refine hot _ (R.ne hx1 (by rw [ex20 l hl]; exact hx) (by omega)) ?_
          rcases hr' with ⟨e, -⟩ | e
          · rw [e]
            by_cases hd : ad (30 + l) i = rb_dc g
            · exact absurd (e.trans hd) hrd
            · exact R.ne hx1 (by rw [ex30 l hl]; exact ⟨hx, hd⟩) (by omega)
          · rw [e]
            exact Nat.ne_of_lt (R.lt hw hx1)
        by_cases hk3 : k = 20 + l
        · subst hk3
          right
          obtain ⟨c, q1, q2⟩ := R.1 _ _ hx1
          refine ⟨c, by rw [hc]; exact q1, ?_⟩
          rw [ok20 l hl] at q2 ⊢
          rw [ex20 l hl] at hx1
          obtain ⟨md2, rfl⟩ := q2
          refine ⟨md2, ?_⟩
          rw [(hoth j (by omega) hx1).1, ead (30 + l) j (by omega)]
        · by_cases hk4 : k = 30 + l
          · subst hk4
            right
            obtain ⟨c, q1, q2⟩ := R.1 _ _ hx1
            refine ⟨c, by rw [hc]; exact q1, ?_⟩
            rw [ok30 l hl] at q2 ⊢
            rw [ex30 l hl] at hx1
            obtain ⟨e1, e2⟩ := hoth j (by omega) hx1.1
            obtain ⟨cap, k1, k2, k3, rfl⟩ := q2
            refine ⟨cap, by omega, k2, k3, ?_⟩
            rw [e1]
            congr 4
            funext t
            by_cases ht : t < lenL ms l j
            · rw [if_pos ht, if_pos ht]
              congr 1
              show ad _ _ = ad' _ _
              rw [e2 t ht, ead]
              rintro ⟨q, -⟩
              have : (eltT ms l j t).1 < 30 := by
                have : ∀ l, l < 10 → (eltT ms l j t).1 < 30 := l10 (nl rfl) (nl rfl) (nl rfl) (nl rfl) (nl rfl) (nl rfl) (nl rfl) (nl rfl) (nl rfl) (nl rfl)
                exact this l hl
              omega
            · rw [if_neg ht, if_neg ht]
          · left
            refine ⟨hc, fun F hF => h1 F (hD k hk3 hk4 F hF), fun k' i' hr => ead k' i' ?_⟩
            rintro ⟨rfl, rfl⟩
            exact absurd hr (rX_30 hl hk3)
  · intro k j hn hx'
    obtain ⟨⟨rfl, rfl⟩, hne⟩ := hn
    rw [eself]
    refine ⟨?_, ?_⟩
    · rcases hr' with ⟨e, -⟩ | e
      · exact absurd e hne
      · omega
    · obtain ⟨cap, q1, q2, q3, q4⟩ := hL2
      refine ⟨_, q4, ?_⟩
      rw [ok30 l hl]
      refine ⟨cap, by omega, q2, q3, ?_⟩
      rw [hlen]
      congr 4
      funext t
      by_cases ht : t < lenL ms l j + 1
      · rw [if_pos ht, if_pos ht]
        congr 1
        by_cases ht2 : t = lenL ms l j
        · subst ht2
          rw [if_pos rfl]
          show y = ad' _ _
          rw [ead _ _ (by have := hk (lenL ms l j); omega), hy]
        · rw [if_neg ht2]
          show ad _ _ = ad' _ _
          rw [ead _ _ (by have := hk t; omega), helt t (by omega)]
      · rw [if_neg ht, if_neg ht]
  · rintro k j k' j' ⟨⟨rfl, rfl⟩, -⟩ ⟨⟨rfl, rfl⟩, -⟩ _ _ _
    exact ⟨rfl, rfl⟩
  · intro l2 j hl2 hx2 hd
    by_cases hkj : l2 = l ∧ j = i
    · obtain ⟨rfl, rfl⟩ := hkj
      rw [eself] at hd
      exact absurd hd hrd
    · rw [ead _ _ (by omega)] at hd
      have hx3 : exL ms l2 j := (exL_dep l2 hl2 j (fun F hF => h1 F (hE (20 + l2) F (by rw [(dX20 l2 hl2).2.2.1]; exact hF)))).mp hx2
      have := R.2.2.1 l2 j hl2 hx3 hd
      by_cases hll : l2 = l
      · subst hll
        rw [(hoth j (by omega) hx3).1]
        exact this
      · rw [(lenL_dep l2 hl2 j (fun F hF => h1 F (hD (20 + l2) (by omega) (by omega) F (by rw [(dX20 l2 hl2).1]; exact hF)))).1]
        exact this
  · intro j hj
    rw [ead 40 j (by omega)]
    exact R.2.2.2 j hj
end C6
