set_option maxRecDepth 100000
/-! which tags a cell refers to -/
def rA (ms : mm_S) (k i k' i' : Nat) : Prop :=
  if k = 0 then ((k' ∈ [1, 2, 20, 21, 22, 23, 53, 54, 59, 61, 62, 64, 65, 66, 67, 68, 72, 74, 75, 84] ∧ i' = 0) ∨ (k' = 8 ∧ ms.1 15 0 ≠ -9 ∧ i' = nN ms 15 0)) else
  if k = 4 then ((k' ∈ [24, 5, 6, 7] ∧ i' = i) ∨ (k' = 8 ∧ ms.1 10 (25 * i + 24) ≠ -9 ∧ i' = 25 * i + 24)) else
  if k = 5 then (k' = 8 ∧ ∃ m, m < 12 ∧ i' = 25 * i + m ∧ ms.1 10 (25 * i + m) ≠ -9) else
  if k = 6 then (k' = 8 ∧ ∃ m, m < 12 ∧ i' = 25 * i + 12 + m ∧ ms.1 10 (25 * i + 12 + m) ≠ -9) else
  if k = 8 then ((k' = 4 ∧ i' = i / 25) ∨ (k' = 25 ∧ i' = i)) else
  if k = 9 then (k' = 0 ∧ i' = 0) else
  if k = 10 then (k' ∈ [26, 27, 11, 12] ∧ i' = i) else
  if k = 11 then (k' = 8 ∧ ∃ a, a < 4 ∧ ms.1 30 (4 * i + a) ≠ -9 ∧ i' = nN ms 29 (48 * (12 * i + nN ms 30 (4 * i + a)) + nN ms 31 (4 * i + a))) else
  if k = 13 then ((k' = 10 ∧ i' = nN ms 41 i) ∨ (k' = 29 ∧ i' = i)) else
  if k = 14 then (k' ∈ [15, 16, 17, 18] ∧ i' = i) else
  if k = 18 then (k' = 13 ∧ ∃ j, j < 2 ∧ ms.1 45 (2 * i + j) ≠ -9 ∧ i' = nN ms 45 (2 * i + j)) else
  if k = 19 then (1 ≤ i ∧ i ≤ nN ms 50 0 ∧ ((k' = 13 ∧ ms.1 52 (i - 1) ≠ 100 ∧ i' = nN ms 52 (i - 1)) ∨ (k' = 14 ∧ i' = 24 * nN ms 52 (i - 1) + nN ms 53 (i - 1)) ∨ (k' = 28 ∧ ms.1 52 (i - 1) ≠ 100 ∧ i' = 12 * nN ms 41 (nN ms 52 (i - 1)) + nN ms 54 (i - 1)) ∨ (k' = 8 ∧ i' = nN ms 51 (i - 1)))) else
  False
def rB (ms : mm_S) (k i k' i' : Nat) : Prop :=
  if k = 72 then (k' = 19 ∧ i' < 41) else
  if k = 74 then (k' = 8 ∧ ∃ j, j < nN ms 68 0 ∧ i' = rbd ms j) else
  False
def rX (ms : mm_S) (k i k' i' : Nat) : Prop := if k < 20 then rA ms k i k' i' else if k < 30 then (k' = k + 10 ∧ i' = i) else if k < 40 then (∃ t, t < lenL ms (k - 30) i ∧ (k', i') = eltT ms (k - 30) i t) else rB ms k i k' i'
theorem ok0_ad {ms : mm_S} {ad ad' : aD} {h : Nat} {ms0 : mm_S} {i : Nat} {c : rb_E} (H : ∀ k' i', rX ms 0 i k' i' → ad' k' i' = ad k' i') (q : ok0 ms ad h ms0 i c) : ok0 ms ad' h ms0 i c := by
  obtain ⟨sg, rfl⟩ := q
  refine ⟨sg, ?_⟩
  have hl : laRf ms ad = laRf ms ad' := by
    unfold laRf
    by_cases e : ms.1 15 0 = -9
    · rw [if_pos e, if_pos e]
    · rw [if_neg e, if_neg e, H 8 _ (Or.inr ⟨rfl, e, rfl⟩)]
  have e1 : ad' 1 0 = ad 1 0 := H 1 0 (Or.inl ⟨by decide, rfl⟩)
  have e2 : ad' 2 0 = ad 2 0 := H 2 0 (Or.inl ⟨by decide, rfl⟩)
  have e20 : ad' 20 0 = ad 20 0 := H 20 0 (Or.inl ⟨by decide, rfl⟩)
  have e21 : ad' 21 0 = ad 21 0 := H 21 0 (Or.inl ⟨by decide, rfl⟩)
  have e22 : ad' 22 0 = ad 22 0 := H 22 0 (Or.inl ⟨by decide, rfl⟩)
  have e23 : ad' 23 0 = ad 23 0 := H 23 0 (Or.inl ⟨by decide, rfl⟩)
  have e53 : ad' 53 0 = ad 53 0 := H 53 0 (Or.inl ⟨by decide, rfl⟩)
  have e54 : ad' 54 0 = ad 54 0 := H 54 0 (Or.inl ⟨by decide, rfl⟩)
  have e59 : ad' 59 0 = ad 59 0 := H 59 0 (Or.inl ⟨by decide, rfl⟩)
  have e61 : ad' 61 0 = ad 61 0 := H 61 0 (Or.inl ⟨by decide, rfl⟩)
  have e62 : ad' 62 0 = ad 62 0 := H 62 0 (Or.inl ⟨by decide, rfl⟩)
  have e64 : ad' 64 0 = ad 64 0 := H 64 0 (Or.inl ⟨by decide, rfl⟩)
  have e65 : ad' 65 0 = ad 65 0 := H 65 0 (Or.inl ⟨by decide, rfl⟩)
  have e66 : ad' 66 0 = ad 66 0 := H 66 0 (Or.inl ⟨by decide, rfl⟩)
  have e67 : ad' 67 0 = ad 67 0 := H 67 0 (Or.inl ⟨by decide, rfl⟩)
  have e68 : ad' 68 0 = ad 68 0 := H 68 0 (Or.inl ⟨by decide, rfl⟩)
  have e72 : ad' 72 0 = ad 72 0 := H 72 0 (Or.inl ⟨by decide, rfl⟩)
  have e74 : ad' 74 0 = ad 74 0 := H 74 0 (Or.inl ⟨by decide, rfl⟩)
  have e75 : ad' 75 0 = ad 75 0 := H 75 0 (Or.inl ⟨by decide, rfl⟩)
  have e84 : ad' 84 0 = ad 84 0 := H 84 0 (Or.inl ⟨by decide, rfl⟩)
  simp only [mnFs, hl, e1, e2, e20, e21, e22, e23, e53, e54, e59, e61, e62, e64, e65, e66, e67, e68, e72, e74, e75, e84]
theorem ok4_ad {ms : mm_S} {ad ad' : aD} {h : Nat} {ms0 : mm_S} {i : Nat} {c : rb_E} (H : ∀ k' i', rX ms 4 i k' i' → ad' k' i' = ad k' i') (q : ok4 ms ad h ms0 i c) : ok4 ms ad' h ms0 i c := by
  have hb : ∀ b, (ms.1 10 b ≠ -9 → ad' 8 b = ad 8 b) → bRf ms ad b = bRf ms ad' b := by
      intro b hb
      unfold bRf
      by_cases e : ms.1 10 b = -9
      · rw [if_pos e, if_pos e]
      · rw [if_neg e, if_neg e, hb e]
  subst q
  have e24 : ad' 24 i = ad 24 i := H 24 i (Or.inl ⟨by decide, rfl⟩)
  have e5 : ad' 5 i = ad 5 i := H 5 i (Or.inl ⟨by decide, rfl⟩)
  have e6 : ad' 6 i = ad 6 i := H 6 i (Or.inl ⟨by decide, rfl⟩)
  have e7 : ad' 7 i = ad 7 i := H 7 i (Or.inl ⟨by decide, rfl⟩)
  show rb_O 5 _ = rb_O 5 _
  rw [hb (25 * i + 24) (fun e => H 8 _ (Or.inr ⟨rfl, e, rfl⟩)), e24, e5, e6, e7]
theorem ok5_ad {ms : mm_S} {ad ad' : aD} {h : Nat} {ms0 : mm_S} {i : Nat} {c : rb_E} (H : ∀ k' i', rX ms 5 i k' i' → ad' k' i' = ad k' i') (q : ok5 ms ad h ms0 i c) : ok5 ms ad' h ms0 i c := by
  have hb : ∀ b, (ms.1 10 b ≠ -9 → ad' 8 b = ad 8 b) → bRf ms ad b = bRf ms ad' b := by
      intro b hb
      unfold bRf
      by_cases e : ms.1 10 b = -9
      · rw [if_pos e, if_pos e]
      · rw [if_neg e, if_neg e, hb e]
  obtain ⟨f, rfl, hf⟩ := q
  exact ⟨f, rfl, fun m hm => (hf m hm).trans (hb _ (fun e => H 8 _ ⟨rfl, m, hm, rfl, e⟩))⟩
theorem ok6_ad {ms : mm_S} {ad ad' : aD} {h : Nat} {ms0 : mm_S} {i : Nat} {c : rb_E} (H : ∀ k' i', rX ms 6 i k' i' → ad' k' i' = ad k' i') (q : ok6 ms ad h ms0 i c) : ok6 ms ad' h ms0 i c := by
  have hb : ∀ b, (ms.1 10 b ≠ -9 → ad' 8 b = ad 8 b) → bRf ms ad b = bRf ms ad' b := by
      intro b hb
      unfold bRf
      by_cases e : ms.1 10 b = -9
      · rw [if_pos e, if_pos e]
      · rw [if_neg e, if_neg e, hb e]
  obtain ⟨f, rfl, hf⟩ := q
  exact ⟨f, rfl, fun m hm => (hf m hm).trans (hb _ (fun e => H 8 _ ⟨rfl, m, hm, rfl, e⟩))⟩
theorem ok8_ad {ms : mm_S} {ad ad' : aD} {h : Nat} {ms0 : mm_S} {i : Nat} {c : rb_E} (H : ∀ k' i', rX ms 8 i k' i' → ad' k' i' = ad k' i') (q : ok8 ms ad h ms0 i c) : ok8 ms ad' h ms0 i c := by
  subst q
  show rb_O 6 _ = rb_O 6 _
  rw [H 4 _ (Or.inl ⟨rfl, rfl⟩), H 25 i (Or.inr ⟨rfl, rfl⟩)]
theorem ok9_ad {ms : mm_S} {ad ad' : aD} {h : Nat} {ms0 : mm_S} {i : Nat} {c : rb_E} (H : ∀ k' i', rX ms 9 i k' i' → ad' k' i' = ad k' i') (q : ok9 ms ad h ms0 i c) : ok9 ms ad' h ms0 i c := by
  subst q
  show rb_O _ _ = rb_O _ _
  rw [H 0 0 ⟨rfl, rfl⟩]
theorem ok10_ad {ms : mm_S} {ad ad' : aD} {h : Nat} {ms0 : mm_S} {i : Nat} {c : rb_E} (H : ∀ k' i', rX ms 10 i k' i' → ad' k' i' = ad k' i') (q : ok10 ms ad h ms0 i c) : ok10 ms ad' h ms0 i c := by
  subst q
  have e26 : ad' 26 i = ad 26 i := H 26 i ⟨by decide, rfl⟩
  have e27 : ad' 27 i = ad 27 i := H 27 i ⟨by decide, rfl⟩
  have e11 : ad' 11 i = ad 11 i := H 11 i ⟨by decide, rfl⟩
  have e12 : ad' 12 i = ad 12 i := H 12 i ⟨by decide, rfl⟩
  show rb_O 27 _ = rb_O 27 _
  rw [e26, e27, e11, e12]
theorem ok11_ad {ms : mm_S} {ad ad' : aD} {h : Nat} {ms0 : mm_S} {i : Nat} {c : rb_E} (H : ∀ k' i', rX ms 11 i k' i' → ad' k' i' = ad k' i') (q : ok11 ms ad h ms0 i c) : ok11 ms ad' h ms0 i c := by
  obtain ⟨f, rfl, hf⟩ := q
  refine ⟨f, rfl, fun a ha => (hf a ha).trans ?_⟩
  unfold alRf
  by_cases e : ms.1 30 (4 * i + a) = -9
  · rw [if_pos e, if_pos e]
  · rw [if_neg e, if_neg e, H 8 _ ⟨rfl, a, ha, e, rfl⟩]
theorem ok13_ad {ms : mm_S} {ad ad' : aD} {h : Nat} {ms0 : mm_S} {i : Nat} {c : rb_E} (H : ∀ k' i', rX ms 13 i k' i' → ad' k' i' = ad k' i') (q : ok13 ms ad h ms0 i c) : ok13 ms ad' h ms0 i c := by
  subst q
  show rb_O 29 _ = rb_O 29 _
  rw [H 10 _ (Or.inl ⟨rfl, rfl⟩), H 29 i (Or.inr ⟨rfl, rfl⟩)]
theorem ok14_ad {ms : mm_S} {ad ad' : aD} {h : Nat} {ms0 : mm_S} {i : Nat} {c : rb_E} (H : ∀ k' i', rX ms 14 i k' i' → ad' k' i' = ad k' i') (q : ok14 ms ad h ms0 i c) : ok14 ms ad' h ms0 i c := by
  subst q
  have e15 : ad' 15 i = ad 15 i := H 15 i ⟨by decide, rfl⟩
  have e16 : ad' 16 i = ad 16 i := H 16 i ⟨by decide, rfl⟩
  have e17 : ad' 17 i = ad 17 i := H 17 i ⟨by decide, rfl⟩
  have e18 : ad' 18 i = ad 18 i := H 18 i ⟨by decide, rfl⟩
  show rb_O 28 _ = rb_O 28 _
  rw [e15, e16, e17, e18]
theorem ok18_ad {ms : mm_S} {ad ad' : aD} {h : Nat} {ms0 : mm_S} {i : Nat} {c : rb_E} (H : ∀ k' i', rX ms 18 i k' i' → ad' k' i' = ad k' i') (q : ok18 ms ad h ms0 i c) : ok18 ms ad' h ms0 i c := by
  obtain ⟨f, rfl, hf⟩ := q
  refine ⟨f, rfl, fun j hj => (hf j hj).trans ?_⟩
  unfold hoRf
  by_cases e : ms.1 45 (2 * i + j) = -9
  · rw [if_pos e, if_pos e]
  · rw [if_neg e, if_neg e, H 13 _ ⟨rfl, j, hj, e, rfl⟩]
theorem ok19_ad {ms : mm_S} {ad ad' : aD} {h : Nat} {ms0 : mm_S} {i : Nat} {c : rb_E} (H : ∀ k' i', rX ms 19 i k' i' → ad' k' i' = ad k' i') (q : ok19 ms ad h ms0 i c) : ok19 ms ad' h ms0 i c := by
  obtain ⟨fs, rfl, hf, hq⟩ := q
  refine ⟨fs, rfl, hf, fun h1 h2 => ?_⟩
  rw [hq h1 h2]
  unfold frFs
  rw [H 14 _ ⟨h1, h2, Or.inr (Or.inl ⟨rfl, rfl⟩)⟩, H 8 _ ⟨h1, h2, Or.inr (Or.inr (Or.inr ⟨rfl, rfl⟩))⟩]
  by_cases e : ms.1 52 (i - 1) = 100
  · simp only [e, if_true]
  · simp only [e, if_false]
    rw [H 13 _ ⟨h1, h2, Or.inl ⟨rfl, e, rfl⟩⟩, H 28 _ ⟨h1, h2, Or.inr (Or.inr (Or.inl ⟨rfl, e, rfl⟩))⟩]
theorem ok72_ad {ms : mm_S} {ad ad' : aD} {h : Nat} {ms0 : mm_S} {i : Nat} {c : rb_E} (H : ∀ k' i', rX ms 72 i k' i' → ad' k' i' = ad k' i') (q : ok72 ms ad h ms0 i c) : ok72 ms ad' h ms0 i c := by
  obtain ⟨f, rfl, hf⟩ := q
  exact ⟨f, rfl, fun k hk => by rw [hf k hk, H 19 k ⟨rfl, hk⟩]⟩
theorem ok74_ad {ms : mm_S} {ad ad' : aD} {h : Nat} {ms0 : mm_S} {i : Nat} {c : rb_E} (H : ∀ k' i', rX ms 74 i k' i' → ad' k' i' = ad k' i') (q : ok74 ms ad h ms0 i c) : ok74 ms ad' h ms0 i c := by
  obtain ⟨f, rfl, hf⟩ := q
  exact ⟨f, rfl, fun j hj => by rw [hf j hj, H 8 _ ⟨rfl, j, hj, rfl⟩]⟩
theorem okX_ad {ms : mm_S} {ad ad' : aD} {h : Nat} {ms0 : mm_S} (k : Nat) : ∀ (i : Nat) (c : rb_E), (∀ k' i', rX ms k i k' i' → ad' k' i' = ad k' i') → okX ms ad h ms0 k i c → okX ms ad' h ms0 k i c := by
  refine kinds (P := fun k => ∀ (i : Nat) (c : rb_E), (∀ k' i', rX ms k i k' i' → ad' k' i' = ad k' i') → okX ms ad h ms0 k i c → okX ms ad' h ms0 k i c) ?_ ?_ ?_ ?_ ?_ ?_ ?_ ?_ ?_ ?_ ?_ ?_ ?_ ?_ ?_ ?_ ?_ ?_ ?_ ?_ ?_ ?_ ?_ ?_ ?_ ?_ ?_ ?_ ?_ ?_ ?_ ?_ ?_ ?_ ?_ ?_ ?_ ?_ k
  · exact fun i c H q => ok0_ad (ad := ad) (ad' := ad') (h := h) (ms0 := ms0) (i := i) H q
  · intro i c H q
    show ok1 ms ad' h ms0 i c
    have q : ok1 ms ad h ms0 i c := q
    exact q
  · intro i c H q
    show ok2 ms ad' h ms0 i c
    have q : ok2 ms ad h ms0 i c := q
    exact q
  · exact fun i c H q => ok4_ad (ad := ad) (ad' := ad') (h := h) (ms0 := ms0) (i := i) H q
  · exact fun i c H q => ok5_ad (ad := ad) (ad' := ad') (h := h) (ms0 := ms0) (i := i) H q
  · exact fun i c H q => ok6_ad (ad := ad) (ad' := ad') (h := h) (ms0 := ms0) (i := i) H q
  · intro i c H q
    show ok7 ms ad' h ms0 i c
    have q : ok7 ms ad h ms0 i c := q
    exact q
  · exact fun i c H q => ok8_ad (ad := ad) (ad' := ad') (h := h) (ms0 := ms0) (i := i) H q
  · exact fun i c H q => ok9_ad (ad := ad) (ad' := ad') (h := h) (ms0 := ms0) (i := i) H q
  · exact fun i c H q => ok10_ad (ad := ad) (ad' := ad') (h := h) (ms0 := ms0) (i := i) H q
  · exact fun i c H q => ok11_ad (ad := ad) (ad' := ad') (h := h) (ms0 := ms0) (i := i) H q
  · intro i c H q
    show ok12 ms ad' h ms0 i c
    have q : ok12 ms ad h ms0 i c := q
    exact q
  · exact fun i c H q => ok13_ad (ad := ad) (ad' := ad') (h := h) (ms0 := ms0) (i := i) H q
  · exact fun i c H q => ok14_ad (ad := ad) (ad' := ad') (h := h) (ms0 := ms0) (i := i) H q
  · intro i c H q
    show ok15 ms ad' h ms0 i c
    have q : ok15 ms ad h ms0 i c := q
    exact q
  · intro i c H q
    show ok16 ms ad' h ms0 i c
    have q : ok16 ms ad h ms0 i c := q
    exact q
  · intro i c H q
    show ok17 ms ad' h ms0 i c
    have q : ok17 ms ad h ms0 i c := q
    exact q
  · exact fun i c H q => ok18_ad (ad := ad) (ad' := ad') (h := h) (ms0 := ms0) (i := i) H q
  · exact fun i c H q => ok19_ad (ad := ad) (ad' := ad') (h := h) (ms0 := ms0) (i := i) H q
  · exact fun i c H q => False.elim q
  · intro l hl i c H q
    rw [ok20 l hl] at q ⊢
    obtain ⟨md, rfl⟩ := q
    refine ⟨md, ?_⟩
    rw [H (30 + l) i (by unfold rX; rw [if_neg (by omega), if_pos (by omega)]; exact ⟨by omega, rfl⟩)]
  · intro l hl i c H q
    rw [ok30 l hl] at q ⊢
    obtain ⟨cap, k1, k2, k3, rfl⟩ := q
    refine ⟨cap, k1, k2, k3, ?_⟩
    congr 4
    funext t
    by_cases ht : t < lenL ms l i
    · rw [if_pos ht, if_pos ht]
      have := H (eltT ms l i t).1 (eltT ms l i t).2 (by unfold rX; rw [if_neg (by omega), if_neg (by omega), if_pos (by omega), Nat.add_sub_cancel_left]; exact ⟨t, ht, rfl⟩)
      simp only [eltL, this]
    · rw [if_neg ht, if_neg ht]
  · intro i c H q
    show ok40 ms ad' h ms0 i c
    have q : ok40 ms ad h ms0 i c := q
    exact q
  · intro i c H q
    show ok53 ms ad' h ms0 i c
    have q : ok53 ms ad h ms0 i c := q
    exact q
  · intro i c H q
    show ok54 ms ad' h ms0 i c
    have q : ok54 ms ad h ms0 i c := q
    exact q
  · intro i c H q
    show ok59 ms ad' h ms0 i c
    have q : ok59 ms ad h ms0 i c := q
    exact q
  · intro i c H q
    show ok61 ms ad' h ms0 i c
    have q : ok61 ms ad h ms0 i c := q
    exact q
  · intro i c H q
    show ok62 ms ad' h ms0 i c
    have q : ok62 ms ad h ms0 i c := q
    exact q
  · intro i c H q
    show ok64 ms ad' h ms0 i c
    have q : ok64 ms ad h ms0 i c := q
    exact q
  · intro i c H q
    show ok65 ms ad' h ms0 i c
    have q : ok65 ms ad h ms0 i c := q
    exact q
  · intro i c H q
    show ok66 ms ad' h ms0 i c
    have q : ok66 ms ad h ms0 i c := q
    exact q
  · intro i c H q
    show ok67 ms ad' h ms0 i c
    have q : ok67 ms ad h ms0 i c := q
    exact q
  · intro i c H q
    show ok68 ms ad' h ms0 i c
    have q : ok68 ms ad h ms0 i c := q
    exact q
  · exact fun i c H q => ok72_ad (ad := ad) (ad' := ad') (h := h) (ms0 := ms0) (i := i) H q
  · exact fun i c H q => ok74_ad (ad := ad) (ad' := ad') (h := h) (ms0 := ms0) (i := i) H q
  · intro i c H q
    show ok75 ms ad' h ms0 i c
    have q : ok75 ms ad h ms0 i c := q
    exact q
  · intro i c H q
    show ok84 ms ad' h ms0 i c
    have q : ok84 ms ad h ms0 i c := q
    exact q
  · intro k hk e40 e53 e54 e59 e61 e62 e64 e65 e66 e67 e68 e72 e74 e75 e84 i c H q
    exfalso
    unfold okX okB at q
    rw [if_neg (by omega), if_neg (by omega), if_neg (by omega), if_neg e40, if_neg e53, if_neg e54, if_neg e59, if_neg e61, if_neg e62, if_neg e64, if_neg e65, if_neg e66, if_neg e67, if_neg e68, if_neg e72, if_neg e74, if_neg e75, if_neg e84] at q
    exact q
theorem dX_not (Fs Ks : List Nat) (hd : (List.range 85).all (fun k => Ks.contains k || Fs.all (fun F => !(dX k).contains F)) = true) : ∀ k, k ∉ Ks → ∀ F, F ∈ dX k → F ∉ Fs := by
  intro k hk F hF hF2
  rcases Nat.lt_or_ge k 85 with h | h
  · have := List.all_eq_true.mp hd k (List.mem_range.mpr h)
    simp only [Bool.or_eq_true, List.contains_iff_mem, List.all_eq_true] at this
    rcases this with q | q
    · exact hk q
    · have := q F hF2
      simp [hF] at this
  · rw [dX_big h] at hF
    cases hF
/-- a new picture: old tags where they were, new tags in new cells -/
theorem Rep.build {g : rb_G} {ms ms' : mm_S} {ad ad' : aD} {h : Nat} {ms0 : mm_S} {M M' : rb_H} (R : Rep g ms ad h ms0 M) (hw : rb_Wf g M) (new : Nat → Nat → Prop)
    (hold : ∀ k i, exX g ms' ad' k i → ¬ new k i → exX g ms ad k i ∧ ad' k i = ad k i)
    (hcell : ∀ k i, exX g ms ad k i → exX g ms' ad' k i → ¬ new k i → (M'.2 (ad k i) = M.2 (ad k i) ∧ (∀ F, F ∈ dX k → sameF ms ms' F) ∧ ∀ k' i', rX ms k i k' i' → ad' k' i' = ad k' i') ∨ ∃ c, M'.2 (ad k i) = some c ∧ okX ms' ad' h ms0 k i c)
    (hnew : ∀ k i, new k i → exX g ms' ad' k i → M.1 ≤ ad' k i ∧ ∃ c, M'.2 (ad' k i) = some c ∧ okX ms' ad' h ms0 k i c)
    (hninj : ∀ k i k' i', new k i → new k' i' → exX g ms' ad' k i → exX g ms' ad' k' i' → ad' k i = ad' k' i' → k = k' ∧ i = i')
    (hdc : ∀ l i, l < 10 → exL ms' l i → ad' (30 + l) i = rb_dc g → lenL ms' l i = 0) (h40 : ∀ j, j < 52 → ad' 40 j = h + j) : Rep g ms' ad' h ms0 M' := by
  refine ⟨fun k i hx => ?_, fun k i k' i' hx hx' e => ?_, hdc, h40⟩
  · by_cases hn : new k i
    · exact (hnew k i hn hx).2
    · obtain ⟨h1, h2⟩ := hold k i hx hn
      rcases hcell k i h1 hx hn with ⟨q1, q2, q3⟩ | ⟨c, q1, q2⟩
      · obtain ⟨c, r1, r2⟩ := R.1 k i h1
        refine ⟨c, by rw [h2, q1]; exact r1, ?_⟩
        have r3 := okX_ad k i c q3 r2
        refine okX_dep (g := g) k i c ?_ q2 r3
        have : exX g ms ad' k i ↔ exX g ms ad k i := by
          rcases Nat.lt_or_ge k 30 with hk | hk
          · unfold exX
            by_cases k20 : k < 20
            · rw [if_pos k20, if_pos k20]
            · rw [if_neg k20, if_neg k20, if_pos hk, if_pos hk]
          · rcases Nat.lt_or_ge k 40 with hk2 | hk2
            · unfold exX
              rw [if_neg (by omega), if_neg (by omega), if_pos hk2, if_neg (by omega), if_neg (by omega), if_pos hk2, h2]
            · unfold exX
              rw [if_neg (by omega), if_neg (by omega), if_neg (by omega), if_neg (by omega), if_neg (by omega), if_neg (by omega)]
        exact this.mpr h1
      · exact ⟨c, by rw [h2]; exact q1, q2⟩
  · by_cases hn : new k i
    · by_cases hn' : new k' i'
      · exact hninj k i k' i' hn hn' hx hx' e
      · obtain ⟨h1, h2⟩ := hold k' i' hx' hn'
        have := (hnew k i hn hx).1
        have := R.lt hw h1
        omega
    · obtain ⟨h1, h2⟩ := hold k i hx hn
      by_cases hn' : new k' i'
      · have := (hnew k' i' hn' hx').1
        have := R.lt hw h1
        omega
      · obtain ⟨h1', h2'⟩ := hold k' i' hx' hn'
        rw [h2, h2'] at e
        exact R.2.1 k i k' i' h1 h1' e
