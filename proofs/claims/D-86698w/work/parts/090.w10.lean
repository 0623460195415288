set_option maxRecDepth 100000
/-! weaving keeps Inv (2) -/
theorem rowL_n {ms : mm_S} {R : Nat} {l : List Nat} (h : rowL ms R l) (hn : l.length ≤ 24) : nN ms 25 R = l.length := by unfold nN; rw [h.1, nI_clamp (by omega)]
theorem rowC_n {ms : mm_S} {R : Nat} {l : List Nat} (h : rowC ms R l) (hn : l.length ≤ 48) : nN ms 28 R = l.length := by unfold nN; rw [h.1, nI_clamp (by omega)]
theorem rOk_new {ms m' : mm_S} {R : Nat} {l : List Nat} (hP : nN ms 0 0 ≤ 24) (hA : ∀ a, a < 4 → ms.1 23 a = 0 ∨ (ms.1 23 a = 1 ∧ ∃ p m, p < nN ms 0 0 ∧ m < 12 ∧ ms.1 21 a = nI p ∧ ms.1 22 a = nI m)) (h0 : m'.1 0 = ms.1 0) (h10 : m'.1 10 = ms.1 10) (hn : l.length ≤ 24) (hlt : ∀ p, p ∈ l → p < nN ms 0 0) (hnd : l.Nodup) (hL : rowL m' R l) (hC : ∀ m, m < 12 → rowC m' (12 * R + m) (chL ms m l)) (hRes : ∀ b, b < 4 → alRes ms (fun m => chL ms m l) R m' b) (h27 : ∀ p, p < 24 → p ∉ l → m'.1 27 (24 * R + p) = -9) (h27' : ∀ i, i < l.length → m'.1 27 (24 * R + l.getD i 0) = nI i ∧ m'.1 32 (24 * R + i) = 0) : rOk m' R := by
  have n0 : nN m' 0 0 = nN ms 0 0 := by unfold nN; rw [h0]
  have n25 := rowL_n hL hn
  have hl : ∀ i, i < l.length → l.getD i 0 < nN ms 0 0 := fun i hi => hlt _ (getD_mem l i hi)
  refine ⟨⟨l.length, hn, hL.1⟩, fun i hi => ?_, fun i j hi hj => ?_, fun p hp => ?_, fun m hm => ?_, fun a ha => ?_, fun i hi => ?_⟩
  · rw [n25] at hi
    rw [n0]
    exact ⟨_, hl i hi, hL.2 i hi⟩
  · rw [n25] at hj
    rw [hL.2 i (by omega), hL.2 j hj]
    intro e
    have h1 := hl i (by omega)
    have h2 := hl j hj
    have := getD_inj l hnd i j (by omega) hj ((nI_eq (by omega) (by omega)).mp e)
    omega
  · rw [n25]
    by_cases e : p ∈ l
    · obtain ⟨i, h1, h2⟩ := mem_getD l p e
      refine Or.inl ⟨i, h1, by rw [hL.2 i h1, h2], ?_⟩
      have := (h27' i h1).1
      rw [h2] at this
      exact this
    · refine Or.inr ⟨fun i hi q => e ?_, h27 p hp e⟩
      rw [hL.2 i hi] at q
      have h1 := hl i hi
      rw [← (nI_eq (by omega) (by omega)).mp q]
      exact getD_mem l i hi
  · have hc := hC m hm
    have hlen := chL_len ms m l
    have n28 := rowC_n hc (by omega)
    rw [n28]
    have hb : ∀ t, t < (chL ms m l).length → (chL ms m l).getD t 0 < 600 := fun t ht => chL_lt hm l (fun p hp => by have := hlt p hp; omega) _ (getD_mem _ t ht)
    refine ⟨⟨_, by omega, hc.1⟩, fun t ht => ?_, fun s t hs ht => ?_⟩
    · obtain ⟨p, u, k1, k2, k3, k4⟩ := chL_mem l _ (getD_mem _ t ht)
      obtain ⟨i, i1, i2⟩ := mem_getD l p k1
      refine ⟨p, u, by rw [n0]; exact hlt p k1, k2, by rw [hc.2 t ht, k3], by rw [h10, ← k3]; exact k4, i, by rw [n25]; exact i1, by rw [hL.2 i i1, i2]⟩
    · rw [hc.2 s (by omega), hc.2 t ht]
      intro e
      have h1 := hb s (by omega)
      have h2 := hb t ht
      have := getD_inj _ (chL_nd hm l hnd) s t (by omega) ht ((nI_eq (by omega) (by omega)).mp e)
      omega
  · rcases hRes a ha with ⟨-, r⟩ | ⟨r1, r2, t, t1, -, t3⟩
    · exact Or.inl r
    · rcases hA a ha with q | ⟨-, p, m, q1, q2, q3, q4⟩
      · exact absurd q r1
      · have n22 : nN ms 22 a = m := by unfold nN; rw [q4, nI_clamp (by omega)]
        rw [n22] at t1
        have hlen := chL_len ms m l
        exact Or.inr ⟨m, t, q2, by rw [r2, q4], by rw [rowC_n (hC m q2) (by omega)]; exact t1, t3⟩
  · rw [n25] at hi
    rw [(h27' i hi).2]
    exact ⟨0, by decide, rfl⟩
theorem Inv.dr {B : Nat} {ms : mm_S} (I : Inv B ms) : Dr ms := ⟨I.1, I.2.1, I.2.2.2.1⟩
theorem Inv_weave {B : Nat} {ms m' : mm_S} {r : Int32} (I : Inv B ms) (hw : Wv ms r m') : Inv B (clr m') := by
  have hP := I.pn
  have hRn := I.rn
  rcases hw with ⟨-, -, rfl⟩ | ⟨-, -, -, rfl⟩ | ⟨e24, -, hlow, l, L', hl, hlen, hc⟩
  · exact Inv_wv I rfl .refl .refl (Or.inl hRn.1) I.2.2.2.2.1.2.2
  · exact Inv_wv I rfl .refl .refl (Or.inl hRn.1) I.2.2.2.2.1.2.2
  have hR24 : nN ms 24 0 < 24 := by
    rcases Nat.lt_or_ge (nN ms 24 0) 24 with r | r
    · exact r
    · have : nN ms 24 0 = 24 := by omega
      exact absurd (by rw [hRn.1, this]; rfl) e24
  obtain ⟨o1, o2, -, -, -⟩ := hl.out
  rcases hc with ⟨f, n, t, hRg, -, -, s, e34, -⟩ | ⟨-, hc⟩
  · refine Inv_wv I rfl (s.mono (by decide)) hlow (Or.inl (by rw [s.2 24 (by decide)]; exact hRn.1)) ⟨n - t, ?_, e34⟩
    have := hRg.2.1
    omega
  rcases hc with ⟨i, m, -, -, s, -, -⟩ | ⟨-, hc⟩
  · exact Inv_wv I rfl (s.mono (by decide)) hlow (Or.inl (by rw [s.2 24 (by decide)]; exact hRn.1)) (by rw [s.2 34 (by decide)]; exact I.2.2.2.2.1.2.2)
  rcases hc with ⟨b, -, -, -, -, s, -, -⟩ | ⟨-, s, h24, hL, hC, hA, h27, h27'⟩
  · exact Inv_wv I rfl (s.mono (by decide)) hlow (Or.inl (by rw [s.2 24 (by decide)]; exact hRn.1)) (by rw [s.2 34 (by decide)]; exact I.2.2.2.2.1.2.2)
  · refine Inv_wv I rfl (s.mono (by decide)) hlow (Or.inr ⟨hR24, h24, ?_⟩) (by rw [s.2 34 (by decide)]; exact I.2.2.2.2.1.2.2)
    exact rOk_new hP.2 I.2.2.2.1.2.2 (s.2 0 (by decide)) (s.2 10 (by decide)) hlen (fun p hp => (o1 p hp).1) o2 hL hC (fun b hb => (hA b hb).2) h27 h27'
