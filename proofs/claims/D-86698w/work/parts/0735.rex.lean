set_option maxRecDepth 100000
section CR
variable {g : rb_G} {ms ms' : mm_S} {ad : aD} {B : Nat}
theorem Inv.nb (I : Inv B ms) {b : Nat} (hb : b < 600) (hb2 : ms.1 10 b ≠ -9) : b / 25 < nN ms 0 0 := by
  refine Nat.not_le.mp fun q => hb2 ?_
  have := (I.1.2.2 (b / 25) q (by omega)).2.2 (b % 25) (by omega)
  rw [show 25 * (b / 25) + b % 25 = b by omega] at this
  exact this
theorem Inv.st (I : Inv B ms) {s : Nat} (hs : stX ms s) : s / 24 < nN ms 40 0 ∧ s % 24 < nN ms 25 (nN ms 41 (s / 24)) ∧ stP ms s < nN ms 0 0 := by
  rcases hs with ⟨h1, h2⟩ | ⟨h1, h2, h3⟩
  · refine ⟨h1, h2, ?_⟩
    have hon := I.on
    have hpn := I.pn
    obtain ⟨p, hp, e⟩ := (I.role (I.ro h1).2).2.1 _ h2
    rw [stP, if_neg (by omega), nN, e, nI_clamp (by omega)]
    exact hp
  · exact absurd I.2.2.2.2.2.2.2.2 h2
theorem Inv.lb (I : Inv B ms) : ms.1 15 0 = -9 ∨ (nN ms 15 0 < 600 ∧ ms.1 15 0 = nI (nN ms 15 0) ∧ ms.1 10 (nN ms 15 0) ≠ -9) := by
  rcases I.2.2.1.2 with q | ⟨b, hb, e, h2⟩
  · exact Or.inl q
  · have : nN ms 15 0 = b := by rw [nN, e, nI_clamp (by omega)]
    rw [this]
    exact Or.inr ⟨hb, e, h2⟩
theorem Inv.rb (I : Inv B ms) {j : Nat} (hj : j < nN ms 68 0) : rbd ms j < 600 ∧ ms.1 10 (rbd ms j) ≠ -9 := by
  obtain ⟨b, hb, hb2, k1, k2, k3⟩ := I.2.2.2.2.2.2.1.2.2.2 j hj
  have hrb : rbd ms j = b := by
    have q1 : nN ms 69 j = b / 25 := by rw [nN, k1, nI_clamp (by omega)]
    rw [rbd, q1, k2]
    by_cases hu : b % 25 = 24
    · rw [buse, if_pos hu, if_pos rfl]; omega
    · have q3 : nN ms 71 j = b % 25 % 12 := by rw [nN, k3, bmem, if_neg hu, nI_clamp (by omega)]
      by_cases hg : b % 25 < 12
      · have q2 : nN ms 70 j = 0 := by rw [nN, k2, buse, if_neg hu, if_pos hg]; rfl
        rw [buse, if_neg hu, if_pos hg, if_neg (by decide), q2, q3]; omega
      · have q2 : nN ms 70 j = 1 := by rw [nN, k2, buse, if_neg hu, if_neg hg]; rfl
        rw [buse, if_neg hu, if_neg hg, if_neg (by decide), q2, q3]; omega
  rw [hrb]
  exact ⟨hb, hb2⟩
/-- what a cell refers to is there -/
theorem rX_ex (I : Inv B ms) {k i k' i' : Nat} : exX g ms ad k i → rX ms k i k' i' → exX g ms ad k' i' ∨ (k' = k + 10 ∧ 20 ≤ k ∧ k < 30 ∧ i' = i) := by
  have hpn := I.pn
  have hon := I.on
  have hrn := I.rn
  refine kinds (P := fun k => exX g ms ad k i → rX ms k i k' i' → exX g ms ad k' i' ∨ (k' = k + 10 ∧ 20 ≤ k ∧ k < 30 ∧ i' = i)) ?_ ?_ ?_ ?_ ?_ ?_ ?_ ?_ ?_ ?_ ?_ ?_ ?_ ?_ ?_ ?_ ?_ ?_ ?_ ?_ ?_ ?_ ?_ ?_ ?_ ?_ ?_ ?_ ?_ ?_ ?_ ?_ ?_ ?_ ?_ ?_ ?_ ?_ k
  · rintro - (⟨hk, rfl⟩ | ⟨rfl, h1, rfl⟩)
    · left
      simp only [List.mem_cons, List.not_mem_nil, or_false] at hk
      rcases hk with rfl | rfl | rfl | rfl | rfl | rfl | rfl | rfl | rfl | rfl | rfl | rfl | rfl | rfl | rfl | rfl | rfl | rfl | rfl | rfl <;> exact rfl
    · rcases I.lb with q | ⟨q1, -, q2⟩
      · exact absurd q h1
      · exact Or.inl ⟨q1, q2⟩
  · exact fun _ h => False.elim h
  · exact fun _ h => False.elim h
  · rintro hx (⟨hk, rfl⟩ | ⟨rfl, h1, rfl⟩)
    · have hx : i' < nN ms 0 0 := hx
      left
      simp only [List.mem_cons, List.not_mem_nil, or_false] at hk
      rcases hk with rfl | rfl | rfl | rfl <;> exact hx
    · have hx : i < nN ms 0 0 := hx
      exact Or.inl ⟨by omega, h1⟩
  · rintro hx ⟨rfl, m, hm, rfl, h1⟩
    have hx : i < nN ms 0 0 := hx
    exact Or.inl ⟨by omega, h1⟩
  · rintro hx ⟨rfl, m, hm, rfl, h1⟩
    have hx : i < nN ms 0 0 := hx
    exact Or.inl ⟨by omega, h1⟩
  · exact fun _ h => False.elim h
  · rintro hx (⟨rfl, rfl⟩ | ⟨rfl, rfl⟩)
    · exact Or.inl (I.nb hx.1 hx.2)
    · exact Or.inl hx
  · rintro hx ⟨rfl, rfl⟩
    exact Or.inl rfl
  · rintro hx ⟨hk, rfl⟩
    have hx : i' < nN ms 24 0 := hx
    left
    simp only [List.mem_cons, List.not_mem_nil, or_false] at hk
    rcases hk with rfl | rfl | rfl | rfl <;> exact hx
  · rintro hx ⟨rfl, a, ha, h1, rfl⟩
    have hx : i < nN ms 24 0 := hx
    rcases (I.role hx).2.2.2.2.2.1 a ha with q | ⟨m, t, hm, e1, ht, e2⟩
    · exact absurd q h1
    · have e3 : nN ms 30 (4 * i + a) = m := by rw [nN, e1, nI_clamp (by omega)]
      obtain ⟨⟨q1, q2⟩, q3⟩ := I.ch hx hm
      have e4 : nN ms 31 (4 * i + a) = t := by rw [nN, e2, nI_clamp (by omega)]
      rw [e3, e4]
      exact Or.inl ⟨(q3 t ht).2.1, (q3 t ht).2.2.1⟩
  · exact fun _ h => False.elim h
  · rintro hx (⟨rfl, rfl⟩ | ⟨rfl, rfl⟩)
    · exact Or.inl (I.ro hx).2
    · exact Or.inl hx
  · rintro hx ⟨hk, rfl⟩
    have hx : stX ms i' := hx
    left
    simp only [List.mem_cons, List.not_mem_nil, or_false] at hk
    rcases hk with rfl | rfl | rfl | rfl <;> exact hx
  · exact fun _ h => False.elim h
  · exact fun _ h => False.elim h
  · exact fun _ h => False.elim h
  · rintro hx ⟨rfl, j, hj, h1, rfl⟩
    obtain ⟨q1, q2, -⟩ := I.st hx
    have := (I.2.2.2.2.2.1.2.2 (i / 24) (i % 24) j q1 q2 hj).2
    rw [show 24 * (i / 24) + i % 24 = i by omega] at this
    rcases this with q | ⟨z, hz, e⟩
    · exact absurd q h1
    · left
      show nN ms 45 (2 * i + j) < nN ms 40 0
      rw [nN, e, nI_clamp (by omega)]
      exact hz
  · rintro hx ⟨h1, h2, -⟩
    have : nN ms 50 0 = 0 := by rw [nN, I.2.2.2.2.2.2.2.2]; rfl
    omega
  · exact fun h => False.elim h
  · intro l hl hx h
    unfold rX at h
    rw [if_neg (by omega), if_pos (by omega)] at h
    exact Or.inr ⟨h.1, by omega, by omega, h.2⟩
  · intro l hl hx h
    unfold rX at h
    rw [if_neg (by omega), if_neg (by omega), if_pos (by omega), Nat.add_sub_cancel_left] at h
    rw [ex30 l hl] at hx
    obtain ⟨hx, -⟩ := hx
    obtain ⟨t, ht, e⟩ := h
    left
    have e1 : k' = (eltT ms l i t).1 := congrArg Prod.fst e
    have e2 : i' = (eltT ms l i t).2 := congrArg Prod.snd e
    rw [e1, e2]
    clear e e1 e2
    revert hx ht
    revert l
    refine l10 ?_ ?_ ?_ ?_ ?_ ?_ ?_ ?_ ?_ ?_
    · exact fun _ ht => ht
    · exact fun _ ht => ht
    · exact fun _ ht => ht
    · intro _ ht
      obtain ⟨p, hp, e⟩ := I.2.2.2.1.1.2.1 t ht
      show nN ms 17 t < nN ms 0 0
      rw [nN, e, nI_clamp (by omega)]; exact hp
    · intro hx ht
      have hx : i < nN ms 0 0 := hx
      obtain ⟨p, hp, e⟩ := (I.1.2.1 i hx).2.2.2.2.1 t ht
      show nN ms 5 (4 * i + t) < nN ms 0 0
      rw [nN, e, nI_clamp (by omega)]; omega
    · intro hx ht
      have ht : t < nN ms 10 i := ht
      have hx : i < 600 ∧ ms.1 10 i ≠ -9 := hx
      have h10 : nN ms 10 i ≤ 10 := by
        rcases (I.2.2.1.1 i hx.1).1 with q | q
        · exact absurd q hx.2
        · exact (q.n (by decide)).2
      show (10 * i + t) / 10 < 600 ∧ ms.1 10 ((10 * i + t) / 10) ≠ -9 ∧ (10 * i + t) % 10 < nN ms 10 ((10 * i + t) / 10)
      rw [show (10 * i + t) / 10 = i by omega, show (10 * i + t) % 10 = t by omega]
      exact ⟨hx.1, hx.2, ht⟩
    · intro hx ht
      obtain ⟨p, hp, e⟩ := (I.role hx).2.1 t ht
      show nN ms 26 (24 * i + t) < nN ms 0 0
      rw [nN, e, nI_clamp (by omega)]; exact hp
    · intro hx ht
      have hx : i < nN ms 24 0 := hx
      have ht : t < 12 := ht
      show 12 * i + t < 12 * nN ms 24 0
      omega
    · intro hx ht
      have hx : i < 12 * nN ms 24 0 := hx
      have ht : t < nN ms 28 i := ht
      obtain ⟨-, q⟩ := I.ch (r := i / 12) (m := i % 12) (by omega) (by omega)
      rw [show 12 * (i / 12) + i % 12 = i by omega] at q
      exact ⟨(q t ht).2.1, (q t ht).2.2.1⟩
    · intro hx ht
      have hx : i < nN ms 40 0 := hx
      have ht : t < nN ms 25 (nN ms 41 i) := ht
      have := I.ln (I.ro hx).2
      left
      show (24 * i + t) / 24 < nN ms 40 0 ∧ (24 * i + t) % 24 < nN ms 25 (nN ms 41 ((24 * i + t) / 24))
      rw [show (24 * i + t) / 24 = i by omega, show (24 * i + t) % 24 = t by omega]
      exact ⟨hx, ht⟩
  · exact fun _ h => False.elim h
  · exact fun _ h => False.elim h
  · exact fun _ h => False.elim h
  · exact fun _ h => False.elim h
  · exact fun _ h => False.elim h
  · exact fun _ h => False.elim h
  · exact fun _ h => False.elim h
  · exact fun _ h => False.elim h
  · exact fun _ h => False.elim h
  · exact fun _ h => False.elim h
  · exact fun _ h => False.elim h
  · rintro hx ⟨rfl, h⟩
    exact Or.inl h
  · rintro hx ⟨rfl, j, hj, rfl⟩
    exact Or.inl (I.rb hj)
  · exact fun _ h => False.elim h
  · exact fun _ h => False.elim h
  · intro k hk e40 e53 e54 e59 e61 e62 e64 e65 e66 e67 e68 e72 e74 e75 e84 hx
    exact absurd hx (exX_no hk e40 e53 e54 e59 e61 e62 e64 e65 e66 e67 e68 e72 e74 e75 e84)
end CR
