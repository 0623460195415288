set_option maxRecDepth 100000
/-! weaving keeps Inv -/
theorem mem_getD : ∀ (l : List Nat) (p : Nat), p ∈ l → ∃ i, i < l.length ∧ l.getD i 0 = p := by
  intro l
  induction l with
  | nil => intro p hp; exact (List.not_mem_nil hp).elim
  | cons q l ih =>
    intro p hp
    rcases List.mem_cons.mp hp with r | r
    · exact ⟨0, by rw [List.length_cons]; omega, r.symm⟩
    · obtain ⟨i, h1, h2⟩ := ih p r
      exact ⟨i + 1, by rw [List.length_cons]; omega, h2⟩
theorem chP_mem {ms : mm_S} {m p b : Nat} (h : b ∈ chP ms m p) : ∃ u, u < 2 ∧ b = 25 * p + (12 * u + m) ∧ ¬ ms.1 10 b = -9 := by
  unfold chP at h
  rcases List.mem_append.mp h with r | r
  · split at r
    · next c => have e := List.mem_singleton.mp r; exact ⟨0, by decide, e, by rw [e]; exact c.1⟩
    · exact (List.not_mem_nil r).elim
  · split at r
    · next c => have e := List.mem_singleton.mp r; exact ⟨1, by decide, e, by rw [e]; exact c⟩
    · exact (List.not_mem_nil r).elim
theorem chL_mem {ms : mm_S} {m : Nat} : ∀ (l : List Nat) (b : Nat), b ∈ chL ms m l → ∃ p u, p ∈ l ∧ u < 2 ∧ b = 25 * p + (12 * u + m) ∧ ¬ ms.1 10 b = -9 := by
  intro l
  induction l with
  | nil => intro b hb; exact (List.not_mem_nil hb).elim
  | cons p l ih =>
    intro b hb
    rcases List.mem_append.mp hb with r | r
    · obtain ⟨u, h1, h2, h3⟩ := chP_mem r
      exact ⟨p, u, List.mem_cons_self, h1, h2, h3⟩
    · obtain ⟨q, u, h1, h2⟩ := ih b r
      exact ⟨q, u, List.mem_cons_of_mem _ h1, h2⟩
theorem chP_nd {ms : mm_S} {m p : Nat} : (chP ms m p).Nodup := by
  unfold chP
  split <;> split <;> simp
theorem chL_nd {ms : mm_S} {m : Nat} (hm : m < 12) : ∀ l : List Nat, l.Nodup → (chL ms m l).Nodup := by
  intro l
  induction l with
  | nil => intro _; exact List.nodup_nil
  | cons p l ih =>
    intro h
    have h := List.nodup_cons.mp h
    refine List.nodup_append.mpr ⟨chP_nd, ih h.2, fun a ha b hb e => ?_⟩
    obtain ⟨u, h1, h2, -⟩ := chP_mem ha
    obtain ⟨q, v, k1, k2, k3, -⟩ := chL_mem l b hb
    have : p = q := by omega
    exact h.1 (this ▸ k1)
theorem rOk_low {R r : Nat} {ms m' : mm_S} (hl : low R ms m') (hr : r < R) (h0 : m'.1 0 = ms.1 0) (h10 : m'.1 10 = ms.1 10) (h : rOk ms r) : rOk m' r := by
  obtain ⟨a1, a2, a3, a4, a5, a6, a7⟩ := h
  have e25 : m'.1 25 r = ms.1 25 r := hl 25 r (by decide) (by decide) (by show r < 1 * R; omega)
  have n25 : nN m' 25 r = nN ms 25 r := by unfold nN; rw [e25]
  have n0 : nN m' 0 0 = nN ms 0 0 := by unfold nN; rw [h0]
  have e26 : ∀ i, i < 24 → m'.1 26 (24 * r + i) = ms.1 26 (24 * r + i) := fun i hi => hl 26 _ (by decide) (by decide) (by show _ < 24 * R; omega)
  have e27 : ∀ i, i < 24 → m'.1 27 (24 * r + i) = ms.1 27 (24 * r + i) := fun i hi => hl 27 _ (by decide) (by decide) (by show _ < 24 * R; omega)
  have e32 : ∀ i, i < 24 → m'.1 32 (24 * r + i) = ms.1 32 (24 * r + i) := fun i hi => hl 32 _ (by decide) (by decide) (by show _ < 24 * R; omega)
  have e28 : ∀ i, i < 12 → m'.1 28 (12 * r + i) = ms.1 28 (12 * r + i) := fun i hi => hl 28 _ (by decide) (by decide) (by show _ < 12 * R; omega)
  have n28 : ∀ i, i < 12 → nN m' 28 (12 * r + i) = nN ms 28 (12 * r + i) := fun i hi => by unfold nN; rw [e28 i hi]
  have e29 : ∀ i t, i < 12 → t < 48 → m'.1 29 (48 * (12 * r + i) + t) = ms.1 29 (48 * (12 * r + i) + t) := fun i t hi ht => hl 29 _ (by decide) (by decide) (by show _ < 576 * R; omega)
  have e30 : ∀ i, i < 4 → m'.1 30 (4 * r + i) = ms.1 30 (4 * r + i) := fun i hi => hl 30 _ (by decide) (by decide) (by show _ < 4 * R; omega)
  have e31 : ∀ i, i < 4 → m'.1 31 (4 * r + i) = ms.1 31 (4 * r + i) := fun i hi => hl 31 _ (by decide) (by decide) (by show _ < 4 * R; omega)
  have hn := (a1.n (by decide)).2
  refine ⟨by rw [e25]; exact a1, fun i hi => ?_, fun i j hi hj => ?_, fun p hp => ?_, fun m hm => ?_, fun a ha => ?_, fun i hi => ?_⟩
  · rw [n25] at hi
    rw [e26 i (by omega), n0]
    exact a2 i hi
  · rw [n25] at hj
    rw [e26 i (by omega), e26 j (by omega)]
    exact a3 i j hi hj
  · rw [n25, e27 p hp]
    rcases a4 p hp with ⟨i, k1, k2, k3⟩ | ⟨k1, k2⟩
    · exact Or.inl ⟨i, k1, by rw [e26 i (by omega)]; exact k2, k3⟩
    · exact Or.inr ⟨fun i hi => by rw [e26 i (by omega)]; exact k1 i hi, k2⟩
  · obtain ⟨b1, b2, b3⟩ := a5 m hm
    have hk := (b1.n (by decide)).2
    rw [e28 m hm, n28 m hm]
    refine ⟨b1, fun t ht => ?_, fun s t hs ht => ?_⟩
    · rw [e29 m t hm (by omega), n0, n25, h10]
      obtain ⟨p, u, z1, z2, z3, z4, i, z5, z6⟩ := b2 t ht
      exact ⟨p, u, z1, z2, z3, z4, i, z5, by rw [e26 i (by omega)]; exact z6⟩
    · rw [e29 m s hm (by omega), e29 m t hm (by omega)]
      exact b3 s t hs ht
  · rw [e30 a ha, e31 a ha]
    rcases a6 a ha with r | ⟨m, t, z1, z2, z3, z4⟩
    · exact Or.inl r
    · exact Or.inr ⟨m, t, z1, z2, by rw [n28 m z1]; exact z3, z4⟩
  · rw [n25] at hi
    rw [e32 i (by omega)]
    exact a7 i hi
theorem clr_same {m : mm_S} : sameX [16, 18, 23] m (clr m) := sameX.trans (sameX.trans (sameX.trans (sameX.trans (sameX.trans (.sI (by decide)) (.sI (by decide))) (.sI (by decide))) (.sI (by decide))) (.sI (by decide))) (.sI (by decide))
theorem clr16 {m : mm_S} : (clr m).1 16 0 = 0 := by
  unfold clr
  rw [mm_sI_ne (by decide), mm_sI_ne (by decide), mm_sI_ne (by decide), mm_sI_ne (by decide), mm_sI_ne (by decide), mm_sI_k, va_up_self]
theorem clr18 {m : mm_S} : (clr m).1 18 0 = 0 := by
  unfold clr
  rw [mm_sI_ne (by decide), mm_sI_ne (by decide), mm_sI_ne (by decide), mm_sI_ne (by decide), mm_sI_k, va_up_self]
theorem clr23 {m : mm_S} {a : Nat} (ha : a < 4) : (clr m).1 23 a = 0 := by
  have : a = 0 ∨ a = 1 ∨ a = 2 ∨ a = 3 := by omega
  rcases this with rfl | rfl | rfl | rfl <;> simp [clr, mm_sI, va_up]
/-- what Inv wants of a state after weaving -/
theorem Inv_wv {B R : Nat} {ms m' : mm_S} (h : Inv B ms) (hR : nN ms 24 0 = R) (hs : sameX [24, 25, 26, 27, 28, 29, 30, 31, 32, 33, 34, 35, 36, 37, 38, 39] ms m') (hl : low R ms m') (h24 : m'.1 24 0 = nI R ∨ (R < 24 ∧ m'.1 24 0 = nI (R + 1) ∧ rOk m' R)) (h34 : iB (m'.1 34 0) 24) : Inv B (clr m') := by
  obtain ⟨p1, p2, p3, p4, p5, p6, p7, p8, p9⟩ := h
  have hc := clr_same (m := m')
  have s : sameX [16, 18, 23, 24, 25, 26, 27, 28, 29, 30, 31, 32, 33, 34, 35, 36, 37, 38, 39] ms (clr m') := (hs.mono (by decide)).trans (hc.mono (by decide))
  have hRb := (p5.1.n (by decide))
  rw [hR] at hRb
  have n0 : nN (clr m') 0 0 = nN ms 0 0 := s.nn (by decide) 0
  have e24 : (clr m').1 24 = m'.1 24 := hc.2 24 (by decide)
  have n24 : nN (clr m') 24 0 = R ∨ (nN (clr m') 24 0 = R + 1 ∧ R < 24) := by
    unfold nN
    rw [e24]
    rcases h24 with r | ⟨r0, r, -⟩
    · rw [r, nI_clamp (by omega)]; exact Or.inl rfl
    · rw [r, nI_clamp (by omega)]; exact Or.inr ⟨rfl, r0⟩
  have hlow : low R ms (clr m') := hl.trans (low.same hc (by decide))
  refine ⟨?_, ?_, ?_, ?_, ⟨?_, ?_, ?_⟩, ?_, ?_, ?_, ?_⟩
  · unfold IvP nN
    rw [s.2 0 (by decide), s.2 1 (by decide), s.2 2 (by decide), s.2 3 (by decide), s.2 4 (by decide), s.2 5 (by decide), s.2 6 (by decide), s.2 10 (by decide)]
    exact p1
  · unfold IvW nN
    rw [s.2 0 (by decide), s.2 7 (by decide), s.2 8 (by decide), s.2 9 (by decide)]
    exact p2
  · have eA : aOk (clr m') = aOk ms := by
      funext w p a b
      unfold aOk
      rw [s.2 1 (by decide), s.2 2 (by decide), s.2 3 (by decide)]
    unfold IvB nN
    rw [s.2 10 (by decide), s.2 11 (by decide), s.2 12 (by decide), s.2 13 (by decide), s.2 14 (by decide), s.2 15 (by decide), eA]
    exact p3
  · have n16 : nN (clr m') 16 0 = 0 := by unfold nN; rw [clr16]; rfl
    refine ⟨⟨⟨0, by decide, clr16⟩, fun k hk => by rw [n16] at hk; omega, fun j k _ hk => by rw [n16] at hk; omega⟩, ⟨0, by decide, clr18⟩, fun a ha => Or.inl (clr23 ha)⟩
  · rw [e24]
    rcases h24 with r | ⟨r0, r, -⟩
    · exact ⟨R, by omega, r⟩
    · exact ⟨R + 1, by omega, r⟩
  · intro r hr
    rcases Nat.lt_or_ge r R with q | q
    · exact rOk_low hlow q (s.2 0 (by decide)) (s.2 10 (by decide)) (p5.2.1 r (by omega))
    · have hr' : r = R := by omega
      subst hr'
      rcases h24 with z | ⟨-, -, z⟩
      · rcases n24 with w | ⟨w, -⟩
        · omega
        · exfalso
          unfold nN at w
          rw [e24, z, nI_clamp (by omega)] at w
          omega
      · exact rOk_low (R := r + 1) (low.same hc (by decide)) (by omega) (hc.2 0 (by decide)) (hc.2 10 (by decide)) z
  · rw [hc.2 34 (by decide)]; exact h34
  · have n40 : nN (clr m') 40 0 = nN ms 40 0 := s.nn (by decide) 0
    refine ⟨by rw [s.2 40 (by decide)]; exact p6.1, fun o ho => ?_, fun o i k ho hi hk => ?_⟩
    · rw [n40] at ho
      obtain ⟨r, h1, h2⟩ := p6.2.1 o ho
      exact ⟨r, by omega, by rw [s.2 41 (by decide)]; exact h2⟩
    · rw [n40] at ho ⊢
      obtain ⟨r, h1, h2⟩ := p6.2.1 o ho
      have n41 : nN (clr m') 41 o = nN ms 41 o := s.nn (by decide) o
      have e41 : nN ms 41 o = r := by unfold nN; rw [h2, nI_clamp (by omega)]
      have e25 : nN (clr m') 25 (nN (clr m') 41 o) = nN ms 25 (nN ms 41 o) := by
        rw [n41, e41]
        unfold nN
        rw [hlow 25 r (by decide) (by decide) (by show r < 1 * R; omega)]
      rw [e25] at hi
      rw [s.2 43 (by decide), s.2 45 (by decide)]
      exact p6.2.2 o i k ho hi hk
  · have n68 : nN (clr m') 68 0 = nN ms 68 0 := s.nn (by decide) 0
    refine ⟨by rw [s.2 60 (by decide)]; exact p7.1, by rw [s.2 68 (by decide)]; exact p7.2.1, fun q => ?_, ?_⟩
    · rw [s.2 68 (by decide)]
      refine p7.2.2.1 ?_
      rw [e24] at q
      rcases h24 with r | ⟨r0, r, -⟩
      · rw [hRb.1, ← r]; exact q
      · rw [r] at q
        exact absurd q (nI_ne0 (by omega) (by omega))
    · rw [n68, s.2 10 (by decide), s.2 69 (by decide), s.2 70 (by decide), s.2 71 (by decide)]
      exact p7.2.2.2
  · rw [s.2 47 (by decide)]; exact p8
  · rw [s.2 50 (by decide)]; exact p9
