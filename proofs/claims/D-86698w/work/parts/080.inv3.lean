set_option maxRecDepth 100000
section I3
variable {ms ms' : mm_S} {B : Nat}
theorem Inv.r0 (I : Inv B ms) (h : ¬ 0 < ms.1 24 0) : nN ms 24 0 = 0 := by
  have e := I.rn
  refine Classical.not_not.mp fun q => h ?_
  rw [e.1]
  have := nI_lt (a := 0) (b := nN ms 24 0) (by omega) (by omega)
  rwa [nI_0] at this
theorem Inv.ran0 (I : Inv B ms) (h : nN ms 24 0 = 0) : ms.1 68 0 = 0 := I.2.2.2.2.2.2.1.2.2.1 (by rw [I.rn.1, h]; rfl)
theorem Inv_extend (I : Inv B ms) {a b : Int32} : Inv B (F_extend ms a b).2 := by
  have hpn := I.pn
  unfold F_extend
  split
  · exact I
  · rename_i hno
    split
    · exact I
    · rename_i h4
      split
      · exact I
      · have ha : isP ms a := Classical.not_not.mp fun q => hno (Or.inl q)
        have hb : 0 ≤ b ∧ b ≤ a - 1 := Classical.not_not.mp fun q => hno (Or.inr (Or.inl q))
        have hnx : ¬ isX ms (nv a) b := fun q => hno (Or.inr (Or.inr q))
        obtain ⟨p, hp, rfl⟩ := (isP_iff I.P).mp ha
        obtain ⟨o, ho, rfl⟩ := (pIn_pred (b := p) (by omega)).mp hb
        rw [nv_nI (by omega)] at h4 hnx ⊢
        obtain ⟨p1, p2, p3, p4, p5, p6, p7, p8, p9⟩ := I
        have hpt := p1.2.1 p hp
        have hw := hpt.2.2.2.1.n (by decide)
        have hn4 : nN ms 4 p ≠ 4 := fun q => h4 (by rw [hw.1, q]; rfl)
        generalize hms : mm_sI (mm_sI ms 5 (4 * p + nN ms 4 p) (nI o)) 4 p (ms.1 4 p + 1) = ms'
        show Inv B ms'
        have s4 : ms'.1 4 = va_up (ms.1 4) p (ms.1 4 p + 1) := by rw [← hms, mm_sI_k, mm_sI_ne (by decide)]
        have s5 : ms'.1 5 = va_up (ms.1 5) (4 * p + nN ms 4 p) (nI o) := by rw [← hms, mm_sI_ne (by decide), mm_sI_k]
        have n4 : nN ms' 4 p = nN ms 4 p + 1 := nN_inc hpt.2.2.2.1 (by decide) (by rw [s4, va_up_self])
        have h1 : ∀ F, F ∉ [4, 5] → sameF ms ms' F := by
          intro F hF
          simp only [List.mem_cons, List.not_mem_nil, or_false, not_or] at hF
          rw [← hms]
          exact ⟨by rw [mm_sI_ne hF.1, mm_sI_ne hF.2], rfl⟩
        have e0 : nN ms' 0 0 = nN ms 0 0 := by rw [nN, (h1 0 (by decide)).1]
        refine ⟨⟨by rw [(h1 0 (by decide)).1]; exact p1.1, fun q hq => ?_, fun q hq hq2 => ?_⟩, IvW_dep (sub_of _ h1 (by decide)) p2, IvB_dep (sub_of _ h1 (by decide)) p3, IvD_dep (sub_of _ h1 (by decide)) p4, IvR_dep (sub_of _ h1 (by decide)) p5, IvO_dep (sub_of _ h1 (by decide)) p6, IvT_dep (sub_of _ h1 (by decide)) p7, by rw [(h1 47 (by decide)).1]; exact p8, by rw [(h1 50 (by decide)).1]; exact p9⟩
        · rw [e0] at hq
          obtain ⟨z1, z2, z3, z4, z5, z6⟩ := p1.2.1 q hq
          have z4n := z4.n (by decide)
          rw [(h1 1 (by decide)).1, (h1 2 (by decide)).1, (h1 3 (by decide)).1]
          by_cases hqp : q = p
          · subst hqp
            refine ⟨z1, z2, z3, ⟨nN ms 4 q + 1, by omega, by rw [s4, va_up_self, hw.1, nI_1]⟩, fun k hk => ?_, fun j k hjk hk => ?_⟩
            · rw [n4] at hk
              rw [s5]
              by_cases hkn : k = nN ms 4 q
              · rw [hkn, va_up_self]; exact ⟨o, ho, rfl⟩
              · simp only [va_up, if_neg (show ¬ 4 * q + k = 4 * q + nN ms 4 q by omega)]
                exact z5 k (by omega)
            · rw [n4] at hk
              rw [s5]
              by_cases hkn : k = nN ms 4 q
              · rw [hkn, va_up_self]
                simp only [va_up, if_neg (show ¬ 4 * q + j = 4 * q + nN ms 4 q by omega)]
                exact fun e => hnx ⟨j, by omega, e⟩
              · simp only [va_up, if_neg (show ¬ 4 * q + k = 4 * q + nN ms 4 q by omega), if_neg (show ¬ 4 * q + j = 4 * q + nN ms 4 q by omega)]
                exact z6 j k hjk (by omega)
          · have e4 : ms'.1 4 q = ms.1 4 q := by rw [s4]; simp [va_up, hqp]
            have e4n : nN ms' 4 q = nN ms 4 q := by rw [nN, e4]
            have e5 : ∀ k, k < 4 → ms'.1 5 (4 * q + k) = ms.1 5 (4 * q + k) := fun k hk => by rw [s5]; simp only [va_up, if_neg (show ¬ 4 * q + k = 4 * p + nN ms 4 p by omega)]
            refine ⟨z1, z2, z3, by rw [e4]; exact z4, fun k hk => ?_, fun j k hjk hk => ?_⟩
            · rw [e4n] at hk
              rw [e5 k (by omega)]; exact z5 k hk
            · rw [e4n] at hk
              rw [e5 k (by omega), e5 j (by omega)]; exact z6 j k hjk hk
        · rw [e0] at hq
          obtain ⟨z1, z2, z3⟩ := p1.2.2 q hq hq2
          rw [(h1 6 (by decide)).1, (h1 10 (by decide)).1]
          refine ⟨?_, z2, z3⟩
          rw [s4]; simp only [va_up, if_neg (show ¬ q = p by omega)]; exact z1
theorem rOk_mono {r : Nat} (hP : nN ms 0 0 ≤ nN ms' 0 0) (h1 : ∀ F, F ∈ [10, 25, 26, 27, 28, 29, 30, 31, 32] → sameF ms ms' F) (q : rOk ms r) : rOk ms' r := by
  have e10 := (h1 10 (by decide)).1
  have e25 := (h1 25 (by decide)).1
  have e26 := (h1 26 (by decide)).1
  have e27 := (h1 27 (by decide)).1
  have e28 := (h1 28 (by decide)).1
  have e29 := (h1 29 (by decide)).1
  have e30 := (h1 30 (by decide)).1
  have e31 := (h1 31 (by decide)).1
  have e32 := (h1 32 (by decide)).1
  obtain ⟨q1, q2, q3, q4, q5, q6, q7⟩ := q
  refine ⟨by rw [e25]; exact q1, fun i hi => ?_, by simp only [nN, e25, e26] at q3 ⊢; exact q3, by simp only [nN, e25, e26, e27] at q4 ⊢; exact q4, fun m hm => ⟨by rw [e28]; exact (q5 m hm).1, fun t ht => ?_, by simp only [nN, e28, e29] at q5 ⊢; exact (q5 m hm).2.2⟩, by simp only [nN, e28, e30, e31] at q6 ⊢; exact q6, by simp only [nN, e25, e32] at q7 ⊢; exact q7⟩
  · rw [nN, e25] at hi
    obtain ⟨p, hp, e⟩ := q2 i hi
    exact ⟨p, by omega, by rw [e26]; exact e⟩
  · rw [nN, e28] at ht
    obtain ⟨p, u, hp, hu, e, hb, i, hi, e'⟩ := (q5 m hm).2.1 t ht
    exact ⟨p, u, by omega, hu, by rw [e29]; exact e, by rw [e10]; exact hb, i, by rw [nN, e25]; exact hi, by rw [e26]; exact e'⟩
theorem Inv_part (I : Inv B ms) {x1 x2 x3 : Int32} : Inv B (F_part ms x1 x2 x3).2 := by
  have hpn := I.pn
  unfold F_part
  split
  · exact I
  · rename_i hno
    split
    · exact I
    · rename_i h24
      have hx1 : 0 ≤ x1 ∧ x1 ≤ 4 := Classical.not_not.mp fun q => hno (Or.inl q)
      have hx2 : 0 ≤ x2 ∧ x2 ≤ 2 := Classical.not_not.mp fun q => hno (Or.inr (Or.inl q))
      have hx3 : 0 ≤ x3 ∧ x3 ≤ 2 := Classical.not_not.mp fun q => hno (Or.inr (Or.inr q))
      have hn24 : nN ms 0 0 ≠ 24 := fun q => h24 (by rw [hpn.1, q]; rfl)
      have env : nv (ms.1 0 0) = nN ms 0 0 := rfl
      rw [env]
      have I0 := I
      obtain ⟨p1, p2, p3, p4, p5, p6, p7, p8, p9⟩ := I
      generalize hms : mm_sI (mm_sI (mm_sI (mm_sI ms 1 (nN ms 0 0) x1) 2 (nN ms 0 0) x2) 3 (nN ms 0 0) x3) 0 0 (ms.1 0 0 + 1) = ms'
      show Inv B ms'
      have e0 : ms'.1 0 0 = ms.1 0 0 + 1 := by rw [← hms, mm_sI_k, va_up_self]
      have n0 : nN ms' 0 0 = nN ms 0 0 + 1 := nN_inc p1.1 (by decide) e0
      have s1 : ms'.1 1 = va_up (ms.1 1) (nN ms 0 0) x1 := by rw [← hms, mm_sI_ne (by decide), mm_sI_ne (by decide), mm_sI_ne (by decide), mm_sI_k]
      have s2 : ms'.1 2 = va_up (ms.1 2) (nN ms 0 0) x2 := by rw [← hms, mm_sI_ne (by decide), mm_sI_ne (by decide), mm_sI_k, mm_sI_ne (by decide)]
      have s3 : ms'.1 3 = va_up (ms.1 3) (nN ms 0 0) x3 := by rw [← hms, mm_sI_ne (by decide), mm_sI_k, mm_sI_ne (by decide), mm_sI_ne (by decide)]
      have h1 : ∀ F, F ∉ [0, 1, 2, 3] → sameF ms ms' F := by
        intro F hF
        simp only [List.mem_cons, List.not_mem_nil, or_false, not_or] at hF
        rw [← hms]
        exact ⟨by rw [mm_sI_ne hF.1, mm_sI_ne hF.2.2.2, mm_sI_ne hF.2.2.1, mm_sI_ne hF.2.1], rfl⟩
      refine ⟨⟨⟨nN ms 0 0 + 1, by omega, by rw [e0, hpn.1, nI_1]⟩, fun p hp => ?_, fun p hp hp2 => ?_⟩, ⟨by rw [(h1 7 (by decide)).1]; exact p2.1, fun k hk => ?_⟩, ⟨fun b hb => ?_, by rw [(h1 15 (by decide)).1, (h1 10 (by decide)).1]; exact p3.2⟩, ⟨⟨by rw [(h1 16 (by decide)).1]; exact p4.1.1, fun k hk => ?_, fun j k hjk hk => ?_⟩, by rw [(h1 18 (by decide)).1]; exact p4.2.1, fun a ha => ?_⟩, ⟨by rw [(h1 24 (by decide)).1]; exact p5.1, fun r hr => ?_, by rw [(h1 34 (by decide)).1]; exact p5.2.2⟩, IvO_dep (sub_of _ h1 (by decide)) p6, IvT_dep (sub_of _ h1 (by decide)) p7, by rw [(h1 47 (by decide)).1]; exact p8, by rw [(h1 50 (by decide)).1]; exact p9⟩
      · rw [n0] at hp
        by_cases hpe : p = nN ms 0 0
        · subst hpe
          obtain ⟨z1, z2, z3⟩ := p1.2.2 (nN ms 0 0) (Nat.le_refl _) (by omega)
          have en4 : nN ms' 4 (nN ms 0 0) = 0 := by rw [nN, (h1 4 (by decide)).1, z1]; rfl
          rw [s1, s2, s3, va_up_self, va_up_self, va_up_self, (h1 4 (by decide)).1, z1]
          exact ⟨(pIn_nat (b := 4) (by decide)).mp hx1, (pIn_nat (b := 2) (by decide)).mp hx2, (pIn_nat (b := 2) (by decide)).mp hx3, ⟨0, by omega, rfl⟩, fun k hk => by rw [en4] at hk; omega, fun j k hjk hk => by rw [en4] at hk; omega⟩
        · rw [s1, s2, s3]
          simp only [va_up, if_neg hpe]
          have := p1.2.1 p (by omega)
          simp only [nN, (h1 4 (by decide)).1, (h1 5 (by decide)).1] at this ⊢
          exact this
      · rw [n0] at hp
        rw [(h1 4 (by decide)).1, (h1 6 (by decide)).1, (h1 10 (by decide)).1]
        exact p1.2.2 p (by omega) hp2
      · rw [nN, (h1 7 (by decide)).1] at hk
        obtain ⟨a, b, ha, hb, hab, e1, e2⟩ := p2.2 k hk
        exact ⟨a, b, by omega, by omega, hab, by rw [(h1 8 (by decide)).1]; exact e1, by rw [(h1 9 (by decide)).1]; exact e2⟩
      · obtain ⟨r1, r2⟩ := p3.1 b hb
        refine ⟨by rw [(h1 10 (by decide)).1]; exact r1, fun hne => ?_⟩
        rw [(h1 10 (by decide)).1] at hne
        obtain ⟨r3, r4⟩ := r2 hne
        refine ⟨by rw [(h1 11 (by decide)).1]; exact r3, fun k hk => ?_⟩
        rw [nN, (h1 10 (by decide)).1] at hk
        obtain ⟨w, g1, g2, g3⟩ := r4 k hk
        have hbp := I0.nb hb hne
        refine ⟨w, g1, by rw [(h1 12 (by decide)).1]; exact g2, ?_⟩
        rw [aOk_dep (ms := ms) (by rw [s1]; simp only [va_up, if_neg (show ¬ b / 25 = nN ms 0 0 by omega)]) (by rw [s2]; simp only [va_up, if_neg (show ¬ b / 25 = nN ms 0 0 by omega)]) (by rw [s3]; simp only [va_up, if_neg (show ¬ b / 25 = nN ms 0 0 by omega)]), (h1 13 (by decide)).1, (h1 14 (by decide)).1]
        exact g3
      · rw [nN, (h1 16 (by decide)).1] at hk
        obtain ⟨p, hp, e⟩ := p4.1.2.1 k hk
        exact ⟨p, by omega, by rw [(h1 17 (by decide)).1]; exact e⟩
      · rw [nN, (h1 16 (by decide)).1] at hk
        rw [(h1 17 (by decide)).1]
        exact p4.1.2.2 j k hjk hk
      · rw [(h1 23 (by decide)).1, (h1 21 (by decide)).1, (h1 22 (by decide)).1]
        rcases p4.2.2 a ha with q | ⟨q, p, m, hp, hm, e1, e2⟩
        · exact Or.inl q
        · exact Or.inr ⟨q, p, m, by omega, hm, e1, e2⟩
      · rw [nN, (h1 24 (by decide)).1] at hr
        exact rOk_mono (ms := ms) (by omega) (sub_of _ h1 (by decide)) (p5.2.1 r hr)
theorem Inv_body (I : Inv B ms) {a u m c : Int32} : Inv B (F_body ms a u m c).2 := by
  have hpn := I.pn
  unfold F_body
  split
  · exact I
  · rename_i hno
    split
    · exact I
    · rename_i h0
      have ha : isP ms a := Classical.not_not.mp fun q => hno (Or.inl q)
      have hu : 0 ≤ u ∧ u ≤ 2 := Classical.not_not.mp fun q => hno (Or.inr (Or.inl q))
      have hm : u ≠ 2 → isM m := fun hu => Classical.not_not.mp fun q => hno (Or.inr (Or.inr (Or.inl ⟨hu, q⟩)))
      have hc : c = -9 ∨ (0 ≤ c ∧ c ≤ 16) := by
        by_cases q : c = -9
        · exact Or.inl q
        · exact Or.inr (Classical.not_not.mp fun q2 => hno (Or.inr (Or.inr (Or.inr ⟨q, q2⟩))))
      obtain ⟨p, hp, rfl⟩ := (isP_iff I.P).mp ha
      obtain ⟨b, hb, hbp, eb, -, -⟩ := F_bodyOf_n (p := p) (by omega) hu hm
      rw [eb, nv_nI (by omega)]
      have hR0 := I.r0 h0
      have hran := I.ran0 hR0
      obtain ⟨p1, p2, p3, p4, p5, p6, p7, p8, p9⟩ := I
      generalize hms : mm_sI (mm_sI (mm_sI ms 15 0 (nI b)) 10 b 0) 11 b c = ms'
      show Inv B ms'
      have s10 : ms'.1 10 = va_up (ms.1 10) b 0 := by rw [← hms, mm_sI_ne (by decide), mm_sI_k, mm_sI_ne (by decide)]
      have s11 : ms'.1 11 = va_up (ms.1 11) b c := by rw [← hms, mm_sI_k, mm_sI_ne (by decide), mm_sI_ne (by decide)]
      have s15 : ms'.1 15 0 = nI b := by rw [← hms, mm_sI_ne (by decide), mm_sI_ne (by decide), mm_sI_k, va_up_self]
      have h1 : ∀ F, F ∉ [10, 11, 15] → sameF ms ms' F := by
        intro F hF
        simp only [List.mem_cons, List.not_mem_nil, or_false, not_or] at hF
        rw [← hms]
        exact ⟨by rw [mm_sI_ne hF.2.1, mm_sI_ne hF.1, mm_sI_ne hF.2.2], rfl⟩
      have t10 : ∀ x, x ≠ b → ms'.1 10 x = ms.1 10 x := fun x hx => by rw [s10]; simp [va_up, hx]
      have t10b : ms'.1 10 b = 0 := by rw [s10, va_up_self]
      have e24 : nN ms' 24 0 = 0 := by rw [nN, (h1 24 (by decide)).1]; exact hR0
      have e68 : nN ms' 68 0 = 0 := by rw [nN, (h1 68 (by decide)).1, hran]; rfl
      refine ⟨⟨by rw [(h1 0 (by decide)).1]; exact p1.1, ?_, fun q hq hq2 => ?_⟩, IvW_dep (sub_of _ h1 (by decide)) p2, ⟨fun x hx => ?_, Or.inr ⟨b, hb, s15, by rw [t10b]; decide⟩⟩, IvD_dep (sub_of _ h1 (by decide)) p4, ⟨by rw [(h1 24 (by decide)).1]; exact p5.1, fun r hr => by omega, by rw [(h1 34 (by decide)).1]; exact p5.2.2⟩, IvO_dep (sub_of _ h1 (by decide)) p6, ⟨by rw [(h1 60 (by decide)).1]; exact p7.1, by rw [(h1 68 (by decide)).1]; exact p7.2.1, by rw [(h1 24 (by decide)).1, (h1 68 (by decide)).1]; exact p7.2.2.1, fun j hj => by omega⟩, by rw [(h1 47 (by decide)).1]; exact p8, by rw [(h1 50 (by decide)).1]; exact p9⟩
      · have := p1.2.1
        simp only [nN, (h1 0 (by decide)).1, (h1 1 (by decide)).1, (h1 2 (by decide)).1, (h1 3 (by decide)).1, (h1 4 (by decide)).1, (h1 5 (by decide)).1] at this ⊢
        exact this
      · rw [nN, (h1 0 (by decide)).1] at hq
        have hq' : nN ms 0 0 ≤ q := hq
        obtain ⟨z1, z2, z3⟩ := p1.2.2 q hq hq2
        refine ⟨by rw [(h1 4 (by decide)).1]; exact z1, by rw [(h1 6 (by decide)).1]; exact z2, fun y hy => ?_⟩
        rw [t10 _ (by omega)]
        exact z3 y hy
      · by_cases hxb : x = b
        · subst hxb
          refine ⟨Or.inr ⟨0, by omega, t10b⟩, fun _ => ⟨?_, fun k hk => ?_⟩⟩
          · rw [s11, va_up_self]
            rcases hc with q | q
            · exact Or.inl q
            · exact Or.inr ((pIn_nat (b := 16) (by decide)).mp q)
          · rw [nN, t10b] at hk
            exact absurd hk (Nat.not_lt_zero k)
        · obtain ⟨r1, r2⟩ := p3.1 x hx
          rw [t10 x hxb, s11]
          simp only [va_up, if_neg hxb]
          refine ⟨r1, fun hne => ⟨(r2 hne).1, fun k hk => ?_⟩⟩
          rw [nN, t10 x hxb] at hk
          obtain ⟨w, g1, g2, g3⟩ := (r2 hne).2 k hk
          refine ⟨w, g1, by rw [(h1 12 (by decide)).1]; exact g2, ?_⟩
          rw [aOk_dep (ms := ms) (by rw [(h1 1 (by decide)).1]) (by rw [(h1 2 (by decide)).1]) (by rw [(h1 3 (by decide)).1]), (h1 13 (by decide)).1, (h1 14 (by decide)).1]
          exact g3
theorem Inv_act (I : Inv B ms) {k a x : Int32} : Inv B (F_act ms k a x).2 := by
  have hpn := I.pn
  unfold F_act
  split
  · exact I
  · rename_i hno
    split
    · exact I
    · rename_i hf
      split
      · exact I
      · rename_i h0
        have hk : 0 ≤ k ∧ k ≤ 19 := Classical.not_not.mp fun q => hno (Or.inl q)
        obtain ⟨w, hw, rfl⟩ := (pIn_nat (b := 19) (by decide)).mp hk
        rcases I.lb with q | ⟨hb, eb, hb2⟩
        · exact absurd (Or.inl (by rw [q]; decide)) h0
        have hpos : 0 ≤ ms.1 15 0 := by rw [eb]; exact nI_pos' (by omega)
        have hok : aOk ms w (nN ms 15 0 / 25) a x := by
          refine bz_1.mp fun q => hno (Or.inr ⟨hpos, ?_⟩)
          rw [nv_nI (by omega)]; exact q
        have hR0 := I.r0 (fun q => h0 (Or.inr q))
        have hran := I.ran0 hR0
        have hmn := I.mn hb hb2
        generalize nN ms 15 0 = b at *
        have hn10 : nN ms 10 b ≠ 10 := fun q => hf ⟨hpos, by rw [hmn.1, q]; rfl⟩
        have I0 := I
        obtain ⟨p1, p2, p3, p4, p5, p6, p7, p8, p9⟩ := I
        generalize hms : mm_sI (mm_sI (mm_sI (mm_sI ms 12 (10 * b + nN ms 10 b) (nI w)) 13 (10 * b + nN ms 10 b) a) 14 (10 * b + nN ms 10 b) x) 10 b (ms.1 10 b + 1) = ms'
        show Inv B ms'
        have s10 : ms'.1 10 = va_up (ms.1 10) b (ms.1 10 b + 1) := by rw [← hms, mm_sI_k, mm_sI_ne (by decide), mm_sI_ne (by decide), mm_sI_ne (by decide)]
        have s12 : ms'.1 12 = va_up (ms.1 12) (10 * b + nN ms 10 b) (nI w) := by rw [← hms, mm_sI_ne (by decide), mm_sI_ne (by decide), mm_sI_ne (by decide), mm_sI_k]
        have s13 : ms'.1 13 = va_up (ms.1 13) (10 * b + nN ms 10 b) a := by rw [← hms, mm_sI_ne (by decide), mm_sI_ne (by decide), mm_sI_k, mm_sI_ne (by decide)]
        have s14 : ms'.1 14 = va_up (ms.1 14) (10 * b + nN ms 10 b) x := by rw [← hms, mm_sI_ne (by decide), mm_sI_k, mm_sI_ne (by decide), mm_sI_ne (by decide)]
        have h1 : ∀ F, F ∉ [10, 12, 13, 14] → sameF ms ms' F := by
          intro F hF
          simp only [List.mem_cons, List.not_mem_nil, or_false, not_or] at hF
          rw [← hms]
          exact ⟨by rw [mm_sI_ne hF.1, mm_sI_ne hF.2.2.2, mm_sI_ne hF.2.2.1, mm_sI_ne hF.2.1], rfl⟩
        have t10 : ∀ y, y ≠ b → ms'.1 10 y = ms.1 10 y := fun y hy => by rw [s10]; simp [va_up, hy]
        have t10b : ms'.1 10 b = nI (nN ms 10 b + 1) := by rw [s10, va_up_self, hmn.1, nI_1]
        have n10 : nN ms' 10 b = nN ms 10 b + 1 := by rw [nN, t10b, nI_clamp (by omega)]
        have e24 : nN ms' 24 0 = 0 := by rw [nN, (h1 24 (by decide)).1]; exact hR0
        have e68 : nN ms' 68 0 = 0 := by rw [nN, (h1 68 (by decide)).1, hran]; rfl
        have hbP := I0.nb hb hb2
        have hak : ∀ y k, aOk ms' y k = aOk ms y k := fun y k => funext fun a => funext fun b => aOk_dep (by rw [(h1 1 (by decide)).1]) (by rw [(h1 2 (by decide)).1]) (by rw [(h1 3 (by decide)).1])
        refine ⟨⟨by rw [(h1 0 (by decide)).1]; exact p1.1, ?_, fun q hq hq2 => ?_⟩, IvW_dep (sub_of _ h1 (by decide)) p2, ⟨fun y hy => ?_, ?_⟩, IvD_dep (sub_of _ h1 (by decide)) p4, ⟨by rw [(h1 24 (by decide)).1]; exact p5.1, fun r hr => by omega, by rw [(h1 34 (by decide)).1]; exact p5.2.2⟩, IvO_dep (sub_of _ h1 (by decide)) p6, ⟨by rw [(h1 60 (by decide)).1]; exact p7.1, by rw [(h1 68 (by decide)).1]; exact p7.2.1, by rw [(h1 24 (by decide)).1, (h1 68 (by decide)).1]; exact p7.2.2.1, fun j hj => by omega⟩, by rw [(h1 47 (by decide)).1]; exact p8, by rw [(h1 50 (by decide)).1]; exact p9⟩
        · have := p1.2.1
          simp only [nN, (h1 0 (by decide)).1, (h1 1 (by decide)).1, (h1 2 (by decide)).1, (h1 3 (by decide)).1, (h1 4 (by decide)).1, (h1 5 (by decide)).1] at this ⊢
          exact this
        · rw [nN, (h1 0 (by decide)).1] at hq
          have hq' : nN ms 0 0 ≤ q := hq
          obtain ⟨z1, z2, z3⟩ := p1.2.2 q hq hq2
          refine ⟨by rw [(h1 4 (by decide)).1]; exact z1, by rw [(h1 6 (by decide)).1]; exact z2, fun y hy => ?_⟩
          rw [t10 _ (by omega)]
          exact z3 y hy
        · obtain ⟨r1, r2⟩ := p3.1 y hy
          by_cases hyb : y = b
          · subst hyb
            refine ⟨Or.inr ⟨nN ms 10 y + 1, by omega, t10b⟩, fun _ => ⟨by rw [(h1 11 (by decide)).1]; exact (r2 hb2).1, fun k hk => ?_⟩⟩
            rw [n10] at hk
            simp only [s12, s13, s14, hak]
            by_cases hkn : k = nN ms 10 y
            · rw [hkn, va_up_self, va_up_self, va_up_self]
              exact ⟨w, hw, rfl, hok⟩
            · simp only [va_up, if_neg (show ¬ 10 * y + k = 10 * y + nN ms 10 y by omega)]
              exact (r2 hb2).2 k (by omega)
          · rw [t10 y hyb]
            refine ⟨r1, fun hne => ⟨by rw [(h1 11 (by decide)).1]; exact (r2 hne).1, fun k hk => ?_⟩⟩
            rw [nN, t10 y hyb] at hk
            have hk' : k < nN ms 10 y := hk
            have := I0.mn hy hne
            simp only [s12, s13, s14, hak]
            simp only [va_up, if_neg (show ¬ 10 * y + k = 10 * b + nN ms 10 b by omega)]
            exact (r2 hne).2 k hk
        · rw [(h1 15 (by decide)).1]
          exact Or.inr ⟨b, hb, eb, by rw [t10b]; exact n9_ne (by omega)⟩
end I3
