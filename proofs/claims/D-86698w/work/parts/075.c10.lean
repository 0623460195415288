set_option maxRecDepth 100000
theorem eltT_kind {ms : mm_S} {i t : Nat} : ∀ l, l < 10 → (eltT ms l i t).1 = [4, 10, 13, 4, 4, 9, 4, 28, 8, 14].getD l 0 := l10 rfl rfl rfl rfl rfl rfl rfl rfl rfl rfl
section C10
variable {g : rb_G} {ms ms' : mm_S} {ad : aD} {h : Nat} {ms0 : mm_S} {M M' : rb_H} {B : Nat}
theorem X6_init {a0 q : Nat} {x2 x3 x4 : Int32} (h0 : M.2 a0 = some (rb_O 6 [.null, .int 0, .int 0, .int 0, .null])) : rb_Ct g yX6_init wX6_init 4 (1, 3) [.ref a0, .ref q, .int x2, .int x3, .int x4] M (fun o M' => o = .returned none ∧ M'.1 = M.1 + 1 ∧ M'.2 a0 = some (rb_O 6 [.ref q, .int x2, .int x3, .int x4, .ref M.1]) ∧ M'.2 M.1 = some (rb_O 7 [.int 0, .ref (rb_dc g), .int 0]) ∧ ∀ b, b ≠ a0 → b < M.1 → M'.2 b = M.2 b) := by
  refine rb_Ct.of (by decide) (Nat.le_of_ble_eq_true rfl) rfl ?_
  refine rb_know fun hw => ?_
  have hlt := (hw.2.2 _ _ h0).2
  refine sgX6_init_0 (rb_isR_ref _) ⟨rb_dpk (by decide), ⟨nb rfl, nb rfl⟩, 7, _, _, _, J4_init rb_nw_eq, rb_dpk (by decide), ⟨nb rfl, nb rfl⟩, ⟨_, rb_nw_eq⟩, ?_⟩
  rintro _ _ ⟨rfl, rfl⟩
  rw [rb_up_nw]
  refine ⟨rfl, _, by rw [rb_nw_ne (Nat.ne_of_lt hlt)]; exact h0, nl rfl, _, rb_up_eq, nl rfl, _, rb_up_eq, nl rfl, _, rb_up_eq, nl rfl, _, rb_up_eq, nl rfl, ⟨nb rfl, nb rfl⟩, rfl, rfl, rb_up_eq, ?_, ?_⟩
  · simp [rb_up, rb_nw, va_up, show ¬ M.1 = a0 by omega]
  · intro b hb hb2
    simp [rb_up, rb_nw, va_up, hb, show ¬ b = M.1 by omega]
/-- a body is made anew and hung into its part -/
theorem Rep.newBody (R : Rep g ms ad h ms0 M) (I : Inv B ms) (hw : rb_Wf g M) (hR0 : nN ms 24 0 = 0) {b : Nat} {cx : Int32} {sg : Int64} (hb : b < 600) (hbp : b / 25 < nN ms 0 0) {M1 : rb_H} (k2 : M1.2 M.1 = some (rb_O 6 [.ref (ad 4 (b / 25)), .int (buse b), .int (bmem b), .int cx, .ref (M.1 + 1)])) (k3 : M1.2 (M.1 + 1) = some (rb_O 7 [.int 0, .ref (rb_dc g), .int 0])) (k7 : ∀ x, x < M.1 → M1.2 x = M.2 x) (hms : ms' = mm_sI (mm_sI (mm_sI ms 15 0 (nI b)) 10 b 0) 11 b cx)
    {kt : Nat} (hkt : (kt = 5 ∧ b % 25 < 12) ∨ (kt = 6 ∧ 12 ≤ b % 25 ∧ b % 25 < 24) ∨ (kt = 4 ∧ b % 25 = 24)) {c' : rb_E} (hc' : ∀ ad' : aD, (∀ k i, ¬ (i = b ∧ (k = 8 ∨ k = 25 ∨ k = 35)) → ad' k i = ad k i) → ad' 8 b = M.1 → okX ms' ad' h ms0 kt (b / 25) c') :
    ∃ ad', ad' 0 0 = ad 0 0 ∧ Rep g ms' ad' h ms0 (rb_up (rb_up M1 (ad 0 0) (rb_O 0 ((mnFs ms ad sg).set 6 (.ref M.1)))) (ad kt (b / 25)) c') := by
  have hpn := I.pn
  let ad' : aD := fun k i => if i = b ∧ k = 8 then M.1 else if i = b ∧ k = 25 then M.1 + 1 else if i = b ∧ k = 35 then rb_dc g else ad k i
  have a8 : ad' 8 b = M.1 := if_pos ⟨rfl, rfl⟩
  have a25 : ad' 25 b = M.1 + 1 := by
    show (if b = b ∧ 25 = 8 then M.1 else _) = _
    rw [if_neg (by omega), if_pos ⟨rfl, rfl⟩]
  have a35 : ad' 35 b = rb_dc g := by
    show (if b = b ∧ 35 = 8 then M.1 else _) = _
    rw [if_neg (by omega), if_neg (by omega), if_pos ⟨rfl, rfl⟩]
  have aO : ∀ k i, ¬ (i = b ∧ (k = 8 ∨ k = 25 ∨ k = 35)) → ad' k i = ad k i := by
    intro k i q
    show (if i = b ∧ k = 8 then M.1 else _) = _
    rw [if_neg (by omega), if_neg (by omega), if_neg (by omega)]
  have s10 : ms'.1 10 = va_up (ms.1 10) b 0 := by rw [hms, mm_sI_ne (by decide), mm_sI_k, mm_sI_ne (by decide)]
  have s11 : ms'.1 11 = va_up (ms.1 11) b cx := by rw [hms, mm_sI_k, mm_sI_ne (by decide), mm_sI_ne (by decide)]
  have s15 : ms'.1 15 0 = nI b := by rw [hms, mm_sI_ne (by decide), mm_sI_ne (by decide), mm_sI_k, va_up_self]
  have sO : ∀ F, F ∉ [10, 11, 15] → sameF ms ms' F := by
    intro F hF
    simp only [List.mem_cons, List.not_mem_nil, or_false, not_or] at hF
    rw [hms]
    exact ⟨by rw [mm_sI_ne hF.2.1, mm_sI_ne hF.1, mm_sI_ne hF.2.2], rfl⟩
  have t10 : ∀ x, x ≠ b → ms'.1 10 x = ms.1 10 x := fun x hx => by rw [s10]; simp [va_up, hx]
  have t10b : ms'.1 10 b = 0 := by rw [s10, va_up_self]
  have hbrf : ∀ x, x ≠ b → bRf ms' ad' x = bRf ms ad x := by
    intro x hx
    unfold bRf
    rw [t10 x hx, aO 8 x (fun q => hx q.1)]
  have hne0 : ∀ k i, exX g ms ad k i → k ≠ 0 → ad k i ≠ ad 0 0 := fun k i hx hk => R.ne hx (k' := 0) (i' := 0) rfl (Or.inl hk)
  have hxt : exX g ms ad kt (b / 25) := by
    rcases hkt with ⟨rfl, -⟩ | ⟨rfl, -⟩ | ⟨rfl, -⟩ <;> exact hbp
  have hkt0 : kt ≠ 0 ∧ kt < 7 ∧ 4 ≤ kt := by omega
  have hM3 : ∀ k i, exX g ms ad k i → k ≠ 0 → ¬ (k = kt ∧ i = b / 25) → (rb_up (rb_up M1 (ad 0 0) (rb_O 0 ((mnFs ms ad sg).set 6 (.ref M.1)))) (ad kt (b / 25)) c').2 (ad k i) = M.2 (ad k i) := by
    intro k i hx hk0 hk1
    rw [rb_up_ne (R.ne hx hxt (by omega)), rb_up_ne (hne0 k i hx hk0), k7 _ (R.lt hw hx)]
  have hM3n : ∀ j, j < 2 → (rb_up (rb_up M1 (ad 0 0) (rb_O 0 ((mnFs ms ad sg).set 6 (.ref M.1)))) (ad kt (b / 25)) c').2 (M.1 + j) = M1.2 (M.1 + j) := by
    intro j hj
    have q1 := R.lt hw hxt
    have q2 := R.lt hw (k := 0) (i := 0) rfl
    rw [rb_up_ne (by omega), rb_up_ne (by omega)]
  refine ⟨ad', aO 0 0 (by omega), R.build hw (fun k i => i = b ∧ (k = 8 ∨ k = 25)) ?_ ?_ ?_ ?_ ?_ ?_⟩
  · intro k i hx hn
    by_cases h35 : i = b ∧ k = 35
    · obtain ⟨rfl, rfl⟩ := h35
      exact absurd a35 hx.2
    have ea : ad' k i = ad k i := aO k i (fun q => by omega)
    refine ⟨?_, ea⟩
    have hx2 : exX g ms' ad k i := by
      unfold exX at hx ⊢
      rw [ea] at hx
      exact hx
    by_cases e8 : k = 8
    · subst e8
      have hx2 : i < 600 ∧ ms'.1 10 i ≠ -9 := hx2
      rw [t10 i (by omega)] at hx2
      exact hx2
    by_cases e25 : k = 25
    · subst e25
      have hx2 : i < 600 ∧ ms'.1 10 i ≠ -9 := hx2
      rw [t10 i (by omega)] at hx2
      exact hx2
    by_cases e35 : k = 35
    · subst e35
      obtain ⟨hx2, hx3⟩ := hx2
      have hx2 : i < 600 ∧ ms'.1 10 i ≠ -9 := hx2
      rw [t10 i (by omega)] at hx2
      exact ⟨hx2, hx3⟩
    by_cases e9 : k = 9
    · subst e9
      have hx2 : i / 10 < 600 ∧ ms'.1 10 (i / 10) ≠ -9 ∧ i % 10 < nN ms' 10 (i / 10) := hx2
      by_cases hib : i / 10 = b
      · rw [hib] at hx2
        have : nN ms' 10 b = 0 := by rw [nN, t10b]; rfl
        omega
      · rw [nN, t10 _ hib] at hx2
        exact hx2
    · refine (exX_dep k i fun F hF => sO F ?_).mp hx2
      have key : ∀ k, k < 40 → k ∉ [8, 9, 25, 35] → ∀ F, F ∈ eX k → F ∉ [10, 11, 15] := by decide
      rcases Nat.lt_or_ge k 40 with hk40 | hk40
      · exact key k hk40 (by simp [e8, e9, e25, e35]) F hF
      · unfold eX at hF
        rw [if_neg (by omega), if_neg (by omega), if_neg (by omega)] at hF
        cases hF
  · intro k i hx hx' hn
    by_cases e0 : k = 0
    · subst e0
      obtain rfl : i = 0 := hx
      right
      refine ⟨_, by rw [rb_up_ne (Ne.symm (hne0 _ _ hxt hkt0.1)), rb_up_eq], sg, ?_⟩
      show rb_O 0 _ = rb_O 0 (mnFs ms' ad' sg)
      have el : laRf ms' ad' = some M.1 := by
        have hne : ms'.1 15 0 ≠ -9 := by
          rw [s15]; intro q
          have := nI_pos (n := b) (by omega)
          rw [q] at this
          exact this (by decide)
        rw [laRf, if_neg hne, nN, s15, nI_clamp (by omega), a8]
      simp only [mnFs, el, aO _ _ (show ¬ (0 = b ∧ ((1 : Nat) = 8 ∨ (1 : Nat) = 25 ∨ (1 : Nat) = 35)) by omega), aO _ _ (show ¬ (0 = b ∧ ((2 : Nat) = 8 ∨ (2 : Nat) = 25 ∨ (2 : Nat) = 35)) by omega), aO 20 0 (by omega), aO 21 0 (by omega), aO 22 0 (by omega), aO 23 0 (by omega), aO 53 0 (by omega), aO 54 0 (by omega), aO 59 0 (by omega), aO 61 0 (by omega), aO 62 0 (by omega), aO 64 0 (by omega), aO 65 0 (by omega), aO 66 0 (by omega), aO 67 0 (by omega), aO 68 0 (by omega), aO 72 0 (by omega), aO 74 0 (by omega), aO 75 0 (by omega), aO 84 0 (by omega), (sO 7 (by decide)).1, (sO 18 (by decide)).1, (sO 34 (by decide)).1, (sO 35 (by decide)).1, (sO 36 (by decide)).1, (sO 60 (by decide)).1, (sO 68 (by decide)).1, (sO 64 (by decide)).1, (sO 65 (by decide)).1, (sO 66 (by decide)).1, (sO 67 (by decide)).2, (sO 62 (by decide)).2, (sO 49 (by decide)).2, (sO 47 (by decide)).1]
      rfl
    by_cases ekt : k = kt ∧ i = b / 25
    · obtain ⟨rfl, rfl⟩ := ekt
      right
      exact ⟨c', rb_up_eq, hc' ad' aO a8⟩
    have hc := hM3 k i hx e0 ekt
    obtain ⟨cc, q1, q2⟩ := R.1 k i hx
    by_cases e4 : k = 4
    · subst e4
      right
      refine ⟨cc, by rw [hc]; exact q1, ?_⟩
      have q2 : ok4 ms ad h ms0 i cc := q2
      show ok4 ms' ad' h ms0 i cc
      unfold ok4 at q2 ⊢
      rw [hbrf _ (by omega), (sO 1 (by decide)).1, (sO 2 (by decide)).1, (sO 3 (by decide)).1, aO 24 i (by omega), aO 5 i (by omega), aO 6 i (by omega), aO 7 i (by omega)]
      exact q2
    by_cases e5 : k = 5
    · subst e5
      right
      obtain ⟨f, rfl, hf⟩ := q2
      exact ⟨_, by rw [hc]; exact q1, f, rfl, fun m hm => by rw [hf m hm, hbrf _ (by omega)]⟩
    by_cases e6 : k = 6
    · subst e6
      right
      obtain ⟨f, rfl, hf⟩ := q2
      exact ⟨_, by rw [hc]; exact q1, f, rfl, fun m hm => by rw [hf m hm, hbrf _ (by omega)]⟩
    by_cases e8 : k = 8
    · subst e8
      right
      refine ⟨cc, by rw [hc]; exact q1, ?_⟩
      have q2 : ok8 ms ad h ms0 i cc := q2
      show ok8 ms' ad' h ms0 i cc
      unfold ok8 at q2 ⊢
      rw [aO 4 _ (by omega), aO 25 i (by omega), s11]
      simp only [va_up, if_neg (show ¬ i = b by omega)]
      exact q2
    by_cases e25 : k = 25
    · subst e25
      right
      refine ⟨cc, by rw [hc]; exact q1, ?_⟩
      obtain ⟨md, rfl⟩ := q2
      refine ⟨md, ?_⟩
      show rb_O 7 _ = rb_O 7 [.int md, .ref (ad' 35 i), .int (nI (nN ms' 10 i))]
      rw [aO 35 i (by omega), nN, t10 i (by omega)]
      rfl
    by_cases e35 : k = 35
    · subst e35
      have hib : i ≠ b := by
        intro q
        subst q
        exact hx'.2 a35
      right
      refine ⟨cc, by rw [hc]; exact q1, ?_⟩
      obtain ⟨cap, z1, z2, z3, rfl⟩ := q2
      refine ⟨cap, ?_, z2, z3, ?_⟩
      · show nN ms' 10 i ≤ cap
        rw [nN, t10 i hib]; exact z1
      · congr 4
        funext t
        show (if t < nN ms 10 i then some (ad 9 (10 * i + t)) else none) = if t < nN ms' 10 i then some (ad' 9 (10 * i + t)) else none
        rw [show nN ms' 10 i = nN ms 10 i by rw [nN, t10 i hib], aO 9 _ (by omega)]
    left
    refine ⟨hc, fun F hF => sO F (dX_not [10, 11, 15] [0, 4, 5, 6, 8, 25, 35] (by decide) k (by simp; omega) F hF), fun k' i' hr => aO k' i' ?_⟩
    rintro ⟨rfl, hk'⟩
    revert hx hr
    refine kinds (P := fun k => k ≠ 0 → k ≠ 4 → k ≠ 5 → k ≠ 6 → k ≠ 8 → k ≠ 25 → k ≠ 35 → exX g ms ad k i → rX ms k i k' i' → False) ?_ ?_ ?_ ?_ ?_ ?_ ?_ ?_ ?_ ?_ ?_ ?_ ?_ ?_ ?_ ?_ ?_ ?_ ?_ ?_ ?_ ?_ ?_ ?_ ?_ ?_ ?_ ?_ ?_ ?_ ?_ ?_ ?_ ?_ ?_ ?_ ?_ ?_ k e0 e4 e5 e6 e8 e25 e35
    · exact fun q => absurd rfl q
    · exact fun _ _ _ _ _ _ _ _ hr => hr
    · exact fun _ _ _ _ _ _ _ _ hr => hr
    · exact fun _ q => absurd rfl q
    · exact fun _ _ q => absurd rfl q
    · exact fun _ _ _ q => absurd rfl q
    · exact fun _ _ _ _ _ _ _ _ hr => hr
    · exact fun _ _ _ _ q => absurd rfl q
    · intro _ _ _ _ _ _ _ _ hr
      have := hr.1
      omega
    · rintro _ _ _ _ _ _ _ _ ⟨hr, -⟩
      simp only [List.mem_cons, List.not_mem_nil, or_false] at hr
      omega
    · intro _ _ _ _ _ _ _ hx _
      have hx : i < nN ms 24 0 := hx
      omega
    · exact fun _ _ _ _ _ _ _ _ hr => hr
    · rintro _ _ _ _ _ _ _ _ (⟨hr, -⟩ | ⟨hr, -⟩) <;> omega
    · rintro _ _ _ _ _ _ _ _ ⟨hr, -⟩
      simp only [List.mem_cons, List.not_mem_nil, or_false] at hr
      omega
    · exact fun _ _ _ _ _ _ _ _ hr => hr
    · exact fun _ _ _ _ _ _ _ _ hr => hr
    · exact fun _ _ _ _ _ _ _ _ hr => hr
    · rintro _ _ _ _ _ _ _ _ ⟨hr, -⟩
      omega
    · rintro _ _ _ _ _ _ _ _ ⟨h1, h2, -⟩
      have : nN ms 50 0 = 0 := by rw [nN, I.2.2.2.2.2.2.2.2]; rfl
      omega
    · exact fun _ _ _ _ _ _ _ hx _ => hx
    · intro l hl _ _ _ _ _ q25 _ _ hr
      unfold rX at hr
      rw [if_neg (by omega), if_pos (by omega)] at hr
      have h1 := hr.1
      have h2 : l ≠ 5 := by omega
      omega
    · intro l hl _ _ _ _ _ _ q35 hx hr
      unfold rX at hr
      rw [if_neg (by omega), if_neg (by omega), if_pos (by omega), Nat.add_sub_cancel_left] at hr
      rw [ex30 l hl] at hx
      obtain ⟨hx, -⟩ := hx
      obtain ⟨t, ht, e⟩ := hr
      have e1 : k' = (eltT ms l i t).1 := congrArg Prod.fst e
      rw [eltT_kind l hl] at e1
      have key : ∀ l, l < 10 → ([4, 10, 13, 4, 4, 9, 4, 28, 8, 14].getD l 0 = 8 → l = 8) ∧ [4, 10, 13, 4, 4, 9, 4, 28, 8, 14].getD l 0 ≠ 25 ∧ [4, 10, 13, 4, 4, 9, 4, 28, 8, 14].getD l 0 ≠ 35 := by decide
      obtain ⟨z1, z2, z3⟩ := key l hl
      have hl8 : l = 8 := z1 (by omega)
      subst hl8
      have hx : i < 12 * nN ms 24 0 := hx
      omega
    · exact fun _ _ _ _ _ _ _ _ hr => hr
    · exact fun _ _ _ _ _ _ _ _ hr => hr
    · exact fun _ _ _ _ _ _ _ _ hr => hr
    · exact fun _ _ _ _ _ _ _ _ hr => hr
    · exact fun _ _ _ _ _ _ _ _ hr => hr
    · exact fun _ _ _ _ _ _ _ _ hr => hr
    · exact fun _ _ _ _ _ _ _ _ hr => hr
    · exact fun _ _ _ _ _ _ _ _ hr => hr
    · exact fun _ _ _ _ _ _ _ _ hr => hr
    · exact fun _ _ _ _ _ _ _ _ hr => hr
    · exact fun _ _ _ _ _ _ _ _ hr => hr
    · rintro _ _ _ _ _ _ _ _ ⟨hr, -⟩
      omega
    · rintro _ _ _ _ _ _ _ _ ⟨-, j, hj, -⟩
      have hT := I.2.2.2.2.2.2.1
      have : nN ms 68 0 = 0 := by
        rw [nN, hT.2.2.1 (by rw [I.rn.1, hR0]; rfl)]; rfl
      omega
    · exact fun _ _ _ _ _ _ _ _ hr => hr
    · exact fun _ _ _ _ _ _ _ _ hr => hr
    · intro k hk e40 e53 e54 e59 e61 e62 e64 e65 e66 e67 e68 e72 e74 e75 e84 _ _ _ _ _ _ _ hx
      exact absurd hx (exX_no hk e40 e53 e54 e59 e61 e62 e64 e65 e66 e67 e68 e72 e74 e75 e84)
  · rintro k i ⟨rfl, rfl | rfl⟩ hx
    · refine ⟨by rw [a8]; exact Nat.le_refl _, _, by rw [a8]; exact (hM3n 0 (by decide)).trans k2, ?_⟩
      show rb_O 6 _ = rb_O 6 _
      rw [s11, va_up_self, a25, aO 4 _ (by omega)]
    · refine ⟨by rw [a25]; omega, _, by rw [a25, hM3n 1 (by decide)]; exact k3, 0, ?_⟩
      show rb_O 7 _ = rb_O 7 [.int 0, .ref (ad' 35 i), .int (nI (nN ms' 10 i))]
      rw [a35, show nN ms' 10 i = 0 by rw [nN, t10b]; rfl]
      rfl
  · rintro k i k' i' ⟨rfl, rfl | rfl⟩ ⟨rfl, rfl | rfl⟩ _ _ e
    · exact ⟨rfl, rfl⟩
    · rw [a8, a25] at e; omega
    · rw [a8, a25] at e; omega
    · exact ⟨rfl, rfl⟩
  · intro l i hl hx hd
    by_cases hlb : l = 5 ∧ i = b
    · obtain ⟨rfl, rfl⟩ := hlb
      show nN ms' 10 i = 0
      rw [nN, t10b]; rfl
    have hx1 : exL ms l i := by
      by_cases h5 : l = 5
      · subst h5
        have hx : i < 600 ∧ ms'.1 10 i ≠ -9 := hx
        rw [t10 i (by omega)] at hx
        exact hx
      · refine (exL_dep l hl i fun F hF => sO F ?_).mp hx
        have key : ∀ l, l < 10 → l ≠ 5 → ∀ F, F ∈ eL l → F ∉ [10, 11, 15] := by decide
        exact key l hl h5 F hF
    have hlen : lenL ms' l i = lenL ms l i := by
      by_cases h5 : l = 5
      · subst h5
        show nN ms' 10 i = nN ms 10 i
        rw [nN, t10 i (by omega)]
      · refine (lenL_dep l hl i fun F hF => sO F ?_).1
        have key : ∀ l, l < 10 → l ≠ 5 → ∀ F, F ∈ dL l → F ∉ [10, 11, 15] := by decide
        exact key l hl h5 F hF
    rw [hlen]
    refine R.2.2.1 l i hl hx1 ?_
    rw [← hd, aO _ _ (by omega)]
  · intro j hj
    rw [aO 40 j (by omega)]
    exact R.2.2.2 j hj
theorem as4 : rb_AS 6 4 := ⟨_, rfl, Or.inl rfl⟩
set_option maxHeartbeats 1000000 in
theorem X0_bodyTail {κ : rb_K} {p : Nat} {u m c : Int32} (hκ : κ = (g, rb_rm 6 (2, 8), xA g (F_body ms (nI p) u m c) ad h ms0, 2, 8)) (R : Rep g ms ad h ms0 M) (I : Inv B ms) (hw : rb_Wf g M) (hp : p < nN ms 0 0) (hu : 0 ≤ u ∧ u ≤ 2) (hm' : u ≠ 2 → isM m) (hc : ¬ (c ≠ -9 ∧ ¬ (0 ≤ c ∧ c ≤ 16))) : (∃ (v15 : Value), rb_rd M (ad 0 0) 0 7 (v15) ∧ rb_isR v15 ∧ (∃ q16, v15 = .ref q16 ∧ (∃ (d17 : Nat) (n18 : Nat × Nat) (Q19 : Outcome → rb_H → Prop), rb_Ct κ.1 yJ4_isEmpty wJ4_isEmpty d17 n18 [.ref q16] M Q19 ∧ rb_dp κ d17 ∧ rb_rom κ (0 + n18.1, 0 + n18.2) ∧ rb_ob M q16 7 ∧ ∀ (o : Outcome) (M21 : rb_H), Q19 o M21 → (∃ (x20 : Int32), o = .returned (some (.int x20)) ∧ ((¬ x20 = 0 → (∃ (v23 : Value), rb_rd M21 (ad 0 0) 0 2 (v23) ∧ rb_isR v23 ∧ (∃ q24, v23 = .ref q24 ∧ (∃ (d25 : Nat) (n26 : Nat × Nat) (Q27 : Outcome → rb_H → Prop), rb_Ct κ.1 yJ4_get wJ4_get d25 n26 [.ref q24, .int (nI p)] M21 Q27 ∧ rb_dp κ d25 ∧ rb_rom κ (0 + n18.1 + n26.1, 0 + n18.2 + n26.2) ∧ rb_ob M21 q24 7 ∧ ∀ (o : Outcome) (M29 : rb_H), Q27 o M29 → (∃ (v28 : Value), o = .returned (some v28) ∧ rb_isR v28 ∧ (∃ q30, v28 = .ref q30 ∧ (∃ ci31, rb_ob M29 q30 ci31 ∧ rb_CC ci31 "RoleLoom$Part" ∧ (rb_rom κ (0 + n18.1 + n26.1 + 1, 0 + n18.2 + n26.2 + 5) ∧ ((¬ u = (2 : Int32) → (∃ (ci38 : Nat) (d33 : Nat) (n34 : Nat × Nat) (Q35 : Outcome → rb_H → Prop), rb_Ct κ.1 yX6_init wX6_init d33 n34 [.ref M29.1, .ref q30, .int u, .int m, .int c] (rb_nw M29 (rb_O 6 [.null, .int 0, .int 0, .int 0, .null])) Q35 ∧ rb_dp κ d33 ∧ rb_rom κ (0 + n18.1 + n26.1 + 1 + n34.1, 0 + n18.2 + n26.2 + 5 + n34.2) ∧ rb_ob (rb_nw M29 (rb_O 6 [.null, .int 0, .int 0, .int 0, .null])) M29.1 ci38 ∧ ∀ (o : Outcome) (M37 : rb_H), Q35 o M37 → (o = .returned none ∧ (∃ fs39, M37.2 (ad 0 0) = some (rb_O 0 fs39) ∧ 6 < fs39.length ∧ ((¬ u = 0 → ((¬ u = (1 : Int32) → (∃ (v42 : Value), rb_rd (rb_up M37 (ad 0 0) (rb_O 0 (fs39.set 6 (.ref M29.1)))) (ad 0 0) 0 6 (v42) ∧ rb_isR v42 ∧ (∃ fs43, (rb_up M37 (ad 0 0) (rb_O 0 (fs39.set 6 (.ref M29.1)))).2 q30 = some (rb_O 5 fs43) ∧ 7 < fs43.length ∧ (rb_fin κ (0 + n18.1 + n26.1 + 1 + n34.1, 0 + n18.2 + n26.2 + 5 + n34.2) ∧ κ.2.2.1 (.returned (some (.int (1 : Int32)))) (rb_up (rb_up M37 (ad 0 0) (rb_O 0 (fs39.set 6 (.ref M29.1)))) q30 (rb_O 5 (fs43.set 7 v42))))))) ∧ (u = (1 : Int32) → (∃ (v44 : Value), rb_rd (rb_up M37 (ad 0 0) (rb_O 0 (fs39.set 6 (.ref M29.1)))) q30 5 6 (v44) ∧ rb_isR v44 ∧ (∃ (v45 : Value), rb_rd (rb_up M37 (ad 0 0) (rb_O 0 (fs39.set 6 (.ref M29.1)))) (ad 0 0) 0 6 (v45) ∧ rb_isR v45 ∧ (∃ q46, v44 = .ref q46 ∧ (∃ q47, v45 = .ref q47 ∧ (∃ (t48 N49 ci51 : Nat) (f50 : Nat → Option Nat), (rb_up M37 (ad 0 0) (rb_O 0 (fs39.set 6 (.ref M29.1)))).2 q46 = some (rb_R t48 N49 f50) ∧ (3 ≤ t48 ∧ t48 ≤ 6) ∧ vp_in m N49 ∧ rb_ob (rb_up M37 (ad 0 0) (rb_O 0 (fs39.set 6 (.ref M29.1)))) q47 ci51 ∧ rb_AS ci51 t48 ∧ (rb_fin κ (0 + n18.1 + n26.1 + 1 + n34.1, 0 + n18.2 + n26.2 + 5 + n34.2) ∧ κ.2.2.1 (.returned (some (.int (1 : Int32)))) (rb_up (rb_up M37 (ad 0 0) (rb_O 0 (fs39.set 6 (.ref M29.1)))) q46 (rb_R t48 N49 (va_up f50 (m).toNatClampNeg (some q47))))))))))))) ∧ (u = 0 → (∃ (v52 : Value), rb_rd (rb_up M37 (ad 0 0) (rb_O 0 (fs39.set 6 (.ref M29.1)))) q30 5 5 (v52) ∧ rb_isR v52 ∧ (∃ (v53 : Value), rb_rd (rb_up M37 (ad 0 0) (rb_O 0 (fs39.set 6 (.ref M29.1)))) (ad 0 0) 0 6 (v53) ∧ rb_isR v53 ∧ (∃ q54, v52 = .ref q54 ∧ (∃ q55, v53 = .ref q55 ∧ (∃ (t56 N57 ci59 : Nat) (f58 : Nat → Option Nat), (rb_up M37 (ad 0 0) (rb_O 0 (fs39.set 6 (.ref M29.1)))).2 q54 = some (rb_R t56 N57 f58) ∧ (3 ≤ t56 ∧ t56 ≤ 6) ∧ vp_in m N57 ∧ rb_ob (rb_up M37 (ad 0 0) (rb_O 0 (fs39.set 6 (.ref M29.1)))) q55 ci59 ∧ rb_AS ci59 t56 ∧ (rb_fin κ (0 + n18.1 + n26.1 + 1 + n34.1, 0 + n18.2 + n26.2 + 5 + n34.2) ∧ κ.2.2.1 (.returned (some (.int (1 : Int32)))) (rb_up (rb_up M37 (ad 0 0) (rb_O 0 (fs39.set 6 (.ref M29.1)))) q54 (rb_R t56 N57 (va_up f58 (m).toNatClampNeg (some q55)))))))))))))))) ∧ (u = (2 : Int32) → (∃ (ci65 : Nat) (d60 : Nat) (n61 : Nat × Nat) (Q62 : Outcome → rb_H → Prop), rb_Ct κ.1 yX6_init wX6_init d60 n61 [.ref M29.1, .ref q30, .int u, .int (-9 : Int32), .int c] (rb_nw M29 (rb_O 6 [.null, .int 0, .int 0, .int 0, .null])) Q62 ∧ rb_dp κ d60 ∧ rb_rom κ (0 + n18.1 + n26.1 + 1 + n61.1, 0 + n18.2 + n26.2 + 5 + n61.2) ∧ rb_ob (rb_nw M29 (rb_O 6 [.null, .int 0, .int 0, .int 0, .null])) M29.1 ci65 ∧ ∀ (o : Outcome) (M64 : rb_H), Q62 o M64 → (o = .returned none ∧ (∃ fs66, M64.2 (ad 0 0) = some (rb_O 0 fs66) ∧ 6 < fs66.length ∧ ((¬ u = 0 → ((¬ u = (1 : Int32) → (∃ (v69 : Value), rb_rd (rb_up M64 (ad 0 0) (rb_O 0 (fs66.set 6 (.ref M29.1)))) (ad 0 0) 0 6 (v69) ∧ rb_isR v69 ∧ (∃ fs70, (rb_up M64 (ad 0 0) (rb_O 0 (fs66.set 6 (.ref M29.1)))).2 q30 = some (rb_O 5 fs70) ∧ 7 < fs70.length ∧ (rb_fin κ (0 + n18.1 + n26.1 + 1 + n61.1, 0 + n18.2 + n26.2 + 5 + n61.2) ∧ κ.2.2.1 (.returned (some (.int (1 : Int32)))) (rb_up (rb_up M64 (ad 0 0) (rb_O 0 (fs66.set 6 (.ref M29.1)))) q30 (rb_O 5 (fs70.set 7 v69))))))) ∧ (u = (1 : Int32) → (∃ (v71 : Value), rb_rd (rb_up M64 (ad 0 0) (rb_O 0 (fs66.set 6 (.ref M29.1)))) q30 5 6 (v71) ∧ rb_isR v71 ∧ (∃ (v72 : Value), rb_rd (rb_up M64 (ad 0 0) (rb_O 0 (fs66.set 6 (.ref M29.1)))) (ad 0 0) 0 6 (v72) ∧ rb_isR v72 ∧ (∃ q73, v71 = .ref q73 ∧ (∃ q74, v72 = .ref q74 ∧ (∃ (t75 N76 ci78 : Nat) (f77 : Nat → Option Nat), (rb_up M64 (ad 0 0) (rb_O 0 (fs66.set 6 (.ref M29.1)))).2 q73 = some (rb_R t75 N76 f77) ∧ (3 ≤ t75 ∧ t75 ≤ 6) ∧ vp_in m N76 ∧ rb_ob (rb_up M64 (ad 0 0) (rb_O 0 (fs66.set 6 (.ref M29.1)))) q74 ci78 ∧ rb_AS ci78 t75 ∧ (rb_fin κ (0 + n18.1 + n26.1 + 1 + n61.1, 0 + n18.2 + n26.2 + 5 + n61.2) ∧ κ.2.2.1 (.returned (some (.int (1 : Int32)))) (rb_up (rb_up M64 (ad 0 0) (rb_O 0 (fs66.set 6 (.ref M29.1)))) q73 (rb_R t75 N76 (va_up f77 (m).toNatClampNeg (some q74))))))))))))) ∧ (u = 0 → (∃ (v79 : Value), rb_rd (rb_up M64 (ad 0 0) (rb_O 0 (fs66.set 6 (.ref M29.1)))) q30 5 5 (v79) ∧ rb_isR v79 ∧ (∃ (v80 : Value), rb_rd (rb_up M64 (ad 0 0) (rb_O 0 (fs66.set 6 (.ref M29.1)))) (ad 0 0) 0 6 (v80) ∧ rb_isR v80 ∧ (∃ q81, v79 = .ref q81 ∧ (∃ q82, v80 = .ref q82 ∧ (∃ (t83 N84 ci86 : Nat) (f85 : Nat → Option Nat), (rb_up M64 (ad 0 0) (rb_O 0 (fs66.set 6 (.ref M29.1)))).2 q81 = some (rb_R t83 N84 f85) ∧ (3 ≤ t83 ∧ t83 ≤ 6) ∧ vp_in m N84 ∧ rb_ob (rb_up M64 (ad 0 0) (rb_O 0 (fs66.set 6 (.ref M29.1)))) q82 ci86 ∧ rb_AS ci86 t83 ∧ (rb_fin κ (0 + n18.1 + n26.1 + 1 + n61.1, 0 + n18.2 + n26.2 + 5 + n61.2) ∧ κ.2.2.1 (.returned (some (.int (1 : Int32)))) (rb_up (rb_up M64 (ad 0 0) (rb_O 0 (fs66.set 6 (.ref M29.1)))) q81 (rb_R t83 N84 (va_up f85 (m).toNatClampNeg (some q82))))))))))))))))))))))))) ∧ (x20 = 0 → (rb_fin κ (0 + n18.1, 0 + n18.2) ∧ κ.2.2.1 (.returned (some (.int (-4 : Int32)))) M21))))))) := by
  subst hκ
  obtain ⟨sg, hm⟩ := R.main
  have hpn := I.pn
  have hrn := I.rn
  have hP := R.ls 0 0 (by decide) rfl
  have hR := R.ls 1 0 (by decide) rfl
  have hbad : ¬ (¬ isP ms (nI p) ∨ ¬ (0 ≤ u ∧ u ≤ 2) ∨ (u ≠ 2 ∧ ¬ isM m) ∨ (c ≠ -9 ∧ ¬ (0 ≤ c ∧ c ≤ 16))) := by
    rintro (q | q | q | q)
    · exact q ((isP_iff I.P).mpr ⟨p, hp, rfl⟩)
    · exact q hu
    · exact q.2 (hm' q.1)
    · exact hc q
  refine ⟨_, ⟨_, hm, rfl⟩, rb_isR_ref _, _, rfl, uIo (J4_isEmpty hR (show lenL ms 1 0 < 2 ^ 31 by show nN ms 24 0 < _; omega)) (rb_dpk (by decide)) zr hR.ob ⟨fun h5 => ?_, fun h5 => ⟨zf, ?_⟩⟩⟩
  · have hR0 : nN ms 24 0 = 0 := Classical.not_not.mp fun q => h5 (by rw [show lenL ms 1 0 = nN ms 24 0 from rfl, if_neg q])
    have h5 := I.emp.mp h5
    obtain ⟨b, hb, hbp, eb, eu, em⟩ := F_bodyOf_n (p := p) (by omega) hu hm'
    have hF : F_body ms (nI p) u m c = (1, mm_sI (mm_sI (mm_sI ms 15 0 (nI b)) 10 b 0) 11 b c) := by
      rw [F_body, if_neg hbad, if_neg h5, eb, nv_nI (by omega)]
    have hlt0 := R.lt hw (k := 0) (i := 0) rfl
    have hltP := R.lt hw (k := 4) (i := p) hp
    have hfin : ∀ (M1 : rb_H), M1.1 = M.1 + 1 + 1 → M1.2 M.1 = some (rb_O 6 [.ref (ad 4 p), .int (buse b), .int (bmem b), .int c, .ref (M.1 + 1)]) → M1.2 (M.1 + 1) = some (rb_O 7 [.int 0, .ref (rb_dc g), .int 0]) → (∀ x, x ≠ M.1 → x < M.1 + 1 → M1.2 x = (rb_nw M (rb_O 6 [.null, .int 0, .int 0, .int 0, .null])).2 x) →
        M1.2 (ad 0 0) = some (rb_O 0 (mnFs ms ad sg)) ∧ (∀ x, x < M.1 → M1.2 x = M.2 x) := by
      intro M1 k1 k2 k3 k4
      have k7 : ∀ x, x < M.1 → M1.2 x = M.2 x := fun x hx => by rw [k4 x (Nat.ne_of_lt hx) (by omega), rb_nw_ne (Nat.ne_of_lt hx)]
      exact ⟨by rw [k7 _ hlt0]; exact hm, k7⟩
    have n4 : ad 4 p ≠ ad 0 0 := R.ne (k := 4) (k' := 0) hp rfl (by omega)
    have n5 : ad 5 p ≠ ad 0 0 := R.ne (k := 5) (k' := 0) hp rfl (by omega)
    have n6 : ad 6 p ≠ ad 0 0 := R.ne (k := 6) (k' := 0) hp rfl (by omega)
    have hlt5 := R.lt hw (k := 5) (i := p) hp
    have hlt6 := R.lt hw (k := 6) (i := p) hp
    obtain ⟨c5, hc5, f5, rfl, hf5⟩ := R.1 5 p hp
    obtain ⟨c6, hc6, f6, rfl, hf6⟩ := R.1 6 p hp
    subst hbp
    refine ⟨_, ⟨_, hm, rfl⟩, rb_isR_ref _, _, rfl, uRo (J4_get hP hp) (rb_dpk (by decide)) zr hP.ob ⟨_, rfl, 5, R.obP hp, cc_5, ⟨nb rfl, nb rfl⟩, fun h6 => ?_, fun h6 => ?_⟩⟩
    · obtain ⟨k, hk, rfl⟩ := isM_iff.mp (hm' h6)
      have ek : (nI k).toNatClampNeg = k := nI_clamp (by omega)
      rw [if_neg h6] at em
      refine ⟨6, _, _, _, X6_init rb_nw_eq, rb_dpk (by decide), ⟨nb rfl, nb rfl⟩, ⟨_, rb_nw_eq⟩, ?_⟩
      rintro _ M1 ⟨rfl, k1, k2, k3, k4⟩
      obtain ⟨hm1, k7⟩ := hfin M1 k1 (by rw [eu, em]; exact k2) k3 k4
      refine ⟨rfl, _, hm1, nl rfl, fun h7 => ⟨fun h8 => ?_, fun h8 => ?_⟩, fun h7 => ?_⟩
      · exfalso
        obtain ⟨w, hw', rfl⟩ := (pIn_nat (b := 2) (by decide)).mp hu
        have : w = 0 ∨ w = 1 ∨ w = 2 := by omega
        rcases this with rfl | rfl | rfl
        · exact h7 rfl
        · exact h8 rfl
        · exact h6 rfl
      · have hbk : b % 25 = 12 + k ∧ 12 ≤ b % 25 ∧ b % 25 < 24 := by
          rw [h8, buse] at eu
          rw [bmem] at em
          by_cases q : b % 25 = 24
          · rw [if_pos q] at eu; exact absurd eu (by decide)
          · rw [if_neg q] at eu em
            by_cases q2 : b % 25 < 12
            · rw [if_pos q2] at eu; exact absurd eu (by decide)
            · have := (nI_eq (by omega) (by omega)).mp em
              omega
        refine ⟨_, ⟨_, by rw [rb_up_ne n4, k7 _ hltP]; exact R.part hp, rfl⟩, rb_isR_ref _, _, ⟨_, rb_up_eq, rfl⟩, rb_isR_ref _, _, rfl, _, rfl, 4, 12, 6, f6, by rw [rb_up_ne n6, k7 _ hlt6]; exact hc6, ⟨by decide, by decide⟩, vp_in_nI hk (by decide), ⟨_, by rw [rb_up_ne (by omega)]; exact k2⟩, as4, ⟨nb rfl, nb rfl⟩, ?_⟩
        rw [hF]
        refine ⟨rfl, R.newBody I hw hR0 (b := b) (cx := c) hb hp (by rw [eu, em]; exact k2) k3 k7 rfl (kt := 6) (Or.inr (Or.inl ⟨rfl, hbk.2⟩)) fun ad' h1 h2 => ⟨_, rfl, fun j hj => ?_⟩⟩
        rw [ek]
        by_cases hjk : j = k
        · subst hjk
          rw [va_up_self, bRf]
          have e1 : 25 * (b / 25) + 12 + j = b := by omega
          rw [e1, mm_sI_ne (by decide), mm_sI_k, va_up_self, if_neg (by decide), h2]
        · simp only [va_up, if_neg hjk]
          rw [hf6 j hj, bRf, bRf, mm_sI_ne (by decide), mm_sI_k, mm_sI_ne (by decide)]
          simp only [va_up, if_neg (show ¬ (25 * (b / 25) + 12 + j = b) by omega)]
          rw [h1 8 _ (by omega)]
      · have hbk : b % 25 = k ∧ b % 25 < 12 := by
          rw [h7, buse] at eu
          rw [bmem] at em
          by_cases q : b % 25 = 24
          · rw [if_pos q] at eu; exact absurd eu (by decide)
          · rw [if_neg q] at eu em
            by_cases q2 : b % 25 < 12
            · have := (nI_eq (by omega) (by omega)).mp em
              omega
            · rw [if_neg q2] at eu; exact absurd eu (by decide)
        refine ⟨_, ⟨_, by rw [rb_up_ne n4, k7 _ hltP]; exact R.part hp, rfl⟩, rb_isR_ref _, _, ⟨_, rb_up_eq, rfl⟩, rb_isR_ref _, _, rfl, _, rfl, 4, 12, 6, f5, by rw [rb_up_ne n5, k7 _ hlt5]; exact hc5, ⟨by decide, by decide⟩, vp_in_nI hk (by decide), ⟨_, by rw [rb_up_ne (by omega)]; exact k2⟩, as4, ⟨nb rfl, nb rfl⟩, ?_⟩
        rw [hF]
        refine ⟨rfl, R.newBody I hw hR0 (b := b) (cx := c) hb hp (by rw [eu, em]; exact k2) k3 k7 rfl (kt := 5) (Or.inl ⟨rfl, hbk.2⟩) fun ad' h1 h2 => ⟨_, rfl, fun j hj => ?_⟩⟩
        rw [ek]
        by_cases hjk : j = k
        · subst hjk
          rw [va_up_self, bRf]
          have e1 : 25 * (b / 25) + j = b := by omega
          rw [e1, mm_sI_ne (by decide), mm_sI_k, va_up_self, if_neg (by decide), h2]
        · simp only [va_up, if_neg hjk]
          rw [hf5 j hj, bRf, bRf, mm_sI_ne (by decide), mm_sI_k, mm_sI_ne (by decide)]
          simp only [va_up, if_neg (show ¬ (25 * (b / 25) + j = b) by omega)]
          rw [h1 8 _ (by omega)]
    · rw [if_pos h6] at em
      subst h6
      refine ⟨6, _, _, _, X6_init rb_nw_eq, rb_dpk (by decide), ⟨nb rfl, nb rfl⟩, ⟨_, rb_nw_eq⟩, ?_⟩
      rintro _ M1 ⟨rfl, k1, k2, k3, k4⟩
      obtain ⟨hm1, k7⟩ := hfin M1 k1 (by rw [eu, em]; exact k2) k3 k4
      have hbk : b % 25 = 24 := by
        rw [bmem] at em
        by_cases q : b % 25 = 24
        · exact q
        · rw [if_neg q] at em
          have := nI_pos (n := b % 25 % 12) (by omega)
          rw [em] at this
          exact absurd (by decide) this
      refine ⟨rfl, _, hm1, nl rfl, fun _ => ⟨fun _ => ?_, fun h8 => absurd h8 (by decide)⟩, fun h7 => absurd h7 (by decide)⟩
      refine ⟨_, ⟨_, rb_up_eq, rfl⟩, rb_isR_ref _, _, by rw [rb_up_ne n4, k7 _ hltP]; exact R.part hp, nl rfl, ⟨nb rfl, nb rfl⟩, ?_⟩
      rw [hF]
      refine ⟨rfl, R.newBody I hw hR0 (b := b) (cx := c) hb hp (by rw [eu, em]; exact k2) k3 k7 rfl (kt := 4) (Or.inr (Or.inr ⟨rfl, hbk⟩)) fun ad' h1 h2 => ?_⟩
      show rb_O 5 _ = rb_O 5 _
      have e1 : 25 * (b / 25) + 24 = b := by omega
      have eB : bRf (mm_sI (mm_sI (mm_sI ms 15 0 (nI b)) 10 b 0) 11 b c) ad' (25 * (b / 25) + 24) = some M.1 := by
        rw [bRf, e1, mm_sI_ne (by decide), mm_sI_k, va_up_self, if_neg (by decide), h2]
      rw [eB, h1 24 _ (by omega), h1 5 _ (by omega), h1 6 _ (by omega), h1 7 _ (by omega)]
      rfl
  · have h5 : 0 < ms.1 24 0 := Classical.not_not.mp fun q => (I.emp.mpr q) h5
    exact xA_of (by rw [F_body, if_neg hbad, if_pos h5]) R
theorem X0_body (R : Rep g ms ad h ms0 M) (I : Inv B ms) {a u m c : Int32} : rb_Ct g yX0_body wX0_body 6 (2, 8) [.ref (ad 0 0), .int a, .int u, .int m, .int c] M (xA g (F_body ms a u m c) ad h ms0) := by
  refine rb_Ct.of (by decide) (Nat.le_of_ble_eq_true rfl) rfl ?_
  refine rb_know fun hw => ?_
  have hw : rb_Wf g M := hw
  refine sgX0_body_0 (uIo (X0_isPart R I.P) (rb_dpk (by decide)) zr R.ob0 ⟨fun h1 => ⟨zf, ?_⟩, fun h1 => uI X0_in (rb_dpk (by decide)) zr ⟨fun h2 => ⟨zf, ?_⟩, fun h2 => ?_⟩⟩) <;> rw [pIn0] at *
  · exact xA_of (by rw [F_body, if_pos (Or.inl h1)]) R
  · exact xA_of (by rw [F_body, if_pos (Or.inr (Or.inl h2))]) R
  have hh1 := Decidable.not_not.mp h1
  have hh2 := Decidable.not_not.mp h2
  have hu2 : 2 ≤ u → u = 2 := fun q => Int32.le_antisymm hh2.2 q
  obtain ⟨p, hp, rfl⟩ := (isP_iff I.P).mp hh1
  refine ⟨fun h3 => ?_, fun h3 => uI X0_in (rb_dpk (by decide)) zr ⟨fun h4 => ⟨zf, ?_⟩, fun h4 => ?_⟩⟩
  · have hm' : u ≠ 2 → isM m := fun q => absurd (hu2 h3) q
    refine ⟨fun h5 => X0_bodyTail rfl R I hw hp hh2 hm' (fun q => q.1 h5), fun h5 => uI X0_in (rb_dpk (by decide)) zr ⟨fun h6 => ?_, fun h6 => ⟨zf, ?_⟩⟩⟩
    · rw [pIn0] at h6
      exact X0_bodyTail rfl R I hw hp hh2 hm' (fun q => h6 q.2)
    · rw [pIn0] at h6
      exact xA_of (by rw [F_body, if_pos (Or.inr (Or.inr (Or.inr ⟨h5, h6⟩)))]) R
  · rw [pIn0] at h4
    refine xA_of (by rw [F_body, if_pos (Or.inr (Or.inr (Or.inl ⟨?_, h4⟩)))]) R
    intro q
    rw [q] at h3
    exact absurd h3 (by decide)
  · rw [pIn0] at h4
    have hm' : u ≠ 2 → isM m := fun _ => Decidable.not_not.mp h4
    refine ⟨fun h5 => X0_bodyTail rfl R I hw hp hh2 hm' (fun q => q.1 h5), fun h5 => uI X0_in (rb_dpk (by decide)) zr ⟨fun h6 => ?_, fun h6 => ⟨zf, ?_⟩⟩⟩
    · rw [pIn0] at h6
      exact X0_bodyTail rfl R I hw hp hh2 hm' (fun q => h6 q.2)
    · rw [pIn0] at h6
      exact xA_of (by rw [F_body, if_pos (Or.inr (Or.inr (Or.inr ⟨h5, h6⟩)))]) R
end C10
