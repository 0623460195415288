set_option maxRecDepth 100000
section C12
variable {g : rb_G} {ms ms' : mm_S} {ad : aD} {h : Nat} {ms0 : mm_S} {M M' : rb_H} {B : Nat}
theorem Inv.mn (I : Inv B ms) {b : Nat} (hb : b < 600) (hb2 : ms.1 10 b ≠ -9) : ms.1 10 b = nI (nN ms 10 b) ∧ nN ms 10 b ≤ 10 := by
  rcases (I.2.2.1.1 b hb).1 with q | q
  · exact absurd q hb2
  · exact q.n (by decide)
/-- an act is hung into a body -/
theorem Rep.newAct (R : Rep g ms ad h ms0 M) (I : Inv B ms) (hw : rb_Wf g M) {b w : Nat} {a x : Int32} (hb : b < 600) (hb2 : ms.1 10 b ≠ -9) (hn : nN ms 10 b < 10) (hwk : w ≤ 19) {M1 M3 : rb_H} (hM1 : M1 = rb_nw M (rb_O (aCi w) (aFs w a x (ad 0 0)))) (hA : LSad g M1 (ad 25 b) (ad 35 b) (nN ms 10 b) (eltL ms ad 5 b) M.1 M3)
    (hms : ms' = mm_sI (mm_sI (mm_sI (mm_sI ms 12 (10 * b + nN ms 10 b) (nI w)) 13 (10 * b + nN ms 10 b) a) 14 (10 * b + nN ms 10 b) x) 10 b (ms.1 10 b + 1)) : ∃ ad', ad' 0 0 = ad 0 0 ∧ Rep g ms' ad' h ms0 M3 := by
  have hmn := I.mn hb hb2
  obtain ⟨r', hL', hr', hot⟩ := hA
  have k7 : ∀ y, y < M.1 → M1.2 y = M.2 y := fun y hy => by rw [hM1, rb_nw_ne (Nat.ne_of_lt hy)]
  have k8 : M1.2 M.1 = some (rb_O (aCi w) (aFs w a x (ad 0 0))) := by rw [hM1, rb_nw_eq]
  have hx25 : exX g ms ad 25 b := ⟨hb, hb2⟩
  have hr1 : r' = ad 35 b ∧ ad 35 b ≠ rb_dc g ∨ r' = M.1 + 1 := by
    rcases hr' with ⟨q1, e, q2⟩ | q
    · left
      refine ⟨q1, fun q => ?_⟩
      rw [q, k7 _ (by have := hw.2.1; have := hw.1; omega)] at q2
      exact absurd (hw.2.2 _ _ q2).1 (Nat.not_le.mpr hw.2.1)
    · right; rw [q, hM1]; rfl
  have hrdc : r' ≠ rb_dc g := by
    rcases hr1 with ⟨q1, q2⟩ | q
    · rw [q1]; exact q2
    · have := hw.2.1; have := hw.1; omega
  have hrlt : r' < M.1 ∨ r' = M.1 + 1 := by
    rcases hr1 with ⟨q1, q2⟩ | q
    · left; rw [q1]; exact R.lt hw (k := 35) (i := b) ⟨⟨hb, hb2⟩, q2⟩
    · right; exact q
  have s10 : ms'.1 10 = va_up (ms.1 10) b (ms.1 10 b + 1) := by rw [hms, mm_sI_k, mm_sI_ne (by decide), mm_sI_ne (by decide), mm_sI_ne (by decide)]
  have s12 : ms'.1 12 = va_up (ms.1 12) (10 * b + nN ms 10 b) (nI w) := by rw [hms, mm_sI_ne (by decide), mm_sI_ne (by decide), mm_sI_ne (by decide), mm_sI_k]
  have s13 : ms'.1 13 = va_up (ms.1 13) (10 * b + nN ms 10 b) a := by rw [hms, mm_sI_ne (by decide), mm_sI_ne (by decide), mm_sI_k, mm_sI_ne (by decide)]
  have s14 : ms'.1 14 = va_up (ms.1 14) (10 * b + nN ms 10 b) x := by rw [hms, mm_sI_ne (by decide), mm_sI_k, mm_sI_ne (by decide), mm_sI_ne (by decide)]
  have sO : ∀ F, F ∉ [10, 12, 13, 14] → sameF ms ms' F := by
    intro F hF
    simp only [List.mem_cons, List.not_mem_nil, or_false, not_or] at hF
    rw [hms]
    exact ⟨by rw [mm_sI_ne hF.1, mm_sI_ne hF.2.2.2, mm_sI_ne hF.2.2.1, mm_sI_ne hF.2.1], rfl⟩
  have t10 : ∀ y, y ≠ b → ms'.1 10 y = ms.1 10 y := fun y hy => by rw [s10]; simp [va_up, hy]
  have n10 : nN ms' 10 b = nN ms 10 b + 1 := by
    have : nN ms' 10 b = (nI (nN ms 10 b + 1)).toNatClampNeg := by rw [nN, s10, va_up_self, hmn.1, nI_1]
    rw [this, nI_clamp (by omega)]
  have t9 : ms'.1 10 b ≠ -9 := by
    rw [s10, va_up_self, hmn.1, nI_1]
    intro q
    have := nI_pos (n := nN ms 10 b + 1) (by omega)
    rw [q] at this
    exact this (by decide)
  have i9 : ∀ y, (ms'.1 10 y = -9 ↔ ms.1 10 y = -9) := by
    intro y
    by_cases hy : y = b
    · subst hy; exact ⟨fun q => absurd q t9, fun q => absurd q hb2⟩
    · rw [t10 y hy]
  let ad' : aD := fun k i => if k = 9 ∧ i = 10 * b + nN ms 10 b then M.1 else if k = 35 ∧ i = b then r' else ad k i
  have a9 : ad' 9 (10 * b + nN ms 10 b) = M.1 := if_pos ⟨rfl, rfl⟩
  have a35 : ad' 35 b = r' := by
    show (if (35 : Nat) = 9 ∧ _ then M.1 else _) = _
    rw [if_neg (by omega), if_pos ⟨rfl, rfl⟩]
  have aO : ∀ k i, ¬ (k = 9 ∧ i = 10 * b + nN ms 10 b) → ¬ (k = 35 ∧ i = b) → ad' k i = ad k i := by
    intro k i q1 q2
    show (if k = 9 ∧ _ then M.1 else _) = _
    rw [if_neg q1, if_neg q2]
  have hbrf : ∀ y, bRf ms' ad' y = bRf ms ad y := by
    intro y
    unfold bRf
    by_cases e : ms.1 10 y = -9
    · rw [if_pos e, if_pos ((i9 y).mpr e)]
    · rw [if_neg e, if_neg (fun q => e ((i9 y).mp q)), aO 8 y (by omega) (by omega)]
  have hM3 : ∀ k i, exX g ms ad k i → ¬ (k = 25 ∧ i = b) → ¬ (k = 35 ∧ i = b) → M3.2 (ad k i) = M.2 (ad k i) := by
    intro k i hx q1 q2
    have hl := R.lt hw hx
    rw [hot _ (R.ne hx hx25 (by omega)) ?_, k7 _ hl]
    rcases hr1 with ⟨e1, e2⟩ | e
    · rw [e1]; exact R.ne hx (k' := 35) (i' := b) ⟨⟨hb, hb2⟩, e2⟩ (by omega)
    · omega
  have hcap : ∃ cap, nN ms 10 b + 1 ≤ cap ∧ 1 ≤ cap ∧ cap ≤ 200 ∧ M3.2 r' = some (rb_R 3 cap (fun t => if t < nN ms 10 b + 1 then some (if t = nN ms 10 b then M.1 else eltL ms ad 5 b t) else none)) := by
    rcases hL'.2 with ⟨q, -⟩ | q
    · omega
    · exact q
  have hokE : ∀ c, M3.2 r' = some c → okE ms' ad' 5 b c := by
    intro c hc
    obtain ⟨cap, q1, q2, q3, q4⟩ := hcap
    rw [q4] at hc
    cases hc
    refine ⟨cap, by show nN ms' 10 b ≤ cap; omega, q2, q3, ?_⟩
    congr 4
    funext t
    show _ = if t < nN ms' 10 b then some (ad' 9 (10 * b + t)) else none
    rw [n10]
    by_cases ht : t < nN ms 10 b + 1
    · rw [if_pos ht, if_pos ht]
      by_cases ht2 : t = nN ms 10 b
      · rw [if_pos ht2, ht2, a9]
      · rw [if_neg ht2, aO 9 _ (by omega) (by omega)]
        rfl
    · rw [if_neg ht, if_neg ht]
  refine ⟨ad', aO 0 0 (by omega) (by omega), R.build hw (fun k i => (k = 9 ∧ i = 10 * b + nN ms 10 b) ∨ (k = 35 ∧ i = b ∧ r' = M.1 + 1)) ?_ ?_ ?_ ?_ ?_ ?_⟩
  · intro k i hx hn'
    by_cases h35 : k = 35 ∧ i = b
    · obtain ⟨rfl, rfl⟩ := h35
      rcases hr1 with ⟨e1, e2⟩ | e
      · exact ⟨⟨⟨hb, hb2⟩, e2⟩, by rw [a35, e1]⟩
      · exact absurd (Or.inr ⟨rfl, rfl, e⟩) hn'
    have h9 : ¬ (k = 9 ∧ i = 10 * b + nN ms 10 b) := fun q => hn' (Or.inl q)
    have ea := aO k i h9 h35
    refine ⟨?_, ea⟩
    have hx2 : exX g ms' ad k i := by
      unfold exX at hx ⊢
      rw [ea] at hx
      exact hx
    by_cases e8 : k = 8
    · subst e8
      have hx2 : i < 600 ∧ ms'.1 10 i ≠ -9 := hx2
      exact ⟨hx2.1, fun q => hx2.2 ((i9 i).mpr q)⟩
    by_cases e25 : k = 25
    · subst e25
      have hx2 : i < 600 ∧ ms'.1 10 i ≠ -9 := hx2
      exact ⟨hx2.1, fun q => hx2.2 ((i9 i).mpr q)⟩
    by_cases e35 : k = 35
    · subst e35
      obtain ⟨hx2, hx3⟩ := hx2
      have hx2 : i < 600 ∧ ms'.1 10 i ≠ -9 := hx2
      exact ⟨⟨hx2.1, fun q => hx2.2 ((i9 i).mpr q)⟩, hx3⟩
    by_cases e9 : k = 9
    · subst e9
      have hx2 : i / 10 < 600 ∧ ms'.1 10 (i / 10) ≠ -9 ∧ i % 10 < nN ms' 10 (i / 10) := hx2
      by_cases hib : i / 10 = b
      · rw [hib] at hx2
        refine ⟨by omega, by rw [hib]; exact hb2, ?_⟩
        rw [hib]
        omega
      · rw [nN, t10 _ hib] at hx2
        exact hx2
    · refine (exX_dep k i fun F hF => sO F ?_).mp hx2
      have key : ∀ k, k < 40 → k ∉ [8, 9, 25, 35] → ∀ F, F ∈ eX k → F ∉ [10, 12, 13, 14] := by decide
      rcases Nat.lt_or_ge k 40 with hk40 | hk40
      · exact key k hk40 (by simp [e8, e9, e25, e35]) F hF
      · unfold eX at hF
        rw [if_neg (by omega), if_neg (by omega), if_neg (by omega)] at hF
        cases hF
  · intro k i hx hx' hn'
    by_cases e25b : k = 25 ∧ i = b
    · obtain ⟨rfl, rfl⟩ := e25b
      obtain ⟨⟨md, hL1⟩, -⟩ := hL'
      right
      refine ⟨_, hL1, md, ?_⟩
      show rb_O 7 _ = rb_O 7 [.int md, .ref (ad' 35 i), .int (nI (nN ms' 10 i))]
      rw [a35, n10]
    by_cases e35b : k = 35 ∧ i = b
    · obtain ⟨rfl, rfl⟩ := e35b
      right
      rcases hr1 with ⟨e1, e2⟩ | e
      · obtain ⟨cap, q1, q2, q3, q4⟩ := hcap
        exact ⟨_, by rw [← e1]; exact q4, hokE _ q4⟩
      · exact absurd (Or.inr ⟨rfl, rfl, e⟩) hn'
    have hc := hM3 k i hx e25b e35b
    obtain ⟨cc, q1, q2⟩ := R.1 k i hx
    by_cases e4 : k = 4
    · subst e4
      right
      refine ⟨cc, by rw [hc]; exact q1, ?_⟩
      have q2 : ok4 ms ad h ms0 i cc := q2
      show ok4 ms' ad' h ms0 i cc
      unfold ok4 at q2 ⊢
      rw [hbrf _, (sO 1 (by decide)).1, (sO 2 (by decide)).1, (sO 3 (by decide)).1, aO 24 i (by omega) (by omega), aO 5 i (by omega) (by omega), aO 6 i (by omega) (by omega), aO 7 i (by omega) (by omega)]
      exact q2
    by_cases e5 : k = 5
    · subst e5
      right
      obtain ⟨f, rfl, hf⟩ := q2
      exact ⟨_, by rw [hc]; exact q1, f, rfl, fun m hm => by rw [hf m hm, hbrf _]⟩
    by_cases e6 : k = 6
    · subst e6
      right
      obtain ⟨f, rfl, hf⟩ := q2
      exact ⟨_, by rw [hc]; exact q1, f, rfl, fun m hm => by rw [hf m hm, hbrf _]⟩
    by_cases e9 : k = 9
    · subst e9
      have hi9 : i ≠ 10 * b + nN ms 10 b := fun q => hn' (Or.inl ⟨rfl, q⟩)
      right
      refine ⟨cc, by rw [hc]; exact q1, ?_⟩
      have q2 : ok9 ms ad h ms0 i cc := q2
      show ok9 ms' ad' h ms0 i cc
      unfold ok9 at q2 ⊢
      rw [nN, s12, s13, s14, aO 0 0 (by omega) (by omega)]
      simp only [va_up, if_neg hi9]
      exact q2
    by_cases e25 : k = 25
    · subst e25
      have hib : i ≠ b := fun q => e25b ⟨rfl, q⟩
      right
      refine ⟨cc, by rw [hc]; exact q1, ?_⟩
      obtain ⟨md, rfl⟩ := q2
      refine ⟨md, ?_⟩
      show rb_O 7 _ = rb_O 7 [.int md, .ref (ad' 35 i), .int (nI (nN ms' 10 i))]
      rw [aO 35 i (by omega) (by omega), nN, t10 i hib]
      rfl
    by_cases e35 : k = 35
    · subst e35
      have hib : i ≠ b := fun q => e35b ⟨rfl, q⟩
      have hx2 : i < 600 ∧ ms.1 10 i ≠ -9 := hx.1
      have hmi := I.mn hx2.1 hx2.2
      right
      refine ⟨cc, by rw [hc]; exact q1, ?_⟩
      obtain ⟨cap, z1, z2, z3, rfl⟩ := q2
      refine ⟨cap, ?_, z2, z3, ?_⟩
      · show nN ms' 10 i ≤ cap
        rw [nN, t10 i hib]; exact z1
      · congr 4
        funext t
        show (if t < nN ms 10 i then some (ad 9 (10 * i + t)) else none) = if t < nN ms' 10 i then some (ad' 9 (10 * i + t)) else none
        rw [show nN ms' 10 i = nN ms 10 i by rw [nN, t10 i hib]]
        by_cases ht : t < nN ms 10 i
        · rw [if_pos ht, if_pos ht, aO 9 _ (by omega) (by omega)]
        · rw [if_neg ht, if_neg ht]
    left
    refine ⟨hc, fun F hF => sO F (dX_not [10, 12, 13, 14] [4, 5, 6, 9, 25, 35] (by decide) k (by simp; omega) F hF), fun k' i' hr => aO k' i' ?_ ?_⟩
    · rintro ⟨rfl, rfl⟩
      rcases rX_ex I hx hr with q | ⟨q1, q2, q3, q4⟩
      · have q : (10 * b + nN ms 10 b) / 10 < 600 ∧ ms.1 10 ((10 * b + nN ms 10 b) / 10) ≠ -9 ∧ (10 * b + nN ms 10 b) % 10 < nN ms 10 ((10 * b + nN ms 10 b) / 10) := q
        rw [show (10 * b + nN ms 10 b) / 10 = b by omega] at q
        omega
      · omega
    · rintro ⟨rfl, rfl⟩
      exact absurd hr (rX_30 (l := 5) (by decide) (by omega))
  · rintro k i (⟨rfl, rfl⟩ | ⟨rfl, rfl, e⟩) hx
    · refine ⟨by rw [a9]; exact Nat.le_refl _, _, by rw [a9, hot _ (by have := R.lt hw hx25; omega) (by omega)]; exact k8, ?_⟩
      show rb_O _ _ = rb_O (aCi (nN ms' 12 (10 * b + nN ms 10 b))) (aFs (nN ms' 12 (10 * b + nN ms 10 b)) (ms'.1 13 (10 * b + nN ms 10 b)) (ms'.1 14 (10 * b + nN ms 10 b)) (ad' 0 0))
      have e12 : nN ms' 12 (10 * b + nN ms 10 b) = w := by rw [nN, s12, va_up_self, nI_clamp (by omega)]
      rw [e12, s13, s14, va_up_self, va_up_self, aO 0 0 (by omega) (by omega)]
    · obtain ⟨cap, q1, q2, q3, q4⟩ := hcap
      exact ⟨by rw [a35, e]; omega, _, by rw [a35]; exact q4, hokE _ q4⟩
  · rintro k i k' i' (⟨rfl, rfl⟩ | ⟨rfl, rfl, e1⟩) (⟨rfl, rfl⟩ | ⟨rfl, rfl, e2⟩) _ _ e
    · exact ⟨rfl, rfl⟩
    · rw [a9, a35] at e; omega
    · rw [a9, a35] at e; omega
    · exact ⟨rfl, rfl⟩
  · intro l i hl hx hd
    by_cases hlb : l = 5 ∧ i = b
    · obtain ⟨rfl, rfl⟩ := hlb
      exact absurd (a35.symm.trans hd) hrdc
    have hx1 : exL ms l i := by
      by_cases h5 : l = 5
      · subst h5
        have hx : i < 600 ∧ ms'.1 10 i ≠ -9 := hx
        exact ⟨hx.1, fun q => hx.2 ((i9 i).mpr q)⟩
      · refine (exL_dep l hl i fun F hF => sO F ?_).mp hx
        have key : ∀ l, l < 10 → l ≠ 5 → ∀ F, F ∈ eL l → F ∉ [10, 12, 13, 14] := by decide
        exact key l hl h5 F hF
    have hlen : lenL ms' l i = lenL ms l i := by
      by_cases h5 : l = 5
      · subst h5
        show nN ms' 10 i = nN ms 10 i
        rw [nN, t10 i (by omega)]
      · refine (lenL_dep l hl i fun F hF => sO F ?_).1
        have key : ∀ l, l < 10 → l ≠ 5 → ∀ F, F ∈ dL l → F ∉ [10, 12, 13, 14] := by decide
        exact key l hl h5 F hF
    rw [hlen]
    refine R.2.2.1 l i hl hx1 ?_
    rw [← hd, aO _ _ (by omega) (by omega)]
  · intro j hj
    rw [aO 40 j (by omega) (by omega)]
    exact R.2.2.2 j hj
theorem X0_actTail {κ : rb_K} {w b : Nat} {a x : Int32} (hκ : κ = (g, rb_rm 7 (2, 206), xA g (F_act ms (nI w) a x) ad h ms0, 2, 206)) {M1 : rb_H} (R : Rep g ms ad h ms0 M) (I : Inv B ms) (hw : rb_Wf g M) (hwk : w ≤ 19) (hM1 : M1 = rb_nw M (rb_O (aCi w) (aFs w a x (ad 0 0)))) (hb : b < 600) (hb2 : ms.1 10 b ≠ -9) (eb : ms.1 15 0 = nI b) (hok : aOk ms w (b / 25) a x) : (∃ (v28 : Value), rb_rd M1 (ad 0 0) 0 6 (v28) ∧ rb_isR v28 ∧ (∃ q29, v28 = .ref q29 ∧ (∃ (v30 : Value), rb_rd M1 q29 6 4 (v30) ∧ rb_isR v30 ∧ (∃ q31, v30 = .ref q31 ∧ (∃ (d32 : Nat) (n33 : Nat × Nat) (Q34 : Outcome → rb_H → Prop), rb_Ct κ.1 yJ4_size wJ4_size d32 n33 [.ref q31] M1 Q34 ∧ rb_dp κ d32 ∧ rb_rom κ (1 + n33.1, 6 + n33.2) ∧ rb_ob M1 q31 7 ∧ ∀ (o : Outcome) (M36 : rb_H), Q34 o M36 → (∃ (x35 : Int32), o = .returned (some (.int x35)) ∧ ((¬ x35 = (10 : Int32) → (∃ (v38 : Value), rb_rd M36 (ad 0 0) 0 7 (v38) ∧ rb_isR v38 ∧ (∃ q39, v38 = .ref q39 ∧ (∃ (d40 : Nat) (n41 : Nat × Nat) (Q42 : Outcome → rb_H → Prop), rb_Ct κ.1 yJ4_isEmpty wJ4_isEmpty d40 n41 [.ref q39] M36 Q42 ∧ rb_dp κ d40 ∧ rb_rom κ (1 + n33.1 + n41.1, 6 + n33.2 + n41.2) ∧ rb_ob M36 q39 7 ∧ ∀ (o : Outcome) (M44 : rb_H), Q42 o M44 → (∃ (x43 : Int32), o = .returned (some (.int x43)) ∧ ((¬ x43 = 0 → (∃ (v46 : Value), rb_rd M44 (ad 0 0) 0 6 (v46) ∧ rb_isR v46 ∧ (∃ q47, v46 = .ref q47 ∧ (∃ (v48 : Value), rb_rd M44 q47 6 4 (v48) ∧ rb_isR v48 ∧ (∃ q49, v48 = .ref q49 ∧ (∃ (d50 : Nat) (n51 : Nat × Nat) (Q52 : Outcome → rb_H → Prop), rb_Ct κ.1 yJ4_add wJ4_add d50 n51 [.ref q49, .ref M.1] M44 Q52 ∧ rb_dp κ d50 ∧ rb_rom κ (1 + n33.1 + n41.1 + n51.1, 6 + n33.2 + n41.2 + n51.2) ∧ rb_ob M44 q49 7 ∧ ∀ (o : Outcome) (M54 : rb_H), Q52 o M54 → (∃ (x53 : Int32), o = .returned (some (.int x53)) ∧ (∃ (v55 : Value), rb_rd M54 (ad 0 0) 0 6 (v55) ∧ rb_isR v55 ∧ (∃ q56, v55 = .ref q56 ∧ (∃ (v57 : Value), rb_rd M54 q56 6 4 (v57) ∧ rb_isR v57 ∧ (∃ q58, v57 = .ref q58 ∧ (∃ (d59 : Nat) (n60 : Nat × Nat) (Q61 : Outcome → rb_H → Prop), rb_Ct κ.1 yJ4_size wJ4_size d59 n60 [.ref q58] M54 Q61 ∧ rb_dp κ d59 ∧ rb_rom κ (1 + n33.1 + n41.1 + n51.1 + n60.1, 6 + n33.2 + n41.2 + n51.2 + n60.2) ∧ rb_ob M54 q58 7 ∧ ∀ (o : Outcome) (M63 : rb_H), Q61 o M63 → (∃ (x62 : Int32), o = .returned (some (.int x62)) ∧ (rb_fin κ (1 + n33.1 + n41.1 + n51.1 + n60.1, 6 + n33.2 + n41.2 + n51.2 + n60.2) ∧ κ.2.2.1 (.returned (some (.int x62))) M63)))))))))))))) ∧ (x43 = 0 → (rb_fin κ (1 + n33.1 + n41.1, 6 + n33.2 + n41.2) ∧ κ.2.2.1 (.returned (some (.int (-4 : Int32)))) M44)))))))) ∧ (x35 = (10 : Int32) → (rb_fin κ (1 + n33.1, 6 + n33.2) ∧ κ.2.2.1 (.returned (some (.int (-2 : Int32)))) M36))))))))) := by
  subst hκ
  have R1 : Rep g ms ad h ms0 M1 := by rw [hM1]; exact R.nw hw
  obtain ⟨sg, hm⟩ := R1.main
  have hrn := I.rn
  have hmn := I.mn hb hb2
  have hA := R1.ls 5 b (by decide) ⟨hb, hb2⟩
  have hR := R1.ls 1 0 (by decide) rfl
  have eb2 : nN ms 15 0 = b := by rw [nN, eb, nI_clamp (by omega)]
  have hpos : 0 ≤ ms.1 15 0 := by rw [eb]; exact nI_pos' (by omega)
  have ela : va_rf (laRf ms ad) = .ref (ad 8 b) := by
    rw [laRf, if_neg, eb2]
    · rfl
    · rw [eb]; intro q
      have := nI_pos (n := b) (by omega)
      rw [q] at this
      exact this (by decide)
  have hla : rb_rd M1 (ad 0 0) 0 6 (.ref (ad 8 b)) := ⟨_, hm, by rw [← ela]; rfl⟩
  have hB := R1.body hb hb2
  have hgood : ¬ (¬ (0 ≤ nI w ∧ nI w ≤ 19) ∨ (0 ≤ ms.1 15 0 ∧ bz (aOk ms (nv (nI w)) (nN ms 15 0 / 25) a x) = 0)) := by
    rw [nv_nI (by omega), eb2]
    rintro (q | q)
    · exact q ((pIn_nat (b := 19) (by decide)).mpr ⟨w, hwk, rfl⟩)
    · rw [bz_0] at q; exact q.2 hok
  refine ⟨_, hla, rb_isR_ref _, _, rfl, _, ⟨_, hB, rfl⟩, rb_isR_ref _, _, rfl, uIo (J4_size hA) (rb_dpk (by decide)) ⟨nb rfl, nb rfl⟩ hA.ob ?_⟩
  rw [show nI (lenL ms 5 b) = ms.1 10 b from hmn.1.symm]
  refine ⟨fun h1 => ⟨_, ⟨_, hm, rfl⟩, rb_isR_ref _, _, rfl, uIo (J4_isEmpty hR (show lenL ms 1 0 < 2 ^ 31 by show nN ms 24 0 < _; omega)) (rb_dpk (by decide)) ⟨nb rfl, nb rfl⟩ hR.ob ⟨fun h2 => ?_, fun h2 => ⟨⟨nb rfl, nb rfl⟩, ?_⟩⟩⟩, fun h1 => ⟨⟨nb rfl, nb rfl⟩, xA_of (by rw [F_act, if_neg hgood, eb2, if_pos ⟨hpos, h1⟩]) R1⟩⟩
  · have h2 := I.emp.mp h2
    have hn10 : nN ms 10 b ≠ 10 := fun q => h1 (by rw [hmn.1, q]; rfl)
    have hel : ∀ t, t < nN ms 10 b → obE M1 (ad 9 (10 * b + t)) := by
      intro t ht
      have hx : exX g ms ad 9 (10 * b + t) := by
        show (10 * b + t) / 10 < 600 ∧ ms.1 10 ((10 * b + t) / 10) ≠ -9 ∧ (10 * b + t) % 10 < nN ms 10 ((10 * b + t) / 10)
        rw [show (10 * b + t) / 10 = b by omega, show (10 * b + t) % 10 = t by omega]
        exact ⟨hb, hb2, ht⟩
      obtain ⟨c, q1, rfl⟩ := R1.1 9 _ hx
      obtain ⟨w', hw', e', -⟩ := ((I.2.2.1.1 b hb).2 hb2).2 t ht
      have e2 : nN ms 12 (10 * b + t) = w' := by rw [nN, e', nI_clamp (by omega)]
      refine ⟨aCi (nN ms 12 (10 * b + t)), ?_, _, q1⟩
      rw [e2]
      have : ∀ w, w ≤ 19 → isE (aCi w) = true := by decide
      exact this w' hw'
    have hnew : obE M1 M.1 := by
      refine ⟨aCi w, ?_, _, by rw [hM1, rb_nw_eq]⟩
      have : ∀ w, w ≤ 19 → isE (aCi w) = true := by decide
      exact this w hwk
    refine ⟨_, hla, rb_isR_ref _, _, rfl, _, ⟨_, hB, rfl⟩, rb_isR_ref _, _, rfl, _, _, _, J4_add (y := M.1) hA hel hnew (show nN ms 10 b ≤ 128 by omega), rb_dpk (by decide), ⟨nb rfl, nb rfl⟩, hA.ob, ?_⟩
    rintro _ M3 ⟨rfl, hAd⟩
    have hw1 : rb_Wf g M1 := by
      rw [hM1]
      refine ⟨by have := hw.1; show _ ≤ M.1 + 1; omega, hw.2.1, fun y e he => ?_⟩
      by_cases hy : y = M.1
      · subst hy; exact ⟨hw.1, Nat.lt_succ_self _⟩
      · rw [rb_nw_ne hy] at he
        have := hw.2.2 y e he
        exact ⟨this.1, by show y < M.1 + 1; omega⟩
    have kk : ∀ {k i : Nat}, exX g ms ad k i → ¬ (k = 25 ∧ i = b) → ¬ (k = 35 ∧ i = b) → M3.2 (ad k i) = M1.2 (ad k i) := fun hx q1 q2 => R1.kept hw1 (l := 5) (i := b) (by decide) ⟨hb, hb2⟩ hAd hx q1 q2
    have hm3 : M3.2 (ad 0 0) = some (rb_O 0 (mnFs ms ad sg)) := by rw [kk (k := 0) (i := 0) rfl (by omega) (by omega)]; exact hm
    have hB3 : M3.2 (ad 8 b) = _ := (kk (k := 8) (i := b) ⟨hb, hb2⟩ (by omega) (by omega)).trans hB
    have hA0 := hAd
    obtain ⟨r', hL', -, -⟩ := hAd
    refine ⟨_, rfl, _, ⟨_, hm3, by rw [← ela]; rfl⟩, rb_isR_ref _, _, rfl, _, ⟨_, hB3, rfl⟩, rb_isR_ref _, _, rfl, uIo (J4_size hL') (rb_dpk (by decide)) ⟨nb rfl, nb rfl⟩ hL'.ob ⟨⟨nb rfl, nb rfl⟩, ?_⟩⟩
    have hF : F_act ms (nI w) a x = (nI (lenL ms 5 b + 1), mm_sI (mm_sI (mm_sI (mm_sI ms 12 (10 * b + nN ms 10 b) (nI w)) 13 (10 * b + nN ms 10 b) a) 14 (10 * b + nN ms 10 b) x) 10 b (ms.1 10 b + 1)) := by
      rw [F_act, if_neg hgood, eb2, if_neg (fun q => h1 q.2), if_neg, ← nI_1, show nI (lenL ms 5 b) = ms.1 10 b from hmn.1.symm]
      rintro (q | q)
      · exact absurd hpos (Int32.not_le.mpr q)
      · exact h2 q
    rw [hF]
    exact ⟨rfl, R.newAct I hw hb hb2 (by omega) hwk hM1 hA0 rfl⟩
  · have h2 : 0 < ms.1 24 0 := Classical.not_not.mp fun q => (I.emp.mpr q) h2
    exact xA_of (by rw [F_act, if_neg hgood, eb2, if_neg (fun q => h1 q.2), if_pos (Or.inr h2)]) R1
theorem X0_act (R : Rep g ms ad h ms0 M) (I : Inv B ms) {k a x : Int32} : rb_Ct g yX0_act wX0_act 7 (2, 206) [.ref (ad 0 0), .int k, .int a, .int x] M (xA g (F_act ms k a x) ad h ms0) := by
  obtain ⟨sg, hm⟩ := R.main
  refine rb_Ct.of (by decide) (Nat.le_of_ble_eq_true rfl) rfl ?_
  refine rb_know fun hw => ?_
  have hw : rb_Wf g M := hw
  refine sgX0_act_0 (uI X0_in (rb_dpk (by decide)) zr ⟨fun h1 => ?_, fun h1 => ⟨zf, ?_⟩⟩) <;> rw [pIn0] at h1
  · have hk := Decidable.not_not.mp h1
    obtain ⟨w, hwk, rfl⟩ := (pIn_nat (b := 19) (by decide)).mp hk
    rcases I.2.2.1.2 with e | ⟨b, hb, e, hb2⟩
    · have ela : va_rf (laRf ms ad) = .null := by rw [laRf, if_pos e]; rfl
      have hnn : ¬ 0 ≤ ms.1 15 0 := by rw [e]; decide
      refine ⟨.null, ⟨_, hm, by rw [← ela]; rfl⟩, rb_isR_null, fun _ => ⟨zf, xA_of ?_ R⟩, fun q h2 => (by cases h2)⟩
      rw [F_act, if_neg (by rintro (q | q); exact q hk; exact hnn q.1), if_neg (fun q => hnn q.1), if_pos (Or.inl (by rw [e]; decide))]
    · have eb2 : nN ms 15 0 = b := by rw [nN, e, nI_clamp (by omega)]
      have hne9 : ms.1 15 0 ≠ -9 := by
        rw [e]; intro q
        have := nI_pos (n := b) (by omega)
        rw [q] at this
        exact this (by decide)
      have ela : va_rf (laRf ms ad) = .ref (ad 8 b) := by rw [laRf, if_neg hne9, eb2]; rfl
      have hbp := I.nb hb hb2
      refine ⟨.ref (ad 8 b), ⟨_, hm, by rw [← ela]; rfl⟩, rb_isR_ref _, fun h2 => (by cases h2), fun q h2 => ?_⟩
      refine ⟨_, _, _, X0_make (x0 := ad 0 0) hwk, rb_dpk (by decide), ⟨nb rfl, nb rfl⟩, R.ob0, ?_⟩
      rintro _ _ ⟨rfl, rfl⟩
      have R1 : Rep g ms ad h ms0 (rb_nw M (rb_O (aCi w) (aFs w a x (ad 0 0)))) := R.nw hw
      obtain ⟨sg1, hm1⟩ := R1.main
      refine ⟨_, rfl, rb_isR_ref _, _, ⟨_, hm1, by rw [← ela]; rfl⟩, rb_isR_ref _, _, rfl, _, ⟨_, R1.body hb hb2, rfl⟩, rb_isR_ref _, _, rfl, ?_⟩
      by_cases hn : w ≠ 1 ∧ w ≠ 9 ∧ w ≠ 14
      · left
        obtain ⟨y1, w1, g1, g2⟩ := fitAny (g := g) (ms := ms) (p := b / 25) hwk hn (rb_nw_eq (M := M) (e := rb_O (aCi w) (aFs w a x (ad 0 0)))) ⟨_, R1.part hbp, rfl⟩ ⟨_, R1.part hbp, rfl⟩ ⟨_, R1.part hbp, rfl⟩
        refine ⟨_, y1, w1, _, _, _, g1, g2, rb_dpk (by decide), ⟨nb rfl, nb rfl⟩, ⟨_, rb_nw_eq⟩, ?_⟩
        rintro _ _ ⟨rfl, rfl⟩
        refine ⟨_, rfl, fun h3 => X0_actTail rfl R I hw hwk rfl hb hb2 e (bz_1.mp h3), fun h3 => ⟨⟨nb rfl, nb rfl⟩, xA_of ?_ R1⟩⟩
        rw [F_act, if_pos]
        right
        rw [nv_nI (by omega), eb2]
        exact ⟨by rw [e]; exact nI_pos' (by omega), h3⟩
      · right
        have hw3 : w = 1 ∨ w = 9 ∨ w = 14 := by omega
        have hci : aCi w = 9 ∨ aCi w = 16 ∨ aCi w = 21 := by rcases hw3 with rfl | rfl | rfl <;> decide
        have hok : aOk ms w (b / 25) a x := by rcases hw3 with rfl | rfl | rfl <;> exact trivial
        exact ⟨aCi w, hci, ⟨_, rb_nw_eq⟩, rb_dpk (by decide), fun _ => X0_actTail rfl R I hw hwk rfl hb hb2 e hok, fun h3 => absurd h3 (by decide)⟩
  · exact xA_of (by rw [F_act, if_pos (Or.inl h1)]) R
end C12
