set_option maxRecDepth 100000
/-! weaving, the class's side: the draft is emptied -/
section V20
variable {g : rb_G} {ms m' ms0 : mm_S} {ad : aD} {h : Nat} {B : Nat} {M M' : rb_H} {κ : rb_K}
theorem Rep.clr16 (R : Rep g ms ad h ms0 M) {f : Nat → Nat} (hL : xLs g M' (ad 23 0) (ad 33 0) 0 f) (hc : ∀ b, b ≠ ad 23 0 → (b ≠ ad 33 0 ∨ ad 33 0 = rb_dc g) → M'.2 b = M.2 b) : Rep g (mm_sI ms 16 0 0) ad h ms0 M' := by
  have hF : ∀ F, F ∉ [16] → sameF ms (mm_sI ms 16 0 0) F := fun F hF => sI_other F (by simpa using hF)
  have n16 : nN (mm_sI ms 16 0 0) 16 0 = 0 := by simp [nN, mm_sI, va_up]
  have hex : ∀ k i, exX g (mm_sI ms 16 0 0) ad k i → exX g ms ad k i := by
    intro k i hx
    refine (exX_dep k i fun F hF' => hF F fun q => ?_).mp hx
    rcases Nat.lt_or_ge k 40 with hk40 | hk40
    · have key : ∀ k, k < 40 → ∀ F, F ∈ eX k → F ∉ [16] := by decide
      exact key k hk40 F hF' q
    · unfold eX at hF'
      rw [if_neg (by omega), if_neg (by omega), if_neg (by omega)] at hF'
      cases hF'
  refine ⟨fun k i hx => ?_, fun k i k' i' hx hx' => R.2.1 k i k' i' (hex k i hx) (hex k' i' hx'), fun l i hl hx hd => ?_, R.2.2.2⟩
  · have hx0 := hex k i hx
    by_cases e23 : k = 23
    · subst e23
      obtain rfl : i = 0 := hx0
      obtain ⟨⟨md, q⟩, -⟩ := hL
      refine ⟨_, q, md, ?_⟩
      show rb_O 7 _ = rb_O 7 [.int md, .ref (ad 33 0), .int (nI (nN (mm_sI ms 16 0 0) 16 0))]
      rw [n16]
    by_cases e33 : k = 33
    · subst e33
      obtain ⟨hi, hd⟩ := hx0
      obtain rfl : i = 0 := hi
      rcases hL.2 with ⟨-, q⟩ | ⟨cap, q1, q2, q3, q4⟩
      · exact absurd q hd
      · refine ⟨_, q4, cap, by show nN (mm_sI ms 16 0 0) 16 0 ≤ cap; omega, q2, q3, ?_⟩
        have e : (fun t => if t < 0 then some (f t) else none) = (fun t => if t < lenL (mm_sI ms 16 0 0) 3 0 then some (eltL (mm_sI ms 16 0 0) ad 3 0 t) else none) := by
          funext t
          rw [if_neg (by omega), if_neg (by show ¬ t < nN (mm_sI ms 16 0 0) 16 0; omega)]
        rw [e]
    obtain ⟨c, q1, q2⟩ := R.1 k i hx0
    refine ⟨c, ?_, okX_dep (g := g) k i c hx0 (fun F hF' => hF F fun q => dX_not [16] [23, 33] (by decide) k (by simp only [List.mem_cons, List.not_mem_nil, or_false]; omega) F hF' q) q2⟩
    rw [hc _ (R.ne hx0 (k' := 23) (i' := 0) rfl (by omega)) ?_]
    · exact q1
    · by_cases hd : ad 33 0 = rb_dc g
      · exact Or.inr hd
      · exact Or.inl (R.ne hx0 (k' := 33) (i' := 0) ⟨rfl, hd⟩ (by omega))
  · have hx0 : exL ms l i := by
      rw [← ex20 (g := g) (ad := ad) l hl] at hx ⊢
      exact hex _ _ hx
    by_cases e : l = 3
    · subst e
      exact n16
    · rw [(lenL_dep l hl i fun F hF' => hF F fun q => ?_).1]
      · exact R.2.2.1 l i hl hx0 hd
      · have key : ∀ k, k < 10 → k ≠ 3 → ∀ F, F ∈ dL k → F ∉ [16] := by decide
        exact key l hl e F hF' q
theorem Rep.clr18 (R : Rep g ms ad h ms0 M) {sg : Int64} : Rep g (mm_sI ms 18 0 0) ad h ms0 (rb_up M (ad 0 0) (rb_O 0 ((mnFs ms ad sg).set 13 (.int 0)))) := by
  have n18 : nN (mm_sI ms 18 0 0) 18 0 = 0 := by simp [nN, mm_sI, va_up]
  refine R.step [18] (fun F hF => sI_other F (by simpa using hF)) (by decide) fun k i hx ha => ?_
  by_cases e0 : k = 0
  · subst e0
    obtain rfl : i = 0 := hx
    refine ⟨_, rb_up_eq, sg, ?_⟩
    unfold mnFs laRf nN
    simp [mm_sI, va_up]
  · have hc : (rb_up M (ad 0 0) (rb_O 0 ((mnFs ms ad sg).set 13 (.int 0)))).2 (ad k i) = M.2 (ad k i) := rb_up_ne (R.ne hx rfl (Or.inl e0))
    obtain ⟨c, q1, q2⟩ := R.1 k i hx
    rw [hc]
    refine ⟨c, q1, ?_⟩
    by_cases e61 : k = 61
    · subst e61
      obtain ⟨f, rfl, -⟩ := q2
      exact ⟨f, rfl, fun j hj => by omega⟩
    by_cases e62 : k = 62
    · subst e62
      obtain ⟨f, rfl, -⟩ := q2
      exact ⟨f, rfl, fun j hj => by omega⟩
    exact okX_dep (g := g) k i c hx (fun F hF' => sI_other F fun q => dX_not [18] [0, 61, 62] (by decide) k (by simp only [List.mem_cons, List.not_mem_nil, or_false]; omega) F hF' (by simp [q])) q2
theorem Rep.clr23 (R : Rep g ms ad h ms0 M) {a : Nat} {f : Nat → Int32} (k64 : M.2 (ad 64 0) = some (rb_I 4 f)) (hf : ∀ a, a < 4 → f a = if ms.1 23 a = 0 then -9 else ms.1 21 a) : Rep g (mm_sI ms 23 a 0) ad h ms0 (rb_up M (ad 64 0) (rb_I 4 (va_up f a (-9)))) := by
  refine R.step [23] (fun F hF => sI_other F (by simpa using hF)) (by decide) fun k i hx ha => ?_
  have e23 : ∀ b, (mm_sI ms 23 a 0).1 23 b = if b = a then 0 else ms.1 23 b := fun b => by simp [mm_sI, va_up]
  by_cases e64 : k = 64
  · subst e64
    obtain rfl : i = 0 := hx
    refine ⟨_, rb_up_eq, _, rfl, fun b hb => ?_⟩
    rw [e23, mm_sI_ne (by decide)]
    by_cases e : b = a
    · simp [e, va_up]
    · simp [e, va_up, hf b hb]
  · have hc : (rb_up M (ad 64 0) (rb_I 4 (va_up f a (-9)))).2 (ad k i) = M.2 (ad k i) := rb_up_ne (R.ne hx rfl (Or.inl e64))
    obtain ⟨c, q1, q2⟩ := R.1 k i hx
    rw [hc]
    refine ⟨c, q1, ?_⟩
    by_cases e65 : k = 65
    · subst e65
      obtain ⟨f, rfl, q⟩ := q2
      refine ⟨f, rfl, fun b hb hb2 => ?_⟩
      rw [e23] at hb2
      rw [mm_sI_ne (by decide)]
      by_cases e : b = a
      · rw [if_pos e] at hb2
        exact absurd rfl hb2
      · rw [if_neg e] at hb2
        exact q b hb hb2
    exact okX_dep (g := g) k i c hx (fun F hF' => sI_other F fun q => dX_not [23] [64, 65] (by decide) k (by simp only [List.mem_cons, List.not_mem_nil, or_false]; omega) F hF' (by simp [q])) q2
theorem X0_ed14 (hκ : κ.1 = g) {a : Nat} (ha : a < 4) (R : Rep g ms ad h ms0 M) (K : ∀ M', Rep g (mm_sI ms 23 a 0) ad h ms0 M' → rb_Bd κ mX0_emptyDraft (0, 0) M' 14 [some (.ref (ad 0 0)), some (.int (nI (a + 1)))] []) : rb_Bd κ mX0_emptyDraft (0, 0) M 14 [some (.ref (ad 0 0)), some (.int (nI a))] [] := by
  subst hκ
  obtain ⟨sg, hm⟩ := R.main
  obtain ⟨_, k64, f64, rfl, e64⟩ := R.1 64 0 rfl
  refine sgX0_emptyDraft_14 ⟨fun z => absurd z (nI_ge (b := 4) ha (by decide)), fun _ => ⟨_, ⟨_, hm, rfl⟩, rb_isR_ref _, _, rfl, 4, f64, k64, vp_in_nI ha (by decide), ?_⟩⟩
  rw [nI_1, nI_clamp (by omega)]
  exact K _ (R.clr23 k64 e64)
theorem X0_emptyDraft (R : Rep g ms ad h ms0 M) : rb_Ct g yX0_emptyDraft wX0_emptyDraft 1 (0, 0) [.ref (ad 0 0)] M (fun o M' => o = .returned none ∧ Rep g (clr ms) ad h ms0 M') := by
  obtain ⟨sg, hm⟩ := R.main
  have hl := R.ls 3 0 (by decide) rfl
  refine rb_Ct.of (by decide) (Nat.le_of_ble_eq_true rfl) rfl ?_
  refine sgX0_emptyDraft_0 ⟨_, ⟨_, hm, rfl⟩, rb_isR_ref _, _, rfl, _, _, _, J4_clear hl, rb_dpk (by decide), zr, hl.ob, ?_⟩
  rintro _ M7 ⟨rfl, hL, -, hc⟩
  have R7 := R.clr16 hL hc
  obtain ⟨sg7, hm7⟩ := R7.main
  refine ⟨rfl, _, hm7, nl rfl, ?_⟩
  have R8 := R7.clr18 (sg := sg7)
  refine X0_ed14 (a := 0) rfl (by decide) R8 fun M1 R1 => ?_
  refine X0_ed14 (a := 1) rfl (by decide) R1 fun M2 R2 => ?_
  refine X0_ed14 (a := 2) rfl (by decide) R2 fun M3 R3 => ?_
  refine X0_ed14 (a := 3) rfl (by decide) R3 fun M4 R4 => ?_
  exact sgX0_emptyDraft_14 ⟨fun _ => ⟨zf, rfl, R4⟩, fun z => absurd z (by decide)⟩
end V20
