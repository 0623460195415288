set_option maxRecDepth 100000
/-! weaving, the class's side: isExcluded -/
section V13
variable {g : rb_G} {ms ms0 : mm_S} {ad : aD} {h : Nat} {B : Nat} {κ : rb_K} {M : rb_H}
theorem X0_exLoop {p m : Nat} (hκ : κ.1 = g) (R : Rep g ms ad h ms0 M) (hE : iB (ms.1 18 0) 6) (hf : rb_fin κ (0, 0)) (K : κ.2.2.1 (.returned (some (.int (bz (exc ms p m))))) M) : ∀ d j, j + d = nN ms 18 0 → ∀ x, x = bz (∃ k, k < j ∧ ms.1 19 k = nI p ∧ ms.1 20 k = nI m) → rb_Bd κ mX0_isExcluded (0, 0) M 5 [some (.ref (ad 0 0)), some (.int (nI p)), some (.int (nI m)), some (.int x), some (.int (nI j))] [] := by
  subst hκ
  have hE := hE.n (by decide)
  obtain ⟨sg, hm⟩ := R.main
  obtain ⟨c, h61, f, rfl, e61⟩ := R.1 61 0 rfl
  obtain ⟨c', h62, f', rfl, e62⟩ := R.1 62 0 rfl
  intro d
  induction d with
  | zero =>
    intro j hj x hx
    obtain rfl : j = nN ms 18 0 := by omega
    exact sgX0_isExcluded_5 ⟨_, ⟨_, hm, rfl⟩, fun _ => ⟨by rw [hx]; exact bz_nar, hf, by rw [hx]; exact K⟩, fun q => absurd q (by rw [hE.1]; exact nI_nlt (Nat.le_refl _) (by omega))⟩
  | succ d ih =>
    intro j hj x hx
    have hor : ∀ y : Int32, y = bz (ms.1 19 j = nI p ∧ ms.1 20 j = nI m) → x ||| y = bz (∃ k, k < j + 1 ∧ ms.1 19 k = nI p ∧ ms.1 20 k = nI m) := by
      intro y hy
      have : (∃ k, k < j + 1 ∧ ms.1 19 k = nI p ∧ ms.1 20 k = nI m) ↔ ((∃ k, k < j ∧ ms.1 19 k = nI p ∧ ms.1 20 k = nI m) ∨ (ms.1 19 j = nI p ∧ ms.1 20 j = nI m)) := by
        constructor
        · rintro ⟨k, k1, k2⟩
          rcases Nat.lt_or_ge k j with r | r
          · exact Or.inl ⟨k, r, k2⟩
          · obtain rfl : k = j := by omega
            exact Or.inr k2
        · rintro (⟨k, k1, k2⟩ | r)
          · exact ⟨k, by omega, k2⟩
          · exact ⟨j, by omega, r⟩
      rw [bz_c this, hx, hy]
      by_cases a : ∃ k, k < j ∧ ms.1 19 k = nI p ∧ ms.1 20 k = nI m
      · rw [bz_t a, bz_t (Or.inl a)]
        by_cases b : ms.1 19 j = nI p ∧ ms.1 20 j = nI m
        · rw [bz_t b]; decide
        · rw [bz_f b]; decide
      · rw [bz_f a]
        by_cases b : ms.1 19 j = nI p ∧ ms.1 20 j = nI m
        · rw [bz_t b, bz_t (Or.inr b)]; decide
        · rw [bz_f b, bz_f (fun q => q.elim a b)]; decide
    have v6 : vp_in (nI j) 6 := vp_in_nI (by omega) (by decide)
    have cj : (nI j).toNatClampNeg = j := nI_clamp (by omega)
    refine sgX0_isExcluded_5 ⟨_, ⟨_, hm, rfl⟩, fun q => absurd q (by rw [hE.1]; exact nI_ge (by omega) (by omega)), fun _ => ⟨_, ⟨_, hm, rfl⟩, rb_isR_ref _, _, rfl, 6, f, ms.1 19 j, h61, v6, by rw [cj]; exact e61 j (by omega), fun h1 => ?_, fun h1 => ⟨_, ⟨_, hm, rfl⟩, rb_isR_ref _, _, rfl, 6, f', ms.1 20 j, h62, v6, by rw [cj]; exact e62 j (by omega), fun h2 => ?_, fun h2 => ?_⟩⟩⟩
    · rw [nI_1]; exact ih (j + 1) (by omega) _ (hor 0 (by rw [bz_f (fun q => h1 q.1)]))
    · rw [nI_1]; exact ih (j + 1) (by omega) _ (hor 0 (by rw [bz_f (fun q => h2 q.2)]))
    · rw [nI_1]; exact ih (j + 1) (by omega) _ (hor 1 (by rw [bz_t ⟨h1, h2⟩]))
theorem X0_isExcluded (R : Rep g ms ad h ms0 M) {p m : Nat} (hE : iB (ms.1 18 0) 6) : rb_Ct g yX0_isExcluded wX0_isExcluded 0 (0, 0) [.ref (ad 0 0), .int (nI p), .int (nI m)] M (qr (some (.int (bz (exc ms p m)))) M) := by
  refine rb_Ct.of (by decide) (Nat.le_of_ble_eq_true rfl) rfl ?_
  refine sgX0_isExcluded_0 (X0_exLoop (κ := (g, rb_rm 0 (0, 0), qr (some (.int (bz (exc ms p m)))) M, (0, 0))) rfl R hE zf ⟨rfl, rfl⟩ (nN ms 18 0) 0 (Nat.zero_add _) 0 ?_)
  rw [bz_f]
  rintro ⟨k, hk, -⟩; omega
end V13
