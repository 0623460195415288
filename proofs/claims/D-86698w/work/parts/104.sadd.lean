set_option maxRecDepth 100000
/-! adding to a short list (written from 053 by a program: 48 and 80 for 128 and 200) -/
section Sh
variable {g : rb_G} {M : rb_H} {a r n : Nat} {f : Nat → Nat}
theorem sJ4_grow_2 (h : xLs g M a r n f) (hel : ∀ i, i < n → obE M (f i)) (hn : n ≤ 48) (hfull : (n = 0 ∧ r = rb_dc g) ∨ ∃ fa, M.2 r = some (rb_R 3 n fa)) :
    rb_Ct g yJ4_grow_2 wJ4_grow_2 3 (1, 80) [.ref a, .int (nI (n + 1))] M (fun o M' => ∃ (N : Nat) (md : Int32), n < N ∧ N ≤ 200 ∧ M.2 a = some (rb_O 7 [.int md, .ref r, .int (nI n)]) ∧ qr (some (.ref M.1)) (rb_up (rb_nw M (rb_R 3 N (fun i => if i < n then some (f i) else none))) a (rb_O 7 [.int md, .ref M.1, .int (nI n)])) o M') := by
  have h0 := h
  obtain ⟨⟨md, h1⟩, h2⟩ := h
  refine rb_Ct.of (by decide +kernel) (Nat.le_of_ble_eq_true rfl) rfl ?_
  refine rb_know fun hwf => ?_
  have hne : a ≠ M.1 := Nat.ne_of_lt (hwf.2.2 _ _ h1).2
  by_cases hdc : n = 0 ∧ r = rb_dc g
  · obtain ⟨rfl, rfl⟩ := hdc
    refine sgJ4_grow_2_0 ⟨_, ⟨_, h1, rfl⟩, rb_isR_ref _, _, rfl, 0, Or.inl ⟨rfl, rfl⟩, fun h3 => absurd h3 (by decide), fun _ => ⟨_, ⟨_, h1, rfl⟩, rb_isR_ref _, fun _ => ⟨_, _, _, J6_max (x := 10) (y := 1) (by decide) (by decide), rb_dpk (by decide), zr, ?_⟩, fun h3 => absurd rfl h3⟩⟩
    rintro _ _ ⟨rfl, rfl⟩
    refine ⟨_, rfl, 10, rfl, by decide, ⟨nb rfl, nb rfl⟩, _, by rw [rb_nw_ne hne]; exact h1, nl rfl, ⟨nb rfl, nb rfl⟩, 10, md, by decide, by decide, h1, rfl, ?_⟩
    congr 2
  · rcases h2 with h2 | ⟨cap, h2, h3, h4, h5⟩
    · exact absurd h2 hdc
    have hcap : cap = n := by
      rcases hfull with h6 | ⟨fa, h6⟩
      · exact absurd h6 hdc
      · rw [h5] at h6
        have := Option.some.inj h6
        simp only [Sum.inl.injEq, Prod.mk.injEq] at this
        exact this.2.1
    subst hcap
    have e1 : nI (cap + 1) - nI cap = nI 1 := by rw [pk_sub (by omega)]; congr 1; omega
    have e2 : nI cap >>> ((1 : Int32) &&& 31) = nI (cap / 2) := pk_shrN (by omega) _ 1 (by decide)
    refine sgJ4_grow_2_0 ⟨_, ⟨_, h1, rfl⟩, rb_isR_ref _, _, rfl, nI cap, Or.inr ⟨_, _, h5, by decide, rfl⟩, fun _ => ?_, fun h6 => absurd h6 (nI_nle (by omega) (by omega))⟩
    rw [e1, e2]
    refine ⟨_, _, _, J5_newLength (by omega) (by decide) (by omega) (by decide), rb_dpk (by decide), zr, ?_⟩
    rintro _ _ ⟨rfl, rfl⟩
    have hmx : 1 ≤ max 1 (cap / 2) ∧ cap + max 1 (cap / 2) ≤ 200 := by omega
    refine ⟨_, rfl, _, ⟨_, h1, rfl⟩, rb_isR_ref _, _, _, _, J7_copyOf (N := cap + max 1 (cap / 2)) h5 (fun i hi y hy => ?_) (by omega) (by omega), rb_dpk (by decide), ⟨by simp [rb_rm], by simp [rb_rm]; omega⟩, ?_⟩
    · rw [if_pos hi] at hy
      cases hy
      exact hel i hi
    rintro _ _ ⟨rfl, rfl⟩
    refine ⟨_, rfl, rb_isR_ref _, _, by rw [rb_nw_ne hne]; exact h1, nl rfl, ⟨by simp, by simp; omega⟩, _, md, by omega, hmx.2, h1, rfl, ?_⟩
    congr 4
    funext i
    by_cases hi : i < cap
    · simp [hi]
    · simp [hi]
theorem sJ4_grow (h : xLs g M a r n f) (hel : ∀ i, i < n → obE M (f i)) (hn : n ≤ 48) (hfull : (n = 0 ∧ r = rb_dc g) ∨ ∃ fa, M.2 r = some (rb_R 3 n fa)) :
    rb_Ct g yJ4_grow wJ4_grow 4 (1, 80) [.ref a] M (fun o M' => ∃ (N : Nat) (md : Int32), n < N ∧ N ≤ 200 ∧ M.2 a = some (rb_O 7 [.int md, .ref r, .int (nI n)]) ∧ qr (some (.ref M.1)) (rb_up (rb_nw M (rb_R 3 N (fun i => if i < n then some (f i) else none))) a (rb_O 7 [.int md, .ref M.1, .int (nI n)])) o M') := by
  have h0 := h
  obtain ⟨⟨md, h1⟩, -⟩ := h
  refine rb_Ct.of (by decide +kernel) (Nat.le_of_ble_eq_true rfl) rfl ?_
  refine sgJ4_grow_0 ⟨_, ⟨_, h1, rfl⟩, ?_⟩
  rw [nI_1]
  refine ⟨_, _, _, sJ4_grow_2 h0 hel hn hfull, rb_dpk (by decide), ⟨nb rfl, nb rfl⟩, ⟨_, h1⟩, ?_⟩
  rintro _ _ ⟨N, md', k1, k2, k3, rfl, rfl⟩
  exact ⟨_, rfl, rb_isR_ref _, ⟨nb rfl, nb rfl⟩, N, md', k1, k2, k3, rfl, rfl⟩
theorem sJ4_add_2 {y : Nat} (h : xLs g M a r n f) (hel : ∀ i, i < n → obE M (f i)) (hy : obE M y) (hn : n ≤ 48) :
    rb_Ct g yJ4_add_2 wJ4_add_2 5 (1, 80) [.ref a, .ref y, .ref r, .int (nI n)] M (fun o M' => o = .returned none ∧ LSad g M a r n f y M') := by
  have h0 := h
  obtain ⟨⟨md, h1⟩, h2⟩ := h
  obtain ⟨cy, hy1, fsy, hy2⟩ := hy
  refine rb_Ct.of (by decide +kernel) (Nat.le_of_ble_eq_true rfl) rfl ?_
  refine rb_know fun hwf => ?_
  have hnea : a ≠ M.1 := Nat.ne_of_lt (hwf.2.2 _ _ h1).2
  have hney : y ≠ M.1 := Nat.ne_of_lt (hwf.2.2 _ _ hy2).2
  have hgrow : ∀ (hfull : (n = 0 ∧ r = rb_dc g) ∨ ∃ fa, M.2 r = some (rb_R 3 n fa)) (x2 : Int32), rb_ln g M r x2 → x2 = nI n → rb_Bd (g, rb_rm 5 (1, 80), (fun o M' => o = .returned none ∧ LSad g M a r n f y M'), 1, 80) mJ4_add_2 (0, 0) M 0 [some (.ref a), some (.ref y), some (.ref r), some (.int (nI n))] [] := by
    intro hfull x2 hx2 e2
    subst e2
    refine sgJ4_add_2_0 (rb_isR_ref _) (rb_isR_ref _) ⟨r, rfl, _, hx2, fun h3 => absurd rfl h3, fun _ => ⟨_, _, _, sJ4_grow h0 hel hn hfull, rb_dpk (by decide), ⟨nb rfl, nb rfl⟩, ⟨_, h1⟩, ?_⟩⟩
    rintro _ _ ⟨N, md', k1, k2, k3, rfl, rfl⟩
    have hne' : M.1 ≠ a := Ne.symm hnea
    refine ⟨_, rfl, rb_isR_ref _, M.1, rfl, y, rfl, 3, N, cy, _, by rw [rb_up_ne hne', rb_nw_eq], ⟨nb rfl, nb rfl⟩, vp_in_nI k1 (by omega), ?_, isE_as cy hy1, _, by rw [rb_up_ne hnea, rb_up_eq], nl rfl, ⟨nb rfl, nb rfl⟩, rfl, ?_⟩
    · by_cases hya : y = a
      · subst hya
        rw [h1] at hy2
        obtain ⟨rfl, -⟩ : (7 : Nat) = cy ∧ True := by
          have := Option.some.inj hy2
          simp only [Sum.inr.injEq, Prod.mk.injEq] at this
          exact ⟨this.1, trivial⟩
        exact ⟨_, by rw [rb_up_eq]⟩
      · exact ⟨fsy, by rw [rb_up_ne hya, rb_nw_ne hney]; exact hy2⟩
    · rw [nI_clamp (by omega)]
      refine ⟨M.1, ?_, Or.inr rfl, fun b hb hb2 => ?_⟩
      · exact LS_put k1 k2 hnea
      · rw [rb_up_ne hb, rb_up_ne hb2, rb_up_ne hb, rb_nw_ne hb2]
  rcases h2 with h2 | ⟨cap, h2, h3, h4, h5⟩
  · exact hgrow (Or.inl h2) 0 (Or.inl ⟨h2.2, rfl⟩) (by rw [h2.1]; rfl)
  · by_cases hc : cap = n
    · subst hc
      exact hgrow (Or.inr ⟨_, h5⟩) (nI cap) (Or.inr ⟨_, _, h5, by decide, rfl⟩) rfl
    · have hne : a ≠ r := by
        rintro rfl
        rw [h1] at h5
        cases h5
      have hyr : y ≠ r := by
        rintro rfl
        rw [hy2] at h5
        cases h5
      refine sgJ4_add_2_0 (rb_isR_ref _) (rb_isR_ref _) ⟨r, rfl, nI cap, Or.inr ⟨_, _, h5, by decide, rfl⟩, fun _ => ?_, fun h6 => absurd ((nI_eq (by omega) (by omega)).mp h6) (fun q => hc q.symm)⟩
      refine ⟨y, rfl, 3, cap, cy, _, h5, ⟨nb rfl, nb rfl⟩, vp_in_nI (by omega) (by omega), ⟨_, hy2⟩, isE_as cy hy1, _, by rw [rb_up_ne hne]; exact h1, nl rfl, ⟨nb rfl, nb rfl⟩, rfl, ?_⟩
      rw [nI_clamp (by omega)]
      refine ⟨r, ?_, Or.inl ⟨rfl, _, h5⟩, fun b hb hb2 => ?_⟩
      · exact LS_put (by omega) h4 hne
      · rw [rb_up_ne hb, rb_up_ne hb2]
theorem sJ4_add {y : Nat} (h : xLs g M a r n f) (hel : ∀ i, i < n → obE M (f i)) (hy : obE M y) (hn : n ≤ 48) :
    rb_Ct g yJ4_add wJ4_add 6 (1, 80) [.ref a, .ref y] M (fun o M' => o = .returned (some (.int 1)) ∧ LSad g M a r n f y M') := by
  have h0 := h
  obtain ⟨⟨md, h1⟩, h2⟩ := h
  refine rb_Ct.of (by decide +kernel) (Nat.le_of_ble_eq_true rfl) rfl ?_
  have hob : ∀ {z : Nat}, obE M z → obE (rb_up M a (rb_O 7 [.int (md + 1), .ref r, .int (nI n)])) z := by
    rintro z ⟨ci, c1, fs, c2⟩
    by_cases hz : z = a
    · subst hz
      exact ⟨7, rfl, _, rb_up_eq⟩
    · exact ⟨ci, c1, fs, by rw [rb_up_ne hz]; exact c2⟩
  have hLS : xLs g (rb_up M a (rb_O 7 [.int (md + 1), .ref r, .int (nI n)])) a r n f := by
    refine ⟨⟨_, rb_up_eq⟩, ?_⟩
    rcases h2 with h2 | ⟨cap, h2, h3, h4, h5⟩
    · exact Or.inl h2
    · refine Or.inr ⟨cap, h2, h3, h4, ?_⟩
      rw [rb_up_ne]
      · exact h5
      · rintro rfl
        rw [h1] at h5
        cases h5
  refine sgJ4_add_0 (rb_isR_ref _) ⟨_, ⟨_, h1, rfl⟩, _, h1, nl rfl, _, ⟨_, rb_up_eq, rfl⟩, rb_isR_ref _, _, ⟨_, rb_up_eq, rfl⟩, _, _, _, sJ4_add_2 (y := y) hLS (fun i hi => hob (hel i hi)) (hob hy) hn, rb_dpk (by decide), ⟨nb rfl, nb rfl⟩, ⟨_, rb_up_eq⟩, ?_⟩
  rintro _ M9 ⟨rfl, r', k1, k2, k3⟩
  refine ⟨rfl, ⟨nb rfl, nb rfl⟩, rfl, r', k1, ?_, fun b hb hb2 => ?_⟩
  · rcases k2 with ⟨k2, e, k4⟩ | k2
    · left
      refine ⟨k2, ?_⟩
      by_cases hra : r = a
      · subst hra; exact ⟨_, h1⟩
      · rw [rb_up_ne hra] at k4; exact ⟨e, k4⟩
    · exact Or.inr k2
  · rw [k3 b hb hb2, rb_up_ne hb]
end Sh
