set_option maxRecDepth 100000
section LST
variable {g : rb_G} {M : rb_H} {a r n : Nat} {f : Nat → Nat}
/-- what adding y to the list does -/
def LSad (g : rb_G) (M : rb_H) (a r n : Nat) (f : Nat → Nat) (y : Nat) (M' : rb_H) : Prop :=
  ∃ r', xLs g M' a r' (n + 1) (fun i => if i = n then y else f i) ∧ ((r' = r ∧ ∃ e, M.2 r = some e) ∨ r' = M.1) ∧ ∀ b, b ≠ a → b ≠ r' → M'.2 b = M.2 b
theorem xLs.ne (h : xLs g M a r n f) (h1 : n ≠ 0 ∨ r ≠ rb_dc g) : a ≠ r := by
  obtain ⟨⟨md, h2⟩, h3⟩ := h
  rcases h3 with ⟨h3, h4⟩ | ⟨cap, h3, h4, h5, h6⟩
  · rcases h1 with h1 | h1
    · exact absurd h3 h1
    · exact absurd h4 h1
  · rintro rfl
    rw [h2] at h6
    cases h6
theorem J4_grow_2 (h : xLs g M a r n f) (hel : ∀ i, i < n → obE M (f i)) (hn : n ≤ 128) (hfull : (n = 0 ∧ r = rb_dc g) ∨ ∃ fa, M.2 r = some (rb_R 3 n fa)) :
    rb_Ct g yJ4_grow_2 wJ4_grow_2 3 (1, 200) [.ref a, .int (nI (n + 1))] M (fun o M' => ∃ (N : Nat) (md : Int32), n < N ∧ N ≤ 200 ∧ M.2 a = some (rb_O 7 [.int md, .ref r, .int (nI n)]) ∧ qr (some (.ref M.1)) (rb_up (rb_nw M (rb_R 3 N (fun i => if i < n then some (f i) else none))) a (rb_O 7 [.int md, .ref M.1, .int (nI n)])) o M') := by
  have h0 := h
  obtain ⟨⟨md, h1⟩, h2⟩ := h
  refine rb_Ct.of (by decide +kernel) (Nat.le_of_ble_eq_true rfl) rfl ?_
  refine rb_know fun hwf => ?_
  have hne : a ≠ M.1 := Nat.ne_of_lt (hwf.2.2 _ _ h1).2
  by_cases hdc : n = 0 ∧ r = rb_dc g
  · obtain ⟨rfl, rfl⟩ := hdc
    refine sgJ4_grow_2_0 ⟨_, ⟨_, h1, rfl⟩, rb_isR_ref _, _, rfl, 0, Or.inl ⟨rfl, rfl⟩, fun h3 => absurd h3 (by decide), fun _ => ⟨_, ⟨_, h1, rfl⟩, rb_isR_ref _, fun _ => ⟨_, _, _, J6_max (x := 10) (y := 1) (by decide) (by decide), rb_dpk (by decide), zr, ?_⟩, fun h3 => absurd rfl h3⟩⟩
    rintro _ _ ⟨rfl, rfl⟩
    refine ⟨_, rfl, 10, rfl, by decide, ⟨nb rfl, nb rfl⟩, _, by rw [rb_nw_ne hne]; exact h1, nl rfl, ⟨nb rfl, nb rfl⟩, 10, md, by decide, by decide, h1, rfl, ?_⟩
    congr 2
  · rcases h2 with h2 | ⟨cap, h2, h3, h4, h5⟩
    · exact absurd h2 hdc
    have hcap : cap = n := by
      rcases hfull with h6 | ⟨fa, h6⟩
      · exact absurd h6 hdc
      · rw [h5] at h6
        have := Option.some.inj h6
        simp only [Sum.inl.injEq, Prod.mk.injEq] at this
        exact this.2.1
    subst hcap
    have e1 : nI (cap + 1) - nI cap = nI 1 := by rw [pk_sub (by omega)]; congr 1; omega
    have e2 : nI cap >>> ((1 : Int32) &&& 31) = nI (cap / 2) := pk_shrN (by omega) _ 1 (by decide)
    refine sgJ4_grow_2_0 ⟨_, ⟨_, h1, rfl⟩, rb_isR_ref _, _, rfl, nI cap, Or.inr ⟨_, _, h5, by decide, rfl⟩, fun _ => ?_, fun h6 => absurd h6 (nI_nle (by omega) (by omega))⟩
    rw [e1, e2]
    refine ⟨_, _, _, J5_newLength (by omega) (by decide) (by omega) (by decide), rb_dpk (by decide), zr, ?_⟩
    rintro _ _ ⟨rfl, rfl⟩
    have hmx : 1 ≤ max 1 (cap / 2) ∧ cap + max 1 (cap / 2) ≤ 200 := by omega
    refine ⟨_, rfl, _, ⟨_, h1, rfl⟩, rb_isR_ref _, _, _, _, J7_copyOf (N := cap + max 1 (cap / 2)) h5 (fun i hi y hy => ?_) (by omega) (by omega), rb_dpk (by decide), ⟨by simp [rb_rm], by simp [rb_rm]; omega⟩, ?_⟩
    · rw [if_pos hi] at hy
      cases hy
      exact hel i hi
    rintro _ _ ⟨rfl, rfl⟩
    refine ⟨_, rfl, rb_isR_ref _, _, by rw [rb_nw_ne hne]; exact h1, nl rfl, ⟨by simp, by simp; omega⟩, _, md, by omega, hmx.2, h1, rfl, ?_⟩
    congr 4
    funext i
    by_cases hi : i < cap
    · simp [hi]
    · simp [hi]
theorem J4_grow (h : xLs g M a r n f) (hel : ∀ i, i < n → obE M (f i)) (hn : n ≤ 128) (hfull : (n = 0 ∧ r = rb_dc g) ∨ ∃ fa, M.2 r = some (rb_R 3 n fa)) :
    rb_Ct g yJ4_grow wJ4_grow 4 (1, 200) [.ref a] M (fun o M' => ∃ (N : Nat) (md : Int32), n < N ∧ N ≤ 200 ∧ M.2 a = some (rb_O 7 [.int md, .ref r, .int (nI n)]) ∧ qr (some (.ref M.1)) (rb_up (rb_nw M (rb_R 3 N (fun i => if i < n then some (f i) else none))) a (rb_O 7 [.int md, .ref M.1, .int (nI n)])) o M') := by
  have h0 := h
  obtain ⟨⟨md, h1⟩, -⟩ := h
  refine rb_Ct.of (by decide +kernel) (Nat.le_of_ble_eq_true rfl) rfl ?_
  refine sgJ4_grow_0 ⟨_, ⟨_, h1, rfl⟩, ?_⟩
  rw [nI_1]
  refine ⟨_, _, _, J4_grow_2 h0 hel hn hfull, rb_dpk (by decide), ⟨nb rfl, nb rfl⟩, ⟨_, h1⟩, ?_⟩
  rintro _ _ ⟨N, md', k1, k2, k3, rfl, rfl⟩
  exact ⟨_, rfl, rb_isR_ref _, ⟨nb rfl, nb rfl⟩, N, md', k1, k2, k3, rfl, rfl⟩
theorem LS_put {y cap : Nat} {md : Int32} {M : rb_H} (hn : n < cap) (hc : cap ≤ 200) (hne : a ≠ r) : xLs g (rb_up (rb_up M r (rb_R 3 cap (va_up (fun i => if i < n then some (f i) else none) n (some y)))) a (rb_O 7 [.int md, .ref r, .int (nI n + 1)])) a r (n + 1) (fun i => if i = n then y else f i) := by
  refine ⟨⟨md, by rw [rb_up_eq, nI_1]⟩, Or.inr ⟨cap, by omega, by omega, hc, ?_⟩⟩
  rw [rb_up_ne (Ne.symm hne), rb_up_eq]
  congr 4
  funext i
  by_cases hi : i = n
  · subst hi
    simp [va_up]
  · by_cases h2 : i < n
    · simp [va_up, hi, h2, show i < n + 1 by omega]
    · simp [va_up, hi, h2, show ¬ i < n + 1 by omega]
theorem J4_add_2 {y : Nat} (h : xLs g M a r n f) (hel : ∀ i, i < n → obE M (f i)) (hy : obE M y) (hn : n ≤ 128) :
    rb_Ct g yJ4_add_2 wJ4_add_2 5 (1, 200) [.ref a, .ref y, .ref r, .int (nI n)] M (fun o M' => o = .returned none ∧ LSad g M a r n f y M') := by
  have h0 := h
  obtain ⟨⟨md, h1⟩, h2⟩ := h
  obtain ⟨cy, hy1, fsy, hy2⟩ := hy
  refine rb_Ct.of (by decide +kernel) (Nat.le_of_ble_eq_true rfl) rfl ?_
  refine rb_know fun hwf => ?_
  have hnea : a ≠ M.1 := Nat.ne_of_lt (hwf.2.2 _ _ h1).2
  have hney : y ≠ M.1 := Nat.ne_of_lt (hwf.2.2 _ _ hy2).2
  have hgrow : ∀ (hfull : (n = 0 ∧ r = rb_dc g) ∨ ∃ fa, M.2 r = some (rb_R 3 n fa)) (x2 : Int32), rb_ln g M r x2 → x2 = nI n → rb_Bd (g, rb_rm 5 (1, 200), (fun o M' => o = .returned none ∧ LSad g M a r n f y M'), 1, 200) mJ4_add_2 (0, 0) M 0 [some (.ref a), some (.ref y), some (.ref r), some (.int (nI n))] [] := by
    intro hfull x2 hx2 e2
    subst e2
    refine sgJ4_add_2_0 (rb_isR_ref _) (rb_isR_ref _) ⟨r, rfl, _, hx2, fun h3 => absurd rfl h3, fun _ => ⟨_, _, _, J4_grow h0 hel hn hfull, rb_dpk (by decide), ⟨nb rfl, nb rfl⟩, ⟨_, h1⟩, ?_⟩⟩
    rintro _ _ ⟨N, md', k1, k2, k3, rfl, rfl⟩
    have hne' : M.1 ≠ a := Ne.symm hnea
    refine ⟨_, rfl, rb_isR_ref _, M.1, rfl, y, rfl, 3, N, cy, _, by rw [rb_up_ne hne', rb_nw_eq], ⟨nb rfl, nb rfl⟩, vp_in_nI k1 (by omega), ?_, isE_as cy hy1, _, by rw [rb_up_ne hnea, rb_up_eq], nl rfl, ⟨nb rfl, nb rfl⟩, rfl, ?_⟩
    · by_cases hya : y = a
      · subst hya
        rw [h1] at hy2
        obtain ⟨rfl, -⟩ : (7 : Nat) = cy ∧ True := by
          have := Option.some.inj hy2
          simp only [Sum.inr.injEq, Prod.mk.injEq] at this
          exact ⟨this.1, trivial⟩
        exact ⟨_, by rw [rb_up_eq]⟩
      · exact ⟨fsy, by rw [rb_up_ne hya, rb_nw_ne hney]; exact hy2⟩
    · rw [nI_clamp (by omega)]
      refine ⟨M.1, ?_, Or.inr rfl, fun b hb hb2 => ?_⟩
      · exact LS_put k1 k2 hnea
      · rw [rb_up_ne hb, rb_up_ne hb2, rb_up_ne hb, rb_nw_ne hb2]
  rcases h2 with h2 | ⟨cap, h2, h3, h4, h5⟩
  · exact hgrow (Or.inl h2) 0 (Or.inl ⟨h2.2, rfl⟩) (by rw [h2.1]; rfl)
  · by_cases hc : cap = n
    · subst hc
      exact hgrow (Or.inr ⟨_, h5⟩) (nI cap) (Or.inr ⟨_, _, h5, by decide, rfl⟩) rfl
    · have hne : a ≠ r := by
        rintro rfl
        rw [h1] at h5
        cases h5
      have hyr : y ≠ r := by
        rintro rfl
        rw [hy2] at h5
        cases h5
      refine sgJ4_add_2_0 (rb_isR_ref _) (rb_isR_ref _) ⟨r, rfl, nI cap, Or.inr ⟨_, _, h5, by decide, rfl⟩, fun _ => ?_, fun h6 => absurd ((nI_eq (by omega) (by omega)).mp h6) (fun q => hc q.symm)⟩
      refine ⟨y, rfl, 3, cap, cy, _, h5, ⟨nb rfl, nb rfl⟩, vp_in_nI (by omega) (by omega), ⟨_, hy2⟩, isE_as cy hy1, _, by rw [rb_up_ne hne]; exact h1, nl rfl, ⟨nb rfl, nb rfl⟩, rfl, ?_⟩
      rw [nI_clamp (by omega)]
      refine ⟨r, ?_, Or.inl ⟨rfl, _, h5⟩, fun b hb hb2 => ?_⟩
      · exact LS_put (by omega) h4 hne
      · rw [rb_up_ne hb, rb_up_ne hb2]
theorem J4_add {y : Nat} (h : xLs g M a r n f) (hel : ∀ i, i < n → obE M (f i)) (hy : obE M y) (hn : n ≤ 128) :
    rb_Ct g yJ4_add wJ4_add 6 (1, 200) [.ref a, .ref y] M (fun o M' => o = .returned (some (.int 1)) ∧ LSad g M a r n f y M') := by
  have h0 := h
  obtain ⟨⟨md, h1⟩, h2⟩ := h
  refine rb_Ct.of (by decide +kernel) (Nat.le_of_ble_eq_true rfl) rfl ?_
  have hob : ∀ {z : Nat}, obE M z → obE (rb_up M a (rb_O 7 [.int (md + 1), .ref r, .int (nI n)])) z := by
    rintro z ⟨ci, c1, fs, c2⟩
    by_cases hz : z = a
    · subst hz
      exact ⟨7, rfl, _, rb_up_eq⟩
    · exact ⟨ci, c1, fs, by rw [rb_up_ne hz]; exact c2⟩
  have hLS : xLs g (rb_up M a (rb_O 7 [.int (md + 1), .ref r, .int (nI n)])) a r n f := by
    refine ⟨⟨_, rb_up_eq⟩, ?_⟩
    rcases h2 with h2 | ⟨cap, h2, h3, h4, h5⟩
    · exact Or.inl h2
    · refine Or.inr ⟨cap, h2, h3, h4, ?_⟩
      rw [rb_up_ne]
      · exact h5
      · rintro rfl
        rw [h1] at h5
        cases h5
  refine sgJ4_add_0 (rb_isR_ref _) ⟨_, ⟨_, h1, rfl⟩, _, h1, nl rfl, _, ⟨_, rb_up_eq, rfl⟩, rb_isR_ref _, _, ⟨_, rb_up_eq, rfl⟩, _, _, _, J4_add_2 (y := y) hLS (fun i hi => hob (hel i hi)) (hob hy) hn, rb_dpk (by decide), ⟨nb rfl, nb rfl⟩, ⟨_, rb_up_eq⟩, ?_⟩
  rintro _ M9 ⟨rfl, r', k1, k2, k3⟩
  refine ⟨rfl, ⟨nb rfl, nb rfl⟩, rfl, r', k1, ?_, fun b hb hb2 => ?_⟩
  · rcases k2 with ⟨k2, e, k4⟩ | k2
    · left
      refine ⟨k2, ?_⟩
      by_cases hra : r = a
      · subst hra; exact ⟨_, h1⟩
      · rw [rb_up_ne hra] at k4; exact ⟨e, k4⟩
    · exact Or.inr k2
  · rw [k3 b hb hb2, rb_up_ne hb]
/-! clear, new -/
theorem J4_clearLoop {κ : rb_K} {md : Int32} {cap : Nat} (hc : cap ≤ 200) (hn : n ≤ cap) (hne : a ≠ r) (hf : rb_fin κ (0, 0)) (M0 : rb_H) (hp : ∀ M', M'.2 r = some (rb_R 3 cap (fun _ => none)) → M'.2 a = some (rb_O 7 [.int md, .ref r, .int 0]) → M'.1 = M0.1 → (∀ b, b ≠ a → b ≠ r → M'.2 b = M0.2 b) → κ.2.2.1 (.returned none) M') :
    ∀ d j M, j + d = n → M.2 r = some (rb_R 3 cap (fun i => if j ≤ i ∧ i < n then some (f i) else none)) → M.2 a = some (rb_O 7 [.int md, .ref r, .int 0]) → M.1 = M0.1 → (∀ b, b ≠ a → b ≠ r → M.2 b = M0.2 b) → rb_Bd κ mJ4_clear (0, 0) M 27 [some (.ref a), some (.ref r), some (.int (nI n)), some (.int (nI j))] [] := by
  intro d
  induction d with
  | zero =>
    intro j M hj h1 h2 h3 h4
    obtain rfl : j = n := by omega
    refine sgJ4_clear_27 (rb_isR_ref _) ⟨fun _ => ⟨hf, hp M ?_ h2 h3 h4⟩, fun h => absurd h (nI_nlt (Nat.le_refl _) (by omega))⟩
    rw [h1]
    congr 4
    funext i
    rw [if_neg (by omega)]
  | succ d ih =>
    intro j M hj h1 h2 h3 h4
    refine sgJ4_clear_27 (rb_isR_ref _) ⟨fun h => absurd h (nI_ge (by omega) (by omega)), fun _ => ⟨r, rfl, 3, cap, _, h1, ⟨nb rfl, nb rfl⟩, vp_in_nI (by omega) (by omega), ?_⟩⟩
    rw [nI_1, nI_clamp (by omega)]
    refine ih (j + 1) _ (by omega) ?_ (by rw [rb_up_ne hne]; exact h2) h3 (fun b hb hb2 => by rw [rb_up_ne hb2]; exact h4 b hb hb2)
    rw [rb_up_eq]
    congr 4
    funext i
    by_cases hi : i = j
    · subst hi
      simp [va_up]
      omega
    · by_cases h5 : j ≤ i ∧ i < n
      · simp [va_up, hi, h5, show j + 1 ≤ i by omega]
      · simp [va_up, hi, h5, show ¬ (j + 1 ≤ i ∧ i < n) by omega]
theorem J4_clear (h : xLs g M a r n f) : rb_Ct g yJ4_clear wJ4_clear 0 (0, 0) [.ref a] M (fun o M' => o = .returned none ∧ xLs g M' a r 0 f ∧ M'.1 = M.1 ∧ ∀ b, b ≠ a → (b ≠ r ∨ r = rb_dc g) → M'.2 b = M.2 b) := by
  obtain ⟨⟨md, h1⟩, h2⟩ := h
  refine rb_Ct.of (by decide +kernel) (Nat.le_of_ble_eq_true rfl) rfl ?_
  refine rb_know fun hwf => ?_
  refine sgJ4_clear_0 ⟨_, ⟨_, h1, rfl⟩, _, h1, nl rfl, _, ⟨_, rb_up_eq, rfl⟩, rb_isR_ref _, _, ⟨_, rb_up_eq, rfl⟩, _, rb_up_eq, nl rfl, ?_⟩
  rw [rb_up_up]
  rcases h2 with ⟨rfl, rfl⟩ | ⟨cap, h2, h3, h4, h5⟩
  · refine sgJ4_clear_27 (rb_isR_ref _) ⟨fun _ => ⟨zf, rfl, ⟨⟨md + 1, by rw [rb_up_eq]; rfl⟩, Or.inl ⟨rfl, rfl⟩⟩, rfl, fun b hb _ => rb_up_ne hb⟩, fun h => absurd h (by decide)⟩
  · have hne : a ≠ r := by
      rintro rfl
      rw [h1] at h5
      cases h5
    refine J4_clearLoop (f := f) (md := md + 1) (cap := cap) h4 h2 hne zf M ?_ n 0 _ (by omega) ?_ (by rw [rb_up_eq]; rfl) rfl (fun b hb _ => rb_up_ne hb)
    · intro M' k1 k2 k3 k4
      refine ⟨rfl, ⟨⟨md + 1, by rw [k2]; rfl⟩, Or.inr ⟨cap, by omega, h3, h4, ?_⟩⟩, k3, fun b hb hb2 => ?_⟩
      · rw [k1]
        congr 4
      · rcases hb2 with hb2 | hb2
        · exact k4 b hb hb2
        · have := (hwf.2.2 _ _ h5).1
          have := hwf.2.1
          exact absurd hb2 (fun e => by subst e; exact absurd this (Nat.not_lt.mpr (hwf.2.2 _ _ h5).1))
    · rw [rb_up_ne (Ne.symm hne), h5]
      congr 4
      funext i
      simp
theorem J2_init : rb_Ct g yJ2_init wJ2_init 1 (0, 0) [.ref a] M (qr none M) := by
  refine rb_Ct.of (by decide +kernel) (Nat.le_of_ble_eq_true rfl) rfl ?_
  exact sgJ2_init_0 ⟨rb_dpk (by decide), zf, rfl, rfl⟩
theorem J3_init {x y z : Value} (h : M.2 a = some (rb_O 7 [x, y, z])) : rb_Ct g yJ3_init wJ3_init 2 (0, 0) [.ref a] M (qr none (rb_up M a (rb_O 7 [.int 0, y, z]))) := by
  refine rb_Ct.of (by decide +kernel) (Nat.le_of_ble_eq_true rfl) rfl ?_
  refine sgJ3_init_0 ⟨7, _, _, _, J2_init, rb_dpk (by decide), zr, ⟨_, h⟩, ?_⟩
  rintro _ _ ⟨rfl, rfl⟩
  exact ⟨rfl, _, h, nl rfl, zf, rfl, rfl⟩
theorem J4_init {x y z : Value} (h : M.2 a = some (rb_O 7 [x, y, z])) : rb_Ct g yJ4_init wJ4_init 3 (0, 0) [.ref a] M (qr none (rb_up M a (rb_O 7 [.int 0, .ref (rb_dc g), z]))) := by
  refine rb_Ct.of (by decide +kernel) (Nat.le_of_ble_eq_true rfl) rfl ?_
  refine sgJ4_init_0 ⟨7, _, _, _, J3_init h, rb_dpk (by decide), zr, ⟨_, h⟩, ?_⟩
  rintro _ _ ⟨rfl, rfl⟩
  refine ⟨rfl, _, rb_up_eq, nl rfl, zf, rfl, ?_⟩
  rw [rb_up_up]
  rfl
end LST
