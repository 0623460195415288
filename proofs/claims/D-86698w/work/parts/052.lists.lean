set_option maxRecDepth 100000
/-! ArrayList: contracts over the raw heap -/
theorem rb_up_eq {M : rb_H} {a : Nat} {e : rb_E} : (rb_up M a e).2 a = some e := by simp [rb_up, va_up]
theorem rb_up_ne {M : rb_H} {a b : Nat} {e : rb_E} (h : b ≠ a) : (rb_up M a e).2 b = M.2 b := by simp [rb_up, va_up, h]
theorem rb_nw_eq {M : rb_H} {e : rb_E} : (rb_nw M e).2 M.1 = some e := by simp [rb_nw, va_up]
theorem rb_nw_ne {M : rb_H} {b : Nat} {e : rb_E} (h : b ≠ M.1) : (rb_nw M e).2 b = M.2 b := by simp [rb_nw, va_up, h]
theorem rb_up_up {M : rb_H} {a : Nat} {e e' : rb_E} : rb_up (rb_up M a e) a e' = rb_up M a e' := by
  refine Prod.ext rfl (funext fun b => ?_)
  by_cases h : b = a
  · subst h; rw [rb_up_eq, rb_up_eq]
  · rw [rb_up_ne h, rb_up_ne h, rb_up_ne h]
theorem rb_up_nw {M : rb_H} {e e' : rb_E} : rb_up (rb_nw M e) M.1 e' = rb_nw M e' := by
  refine Prod.ext rfl (funext fun b => ?_)
  by_cases h : b = M.1
  · subst h; rw [rb_up_eq, rb_nw_eq]
  · rw [rb_up_ne h, rb_nw_ne h, rb_nw_ne h]
theorem rb_up_1 {M : rb_H} {a : Nat} {e : rb_E} : (rb_up M a e).1 = M.1 := rfl
theorem rb_nw_1 {M : rb_H} {e : rb_E} : (rb_nw M e).1 = M.1 + 1 := rfl
theorem z2 {n : Nat × Nat} : 0 ≤ n.1 ∧ 0 ≤ n.2 := ⟨Nat.zero_le _, Nat.zero_le _⟩
theorem zr {g : rb_G} {d : Nat} {n : Nat × Nat} {P : Outcome → rb_H → Prop} {m : Nat × Nat} : rb_rom (g, rb_rm d n, P, m) (0, 0) := ⟨Nat.zero_le _, Nat.zero_le _⟩
theorem zf {g : rb_G} {r : Room} {P : Outcome → rb_H → Prop} {m : Nat × Nat} : rb_fin (g, r, P, m) (0, 0) := ⟨Nat.zero_le _, Nat.zero_le _⟩
theorem nb {a b : Nat} (h : Nat.ble a b = true) : a ≤ b := Nat.le_of_ble_eq_true h
theorem nl {a b : Nat} (h : Nat.ble (a + 1) b = true) : a < b := Nat.le_of_ble_eq_true h
abbrev qr (v : Option Value) (M : rb_H) : Outcome → rb_H → Prop := fun o M' => o = .returned v ∧ M' = M
def obE (M : rb_H) (y : Nat) : Prop := ∃ ci, isE ci = true ∧ rb_ob M y ci
/-- a list at a, its array at r: n elements f -/
def xLs (g : rb_G) (M : rb_H) (a r n : Nat) (f : Nat → Nat) : Prop :=
  (∃ md : Int32, M.2 a = some (rb_O 7 [.int md, .ref r, .int (nI n)])) ∧
  ((n = 0 ∧ r = rb_dc g) ∨ ∃ cap, n ≤ cap ∧ 1 ≤ cap ∧ cap ≤ 200 ∧ M.2 r = some (rb_R 3 cap (fun i => if i < n then some (f i) else none)))
theorem xLs.congr {g : rb_G} {M : rb_H} {a r n : Nat} {f f' : Nat → Nat} (h : xLs g M a r n f) (e : ∀ i, i < n → f i = f' i) : xLs g M a r n f' := by
  obtain ⟨h1, h2⟩ := h
  refine ⟨h1, ?_⟩
  rcases h2 with h2 | ⟨cap, h2, h3, h4, h5⟩
  · exact Or.inl h2
  · refine Or.inr ⟨cap, h2, h3, h4, ?_⟩
    rw [h5]
    congr 4
    funext i
    split
    · rw [e i (by assumption)]
    · rfl
theorem xLs.moved {g : rb_G} {M M' : rb_H} {a r n : Nat} {f : Nat → Nat} (h : xLs g M a r n f) (ha : M'.2 a = M.2 a) (hr : n ≠ 0 → M'.2 r = M.2 r) (hr0 : M'.2 r = M.2 r ∨ n ≠ 0 ∨ r = rb_dc g) : xLs g M' a r n f := by
  obtain ⟨h1, h2⟩ := h
  refine ⟨by rw [ha]; exact h1, ?_⟩
  rcases h2 with h2 | ⟨cap, h2, h3, h4, h5⟩
  · exact Or.inl h2
  · rcases hr0 with hr0 | hr0 | hr0
    · exact Or.inr ⟨cap, h2, h3, h4, by rw [hr0]; exact h5⟩
    · exact Or.inr ⟨cap, h2, h3, h4, by rw [hr hr0]; exact h5⟩
    · by_cases h0 : n = 0
      · exact Or.inl ⟨h0, hr0⟩
      · exact Or.inr ⟨cap, h2, h3, h4, by rw [hr h0]; exact h5⟩
theorem xLs.ob {g : rb_G} {M : rb_H} {a r n : Nat} {f : Nat → Nat} (h : xLs g M a r n f) : rb_ob M a 7 := by
  obtain ⟨⟨md, h1⟩, -⟩ := h
  exact ⟨_, h1⟩
section LSS
variable {g : rb_G} {M : rb_H} {a r n : Nat} {f : Nat → Nat}
theorem J4_size (h : xLs g M a r n f) : rb_Ct g yJ4_size wJ4_size 0 (0, 0) [.ref a] M (qr (some (.int (nI n))) M) := by
  obtain ⟨⟨md, h1⟩, -⟩ := h
  refine rb_Ct.of (by decide) (Nat.le_of_ble_eq_true rfl) rfl ?_
  exact sgJ4_size_0 ⟨_, ⟨_, h1, rfl⟩, zf, rfl, rfl⟩
theorem J4_isEmpty (h : xLs g M a r n f) (hn : n < 2 ^ 31) : rb_Ct g yJ4_isEmpty wJ4_isEmpty 0 (0, 0) [.ref a] M (qr (some (.int (if n = 0 then 1 else 0))) M) := by
  obtain ⟨⟨md, h1⟩, -⟩ := h
  refine rb_Ct.of (by decide) (Nat.le_of_ble_eq_true rfl) rfl ?_
  refine sgJ4_isEmpty_0 ⟨_, ⟨_, h1, rfl⟩, fun h2 => ⟨zf, ?_, rfl⟩, fun h2 => ⟨zf, ?_, rfl⟩⟩
  · rw [if_neg (fun q => h2 (by rw [q]; rfl))]
  · have : n = 0 := (nI_eq hn (by decide)).mp (h2.trans nI_0.symm)
    rw [if_pos this]
theorem J9_checkIndex {i : Nat} (h : i < n) (hn : n < 2 ^ 31) : rb_Ct g yJ9_checkIndex wJ9_checkIndex 0 (0, 0) [.int (nI i), .int (nI n), .null] M (qr (some (.int (nI i))) M) := by
  refine rb_Ct.of (by decide) (Nat.le_of_ble_eq_true rfl) rfl ?_
  exact sgJ9_checkIndex_0 rb_isR_null ⟨fun h1 => absurd h1 (nI_pos (by omega)), fun _ => ⟨fun _ => ⟨zf, rfl, rfl⟩, fun h2 => absurd h2 (nI_ge h hn)⟩⟩
theorem J8_checkIndex {i : Nat} (h : i < n) (hn : n < 2 ^ 31) : rb_Ct g yJ8_checkIndex wJ8_checkIndex 1 (0, 0) [.int (nI i), .int (nI n)] M (qr (some (.int (nI i))) M) := by
  refine rb_Ct.of (by decide) (Nat.le_of_ble_eq_true rfl) rfl ?_
  refine sgJ8_checkIndex_0 ⟨_, _, _, J9_checkIndex h hn, rb_dpk (by decide), zr, ?_⟩
  rintro _ _ ⟨rfl, rfl⟩
  exact ⟨_, rfl, zf, rfl, rfl⟩
theorem J4_elementData {i cap : Nat} {md : Int32} {fa : Nat → Option Nat} {v : Value} (h1 : M.2 a = some (rb_O 7 [.int md, .ref r, v])) (h2 : M.2 r = some (rb_R 3 cap fa)) (hi : i < cap) (hc : cap < 2 ^ 31) : rb_Ct g yJ4_elementData wJ4_elementData 0 (0, 0) [.ref a, .int (nI i)] M (qr (some (va_rf (fa i))) M) := by
  refine rb_Ct.of (by decide) (Nat.le_of_ble_eq_true rfl) rfl ?_
  exact sgJ4_elementData_0 ⟨_, ⟨_, h1, rfl⟩, rb_isR_ref _, _, rfl, 3, cap, fa, _, h2, ⟨by decide, by decide⟩, vp_in_nI hi hc, by rw [nI_clamp (by omega)], zf, rfl, rfl⟩
theorem J4_get (h : xLs g M a r n f) {i : Nat} (hi : i < n) : rb_Ct g yJ4_get wJ4_get 2 (0, 0) [.ref a, .int (nI i)] M (qr (some (.ref (f i))) M) := by
  obtain ⟨⟨md, h1⟩, h2⟩ := h
  rcases h2 with ⟨h2, -⟩ | ⟨cap, h2, h3, h4, h5⟩
  · omega
  refine rb_Ct.of (by decide) (Nat.le_of_ble_eq_true rfl) rfl ?_
  refine sgJ4_get_0 ⟨_, ⟨_, h1, rfl⟩, _, _, _, J8_checkIndex hi (by omega), rb_dpk (by decide), zr, ?_⟩
  rintro _ _ ⟨rfl, rfl⟩
  refine ⟨_, rfl, _, _, _, J4_elementData (i := i) h1 h5 (by omega) (by omega), rb_dpk (by decide), zr, ⟨_, h1⟩, ?_⟩
  rintro _ _ ⟨rfl, rfl⟩
  rw [if_pos hi]
  exact ⟨_, rfl, rb_isR_ref _, zf, rfl, rfl⟩
/-- the first place of q -/
def ixP (f : Nat → Nat) (n q : Nat) (x : Int32) : Prop := (∃ k, k < n ∧ f k = q ∧ (∀ i, i < k → f i ≠ q) ∧ x = nI k) ∨ ((∀ i, i < n → f i ≠ q) ∧ x = -1)
theorem J4_indexLoop {κ : rb_K} {q : Nat} (h : xLs g M a r n f) (hq : rb_ob M q 5 ∨ rb_ob M q 6) (hd : rb_dp κ 0) (hf : rb_fin κ (0, 0)) (hp : ∀ x, ixP f n q x → κ.2.2.1 (.returned (some (.int x))) M) :
    ∀ d j, j + d = n → (∀ i, i < j → f i ≠ q) → rb_Bd κ mJ4_indexOfRange (0, 0) M 42 [some (.ref a), some (.ref q), some (.int 0), some (.int (nI n)), some (.ref r), some (.int (nI j))] [] := by
  obtain ⟨⟨md, h1⟩, h2⟩ := h
  have hn : n ≤ 200 := by
    rcases h2 with ⟨h2, -⟩ | ⟨cap, h2, h3, h4, h5⟩ <;> omega
  intro d
  induction d with
  | zero =>
    intro j hj hno
    obtain rfl : j = n := by omega
    exact sgJ4_indexOfRange_42 (rb_isR_ref _) (rb_isR_ref _) ⟨fun _ => ⟨hf, hp _ (Or.inr ⟨hno, rfl⟩)⟩, fun h3 => absurd h3 (nI_nlt (Nat.le_refl _) (by omega))⟩
  | succ d ih =>
    intro j hj hno
    rcases h2 with ⟨h2, -⟩ | ⟨cap, h2, h3, h4, h5⟩
    · omega
    refine sgJ4_indexOfRange_42 (rb_isR_ref _) (rb_isR_ref _) ⟨fun h6 => absurd h6 (nI_ge (by omega) (by omega)), fun _ => ⟨_, rfl, 3, cap, _, _, h5, ⟨by decide, by decide⟩, vp_in_nI (by omega) (by omega), rfl, q, rfl, f j, ?_, _, rfl, hq, hd, fun h6 => ?_, fun h6 => ?_⟩⟩
    · rw [nI_clamp (by omega), if_pos (by omega)]
      rfl
    · rw [nI_1]
      refine ih (j + 1) (by omega) fun i hi => ?_
      rcases Nat.lt_or_ge i j with h7 | h7
      · exact hno i h7
      · obtain rfl : i = j := by omega
        intro h8
        rw [if_pos h8.symm] at h6
        exact absurd h6 (by decide)
    · refine ⟨hf, hp _ (Or.inl ⟨j, by omega, ?_, hno, rfl⟩)⟩
      by_cases h7 : q = f j
      · exact h7.symm
      · rw [if_neg h7] at h6
        exact absurd rfl h6
theorem J4_indexOfRange {q : Nat} (h : xLs g M a r n f) (hq : rb_ob M q 5 ∨ rb_ob M q 6) : rb_Ct g yJ4_indexOfRange wJ4_indexOfRange 1 (0, 0) [.ref a, .ref q, .int 0, .int (nI n)] M (fun o M' => ∃ x, ixP f n q x ∧ qr (some (.int x)) M o M') := by
  refine rb_Ct.of (by decide) (Nat.le_of_ble_eq_true rfl) rfl ?_
  have h' := h
  obtain ⟨⟨md, h1⟩, -⟩ := h
  refine sgJ4_indexOfRange_0 (rb_isR_ref _) ⟨_, ⟨_, h1, rfl⟩, rb_isR_ref _, fun e => (by cases e), fun q2 e => ?_⟩
  cases e
  exact J4_indexLoop h' hq (rb_dpk (by decide)) zf (fun x hx => ⟨x, hx, rfl, rfl⟩) n 0 (by omega) (fun i hi => by omega)
theorem J4_indexOf {q : Nat} (h : xLs g M a r n f) (hq : rb_ob M q 5 ∨ rb_ob M q 6) : rb_Ct g yJ4_indexOf wJ4_indexOf 2 (0, 0) [.ref a, .ref q] M (fun o M' => ∃ x, ixP f n q x ∧ qr (some (.int x)) M o M') := by
  refine rb_Ct.of (by decide) (Nat.le_of_ble_eq_true rfl) rfl ?_
  have h' := h
  obtain ⟨⟨md, h1⟩, -⟩ := h
  refine sgJ4_indexOf_0 (rb_isR_ref _) ⟨_, ⟨_, h1, rfl⟩, _, _, _, J4_indexOfRange h' hq, rb_dpk (by decide), zr, ⟨_, h1⟩, ?_⟩
  rintro _ _ ⟨x, hx, rfl, rfl⟩
  exact ⟨_, rfl, zf, x, hx, rfl, rfl⟩
theorem J4_contains {q : Nat} (h : xLs g M a r n f) (hq : rb_ob M q 5 ∨ rb_ob M q 6) : rb_Ct g yJ4_contains wJ4_contains 3 (0, 0) [.ref a, .ref q] M (fun o M' => ∃ x, zB x (∃ k, k < n ∧ f k = q) ∧ qr (some (.int x)) M o M') := by
  refine rb_Ct.of (by decide) (Nat.le_of_ble_eq_true rfl) rfl ?_
  refine sgJ4_contains_0 (rb_isR_ref _) ⟨_, _, _, J4_indexOf h hq, rb_dpk (by decide), zr, h.ob, ?_⟩
  have hn : n ≤ 200 := by
    rcases h.2 with ⟨h2, -⟩ | ⟨cap, h2, h3, h4, h5⟩ <;> omega
  rintro _ _ ⟨x, hx, rfl, rfl⟩
  rcases hx with ⟨k, hk, hk2, hk3, rfl⟩ | ⟨hx, rfl⟩
  · exact ⟨_, rfl, fun h6 => absurd h6 (nI_pos (by omega)), fun _ => ⟨zf, 1, Or.inl ⟨rfl, k, hk, hk2⟩, rfl, rfl⟩⟩
  · exact ⟨_, rfl, fun _ => ⟨zf, 0, Or.inr ⟨rfl, fun ⟨k, hk, hk2⟩ => hx k hk hk2⟩, rfl, rfl⟩, fun h6 => absurd h6 (by decide)⟩
/-! add -/
theorem J6_max {x y : Nat} (hx : x < 2 ^ 31) (hy : y < 2 ^ 31) : rb_Ct g yJ6_max wJ6_max 0 (0, 0) [.int (nI x), .int (nI y)] M (qr (some (.int (nI (max x y)))) M) := by
  refine rb_Ct.of (by decide +kernel) (Nat.le_of_ble_eq_true rfl) rfl ?_
  refine sgJ6_max_0 ⟨fun h => ⟨zf, ?_, rfl⟩, fun h => ⟨zf, ?_, rfl⟩⟩
  · rw [nI_ltI hx hy] at h
    rw [Nat.max_eq_right (by omega)]
  · rw [nI_leI hy hx] at h
    rw [Nat.max_eq_left (by omega)]
theorem J6_min {x y : Nat} (hx : x < 2 ^ 31) (hy : y < 2 ^ 31) : rb_Ct g yJ6_min wJ6_min 0 (0, 0) [.int (nI x), .int (nI y)] M (qr (some (.int (nI (min x y)))) M) := by
  refine rb_Ct.of (by decide +kernel) (Nat.le_of_ble_eq_true rfl) rfl ?_
  refine sgJ6_min_0 ⟨fun h => ⟨zf, ?_, rfl⟩, fun h => ⟨zf, ?_, rfl⟩⟩
  · rw [nI_ltI hy hx] at h
    rw [Nat.min_eq_right (by omega)]
  · rw [nI_leI hx hy] at h
    rw [Nat.min_eq_left (by omega)]
theorem J5_newLength {x y z : Nat} (hx : x ≤ 1000) (hy : y ≤ 1000) (hz : z ≤ 1000) (h1 : 1 ≤ y) : rb_Ct g yJ5_newLength wJ5_newLength 1 (0, 0) [.int (nI x), .int (nI y), .int (nI z)] M (qr (some (.int (nI (x + max y z)))) M) := by
  refine rb_Ct.of (by decide +kernel) (Nat.le_of_ble_eq_true rfl) rfl ?_
  refine sgJ5_newLength_0 ⟨_, _, _, J6_max (by omega) (by omega), rb_dpk (by decide), zr, ?_⟩
  rintro _ _ ⟨rfl, rfl⟩
  have hm : 1 ≤ max y z ∧ max y z ≤ 1000 := by omega
  refine ⟨_, rfl, fun h => ?_, fun _ => ⟨fun h => ?_, fun h => ?_⟩⟩
  · rw [nI_add] at h
    exact absurd h (nI_nle (by omega) (by omega))
  · rw [nI_add, show (2147483639 : Int32) = nI 2147483639 from rfl, nI_ltI (by decide) (by omega)] at h
    omega
  · rw [nI_add]
    exact ⟨zf, rfl, rfl⟩
theorem J7_copyOf_2 {c N : Nat} {fa : Nat → Option Nat} (hr : M.2 r = some (rb_R 3 c fa)) (hel : ∀ i, i < c → ∀ y, fa i = some y → obE M y) (hc : c ≤ N) (hN : N ≤ 1000) : rb_Ct g yJ7_copyOf_2 wJ7_copyOf_2 1 (1, N) [.ref r, .int (nI N), .ref (rb_mi g)] M (qr (some (.ref M.1)) (rb_nw M (rb_R 3 N (fun i => if i < c then fa i else none)))) := by
  refine rb_Ct.of (by decide +kernel) (Nat.le_of_ble_eq_true rfl) rfl ?_
  refine rb_know fun hwf => ?_
  have hne : r ≠ M.1 := Nat.ne_of_lt (hwf.2.2 _ _ hr).2
  have hr' : (rb_nw M (rb_R 3 N (fun _ => none))).2 r = some (rb_R 3 c fa) := by rw [rb_nw_ne hne]; exact hr
  refine sgJ7_copyOf_2_0 (rb_isR_ref _) (rb_isR_ref _) ⟨fun h => absurd rfl h, fun _ => ⟨N, rfl, by omega, ⟨by simp [rb_rm], by simp [rb_rm]⟩, r, rfl, nI c, Or.inr ⟨_, _, hr', by decide, rfl⟩, _, _, _, J6_min (by omega) (by omega), rb_dpk (by decide), ⟨by simp [rb_rm], by simp [rb_rm]⟩, ?_⟩⟩
  rintro _ _ ⟨rfl, rfl⟩
  rw [Nat.min_eq_left hc]
  refine ⟨_, rfl, c, N, fa, (fun _ => none), hr', rb_nw_eq, by decide, by decide, nI_pos (by omega), ?_, ?_, ?_, rb_dpk (by decide), ⟨by simp, by simp⟩, rfl, ?_⟩
  · rw [nI_clamp (by omega)]; simp
  · rw [nI_clamp (by omega)]; simpa using hc
  · intro i hi y hy
    rw [nI_clamp (by omega)] at hi
    simp at hy
    obtain ⟨ci, h1, fs, h2⟩ := hel i hi y hy
    exact ⟨ci, ⟨fs, by rw [rb_nw_ne (Nat.ne_of_lt (hwf.2.2 _ _ h2).2)]; exact h2⟩, isE_as ci h1⟩
  · rw [nI_clamp (by omega), rb_up_nw]
    congr 4
    funext i
    by_cases hi : i < c
    · rw [if_pos hi, pk_cpy_in (by simp) (by simpa using hi)]; simp
    · rw [if_neg hi, pk_cpy_out (by right; simp; omega)]
theorem J7_copyOf {c N : Nat} {fa : Nat → Option Nat} (hr : M.2 r = some (rb_R 3 c fa)) (hel : ∀ i, i < c → ∀ y, fa i = some y → obE M y) (hc : c ≤ N) (hN : N ≤ 1000) : rb_Ct g yJ7_copyOf wJ7_copyOf 2 (1, N) [.ref r, .int (nI N)] M (qr (some (.ref M.1)) (rb_nw M (rb_R 3 N (fun i => if i < c then fa i else none)))) := by
  refine rb_Ct.of (by decide +kernel) (Nat.le_of_ble_eq_true rfl) rfl ?_
  refine sgJ7_copyOf_0 (rb_isR_ref _) ⟨r, rfl, c, fa, hr, rb_dpk (by decide), _, _, _, J7_copyOf_2 hr hel hc hN, rb_dpk (by decide), ⟨by simp [rb_rm], by simp [rb_rm]⟩, ?_⟩
  rintro _ _ ⟨rfl, rfl⟩
  exact ⟨_, rfl, rb_isR_ref _, ⟨by simp, by simp⟩, rfl, rfl⟩
end LSS
