set_option maxRecDepth 100000
/-- fields that decide what is there and how long the lists are -/
def EF : List Nat := [0, 4, 10, 16, 24, 25, 28, 40, 41, 50, 52]
theorem eX_EF : ∀ k F, F ∈ eX k → F ∈ EF := by
  intro k F h
  have hA : ∀ k, k < 20 → ∀ F, F ∈ eA k → F ∈ EF := by decide
  have hL : ∀ l, l < 10 → ∀ F, F ∈ eL l → F ∈ EF := by decide
  unfold eX at h
  by_cases h1 : k < 20
  · rw [if_pos h1] at h
    exact hA k h1 F h
  rw [if_neg h1] at h
  by_cases h2 : k < 30
  · rw [if_pos h2] at h
    exact hL _ (by omega) F h
  rw [if_neg h2] at h
  by_cases h3 : k < 40
  · rw [if_pos h3] at h
    exact hL _ (by omega) F h
  rw [if_neg h3] at h
  cases h
theorem dX_big {k : Nat} (h : 85 ≤ k) : dX k = [] := by
  simp only [dX, dB]
  repeat rw [if_neg (by omega)]
theorem dX_only (F k0 : Nat) (hd : (List.range 85).all (fun k => k == k0 || !(dX k).contains F) = true) : ∀ k, k ≠ k0 → F ∉ dX k := by
  intro k hk hF
  rcases Nat.lt_or_ge k 85 with h | h
  · have := List.all_eq_true.mp hd k (List.mem_range.mpr h)
    simp [hk, hF] at this
  · rw [dX_big h] at hF
    cases hF
theorem dX_none (F : Nat) (hd : (List.range 85).all (fun k => !(dX k).contains F) = true) : ∀ k, F ∉ dX k := by
  intro k hF
  rcases Nat.lt_or_ge k 85 with h | h
  · have := List.all_eq_true.mp hd k (List.mem_range.mpr h)
    simp [hF] at this
  · rw [dX_big h] at hF
    cases hF
theorem lenL_EF {ms ms' : mm_S} (H : ∀ F, F ∈ EF → sameF ms ms' F) : ∀ l, l < 10 → ∀ i, lenL ms' l i = lenL ms l i := by
  have e0 := (H 0 (by decide)).1
  have e4 := (H 4 (by decide)).1
  have e10 := (H 10 (by decide)).1
  have e16 := (H 16 (by decide)).1
  have e24 := (H 24 (by decide)).1
  have e25 := (H 25 (by decide)).1
  have e28 := (H 28 (by decide)).1
  have e40 := (H 40 (by decide)).1
  have e41 := (H 41 (by decide)).1
  refine l10 ?_ ?_ ?_ ?_ ?_ ?_ ?_ ?_ ?_ ?_ <;> intro i <;> simp only [lenL, nN, e0, e4, e10, e16, e24, e25, e28, e40, e41]
theorem exL_EF {ms ms' : mm_S} (H : ∀ F, F ∈ EF → sameF ms ms' F) : ∀ l, l < 10 → ∀ i, exL ms' l i = exL ms l i := by
  have e0 := (H 0 (by decide)).1
  have e10 := (H 10 (by decide)).1
  have e24 := (H 24 (by decide)).1
  have e40 := (H 40 (by decide)).1
  refine l10 ?_ ?_ ?_ ?_ ?_ ?_ ?_ ?_ ?_ ?_ <;> intro i <;> simp only [exL, nN, e0, e10, e24, e40]
section RP
variable {g : rb_G} {ms ms' : mm_S} {ad : aD} {h : Nat} {ms0 : mm_S} {M M' : rb_H}
theorem Rep.ne (R : Rep g ms ad h ms0 M) {k i k' i' : Nat} (hx : exX g ms ad k i) (hx' : exX g ms ad k' i') (hne : k ≠ k' ∨ i ≠ i') : ad k i ≠ ad k' i' := by
  intro e
  have := R.2.1 k i k' i' hx hx' e
  rcases hne with q | q
  · exact q this.1
  · exact q this.2
theorem Rep.ls (R : Rep g ms ad h ms0 M) (l i : Nat) (hl : l < 10) (hx : exL ms l i) : xLs g M (ad (20 + l) i) (ad (30 + l) i) (lenL ms l i) (eltL ms ad l i) := by
  obtain ⟨c, h1, h2⟩ := R.1 (20 + l) i (by rw [ex20 l hl]; exact hx)
  rw [ok20 l hl] at h2
  obtain ⟨md, rfl⟩ := h2
  refine ⟨⟨md, h1⟩, ?_⟩
  by_cases hd : ad (30 + l) i = rb_dc g
  · exact Or.inl ⟨R.2.2.1 l i hl hx hd, hd⟩
  · obtain ⟨c, h3, h4⟩ := R.1 (30 + l) i (by rw [ex30 l hl]; exact ⟨hx, hd⟩)
    rw [ok30 l hl] at h4
    obtain ⟨cap, k1, k2, k3, rfl⟩ := h4
    exact Or.inr ⟨cap, k1, k2, k3, h3⟩
/-- a change that lets all tags stand where they are -/
theorem Rep.step (R : Rep g ms ad h ms0 M) (Fs : List Nat) (h1 : ∀ F, F ∉ Fs → sameF ms ms' F) (hE : ∀ F, F ∈ Fs → F ∉ EF) (hc : ∀ k i, exX g ms ad k i → ((∃ F, F ∈ Fs ∧ F ∈ dX k) ∨ M'.2 (ad k i) ≠ M.2 (ad k i)) → ∃ c, M'.2 (ad k i) = some c ∧ okX ms' ad h ms0 k i c) : Rep g ms' ad h ms0 M' := by
  have hEF : ∀ F, F ∈ EF → sameF ms ms' F := fun F hF => h1 F (fun q => hE F q hF)
  have hex : ∀ k i, exX g ms' ad k i → exX g ms ad k i := fun k i q => (exX_dep k i (fun F hF => hEF F (eX_EF k F hF))).mp q
  refine ⟨fun k i hx => ?_, fun k i k' i' hx hx' => R.2.1 k i k' i' (hex k i hx) (hex k' i' hx'), fun l i hl hx hd => ?_, R.2.2.2⟩
  · by_cases ha : (∃ F, F ∈ Fs ∧ F ∈ dX k) ∨ M'.2 (ad k i) ≠ M.2 (ad k i)
    · exact hc k i (hex k i hx) ha
    · obtain ⟨c, q1, q2⟩ := R.1 k i (hex k i hx)
      have hne : M'.2 (ad k i) = M.2 (ad k i) := Classical.not_not.mp fun q => ha (Or.inr q)
      exact ⟨c, by rw [hne]; exact q1, okX_dep k i c (hex k i hx) (fun F hF => h1 F fun q => ha (Or.inl ⟨F, q, hF⟩)) q2⟩
  · rw [lenL_EF hEF l hl]
    rw [exL_EF hEF l hl] at hx
    exact R.2.2.1 l i hl hx hd
/-- the cell of one tag is written -/
theorem Rep.put (R : Rep g ms ad h ms0 M) (k0 i0 : Nat) (Fs : List Nat) (h1 : ∀ F, F ∉ Fs → sameF ms ms' F) (hE : ∀ F, F ∈ Fs → F ∉ EF) (hF : ∀ k, k ≠ k0 → ∀ F, F ∈ Fs → F ∉ dX k) (hx0 : exX g ms ad k0 i0) (ho : ∀ i, i ≠ i0 → exX g ms ad k0 i → ∀ c, okX ms ad h ms0 k0 i c → okX ms' ad h ms0 k0 i c) {c' : rb_E} (hc : okX ms' ad h ms0 k0 i0 c') : Rep g ms' ad h ms0 (rb_up M (ad k0 i0) c') := by
  refine R.step Fs h1 hE fun k i hx ha => ?_
  by_cases hk : k = k0 ∧ i = i0
  · obtain ⟨rfl, rfl⟩ := hk
    exact ⟨c', rb_up_eq, hc⟩
  · have hne : ad k i ≠ ad k0 i0 := R.ne hx hx0 (by omega)
    rw [rb_up_ne hne] at ha ⊢
    rcases ha with ⟨F, q1, q2⟩ | ha
    · have hk0 : k = k0 := Classical.not_not.mp fun q => hF k q F q1 q2
      subst hk0
      obtain ⟨c, r1, r2⟩ := R.1 k i hx
      exact ⟨c, r1, ho i (by omega) hx c r2⟩
    · exact absurd rfl ha
/-- a cell that belongs to no tag is written; a cell is made -/
theorem Rep.free (R : Rep g ms ad h ms0 M) {a : Nat} {e : rb_E} (ha : ∀ k i, exX g ms ad k i → ad k i ≠ a) : Rep g ms ad h ms0 (rb_up M a e) := by
  refine ⟨fun k i hx => ?_, R.2⟩
  obtain ⟨c, q1, q2⟩ := R.1 k i hx
  exact ⟨c, by rw [rb_up_ne (ha k i hx)]; exact q1, q2⟩
theorem Rep.lt (R : Rep g ms ad h ms0 M) (hw : rb_Wf g M) {k i : Nat} (hx : exX g ms ad k i) : ad k i < M.1 := by
  obtain ⟨c, q1, q2⟩ := R.1 k i hx
  exact (hw.2.2 _ _ q1).2
theorem Rep.nw (R : Rep g ms ad h ms0 M) (hw : rb_Wf g M) {e : rb_E} : Rep g ms ad h ms0 (rb_nw M e) := by
  refine ⟨fun k i hx => ?_, R.2⟩
  obtain ⟨c, q1, q2⟩ := R.1 k i hx
  exact ⟨c, by rw [rb_nw_ne (Nat.ne_of_lt (R.lt hw hx))]; exact q1, q2⟩
/-- any heap that has the same cells -/
theorem Rep.moved (R : Rep g ms ad h ms0 M) (hm : ∀ k i, exX g ms ad k i → M'.2 (ad k i) = M.2 (ad k i)) : Rep g ms ad h ms0 M' := by
  refine ⟨fun k i hx => ?_, R.2⟩
  obtain ⟨c, q1, q2⟩ := R.1 k i hx
  exact ⟨c, by rw [hm k i hx]; exact q1, q2⟩
/-- fields that no cell looks at -/
theorem Rep.fields (R : Rep g ms ad h ms0 M) (Fs : List Nat) (h1 : ∀ F, F ∉ Fs → sameF ms ms' F) (hE : ∀ F, F ∈ Fs → F ∉ EF) (hF : ∀ k F, F ∈ Fs → F ∉ dX k) : Rep g ms' ad h ms0 M := by
  refine R.step Fs h1 hE fun k i hx ha => ?_
  rcases ha with ⟨F, q1, q2⟩ | ha
  · exact absurd q2 (hF k F q1)
  · exact absurd rfl ha
/-! the cells -/
theorem Rep.main (R : Rep g ms ad h ms0 M) : ∃ sg, M.2 (ad 0 0) = some (rb_O 0 (mnFs ms ad sg)) := by
  obtain ⟨c, h1, sg, rfl⟩ := R.1 0 0 rfl
  exact ⟨sg, h1⟩
theorem Rep.part (R : Rep g ms ad h ms0 M) {p : Nat} (hp : p < nN ms 0 0) : M.2 (ad 4 p) = some (rb_O 5 [.int (nI p), .int (ms.1 1 p), .int (ms.1 2 p), .int (ms.1 3 p), .ref (ad 24 p), .ref (ad 5 p), .ref (ad 6 p), va_rf (bRf ms ad (25 * p + 24)), .ref (ad 7 p)]) := by
  obtain ⟨c, h1, rfl⟩ := R.1 4 p hp
  exact h1
theorem Rep.body (R : Rep g ms ad h ms0 M) {b : Nat} (hb : b < 600) (hb2 : ms.1 10 b ≠ -9) : M.2 (ad 8 b) = some (rb_O 6 [.ref (ad 4 (b / 25)), .int (buse b), .int (bmem b), .int (ms.1 11 b), .ref (ad 25 b)]) := by
  obtain ⟨c, h1, rfl⟩ := R.1 8 b ⟨hb, hb2⟩
  exact h1
theorem Rep.role (R : Rep g ms ad h ms0 M) {r : Nat} (hr : r < nN ms 24 0) : M.2 (ad 10 r) = some (rb_O 27 [.int (nI r), .ref (ad 26 r), .ref (ad 27 r), .ref (ad 11 r), .ref (ad 12 r)]) := by
  obtain ⟨c, h1, rfl⟩ := R.1 10 r hr
  exact h1
theorem Rep.thing (R : Rep g ms ad h ms0 M) {o : Nat} (ho : o < nN ms 40 0) : M.2 (ad 13 o) = some (rb_O 29 [.int (nI o), .ref (ad 10 (nN ms 41 o)), .ref (ad 29 o)]) := by
  obtain ⟨c, h1, rfl⟩ := R.1 13 o ho
  exact h1
theorem Rep.state (R : Rep g ms ad h ms0 M) {s : Nat} (hs : stX ms s) : M.2 (ad 14 s) = some (rb_O 28 [.ref (ad 15 s), .ref (ad 16 s), .ref (ad 17 s), .ref (ad 18 s)]) := by
  obtain ⟨c, h1, rfl⟩ := R.1 14 s hs
  exact h1
/-- one of the object's own numbers is written -/
theorem Rep.mainF (R : Rep g ms ad h ms0 M) (F : Nat) {fs : List Value} {sg : Int64} (hE : F ∉ EF) (hd : (List.range 85).all (fun k => k == 0 || !(dX k).contains F) = true) (h1 : ∀ F', F' ≠ F → sameF ms ms' F') (e : fs = mnFs ms' ad sg) : Rep g ms' ad h ms0 (rb_up M (ad 0 0) (rb_O 0 fs)) := by
  subst e
  refine R.put 0 0 [F] (fun F' hF' => h1 F' (by simpa using hF')) (fun F' hF' => by rw [List.mem_singleton] at hF'; rw [hF']; exact hE) (fun k hk F' hF' => by rw [List.mem_singleton] at hF'; rw [hF']; exact dX_only F 0 hd k hk) rfl (fun i hi hx => absurd hx hi) ⟨sg, rfl⟩
end RP
theorem sI_other {ms : mm_S} {k i : Nat} {x : Int32} : ∀ F', F' ≠ k → sameF ms (mm_sI ms k i x) F' := fun F' hF' => ⟨mm_sI_ne hF', rfl⟩
theorem sL_other {ms : mm_S} {k i : Nat} {x : Int64} : ∀ F', F' ≠ k → sameF ms (mm_sL ms k i x) F' := fun F' hF' => ⟨rfl, mm_sL_ne hF'⟩
