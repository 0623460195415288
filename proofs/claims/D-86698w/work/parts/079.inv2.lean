set_option maxRecDepth 100000
/-! what the functions leave of Inv -/
theorem aOk_dep {ms ms' : mm_S} {k p : Nat} {a b : Int32} (h1 : ms'.1 1 p = ms.1 1 p) (h2 : ms'.1 2 p = ms.1 2 p) (h3 : ms'.1 3 p = ms.1 3 p) : aOk ms' k p a b = aOk ms k p a b := by
  unfold aOk
  simp only [h1, h2, h3]
theorem IvP_dep {ms ms' : mm_S} (H : ∀ F, F ∈ [0, 1, 2, 3, 4, 5, 6, 10] → sameF ms ms' F) (q : IvP ms) : IvP ms' := by
  unfold IvP at q ⊢
  simp only [nN, (H 0 (by decide)).1, (H 1 (by decide)).1, (H 2 (by decide)).1, (H 3 (by decide)).1, (H 4 (by decide)).1, (H 5 (by decide)).1, (H 6 (by decide)).1, (H 10 (by decide)).1] at q ⊢
  exact q
theorem IvW_dep {ms ms' : mm_S} (H : ∀ F, F ∈ [0, 7, 8, 9] → sameF ms ms' F) (q : IvW ms) : IvW ms' := by
  unfold IvW at q ⊢
  simp only [nN, (H 0 (by decide)).1, (H 7 (by decide)).1, (H 8 (by decide)).1, (H 9 (by decide)).1] at q ⊢
  exact q
theorem IvB_dep {ms ms' : mm_S} (H : ∀ F, F ∈ [1, 2, 3, 10, 11, 12, 13, 14, 15] → sameF ms ms' F) (q : IvB ms) : IvB ms' := by
  obtain ⟨q1, q2⟩ := q
  refine ⟨fun b hb => ?_, by rw [(H 15 (by decide)).1, (H 10 (by decide)).1]; exact q2⟩
  obtain ⟨r1, r2⟩ := q1 b hb
  refine ⟨by rw [(H 10 (by decide)).1]; exact r1, fun hne => ?_⟩
  rw [(H 10 (by decide)).1] at hne
  obtain ⟨r3, r4⟩ := r2 hne
  refine ⟨by rw [(H 11 (by decide)).1]; exact r3, fun k hk => ?_⟩
  rw [nN, (H 10 (by decide)).1] at hk
  obtain ⟨w, h1, h2, h3⟩ := r4 k hk
  refine ⟨w, h1, by rw [(H 12 (by decide)).1]; exact h2, ?_⟩
  rw [aOk_dep (ms := ms) (by rw [(H 1 (by decide)).1]) (by rw [(H 2 (by decide)).1]) (by rw [(H 3 (by decide)).1]), (H 13 (by decide)).1, (H 14 (by decide)).1]
  exact h3
theorem IvD_dep {ms ms' : mm_S} (H : ∀ F, F ∈ [0, 16, 17, 18, 21, 22, 23] → sameF ms ms' F) (q : IvD ms) : IvD ms' := by
  unfold IvD at q ⊢
  simp only [nN, (H 0 (by decide)).1, (H 16 (by decide)).1, (H 17 (by decide)).1, (H 18 (by decide)).1, (H 21 (by decide)).1, (H 22 (by decide)).1, (H 23 (by decide)).1] at q ⊢
  exact q
theorem IvR_dep {ms ms' : mm_S} (H : ∀ F, F ∈ [0, 10, 24, 25, 26, 27, 28, 29, 30, 31, 32, 34] → sameF ms ms' F) (q : IvR ms) : IvR ms' := by
  unfold IvR rOk at q ⊢
  simp only [nN, (H 0 (by decide)).1, (H 10 (by decide)).1, (H 24 (by decide)).1, (H 25 (by decide)).1, (H 26 (by decide)).1, (H 27 (by decide)).1, (H 28 (by decide)).1, (H 29 (by decide)).1, (H 30 (by decide)).1, (H 31 (by decide)).1, (H 32 (by decide)).1, (H 34 (by decide)).1] at q ⊢
  exact q
theorem IvO_dep {ms ms' : mm_S} (H : ∀ F, F ∈ [24, 25, 40, 41, 43, 45] → sameF ms ms' F) (q : IvO ms) : IvO ms' := by
  unfold IvO at q ⊢
  simp only [nN, (H 24 (by decide)).1, (H 25 (by decide)).1, (H 40 (by decide)).1, (H 41 (by decide)).1, (H 43 (by decide)).1, (H 45 (by decide)).1] at q ⊢
  exact q
theorem IvT_dep {ms ms' : mm_S} (H : ∀ F, F ∈ [10, 24, 60, 68, 69, 70, 71] → sameF ms ms' F) (q : IvT ms) : IvT ms' := by
  unfold IvT at q ⊢
  simp only [nN, (H 10 (by decide)).1, (H 24 (by decide)).1, (H 60 (by decide)).1, (H 68 (by decide)).1, (H 69 (by decide)).1, (H 70 (by decide)).1, (H 71 (by decide)).1] at q ⊢
  exact q
section I2
variable {ms ms' : mm_S} {B : Nat}
theorem sub_of {A : List Nat} (Fs : List Nat) (h1 : ∀ F, F ∉ Fs → sameF ms ms' F) (hd : A.all (fun F => !Fs.contains F) = true) : ∀ F, F ∈ A → sameF ms ms' F := by
  intro F hF
  refine h1 F fun q => ?_
  have := List.all_eq_true.mp hd F hF
  simp [q] at this
theorem Inv.told (I : Inv B ms) {v : Int64} : Inv B (mm_sL ms 49 0 v) := by
  have h1 : ∀ F, F ∉ [49] → sameF ms (mm_sL ms 49 0 v) F := fun F hF => sL_other F (by simpa using hF)
  obtain ⟨p1, p2, p3, p4, p5, p6, p7, p8, p9⟩ := I
  exact ⟨p1, p2, p3, p4, p5, p6, p7, p8, p9⟩
theorem Inv_cell (I : Inv B ms) {a b i : Int32} : Inv B (F_cell ms a b i).2 := by
  unfold F_cell; split
  · exact I
  · exact I.told
theorem Inv_row (I : Inv B ms) {a b i j : Int32} : Inv B (F_row ms a b i j).2 := by
  unfold F_row
  split
  · exact I
  · split
    · exact I
    · split
      · exact I.told
      · split
        · exact I
        · exact I.told
theorem Inv_mark (I : Inv B ms) {a : Int32} : Inv B (F_mark ms a).2 := by
  unfold F_mark; split
  · exact I
  · exact I.told
theorem Inv_shared (I : Inv B ms) {a : Int32} : Inv B (F_shared ms a).2 := by
  unfold F_shared; split
  · exact I
  · exact I.told
theorem Inv_hold (I : Inv B ms) {a b i c : Int32} : Inv B (F_hold ms a b i c).2 := by
  have hpn := I.pn
  have hon := I.on
  unfold F_hold
  split
  · exact I
  · rename_i hno
    rcases F_placeIn_cases (a := a) (b := b) I with ⟨q, -⟩ | ⟨o, p, t, ho, hp, ht, rfl, rfl, hl, e⟩
    · exact absurd (Or.inl (by rw [q]; decide)) hno
    · have h1 : ∀ y x, ∀ F, F ∉ [45] → sameF ms (mm_sI ms 45 y x) F := fun y x F hF => sI_other F (by simpa using hF)
      obtain ⟨p1, p2, p3, p4, p5, p6, p7, p8, p9⟩ := I
      refine ⟨IvP_dep (sub_of [45] (h1 _ _) (by decide)) p1, IvW_dep (sub_of [45] (h1 _ _) (by decide)) p2, IvB_dep (sub_of [45] (h1 _ _) (by decide)) p3, IvD_dep (sub_of [45] (h1 _ _) (by decide)) p4, IvR_dep (sub_of [45] (h1 _ _) (by decide)) p5, ?_, IvT_dep (sub_of [45] (h1 _ _) (by decide)) p7, p8, p9⟩
      refine ⟨p6.1, p6.2.1, fun o' i' k' h2 h3 h4 => ⟨(p6.2.2 o' i' k' h2 h3 h4).1, ?_⟩⟩
      rw [mm_sI_k]
      by_cases hy : 2 * (24 * o' + i') + k' = 2 * stO (nI o) (F_placeIn ms (nI o) (nI p)) + nv i
      · rw [hy, va_up_self]
        by_cases hc : c = -9
        · exact Or.inl hc
        · right
          have hO : isO ms c := Classical.not_not.mp fun q => hno (Or.inr (Or.inr ⟨hc, q⟩))
          obtain ⟨z, hz, rfl⟩ := (isO_iff p6.1).mp hO
          exact ⟨z, hz, rfl⟩
      · simp only [va_up, if_neg hy]
        exact (p6.2.2 o' i' k' h2 h3 h4).2
theorem Inv_want (I : Inv B ms) {a b : Int32} : Inv B (F_want ms a b).2 := by
  have hpn := I.pn
  unfold F_want
  split
  · exact I
  · rename_i hno
    split
    · exact I
    · rename_i h30
      split
      · exact I
      · have hw := I.2.1.1.n (by decide)
        have hn30 : nN ms 7 0 ≠ 30 := fun q => h30 (by rw [hw.1, q]; rfl)
        have ha : isP ms a := Classical.not_not.mp fun q => hno (Or.inl q)
        have hb : isP ms b := Classical.not_not.mp fun q => hno (Or.inr (Or.inl q))
        obtain ⟨p, hp, rfl⟩ := (isP_iff I.P).mp ha
        obtain ⟨q, hq, rfl⟩ := (isP_iff I.P).mp hb
        generalize hms : mm_sI (mm_sI (mm_sI ms 8 (nN ms 7 0) (nI p)) 9 (nN ms 7 0) (nI q)) 7 0 (ms.1 7 0 + 1) = ms'
        have e7 : ms'.1 7 0 = ms.1 7 0 + 1 := by rw [← hms, mm_sI_k, va_up_self]
        have n7 : nN ms' 7 0 = nN ms 7 0 + 1 := nN_inc I.2.1.1 (by decide) e7
        have s8 : ms'.1 8 = va_up (ms.1 8) (nN ms 7 0) (nI p) := by rw [← hms, mm_sI_ne (by decide), mm_sI_ne (by decide), mm_sI_k]
        have s9 : ms'.1 9 = va_up (ms.1 9) (nN ms 7 0) (nI q) := by rw [← hms, mm_sI_ne (by decide), mm_sI_k, mm_sI_ne (by decide)]
        have h1 : ∀ F, F ∉ [7, 8, 9] → sameF ms ms' F := by
          intro F hF
          simp only [List.mem_cons, List.not_mem_nil, or_false, not_or] at hF
          rw [← hms]
          exact ⟨by rw [mm_sI_ne hF.1, mm_sI_ne hF.2.2, mm_sI_ne hF.2.1], rfl⟩
        obtain ⟨p1, p2, p3, p4, p5, p6, p7, p8, p9⟩ := I
        refine ⟨IvP_dep (sub_of _ h1 (by decide)) p1, ?_, IvB_dep (sub_of _ h1 (by decide)) p3, IvD_dep (sub_of _ h1 (by decide)) p4, IvR_dep (sub_of _ h1 (by decide)) p5, IvO_dep (sub_of _ h1 (by decide)) p6, IvT_dep (sub_of _ h1 (by decide)) p7, by rw [(h1 47 (by decide)).1]; exact p8, by rw [(h1 50 (by decide)).1]; exact p9⟩
        refine ⟨⟨nN ms 7 0 + 1, by omega, by rw [e7, hw.1, nI_1]⟩, fun k hk => ?_⟩
        rw [n7] at hk
        have e0 : nN ms' 0 0 = nN ms 0 0 := by rw [nN, (h1 0 (by decide)).1]
        rw [e0, s8, s9]
        by_cases hkw : k = nN ms 7 0
        · subst hkw
          rw [va_up_self, va_up_self]
          refine ⟨p, q, hp, hq, fun e => ?_, rfl, rfl⟩
          exact hno (Or.inr (Or.inr (by rw [e])))
        · simp only [va_up, if_neg hkw]
          exact p2.2 k (by omega)
theorem Inv_wish (I : Inv B ms) {a m : Int32} : Inv B (F_wish ms a m).2 := by
  have hpn := I.pn
  unfold F_wish
  split
  · exact I
  · rename_i hno
    split
    · exact I
    · have ha : isP ms a := Classical.not_not.mp fun q => hno (Or.inl q)
      have hm : isM m := Classical.not_not.mp fun q => hno (Or.inr q)
      obtain ⟨p, hp, rfl⟩ := (isP_iff I.P).mp ha
      obtain ⟨k, hk, rfl⟩ := isM_iff.mp hm
      rw [nv_nI (by omega), nv_nI (by omega)]
      have h1 : ∀ F, F ∉ [6] → sameF ms (mm_sI ms 6 (12 * p + k) 1) F := fun F hF => sI_other F (by simpa using hF)
      obtain ⟨p1, p2, p3, p4, p5, p6, p7, p8, p9⟩ := I
      refine ⟨⟨p1.1, p1.2.1, fun q hq hq2 => ⟨(p1.2.2 q hq hq2).1, fun m hm' => ?_, (p1.2.2 q hq hq2).2.2⟩⟩, p2, p3, p4, p5, p6, p7, p8, p9⟩
      rw [mm_sI_k]
      have hq' : nN ms 0 0 ≤ q := hq
      simp only [va_up, if_neg (show ¬ (12 * q + m = 12 * p + k) by omega)]
      exact (p1.2.2 q hq hq2).2.1 m hm'
theorem Inv_exclude (I : Inv B ms) {a m : Int32} : Inv B (F_exclude ms a m).2 := by
  unfold F_exclude
  split
  · exact I
  · split
    · exact I
    · rename_i h6
      have hw := I.2.2.2.1.2.1.n (by decide)
      have hn6 : nN ms 18 0 ≠ 6 := fun q => h6 (by rw [hw.1, q]; rfl)
      obtain ⟨p1, p2, p3, p4, p5, p6, p7, p8, p9⟩ := I
      refine ⟨p1, p2, p3, ⟨p4.1, ⟨nN ms 18 0 + 1, by omega, ?_⟩, p4.2.2⟩, p5, p6, p7, p8, p9⟩
      show va_up (ms.1 18) 0 (ms.1 18 0 + 1) 0 = _
      rw [va_up_self, hw.1, nI_1]
theorem Inv_alias (I : Inv B ms) {a p m : Int32} : Inv B (F_alias ms a p m).2 := by
  have hpn := I.pn
  unfold F_alias
  split
  · exact I
  · rename_i hno
    have ha : 0 ≤ a ∧ a ≤ 3 := Classical.not_not.mp fun q => hno (Or.inl q)
    have hp : isP ms p := Classical.not_not.mp fun q => hno (Or.inr (Or.inl q))
    have hm : isM m := Classical.not_not.mp fun q => hno (Or.inr (Or.inr q))
    obtain ⟨k, hk, rfl⟩ := (pIn_nat (b := 3) (by decide)).mp ha
    obtain ⟨q, hq, rfl⟩ := (isP_iff I.P).mp hp
    obtain ⟨j, hj, rfl⟩ := isM_iff.mp hm
    rw [nv_nI (by omega)]
    obtain ⟨p1, p2, p3, p4, p5, p6, p7, p8, p9⟩ := I
    refine ⟨p1, p2, p3, ⟨p4.1, p4.2.1, fun a ha => ?_⟩, p5, p6, p7, p8, p9⟩
    show va_up (ms.1 23) k 1 a = 0 ∨ (va_up (ms.1 23) k 1 a = 1 ∧ ∃ p m, p < nN ms 0 0 ∧ m < 12 ∧ va_up (ms.1 21) k (nI q) a = nI p ∧ va_up (ms.1 22) k (nI j) a = nI m)
    by_cases hak : a = k
    · subst hak
      rw [va_up_self, va_up_self, va_up_self]
      exact Or.inr ⟨rfl, q, j, hq, hj, rfl, rfl⟩
    · simp only [va_up, if_neg hak]
      exact p4.2.2 a ha
theorem Inv_name (I : Inv B ms) {a : Int32} : Inv B (F_name ms a).2 := by
  have hpn := I.pn
  unfold F_name
  split
  · exact I
  · rename_i hno
    split
    · exact I
    · rename_i h8
      have hw := I.2.2.2.1.1.1.n (by decide)
      have hn8 : nN ms 16 0 ≠ 8 := fun q => h8 (by rw [hw.1, q]; rfl)
      have ha : isP ms a := Classical.not_not.mp fun q => hno (Or.inl q)
      obtain ⟨q, hq, rfl⟩ := (isP_iff I.P).mp ha
      obtain ⟨p1, p2, p3, p4, p5, p6, p7, p8, p9⟩ := I
      generalize hms : mm_sI (mm_sI ms 17 (nN ms 16 0) (nI q)) 16 0 (ms.1 16 0 + 1) = ms'
      have e16 : ms'.1 16 0 = ms.1 16 0 + 1 := by rw [← hms, mm_sI_k, va_up_self]
      have n16 : nN ms' 16 0 = nN ms 16 0 + 1 := nN_inc p4.1.1 (by decide) e16
      have s17 : ms'.1 17 = va_up (ms.1 17) (nN ms 16 0) (nI q) := by rw [← hms, mm_sI_ne (by decide), mm_sI_k]
      have h1 : ∀ F, F ∉ [16, 17] → sameF ms ms' F := by
        intro F hF
        simp only [List.mem_cons, List.not_mem_nil, or_false, not_or] at hF
        rw [← hms]
        exact ⟨by rw [mm_sI_ne hF.1, mm_sI_ne hF.2], rfl⟩
      have e0 : nN ms' 0 0 = nN ms 0 0 := by rw [nN, (h1 0 (by decide)).1]
      refine ⟨IvP_dep (sub_of _ h1 (by decide)) p1, IvW_dep (sub_of _ h1 (by decide)) p2, IvB_dep (sub_of _ h1 (by decide)) p3, ⟨⟨⟨nN ms 16 0 + 1, by omega, by rw [e16, hw.1, nI_1]⟩, fun k hk => ?_, fun j k hjk hk => ?_⟩, by rw [(h1 18 (by decide)).1]; exact p4.2.1, by rw [(h1 23 (by decide)).1, (h1 21 (by decide)).1, (h1 22 (by decide)).1, e0]; exact p4.2.2⟩, IvR_dep (sub_of _ h1 (by decide)) p5, IvO_dep (sub_of _ h1 (by decide)) p6, IvT_dep (sub_of _ h1 (by decide)) p7, by rw [(h1 47 (by decide)).1]; exact p8, by rw [(h1 50 (by decide)).1]; exact p9⟩
      · rw [n16] at hk
        rw [e0, s17]
        by_cases hkw : k = nN ms 16 0
        · rw [hkw, va_up_self]; exact ⟨q, hq, rfl⟩
        · simp only [va_up, if_neg hkw]; exact p4.1.2.1 k (by omega)
      · rw [n16] at hk
        rw [s17]
        by_cases hkw : k = nN ms 16 0
        · rw [hkw, va_up_self]
          simp only [va_up, if_neg (show ¬ j = nN ms 16 0 by omega)]
          exact fun e => hno (Or.inr ⟨j, by omega, e⟩)
        · simp only [va_up, if_neg hkw, if_neg (show ¬ j = nN ms 16 0 by omega)]
          exact p4.1.2.2 j k hjk (by omega)
end I2
