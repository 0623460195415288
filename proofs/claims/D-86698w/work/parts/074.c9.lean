set_option maxRecDepth 100000
section C9
variable {g : rb_G} {ms ms' : mm_S} {ad : aD} {h : Nat} {ms0 : mm_S} {M M' : rb_H} {B : Nat}
theorem X5_init {a0 : Nat} {x1 x2 x3 x4 : Int32} (h0 : M.2 a0 = some (rb_O 5 [.int 0, .int 0, .int 0, .int 0, .null, .null, .null, .null, .null])) : rb_Ct g yX5_init wX5_init 4 (4, 39) [.ref a0, .int x1, .int x2, .int x3, .int x4] M (fun o M' => o = .returned none ∧ M'.1 = M.1 + 4 ∧ M'.2 a0 = some (rb_O 5 [.int x1, .int x2, .int x3, .int x4, .ref M.1, .ref (M.1 + 1), .ref (M.1 + 2), .null, .ref (M.1 + 3)]) ∧ M'.2 M.1 = some (rb_O 7 [.int 0, .ref (rb_dc g), .int 0]) ∧ M'.2 (M.1 + 1) = some (rb_R 4 12 (fun _ => none)) ∧ M'.2 (M.1 + 2) = some (rb_R 4 12 (fun _ => none)) ∧ M'.2 (M.1 + 3) = some (rb_Z 12 (fun _ => 0)) ∧ ∀ b, b ≠ a0 → b < M.1 → M'.2 b = M.2 b) := by
  refine rb_Ct.of (by decide) (Nat.le_of_ble_eq_true rfl) rfl ?_
  refine rb_know fun hw => ?_
  have hlt := (hw.2.2 _ _ h0).2
  refine sgX5_init_0 ⟨rb_dpk (by decide), ⟨nb rfl, nb rfl⟩, 7, _, _, _, J4_init rb_nw_eq, rb_dpk (by decide), ⟨nb rfl, nb rfl⟩, ⟨_, rb_nw_eq⟩, ?_⟩
  rintro _ _ ⟨rfl, rfl⟩
  rw [rb_up_nw]
  have e0 : ∀ {X : rb_H} {e : rb_E} {fs : List Value}, a0 < X.1 → X.2 a0 = some (rb_O 5 fs) → (rb_nw X e).2 a0 = some (rb_O 5 fs) := fun hl hX => by rw [rb_nw_ne (Nat.ne_of_lt hl)]; exact hX
  refine ⟨rfl, _, e0 hlt h0, nl rfl, 12, rfl, by decide, ⟨nb rfl, nb rfl⟩, _, e0 (show a0 < M.1 + 1 by omega) rb_up_eq, nl rfl, 12, rfl, by decide, ⟨nb rfl, nb rfl⟩, _, e0 (show a0 < M.1 + 1 + 1 by omega) rb_up_eq, nl rfl, 12, rfl, by decide, ⟨nb rfl, nb rfl⟩, _, e0 (show a0 < M.1 + 1 + 1 + 1 by omega) rb_up_eq, nl rfl, _, rb_up_eq, nl rfl, _, rb_up_eq, nl rfl, _, rb_up_eq, nl rfl, _, rb_up_eq, nl rfl, ⟨nb rfl, nb rfl⟩, rfl, rfl, rb_up_eq, ?_, ?_, ?_, ?_, ?_⟩
  · simp [rb_up, rb_nw, va_up, show ¬ M.1 = a0 by omega, show ¬ M.1 = M.1 + 1 + 1 + 1 by omega, show ¬ M.1 = M.1 + 1 + 1 by omega]
  · simp [rb_up, rb_nw, va_up, show ¬ M.1 + 1 = a0 by omega]
  · simp [rb_up, rb_nw, va_up, show ¬ M.1 + 2 = a0 by omega]
  · simp [rb_up, rb_nw, va_up, show ¬ M.1 + 3 = a0 by omega]
  · intro b hb hb2
    simp [rb_up, rb_nw, va_up, hb, show ¬ b = M.1 by omega, show ¬ b = M.1 + 1 by omega, show ¬ b = M.1 + 1 + 1 by omega, show ¬ b = M.1 + 1 + 1 + 1 by omega, show ¬ b = M.1 + 2 by omega, show ¬ b = M.1 + 3 by omega]
theorem X0_part (R : Rep g ms ad h ms0 M) (I : Inv B ms) {x1 x2 x3 : Int32} : rb_Ct g yX0_part wX0_part 7 (6, 300) [.ref (ad 0 0), .int x1, .int x2, .int x3] M (xA g (F_part ms x1 x2 x3) ad h ms0) := by
  obtain ⟨sg, hm⟩ := R.main
  have hpn := I.pn
  have hP := R.ls 0 0 (by decide) rfl
  refine rb_Ct.of (by decide) (Nat.le_of_ble_eq_true rfl) rfl ?_
  refine rb_know fun hw => ?_
  have hw : rb_Wf g M := hw
  refine sgX0_part_0 (uI X0_in (rb_dpk (by decide)) zr ⟨fun h1 => ⟨zf, ?_⟩, fun h1 => uI X0_in (rb_dpk (by decide)) zr ⟨fun h2 => ⟨zf, ?_⟩, fun h2 => uI X0_in (rb_dpk (by decide)) zr ⟨fun h3 => ?_, fun h3 => ⟨zf, ?_⟩⟩⟩⟩) <;> rw [pIn0] at *
  · exact xA_of (by rw [F_part, if_pos (Or.inl h1)]) R
  · exact xA_of (by rw [F_part, if_pos (Or.inr (Or.inl h2))]) R
  rotate_left
  · exact xA_of (by rw [F_part, if_pos (Or.inr (Or.inr h3))]) R
  have hbad : ¬ (¬ (0 ≤ x1 ∧ x1 ≤ 4) ∨ ¬ (0 ≤ x2 ∧ x2 ≤ 2) ∨ ¬ (0 ≤ x3 ∧ x3 ≤ 2)) := by rintro (q | q | q); exact h1 q; exact h2 q; exact h3 q
  refine ⟨_, ⟨_, hm, rfl⟩, rb_isR_ref _, _, rfl, uIo (J4_size hP) (rb_dpk (by decide)) zr hP.ob ?_⟩
  rw [show nI (lenL ms 0 0) = ms.1 0 0 from hpn.1.symm]
  refine ⟨fun h4 => ?_, fun h4 => ⟨zf, xA_of (by rw [F_part, if_neg hbad, if_pos h4]) R⟩⟩
  have hn24 : nN ms 0 0 ≠ 24 := fun q => h4 (by rw [hpn.1, q]; rfl)
  have R1 : Rep g ms ad h ms0 (rb_nw M (rb_O 5 [.int 0, .int 0, .int 0, .int 0, .null, .null, .null, .null, .null])) := R.nw hw
  obtain ⟨sg1, hm1⟩ := R1.main
  have hP1 := R1.ls 0 0 (by decide) rfl
  refine ⟨_, ⟨_, hm, rfl⟩, rb_isR_ref _, ⟨nb rfl, nb rfl⟩, _, ⟨_, hm1, rfl⟩, rb_isR_ref _, _, rfl, uIo (J4_size hP1) (rb_dpk (by decide)) ⟨nb rfl, nb rfl⟩ hP1.ob ⟨5, _, _, _, X5_init rb_nw_eq, rb_dpk (by decide), ⟨nb rfl, nb rfl⟩, ⟨_, rb_nw_eq⟩, ?_⟩⟩
  rintro _ M2 ⟨rfl, k1, k2, k3, k4, k5, k6, k7⟩
  have k1 : M2.1 = M.1 + 5 := k1
  have k3 : M2.2 (M.1 + 1) = some (rb_O 7 [.int 0, .ref (rb_dc g), .int 0]) := k3
  have k4 : M2.2 (M.1 + 2) = some (rb_R 4 12 (fun _ => none)) := k4
  have k5 : M2.2 (M.1 + 3) = some (rb_R 4 12 (fun _ => none)) := k5
  have k6 : M2.2 (M.1 + 4) = some (rb_Z 12 (fun _ => 0)) := k6
  have k2 : M2.2 M.1 = some (rb_O 5 [.int (nI (nN ms 0 0)), .int x1, .int x2, .int x3, .ref (M.1 + 1), .ref (M.1 + 2), .ref (M.1 + 3), .null, .ref (M.1 + 4)]) := k2
  have k7 : ∀ b, b < M.1 → M2.2 b = M.2 b := fun b hb => by rw [k7 b (Nat.ne_of_lt hb) (show b < M.1 + 1 by omega), rb_nw_ne (Nat.ne_of_lt hb)]
  have R2 : Rep g ms ad h ms0 M2 := R.moved fun k i hx => k7 _ (R.lt hw hx)
  have hP2 := R2.ls 0 0 (by decide) rfl
  refine ⟨rfl, _, rfl, _, _, _, J4_add (y := M.1) hP2 (fun k hk => R2.obPE hk) ⟨5, rfl, _, k2⟩ (show nN ms 0 0 ≤ 128 by omega), rb_dpk (by decide), ⟨nb rfl, nb rfl⟩, hP2.ob, ?_⟩
  rintro _ M3 ⟨rfl, hA⟩
  obtain ⟨r', hL', hr', hot⟩ := hA
  have hr1 : r' = ad 30 0 ∧ ad 30 0 ≠ rb_dc g ∨ r' = M.1 + 5 := by
    rcases hr' with ⟨q1, e, q2⟩ | q
    · left
      refine ⟨q1, fun q => ?_⟩
      have q2 : M2.2 (ad 30 0) = some e := q2
      rw [q, k7 _ (by have := hw.2.1; have := hw.1; omega)] at q2
      exact absurd (hw.2.2 _ _ q2).1 (Nat.not_le.mpr hw.2.1)
    · right; rw [q, k1]
  have hrlt : r' < M.1 ∨ r' = M.1 + 5 := by
    rcases hr1 with ⟨q1, q2⟩ | q
    · left; rw [q1]; exact R.lt hw (k := 30) (i := 0) ⟨rfl, q2⟩
    · right; exact q
  have hrdc : r' ≠ rb_dc g := by
    rcases hr1 with ⟨q1, q2⟩ | q
    · rw [q1]; exact q2
    · have := hw.2.1; have := hw.1; omega
  have ha20 : ad 20 0 < M.1 := R.lt hw (k := 20) (i := 0) rfl
  have hk : ∀ b, b < M.1 + 5 → b ≠ ad 20 0 → b ≠ r' → M3.2 b = M2.2 b := fun b _ q1 q2 => hot b q1 q2
  have hmain : M3.2 (ad 0 0) = some (rb_O 0 (mnFs ms ad sg)) := by
    have q1 : ad 0 0 < M.1 := R.lt hw (k := 0) (i := 0) rfl
    have q2 : ad 0 0 ≠ ad 20 0 := R.ne (k := 0) (k' := 20) rfl rfl (by omega)
    have q3 : ad 0 0 ≠ r' := by
      rcases hr1 with ⟨e1, e2⟩ | e
      · rw [e1]; exact R.ne (k := 0) (k' := 30) rfl ⟨rfl, e2⟩ (by omega)
      · omega
    rw [hk _ (by omega) q2 q3, k7 _ q1]; exact hm
  refine ⟨_, rfl, _, ⟨_, hmain, rfl⟩, rb_isR_ref _, _, rfl, uIo (J4_size hL') (rb_dpk (by decide)) ⟨nb rfl, nb rfl⟩ hL'.ob ⟨⟨nb rfl, nb rfl⟩, ?_⟩⟩
  have hFp : F_part ms x1 x2 x3 = (ms.1 0 0, mm_sI (mm_sI (mm_sI (mm_sI ms 1 (nN ms 0 0) x1) 2 (nN ms 0 0) x2) 3 (nN ms 0 0) x3) 0 0 (ms.1 0 0 + 1)) := by
    rw [F_part, if_neg hbad, if_neg h4]; rfl
  rw [hFp]
  refine ⟨by rw [nI_pred]; rw [show nI (lenL ms 0 0) = ms.1 0 0 from hpn.1.symm], ?_⟩
  generalize hms : mm_sI (mm_sI (mm_sI (mm_sI ms 1 (nN ms 0 0) x1) 2 (nN ms 0 0) x2) 3 (nN ms 0 0) x3) 0 0 (ms.1 0 0 + 1) = ms'
  have s0 : nN ms' 0 0 = nN ms 0 0 + 1 := nN_inc I.P (by decide) (by rw [← hms, mm_sI_k, va_up_self])
  have s1 : ms'.1 1 = va_up (ms.1 1) (nN ms 0 0) x1 := by rw [← hms, mm_sI_ne (by decide), mm_sI_ne (by decide), mm_sI_ne (by decide), mm_sI_k]
  have s2 : ms'.1 2 = va_up (ms.1 2) (nN ms 0 0) x2 := by rw [← hms, mm_sI_ne (by decide), mm_sI_ne (by decide), mm_sI_k, mm_sI_ne (by decide)]
  have s3 : ms'.1 3 = va_up (ms.1 3) (nN ms 0 0) x3 := by rw [← hms, mm_sI_ne (by decide), mm_sI_k, mm_sI_ne (by decide), mm_sI_ne (by decide)]
  have sO : ∀ F, F ∉ [0, 1, 2, 3] → sameF ms ms' F := by
    intro F hF
    simp only [List.mem_cons, List.not_mem_nil, or_false, not_or] at hF
    rw [← hms]
    exact ⟨by rw [mm_sI_ne hF.1, mm_sI_ne hF.2.2.2, mm_sI_ne hF.2.2.1, mm_sI_ne hF.2.1], rfl⟩
  have hpend := I.1.2.2 (nN ms 0 0) (Nat.le_refl _) (by omega)
  let ad' : aD := fun k i => if k = 30 ∧ i = 0 then r' else if i = nN ms 0 0 then (if k = 4 then M.1 else if k = 24 then M.1 + 1 else if k = 34 then rb_dc g else if k = 5 then M.1 + 2 else if k = 6 then M.1 + 3 else if k = 7 then M.1 + 4 else ad k i) else ad k i
  have a30 : ad' 30 0 = r' := if_pos ⟨rfl, rfl⟩
  have aN : ∀ k, k ≠ 30 → ad' k (nN ms 0 0) = (if k = 4 then M.1 else if k = 24 then M.1 + 1 else if k = 34 then rb_dc g else if k = 5 then M.1 + 2 else if k = 6 then M.1 + 3 else if k = 7 then M.1 + 4 else ad k (nN ms 0 0)) := fun k hk => by
    show (if k = 30 ∧ _ then r' else _) = _
    rw [if_neg (fun q => hk q.1), if_pos rfl]
  have a4 : ad' 4 (nN ms 0 0) = M.1 := by rw [aN 4 (by decide)]; rfl
  have a24 : ad' 24 (nN ms 0 0) = M.1 + 1 := by rw [aN 24 (by decide)]; rfl
  have a34 : ad' 34 (nN ms 0 0) = rb_dc g := by rw [aN 34 (by decide)]; rfl
  have a5 : ad' 5 (nN ms 0 0) = M.1 + 2 := by rw [aN 5 (by decide)]; rfl
  have a6 : ad' 6 (nN ms 0 0) = M.1 + 3 := by rw [aN 6 (by decide)]; rfl
  have a7 : ad' 7 (nN ms 0 0) = M.1 + 4 := by rw [aN 7 (by decide)]; rfl
  have aO : ∀ k i, ¬ (k = 30 ∧ i = 0) → ¬ (i = nN ms 0 0 ∧ k ∈ [4, 24, 34, 5, 6, 7]) → ad' k i = ad k i := by
    intro k i q1 q2
    show (if k = 30 ∧ i = 0 then r' else _) = _
    rw [if_neg q1]
    by_cases hi : i = nN ms 0 0
    · rw [if_pos hi]
      simp only [List.mem_cons, List.not_mem_nil, or_false, not_and, not_or] at q2
      obtain ⟨z1, z2, z3, z4, z5, z6⟩ := q2 hi
      rw [if_neg z1, if_neg z2, if_neg z3, if_neg z4, if_neg z5, if_neg z6]
    · rw [if_neg hi]
  refine ⟨ad', aO 0 0 (by omega) (by simp), ?_⟩
  have hM3 : ∀ k i, exX g ms ad k i → ¬ (k = 20 ∧ i = 0) → ¬ (k = 30 ∧ i = 0) → M3.2 (ad k i) = M.2 (ad k i) := by
    intro k i hx q1 q2
    have hl := R.lt hw hx
    rw [hk _ (by omega) (R.ne hx (k' := 20) (i' := 0) rfl (by omega)) ?_, k7 _ hl]
    rcases hr1 with ⟨e1, e2⟩ | e
    · rw [e1]; exact R.ne hx (k' := 30) (i' := 0) ⟨rfl, e2⟩ (by omega)
    · omega
  have hM3n : ∀ j, j < 5 → M3.2 (M.1 + j) = M2.2 (M.1 + j) := fun j hj => hk _ (by omega) (by omega) (by rcases hrlt with q | q <;> omega)
  have hcap : ∃ cap, nN ms 0 0 + 1 ≤ cap ∧ 1 ≤ cap ∧ cap ≤ 200 ∧ M3.2 r' = some (rb_R 3 cap (fun t => if t < nN ms 0 0 + 1 then some (if t = nN ms 0 0 then M.1 else eltL ms ad 0 0 t) else none)) := by
    rcases hL'.2 with ⟨q, -⟩ | q
    · omega
    · exact q
  have hokE : ∀ c, M3.2 r' = some c → okE ms' ad' 0 0 c := by
    intro c hc
    obtain ⟨cap, q1, q2, q3, q4⟩ := hcap
    rw [q4] at hc
    cases hc
    refine ⟨cap, by show nN ms' 0 0 ≤ cap; omega, q2, q3, ?_⟩
    congr 4
    funext t
    show _ = if t < nN ms' 0 0 then some (ad' 4 t) else none
    rw [s0]
    by_cases ht : t < nN ms 0 0 + 1
    · rw [if_pos ht, if_pos ht]
      congr 1
    · rw [if_neg ht, if_neg ht]
  have hbrf : ∀ b, bRf ms' ad' b = bRf ms ad b := by
    intro b
    have e10 : ms'.1 10 = ms.1 10 := (sO 10 (by decide)).1
    unfold bRf
    rw [e10]
    by_cases e : ms.1 10 b = -9
    · rw [if_pos e, if_pos e]
    · rw [if_neg e, if_neg e, aO 8 b (by omega) (by simp)]
  refine R.build hw (fun k i => (i = nN ms 0 0 ∧ k ∈ [4, 24, 5, 6, 7]) ∨ (k = 30 ∧ i = 0 ∧ r' = M.1 + 5)) ?_ ?_ ?_ ?_ ?_ ?_
  · intro k i hx hn
    by_cases k30 : k = 30 ∧ i = 0
    · obtain ⟨rfl, rfl⟩ := k30
      rcases hr1 with ⟨e1, e2⟩ | e
      · exact ⟨⟨rfl, e2⟩, by rw [a30, e1]⟩
      · exact absurd (Or.inr ⟨rfl, rfl, e⟩) hn
    · by_cases hp : i = nN ms 0 0 ∧ k ∈ [4, 24, 34, 5, 6, 7]
      · exfalso
        obtain ⟨rfl, hk'⟩ := hp
        simp only [List.mem_cons, List.not_mem_nil, or_false] at hk'
        rcases hk' with rfl | rfl | rfl | rfl | rfl | rfl
        · exact hn (Or.inl ⟨rfl, by decide⟩)
        · exact hn (Or.inl ⟨rfl, by decide⟩)
        · exact hx.2 a34
        · exact hn (Or.inl ⟨rfl, by decide⟩)
        · exact hn (Or.inl ⟨rfl, by decide⟩)
        · exact hn (Or.inl ⟨rfl, by decide⟩)
      · have ea := aO k i k30 hp
        refine ⟨?_, ea⟩
        have hx2 : exX g ms' ad k i := by
          unfold exX at hx ⊢
          rw [ea] at hx
          exact hx
        by_cases h0 : k ∈ [4, 24, 34, 5, 6, 7]
        · have hi : i ≠ nN ms 0 0 := fun q => hp ⟨q, h0⟩
          simp only [List.mem_cons, List.not_mem_nil, or_false] at h0
          rcases h0 with rfl | rfl | rfl | rfl | rfl | rfl
          · have hx2 : i < nN ms' 0 0 := hx2
            show i < nN ms 0 0
            omega
          · have hx2 : i < nN ms' 0 0 := hx2
            show i < nN ms 0 0
            omega
          · have hx3 : i < nN ms' 0 0 := hx2.1
            exact ⟨show i < nN ms 0 0 by omega, hx2.2⟩
          · have hx2 : i < nN ms' 0 0 := hx2
            show i < nN ms 0 0
            omega
          · have hx2 : i < nN ms' 0 0 := hx2
            show i < nN ms 0 0
            omega
          · have hx2 : i < nN ms' 0 0 := hx2
            show i < nN ms 0 0
            omega
        · refine (exX_dep k i fun F hF => sO F ?_).mp hx2
          simp only [List.mem_cons, List.not_mem_nil, or_false, not_or] at h0 ⊢
          have key : ∀ k, k < 40 → 0 ∈ eX k ∨ 1 ∈ eX k ∨ 2 ∈ eX k ∨ 3 ∈ eX k → k ∈ [4, 24, 34, 5, 6, 7] := by decide
          rcases Nat.lt_or_ge k 40 with hk40 | hk40
          · have := key k hk40
            simp only [List.mem_cons, List.not_mem_nil, or_false] at this
            refine ⟨?_, ?_, ?_, ?_⟩ <;> (rintro rfl; exact absurd (this (by simp [hF])) (by omega))
          · unfold eX at hF
            rw [if_neg (by omega), if_neg (by omega), if_neg (by omega)] at hF
            cases hF
  · intro k i hx hx' hn
    by_cases e20 : k = 20
    · subst e20
      obtain rfl : i = 0 := hx
      obtain ⟨⟨md, hL1⟩, -⟩ := hL'
      right
      refine ⟨_, hL1, md, ?_⟩
      show rb_O 7 _ = rb_O 7 [.int md, .ref (ad' 30 0), .int (nI (nN ms' 0 0))]
      rw [a30, s0]
      rfl
    by_cases e30 : k = 30
    · subst e30
      obtain ⟨hi, hd⟩ := hx
      obtain rfl : i = 0 := hi
      right
      rcases hr1 with ⟨e1, e2⟩ | e
      · obtain ⟨cap, q1, q2, q3, q4⟩ := hcap
        exact ⟨_, by rw [← e1]; exact q4, hokE _ q4⟩
      · exact absurd (Or.inr ⟨rfl, rfl, e⟩) hn
    have hc := hM3 k i hx (by omega) (by omega)
    by_cases e4 : k = 4
    · subst e4
      have hi : i < nN ms 0 0 := hx
      right
      refine ⟨_, by rw [hc]; exact R.part hi, ?_⟩
      show rb_O 5 _ = rb_O 5 _
      rw [hbrf, s1, s2, s3, aO 24 i (by omega) (by simp; omega), aO 5 i (by omega) (by simp; omega), aO 6 i (by omega) (by simp; omega), aO 7 i (by omega) (by simp; omega)]
      simp only [va_up, if_neg (show ¬ i = nN ms 0 0 by omega)]
    by_cases e15 : k = 15
    · subst e15
      have hs : stX ms i := hx
      obtain ⟨c, q1, q2⟩ := R.1 15 i hx
      right
      refine ⟨c, by rw [hc]; exact q1, ?_⟩
      have hst : stP ms' i = stP ms i := by
        unfold stP nN
        rw [(sO 51 (by decide)).1, (sO 26 (by decide)).1, (sO 41 (by decide)).1]
      have e1 : nN ms' 1 (stP ms' i) = nN ms 1 (stP ms i) := by
        have := (I.st hs).2.2
        rw [nN, hst, s1]
        simp only [va_up, if_neg (show ¬ stP ms i = nN ms 0 0 by omega)]
      obtain ⟨f, rfl, hf⟩ := q2
      refine ⟨f, by rw [e1], fun j hj => ?_⟩
      rw [e1] at hj
      rw [hf j hj, (sO 42 (by decide)).2]
    by_cases e16 : k = 16
    · subst e16
      have hs : stX ms i := hx
      obtain ⟨c, q1, q2⟩ := R.1 16 i hx
      right
      refine ⟨c, by rw [hc]; exact q1, ?_⟩
      have hst : stP ms' i = stP ms i := by
        unfold stP nN
        rw [(sO 51 (by decide)).1, (sO 26 (by decide)).1, (sO 41 (by decide)).1]
      have e1 : nN ms' 2 (stP ms' i) = nN ms 2 (stP ms i) := by
        have := (I.st hs).2.2
        rw [nN, hst, s2]
        simp only [va_up, if_neg (show ¬ stP ms i = nN ms 0 0 by omega)]
      obtain ⟨f, rfl, hf⟩ := q2
      refine ⟨f, by rw [e1], fun k j hk hj hne => ?_⟩
      rw [e1] at hk
      rw [(sO 43 (by decide)).1] at hne
      rw [hf k j hk hj hne, (sO 44 (by decide)).2]
    left
    refine ⟨hc, fun F hF => sO F (dX_not [0, 1, 2, 3] [20, 30, 4, 15, 16] (by decide) k (by simp; omega) F hF), fun k' i' hr => aO k' i' ?_ ?_⟩
    · rintro ⟨rfl, rfl⟩
      exact absurd hr (rX_30 (l := 0) (by decide) (by omega))
    · rintro ⟨rfl, hk'⟩
      rcases rX_ex I hx hr with q | ⟨q1, q2, q3, q4⟩
      · simp only [List.mem_cons, List.not_mem_nil, or_false] at hk'
        rcases hk' with rfl | rfl | rfl | rfl | rfl | rfl
        · exact Nat.lt_irrefl _ q
        · exact Nat.lt_irrefl _ q
        · exact Nat.lt_irrefl _ q.1
        · exact Nat.lt_irrefl _ q
        · exact Nat.lt_irrefl _ q
        · exact Nat.lt_irrefl _ q
      · simp only [List.mem_cons, List.not_mem_nil, or_false] at hk'
        obtain rfl : k = 24 := by omega
        have hx : i < nN ms 0 0 := hx
        omega
  · intro k i hn hx
    rcases hn with ⟨rfl, hk'⟩ | ⟨rfl, rfl, e⟩
    · simp only [List.mem_cons, List.not_mem_nil, or_false] at hk'
      rcases hk' with rfl | rfl | rfl | rfl | rfl
      · refine ⟨by rw [a4]; exact Nat.le_refl _, _, by rw [a4, ← Nat.add_zero M.1, hM3n 0 (by decide)]; exact k2, ?_⟩
        show rb_O 5 _ = rb_O 5 _
        rw [hbrf, bRf, if_pos (hpend.2.2 24 (by decide)), s1, s2, s3, va_up_self, va_up_self, va_up_self, a24, a5, a6, a7]
        rfl
      · refine ⟨by rw [a24]; omega, _, by rw [a24, hM3n 1 (by decide)]; exact k3, 0, ?_⟩
        show rb_O 7 _ = rb_O 7 [.int 0, .ref (ad' 34 (nN ms 0 0)), .int (nI (nN ms' 4 (nN ms 0 0)))]
        rw [a34, show nN ms' 4 (nN ms 0 0) = 0 by rw [nN, (sO 4 (by decide)).1, hpend.1]; rfl]
        rfl
      · refine ⟨by rw [a5]; omega, _, by rw [a5, hM3n 2 (by decide)]; exact k4, _, rfl, fun m hm' => ?_⟩
        rw [hbrf, bRf, if_pos (hpend.2.2 m (by omega))]
      · refine ⟨by rw [a6]; omega, _, by rw [a6, hM3n 3 (by decide)]; exact k5, _, rfl, fun m hm' => ?_⟩
        rw [hbrf, bRf, if_pos (by rw [Nat.add_assoc]; exact hpend.2.2 (12 + m) (by omega))]
      · refine ⟨by rw [a7]; omega, _, by rw [a7, hM3n 4 (by decide)]; exact k6, _, rfl, fun m hm' => ?_⟩
        rw [(sO 6 (by decide)).1, hpend.2.1 m hm']
    · obtain ⟨cap, q1, q2, q3, q4⟩ := hcap
      exact ⟨by rw [a30, e]; omega, _, by rw [a30]; exact q4, hokE _ q4⟩
  · intro k i k' i' hn hn' hx hx' e
    rcases hn with ⟨rfl, hk'⟩ | ⟨rfl, rfl, e1⟩
    · simp only [List.mem_cons, List.not_mem_nil, or_false] at hk'
      rcases hn' with ⟨rfl, hk2⟩ | ⟨rfl, rfl, e1⟩
      · simp only [List.mem_cons, List.not_mem_nil, or_false] at hk2
        refine ⟨?_, rfl⟩
        rcases hk' with rfl | rfl | rfl | rfl | rfl <;> rcases hk2 with rfl | rfl | rfl | rfl | rfl <;> first | rfl | (simp only [a4, a24, a5, a6, a7] at e; omega)
      · exfalso
        rw [a30, e1] at e
        rcases hk' with rfl | rfl | rfl | rfl | rfl <;> (simp only [a4, a24, a5, a6, a7] at e; omega)
    · rcases hn' with ⟨rfl, hk2⟩ | ⟨rfl, rfl, e2⟩
      · exfalso
        simp only [List.mem_cons, List.not_mem_nil, or_false] at hk2
        rw [a30, e1] at e
        rcases hk2 with rfl | rfl | rfl | rfl | rfl <;> (simp only [a4, a24, a5, a6, a7] at e; omega)
      · exact ⟨rfl, rfl⟩
  · intro l i hl hx hd
    by_cases k30 : l = 0
    · subst k30
      obtain rfl : i = 0 := hx
      exact absurd (a30.symm.trans hd) hrdc
    by_cases k34 : l = 4 ∧ i = nN ms 0 0
    · obtain ⟨rfl, rfl⟩ := k34
      show nN ms' 4 (nN ms 0 0) = 0
      rw [nN, (sO 4 (by decide)).1, hpend.1]; rfl
    have hx1 : exL ms l i := by
      by_cases h4 : l = 4
      · subst h4
        have hx : i < nN ms' 0 0 := hx
        show i < nN ms 0 0
        omega
      · refine (exL_dep l hl i fun F hF => sO F ?_).mp hx
        have key : ∀ l, l < 10 → l ≠ 4 → ∀ F, F ∈ eL l → F ∉ [0, 1, 2, 3] := by decide
        exact key l hl h4 F hF
    have hlen : lenL ms' l i = lenL ms l i := by
      refine (lenL_dep l hl i fun F hF => sO F ?_).1
      have key : ∀ l, l < 10 → l ≠ 0 → ∀ F, F ∈ dL l → F ∉ [0, 1, 2, 3] := by decide
      exact key l hl k30 F hF
    rw [hlen]
    refine R.2.2.1 l i hl hx1 ?_
    rw [← hd, aO]
    · omega
    · simp; omega
  · intro j hj
    rw [aO 40 j (by omega) (by simp)]
    exact R.2.2.2 j hj
end C9
