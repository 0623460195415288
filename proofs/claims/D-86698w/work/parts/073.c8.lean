set_option maxRecDepth 100000
theorem eX_in (Fs : List Nat) (hd : (List.range 40).all (fun k => Fs.all (fun F => !(eX k).contains F)) = true) : ∀ k F, F ∈ eX k → F ∉ Fs := by
  intro k F hF hF2
  rcases Nat.lt_or_ge k 40 with h | h
  · have := List.all_eq_true.mp (List.all_eq_true.mp hd k (List.mem_range.mpr h)) F hF2
    simp [hF] at this
  · unfold eX at hF
    rw [if_neg (by omega), if_neg (by omega), if_neg (by omega)] at hF
    cases hF
section C8
variable {g : rb_G} {ms ms' : mm_S} {ad : aD} {h : Nat} {ms0 : mm_S} {M M' : rb_H} {B : Nat}
theorem Rep.kept (R : Rep g ms ad h ms0 M) (hw : rb_Wf g M) {l i : Nat} (hl : l < 10) (hx : exL ms l i) {y n : Nat} {f : Nat → Nat} (hA : LSad g M (ad (20 + l) i) (ad (30 + l) i) n f y M') {k j : Nat} (hx1 : exX g ms ad k j) (h2 : ¬ (k = 20 + l ∧ j = i)) (h3 : ¬ (k = 30 + l ∧ j = i)) : M'.2 (ad k j) = M.2 (ad k j) := by
  obtain ⟨r', -, hr', hot⟩ := hA
  refine hot _ (R.ne hx1 (by rw [ex20 l hl]; exact hx) (by omega)) ?_
  rcases hr' with ⟨e, e1, he⟩ | e
  · rw [e]
    by_cases hd : ad (30 + l) i = rb_dc g
    · have q1 := (hw.2.2 _ _ he).1
      have q2 := hw.2.1
      rw [hd] at q1
      exact absurd q2 (Nat.not_lt.mpr q1)
    · exact R.ne hx1 (by rw [ex30 l hl]; exact ⟨hx, hd⟩) (by omega)
  · rw [e]
    exact Nat.ne_of_lt (R.lt hw hx1)
theorem Rep.obPE (R : Rep g ms ad h ms0 M) {p : Nat} (hp : p < nN ms 0 0) : obE M (ad 4 p) := ⟨5, rfl, R.obP hp⟩
theorem X0_name (R : Rep g ms ad h ms0 M) (I : Inv B ms) {a : Int32} : rb_Ct g yX0_name wX0_name 7 (1, 200) [.ref (ad 0 0), .int a] M (xA g (F_name ms a) ad h ms0) := by
  obtain ⟨sg, hm⟩ := R.main
  have hpn := I.pn
  have hD := I.2.2.2.1.1
  have hn := hD.1.n (by decide)
  have hP := R.ls 0 0 (by decide) rfl
  have hN := R.ls 3 0 (by decide) rfl
  refine rb_Ct.of (by decide) (Nat.le_of_ble_eq_true rfl) rfl ?_
  refine rb_know fun hw => ?_
  refine sgX0_name_0 (uIo (X0_isPart R I.P) (rb_dpk (by decide)) zr R.ob0 ⟨fun h1 => ⟨zf, ?_⟩, fun h1 => ?_⟩) <;> rw [pIn0] at h1
  · exact xA_of (by rw [F_name, if_pos (Or.inl h1)]) R
  have hh1 := Decidable.not_not.mp h1
  obtain ⟨p, hp, rfl⟩ := (isP_iff I.P).mp hh1
  refine ⟨_, ⟨_, hm, rfl⟩, rb_isR_ref _, _, ⟨_, hm, rfl⟩, rb_isR_ref _, _, rfl, uRo (J4_get hP hp) (rb_dpk (by decide)) zr hP.ob ⟨_, rfl, _, _, _, J4_contains hN (Or.inl (R.obP hp)), rb_dpk (by decide), zr, hN.ob, ?_⟩⟩
  rintro _ _ ⟨x, hx, rfl, rfl⟩
  have hiff : (∃ k, k < lenL ms 3 0 ∧ eltL ms ad 3 0 k = ad 4 p) ↔ isNm ms (nI p) := by
    constructor
    · rintro ⟨k, hk, e⟩
      have hk : k < nN ms 16 0 := hk
      obtain ⟨q, hq, eq⟩ := hD.2.1 k hk
      have e : ad 4 (nN ms 17 k) = ad 4 p := e
      have eqn : nN ms 17 k = q := by rw [nN, eq, nI_clamp (by omega)]
      rw [eqn] at e
      have := (R.2.1 4 q 4 p hq hp e).2
      exact ⟨k, hk, by rw [eq, this]⟩
    · rintro ⟨k, hk, e⟩
      refine ⟨k, hk, ?_⟩
      show ad 4 (nN ms 17 k) = ad 4 p
      rw [nN, e, nI_clamp (by omega)]
  refine ⟨_, rfl, fun h2 => ?_, fun h2 => ⟨zf, ?_⟩⟩
  · have hno : ¬ isNm ms (nI p) := fun q => hx.f h2 (hiff.mpr q)
    have hbad : ¬ (¬ isP ms (nI p) ∨ isNm ms (nI p)) := by rintro (q | q); exact q hh1; exact hno q
    refine ⟨_, ⟨_, hm, rfl⟩, rb_isR_ref _, _, rfl, uIo (J4_size hN) (rb_dpk (by decide)) zr hN.ob ?_⟩
    rw [show nI (lenL ms 3 0) = ms.1 16 0 from hn.1.symm]
    refine ⟨fun h3 => ?_, fun h3 => ⟨zf, xA_of (by rw [F_name, if_neg hbad, if_pos h3]) R⟩⟩
    have hn8 : nN ms 16 0 ≠ 8 := fun q => h3 (by rw [hn.1, q]; rfl)
    refine ⟨_, ⟨_, hm, rfl⟩, rb_isR_ref _, _, ⟨_, hm, rfl⟩, rb_isR_ref _, _, rfl, uRo (J4_get hP hp) (rb_dpk (by decide)) zr hP.ob ⟨_, rfl, 5, R.obP hp, cc_5, _, rfl, _, _, _, J4_add (y := ad 4 p) hN (fun k hk => ?_) (R.obPE hp) (show nN ms 16 0 ≤ 128 by omega), rb_dpk (by decide), ⟨nb rfl, nb rfl⟩, hN.ob, ?_⟩⟩
    · obtain ⟨q, hq, eq⟩ := hD.2.1 k hk
      have eqn : nN ms 17 k = q := by rw [nN, eq, nI_clamp (by omega)]
      show obE _ (ad 4 (nN ms 17 k))
      rw [eqn]
      exact R.obPE hq
    · rintro _ M' ⟨rfl, hA⟩
      have hmain : M'.2 (ad 0 0) = some (rb_O 0 (mnFs ms ad sg)) := by
        rw [R.kept hw (l := 3) (i := 0) (by decide) rfl hA (k := 0) (j := 0) rfl (by omega) (by omega)]; exact hm
      have hA0 := hA
      obtain ⟨r', hL', -, -⟩ := hA
      refine ⟨_, rfl, _, ⟨_, hmain, rfl⟩, rb_isR_ref _, _, rfl, uIo (J4_size hL') (rb_dpk (by decide)) ⟨nb rfl, nb rfl⟩ hL'.ob ⟨⟨nb rfl, nb rfl⟩, ?_⟩⟩
      have e16 : nN (mm_sI (mm_sI ms 17 (nN ms 16 0) (nI p)) 16 0 (ms.1 16 0 + 1)) 16 0 = nN ms 16 0 + 1 := nN_inc hD.1 (by decide) (by rw [mm_sI_k, va_up_self])
      have e17 : ∀ t, t ≠ nN ms 16 0 → nN (mm_sI (mm_sI ms 17 (nN ms 16 0) (nI p)) 16 0 (ms.1 16 0 + 1)) 17 t = nN ms 17 t := fun t ht => by
        rw [nN, mm_sI_ne (by decide), mm_sI_k]; simp [va_up, ht]
      have e17' : nN (mm_sI (mm_sI ms 17 (nN ms 16 0) (nI p)) 16 0 (ms.1 16 0 + 1)) 17 (nN ms 16 0) = p := by
        rw [nN, mm_sI_ne (by decide), mm_sI_k, va_up_self, nI_clamp (by omega)]
      have hF : F_name ms (nI p) = (nI (lenL ms 3 0 + 1), mm_sI (mm_sI ms 17 (nN ms 16 0) (nI p)) 16 0 (ms.1 16 0 + 1)) := by
        rw [F_name, if_neg hbad, if_neg h3, ← nI_1, show nI (lenL ms 3 0) = ms.1 16 0 from hn.1.symm]
      rw [hF]
      refine ⟨rfl, R.ladd hw 3 0 (by decide) rfl hA0 [16, 17] (fun F hF => ?_) (fun k k1 k2 F hF => dX_not [16, 17] [23, 33] (by decide) k (by simp; omega) F hF) (eX_in [16, 17] (by decide)) (fun j hj hx => absurd hx hj) e16 (fun t ht => ?_) (fun t => nl rfl) ?_⟩
      · simp only [List.mem_cons, List.not_mem_nil, or_false, not_or] at hF
        exact ⟨by rw [mm_sI_ne hF.1, mm_sI_ne hF.2], rfl⟩
      · have ht : t < nN ms 16 0 := ht
        show (4, _) = (4, _)
        rw [e17 t (by omega)]
      · show ad 4 (nN (mm_sI (mm_sI ms 17 (nN ms 16 0) (nI p)) 16 0 (ms.1 16 0 + 1)) 17 (nN ms 16 0)) = ad 4 p
        rw [e17']
  · exact xA_of (by rw [F_name, if_pos (Or.inr (hiff.mp (hx.t h2)))]) R
theorem X0_extend (R : Rep g ms ad h ms0 M) (I : Inv B ms) {a b : Int32} : rb_Ct g yX0_extend wX0_extend 7 (1, 200) [.ref (ad 0 0), .int a, .int b] M (xA g (F_extend ms a b) ad h ms0) := by
  obtain ⟨sg, hm⟩ := R.main
  have hpn := I.pn
  have hrn := I.rn
  have hP := R.ls 0 0 (by decide) rfl
  have hR := R.ls 1 0 (by decide) rfl
  refine rb_Ct.of (by decide) (Nat.le_of_ble_eq_true rfl) rfl ?_
  refine rb_know fun hw => ?_
  refine sgX0_extend_0 (uIo (X0_isPart R I.P) (rb_dpk (by decide)) zr R.ob0 ⟨fun h1 => ⟨zf, ?_⟩, fun h1 => uI X0_in (rb_dpk (by decide)) zr ⟨fun h2 => ⟨zf, ?_⟩, fun h2 => ?_⟩⟩) <;> rw [pIn0] at *
  · exact xA_of (by rw [F_extend, if_pos (Or.inl h1)]) R
  · exact xA_of (by rw [F_extend, if_pos (Or.inr (Or.inl h2))]) R
  have hh1 := Decidable.not_not.mp h1
  have hh2 := Decidable.not_not.mp h2
  obtain ⟨p, hp, rfl⟩ := (isP_iff I.P).mp hh1
  obtain ⟨o, ho, rfl⟩ := (pIn_pred (b := p) (by omega)).mp hh2
  have hop : o < nN ms 0 0 := by omega
  have hE := R.ls 4 p (by decide) hp
  have hpt := I.1.2.1 p hp
  have hn := hpt.2.2.2.1.n (by decide)
  refine ⟨_, ⟨_, hm, rfl⟩, rb_isR_ref _, _, rfl, uRo (J4_get hP hp) (rb_dpk (by decide)) zr hP.ob ⟨_, rfl, 5, R.obP hp, cc_5, _, ⟨_, R.part hp, rfl⟩, rb_isR_ref _, _, ⟨_, hm, rfl⟩, rb_isR_ref _, _, rfl, uRo (J4_get hP hop) (rb_dpk (by decide)) zr hP.ob ⟨_, rfl, _, _, _, J4_contains hE (Or.inl (R.obP hop)), rb_dpk (by decide), zr, hE.ob, ?_⟩⟩⟩
  rintro _ _ ⟨x, hx, rfl, rfl⟩
  have hiff : (∃ k, k < lenL ms 4 p ∧ eltL ms ad 4 p k = ad 4 o) ↔ isX ms (nv (nI p)) (nI o) := by
    rw [nv_nI (by omega)]
    constructor
    · rintro ⟨k, hk, e⟩
      have hk : k < nN ms 4 p := hk
      obtain ⟨q, hq, eq⟩ := hpt.2.2.2.2.1 k hk
      have e : ad 4 (nN ms 5 (4 * p + k)) = ad 4 o := e
      have eqn : nN ms 5 (4 * p + k) = q := by rw [nN, eq, nI_clamp (by omega)]
      rw [eqn] at e
      have := (R.2.1 4 q 4 o (show q < nN ms 0 0 by omega) hop e).2
      exact ⟨k, hk, by rw [eq, this]⟩
    · rintro ⟨k, hk, e⟩
      refine ⟨k, hk, ?_⟩
      show ad 4 (nN ms 5 (4 * p + k)) = ad 4 o
      rw [nN, e, nI_clamp (by omega)]
  refine ⟨_, rfl, fun h3 => ?_, fun h3 => ⟨zf, ?_⟩⟩
  · have hno : ¬ isX ms (nv (nI p)) (nI o) := fun q => hx.f h3 (hiff.mpr q)
    have hbad : ¬ (¬ isP ms (nI p) ∨ ¬ (0 ≤ nI o ∧ nI o ≤ nI p - 1) ∨ isX ms (nv (nI p)) (nI o)) := by rintro (q | q | q); exact q hh1; exact q hh2; exact hno q
    refine ⟨_, ⟨_, hm, rfl⟩, rb_isR_ref _, _, rfl, uRo (J4_get hP hp) (rb_dpk (by decide)) zr hP.ob ⟨_, rfl, 5, R.obP hp, cc_5, _, ⟨_, R.part hp, rfl⟩, rb_isR_ref _, _, rfl, uIo (J4_size hE) (rb_dpk (by decide)) zr hE.ob ?_⟩⟩
    rw [show nI (lenL ms 4 p) = ms.1 4 p from hn.1.symm]
    refine ⟨fun h4 => ⟨_, ⟨_, hm, rfl⟩, rb_isR_ref _, _, rfl, uIo (J4_isEmpty hR (show lenL ms 1 0 < 2 ^ 31 by show nN ms 24 0 < _; omega)) (rb_dpk (by decide)) zr hR.ob ⟨fun h5 => ?_, fun h5 => ⟨zf, ?_⟩⟩⟩, fun h4 => ⟨zf, xA_of (by rw [F_extend, if_neg hbad, nv_nI (by omega), if_pos h4]) R⟩⟩
    · have h5 := I.emp.mp h5
      have hn4 : nN ms 4 p ≠ 4 := fun q => h4 (by rw [hn.1, q]; rfl)
      refine ⟨_, ⟨_, hm, rfl⟩, rb_isR_ref _, _, rfl, uRo (J4_get hP hop) (rb_dpk (by decide)) zr hP.ob ⟨_, rfl, 5, R.obP hop, cc_5, _, _, _, J4_add (y := ad 4 o) hE (fun k hk => ?_) (R.obPE hop) (show nN ms 4 p ≤ 128 by omega), rb_dpk (by decide), ⟨nb rfl, nb rfl⟩, hE.ob, ?_⟩⟩
      · obtain ⟨q, hq, eq⟩ := hpt.2.2.2.2.1 k hk
        have eqn : nN ms 5 (4 * p + k) = q := by rw [nN, eq, nI_clamp (by omega)]
        show obE _ (ad 4 (nN ms 5 (4 * p + k)))
        rw [eqn]
        exact R.obPE (by omega)
      · rintro _ M' ⟨rfl, hA⟩
        have hA0 := hA
        obtain ⟨r', hL', -, -⟩ := hA
        refine ⟨_, rfl, uIo (J4_size hL') (rb_dpk (by decide)) ⟨nb rfl, nb rfl⟩ hL'.ob ⟨⟨nb rfl, nb rfl⟩, ?_⟩⟩
        have e4 : nN (mm_sI (mm_sI ms 5 (4 * p + nN ms 4 p) (nI o)) 4 p (ms.1 4 p + 1)) 4 p = nN ms 4 p + 1 := nN_inc hpt.2.2.2.1 (by decide) (by rw [mm_sI_k, va_up_self])
        have e5 : ∀ t, t ≠ 4 * p + nN ms 4 p → nN (mm_sI (mm_sI ms 5 (4 * p + nN ms 4 p) (nI o)) 4 p (ms.1 4 p + 1)) 5 t = nN ms 5 t := fun t ht => by
          rw [nN, mm_sI_ne (by decide), mm_sI_k]; simp [va_up, ht]
        have e5' : nN (mm_sI (mm_sI ms 5 (4 * p + nN ms 4 p) (nI o)) 4 p (ms.1 4 p + 1)) 5 (4 * p + nN ms 4 p) = o := by
          rw [nN, mm_sI_ne (by decide), mm_sI_k, va_up_self, nI_clamp (by omega)]
        have hF : F_extend ms (nI p) (nI o) = (nI (lenL ms 4 p + 1), mm_sI (mm_sI ms 5 (4 * p + nN ms 4 p) (nI o)) 4 p (ms.1 4 p + 1)) := by
          rw [F_extend, if_neg hbad, nv_nI (by omega), if_neg h4, if_neg h5, ← nI_1, show nI (lenL ms 4 p) = ms.1 4 p from hn.1.symm]
        rw [hF]
        refine ⟨rfl, R.ladd hw 4 p (by decide) hp hA0 [4, 5] (fun F hF => ?_) (fun k k1 k2 F hF => dX_not [4, 5] [24, 34] (by decide) k (by simp; omega) F hF) (eX_in [4, 5] (by decide)) (fun j hj hx => ⟨?_, fun t ht => ?_⟩) e4 (fun t ht => ?_) (fun t => nl rfl) ?_⟩
        · simp only [List.mem_cons, List.not_mem_nil, or_false, not_or] at hF
          exact ⟨by rw [mm_sI_ne hF.1, mm_sI_ne hF.2], rfl⟩
        · show nN _ 4 j = nN ms 4 j
          rw [nN, mm_sI_k]; simp [va_up, hj, mm_sI_ne]
        · have ht : t < nN ms 4 j := ht
          have := (I.1.2.1 j hx).2.2.2.1.n (by decide)
          show (4, _) = (4, _)
          rw [e5 _ (by omega)]
        · have ht : t < nN ms 4 p := ht
          show (4, _) = (4, _)
          rw [e5 _ (by omega)]
        · show ad 4 (nN (mm_sI (mm_sI ms 5 (4 * p + nN ms 4 p) (nI o)) 4 p (ms.1 4 p + 1)) 5 (4 * p + nN ms 4 p)) = ad 4 o
          rw [e5']
    · have h5 : 0 < ms.1 24 0 := Classical.not_not.mp fun q => (I.emp.mpr q) h5
      exact xA_of (by rw [F_extend, if_neg hbad, nv_nI (by omega), if_neg h4, if_pos h5]) R
  · exact xA_of (by rw [F_extend, if_pos (Or.inr (Or.inr (hiff.mp (hx.t h3))))]) R
end C8
