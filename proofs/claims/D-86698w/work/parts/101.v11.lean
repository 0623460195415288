set_option maxRecDepth 100000
/-! weaving, the class's side: findRing (3) -/
section V11
variable {g : rb_G} {ms ms0 : mm_S} {ad : aD} {h : Nat} {B : Nat} {κ : rb_K} {fI fB : Nat → Int32} {N1 : Nat} {f : Nat → Nat} {n t : Nat} {L : Nat → Prop}
theorem X0_ring22 (hκ : κ.1 = g) (I : Inv B ms) (hL : LfI ms L fI) (hO : ordB ms fB) (Rr : Rg ms (Cl ms) L f n t) (hd : rb_dp κ 1) (hz : rb_rom κ (0, 0)) (hf : rb_fin κ (0, 0)) (K : ∀ M r, WS g (rgS ms r (n - t)) ad h ms0 M fI fB → M.1 = N1 → (∀ i, i < n - t → r i = nI (f (t + i))) → κ.2.2.1 (.returned none) M) :
    ∀ d j, j + d = n → ∀ M r, WS g (rgS ms r j) ad h ms0 M fI fB → M.1 = N1 → (∀ i, i < j → r i = nI (f i)) → rb_Bd κ mX0_findRing (0, 0) M 22 [some (.ref (ad 0 0)), some (.int (nI (f j))), none, none] [] := by
  subst hκ
  obtain ⟨R1, R2, R3, R4, R5, R6⟩ := Rr
  have hP0 := I.pn
  intro d
  induction d with
  | zero =>
    intro j hj M r W hM h1
    obtain rfl : j = n := by omega
    have nn : nN (rgS ms r j) 34 0 = j := rgS_n (by omega)
    have hp : isL (fun i => (rgS ms r j).1 33 i = nI (f j)) (nN (rgS ms r j) 34 0) (nI t) := by
      rw [nn]
      refine Or.inr ⟨t, R1, ?_, fun q hq => ?_, rfl⟩
      · show r t = nI (f j)
        rw [h1 t R1, R6]
      · show ¬ r q = nI (f j)
        rw [h1 q (by omega), R6]
        intro e
        exact R4 q t hq R1 ((nI_eq (by have := (R3 q (by omega)).1; omega) (by have := (R3 t R1).1; omega)).mp e)
    have hC := X0_placeInRing W.1 (v := nI (f j)) ⟨j, R2, rfl⟩ hp
    refine sgX0_findRing_22 (uIo hC (rb_dp_le hd (by decide)) hz W.1.ob0 ⟨fun _ => uIo hC (rb_dp_le hd (by decide)) hz W.1.ob0 ?_, fun q => ?_⟩)
    · exact X0_ring69 rfl R2 R1 hf K (j - t) 0 (by omega) M r W hM (fun i hi => by omega) (fun i _ hi => h1 i hi)
    · have := nI_pos' (n := t) (by omega)
      rw [q] at this
      exact absurd this (by decide)
  | succ d ih =>
    intro j hj M r W hM h1
    have nn : nN (rgS ms r j) 34 0 = j := rgS_n (by omega)
    have fj := R3 j (by omega)
    have hp : isL (fun i => (rgS ms r j).1 33 i = nI (f j)) (nN (rgS ms r j) 34 0) (-9) := by
      rw [nn]
      refine Or.inl ⟨rfl, fun q hq => ?_⟩
      show ¬ r q = nI (f j)
      rw [h1 q hq]
      intro e
      exact R4 q j hq (by omega) ((nI_eq (by have := (R3 q (by omega)).1; omega) (by omega)).mp e)
    have hC := X0_placeInRing W.1 (v := nI (f j)) ⟨j, by omega, rfl⟩ hp
    obtain ⟨sg, hm⟩ := W.1.main
    obtain ⟨c8, h68, f8, rfl, e68⟩ := W.1.1 68 0 rfl
    have n1 : ad 0 0 ≠ ad 68 0 := W.1.ne rfl rfl (by decide)
    have hs : sameX [33, 34] (rgS ms r j) (rgS ms (va_up r j (nI (f j))) (j + 1)) := rgS_rg
    have W2 := W.ring (sg := sg) (f := va_up f8 j (nI (f j))) hs (fun i hi => by
      rw [rgS_n (by omega)] at hi
      show va_up f8 j _ i = va_up r j _ i
      by_cases e : i = j
      · rw [e, va_up_self, va_up_self]
      · simp only [va_up, if_neg e]
        exact e68 i (by rw [nn]; omega))
    rw [mn_ring hs] at W2
    have hm2 : (rb_up M (ad 68 0) (rb_I 24 (va_up f8 j (nI (f j))))).2 (ad 0 0) = some (rb_O 0 (mnFs (rgS ms r j) ad sg)) := by
      simp [rb_up, va_up, n1]
      exact hm
    refine sgX0_findRing_22 (uIo hC (rb_dp_le hd (by decide)) hz W.1.ob0 ⟨fun q => absurd rfl q, fun _ => ⟨_, ⟨_, hm, rfl⟩, rb_isR_ref _, nI j, ⟨_, hm, rfl⟩, _, rfl, 24, f8, h68, vp_in_nI (by omega) (by decide), ?_⟩⟩)
    rw [nI_clamp (by omega)]
    refine ⟨nI j, ⟨_, hm2, rfl⟩, _, hm2, nl rfl, ?_⟩
    rw [nI_1]
    refine uIo (X0_aheadL (Inv_rg I (show j + 1 ≤ 24 by omega)) W2 hL hO (hL.2.2 _ fj.2) (R5 j (by omega))) hd hz W2.1.ob0 ?_
    refine ih (j + 1) (by omega) _ _ W2 hM (fun i hi => ?_)
    by_cases e : i = j
    · rw [e, va_up_self]
    · simp only [va_up, if_neg e]; exact h1 i (by omega)
end V11
