set_option maxRecDepth 100000
/-! weaving, the class's side: the ring -/
section V8
variable {g : rb_G} {ms ms' ms0 : mm_S} {ad : aD} {h : Nat} {B : Nat} {κ : rb_K} {M : rb_H} {fI fB : Nat → Int32}
theorem sameX.F {l : List Nat} (hs : sameX l ms ms') : ∀ F, F ∉ l → sameF ms ms' F := fun F hF => ⟨hs.2 F hF, by rw [hs.1]⟩
theorem mn_ring {sg : Int64} (hs : sameX [33, 34] ms ms') : mnFs ms' ad sg = (mnFs ms ad sg).set 19 (.int (ms'.1 34 0)) := by
  unfold mnFs laRf nN
  rw [hs.2 7 (by decide), hs.2 15 (by decide), hs.2 18 (by decide), hs.2 35 (by decide), hs.2 36 (by decide), hs.2 60 (by decide), hs.2 68 (by decide), hs.2 64 (by decide), hs.2 65 (by decide), hs.2 66 (by decide), hs.2 47 (by decide), hs.1]
  rfl
/-- the ring and its size written -/
theorem WS.ring (W : WS g ms ad h ms0 M fI fB) {f : Nat → Int32} {sg : Int64} (hs : sameX [33, 34] ms ms') (hf : ∀ j, j < nN ms' 34 0 → f j = ms'.1 33 j) : WS g ms' ad h ms0 (rb_up (rb_up M (ad 68 0) (rb_I 24 f)) (ad 0 0) (rb_O 0 (mnFs ms' ad sg))) fI fB := by
  have R := W.1
  have n1 : ad 68 0 ≠ ad 0 0 := R.ne rfl rfl (by decide)
  have n2 : ad 66 0 ≠ ad 0 0 := R.ne rfl rfl (by decide)
  have n3 : ad 66 0 ≠ ad 68 0 := R.ne rfl rfl (by decide)
  have n4 : ad 67 0 ≠ ad 0 0 := R.ne rfl rfl (by decide)
  have n5 : ad 67 0 ≠ ad 68 0 := R.ne rfl rfl (by decide)
  refine ⟨R.step [33, 34] hs.F (by decide) (fun k i hx hc => ?_), ?_, ?_⟩
  · by_cases e0 : k = 0
    · subst e0
      obtain rfl : i = 0 := hx
      exact ⟨_, by simp [rb_up, va_up], sg, rfl⟩
    · by_cases e1 : k = 68
      · subst e1
        obtain rfl : i = 0 := hx
        refine ⟨rb_I 24 f, by simp [rb_up, va_up, n1], f, rfl, hf⟩
      · exfalso
        rcases hc with ⟨F, hF, hd⟩ | hne
        · exact dX_not [33, 34] [0, 68] (by decide) k (by simp [e0, e1]) F hd hF
        · refine hne ?_
          have a1 : ad k i ≠ ad 0 0 := R.ne hx rfl (Or.inl e0)
          have a2 : ad k i ≠ ad 68 0 := R.ne hx rfl (Or.inl e1)
          simp [rb_up, va_up, a1, a2]
  · simp [rb_up, va_up, n2, n3]; exact W.2.1
  · simp [rb_up, va_up, n4, n5]; exact W.2.2
theorem X0_placeLoop (hκ : κ.1 = g) (R : Rep g ms ad h ms0 M) {v : Int32} (hn : iB (ms.1 34 0) 24) (hf : rb_fin κ (0, 0)) (K : ∀ x, isL (fun i => ms.1 33 i = v) (nN ms 34 0) x → κ.2.2.1 (.returned (some (.int x))) M) :
    ∀ d j, j + d = nN ms 34 0 → (∀ i, i < j → ¬ ms.1 33 i = v) → rb_Bd κ mX0_placeInRing (0, 0) M 2 [some (.ref (ad 0 0)), some (.int v), some (.int (nI j))] [] := by
  subst hκ
  have hn := hn.n (by decide)
  obtain ⟨sg, hm⟩ := R.main
  obtain ⟨c, h68, f, rfl, e68⟩ := R.1 68 0 rfl
  intro d
  induction d with
  | zero =>
    intro j hj hno
    obtain rfl : j = nN ms 34 0 := by omega
    exact sgX0_placeInRing_2 ⟨_, ⟨_, hm, rfl⟩, fun _ => ⟨hf, K _ (Or.inl ⟨rfl, hno⟩)⟩, fun q => absurd q (by rw [hn.1]; exact nI_nlt (Nat.le_refl _) (by omega))⟩
  | succ d ih =>
    intro j hj hno
    refine sgX0_placeInRing_2 ⟨_, ⟨_, hm, rfl⟩, fun q => absurd q (by rw [hn.1]; exact nI_ge (by omega) (by omega)), fun _ => ⟨_, ⟨_, hm, rfl⟩, rb_isR_ref _, _, rfl, 24, f, ms.1 33 j, h68, vp_in_nI (by omega) (by decide), by rw [nI_clamp (by omega)]; exact e68 j (by omega), fun h1 => ?_, fun h1 => ⟨hf, K _ (Or.inr ⟨j, by omega, h1, hno, rfl⟩)⟩⟩⟩
    rw [nI_1]
    refine ih (j + 1) (by omega) fun i hi => ?_
    rcases Nat.lt_or_ge i j with r | r
    · exact hno i r
    · obtain rfl : i = j := by omega
      exact h1
theorem X0_placeInRing (R : Rep g ms ad h ms0 M) {v x : Int32} (hn : iB (ms.1 34 0) 24) (hx : isL (fun i => ms.1 33 i = v) (nN ms 34 0) x) : rb_Ct g yX0_placeInRing wX0_placeInRing 0 (0, 0) [.ref (ad 0 0), .int v] M (qr (some (.int x)) M) := by
  refine rb_Ct.of (by decide) (Nat.le_of_ble_eq_true rfl) rfl ?_
  refine sgX0_placeInRing_0 (X0_placeLoop (κ := (g, rb_rm 0 (0, 0), qr (some (.int x)) M, (0, 0))) rfl R hn zf (fun y hy => ?_) (nN ms 34 0) 0 (Nat.zero_add _) (fun i hi => by omega))
  exact ⟨by rw [isL_uniq hx hy], rfl⟩
end V8
