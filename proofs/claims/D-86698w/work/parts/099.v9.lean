set_option maxRecDepth 100000
/-! weaving, the class's side: findRing -/
/-- ms with the ring r, of size j -/
def rgS (ms : mm_S) (r : Nat → Int32) (j : Nat) : mm_S := (fun k => if k = 33 then r else if k = 34 then fun _ => nI j else ms.1 k, ms.2)
theorem rgS_same {ms : mm_S} {r : Nat → Int32} {j : Nat} : sameX [33, 34] ms (rgS ms r j) := ⟨rfl, fun k hk => by
  have h1 : k ≠ 33 := fun e => hk (by rw [e]; decide)
  have h2 : k ≠ 34 := fun e => hk (by rw [e]; decide)
  show (if k = 33 then r else if k = 34 then fun _ => nI j else ms.1 k) = ms.1 k
  rw [if_neg h1, if_neg h2]⟩
theorem rgS_rg {ms : mm_S} {r r' : Nat → Int32} {j j' : Nat} : sameX [33, 34] (rgS ms r j) (rgS ms r' j') := ⟨rfl, fun k hk => by rw [rgS_same.2 k hk, rgS_same.2 k hk]⟩
theorem rgS_n {ms : mm_S} {r : Nat → Int32} {j : Nat} (hj : j < 2 ^ 31) : nN (rgS ms r j) 34 0 = j := by
  show (nI j).toNatClampNeg = j
  exact nI_clamp hj
theorem Inv_rg {B : Nat} {ms : mm_S} {r : Nat → Int32} {j : Nat} (I : Inv B ms) (hj : j ≤ 24) : Inv B (rgS ms r j) := ⟨I.1, I.2.1, I.2.2.1, I.2.2.2.1, ⟨I.2.2.2.2.1.1, I.2.2.2.2.1.2.1, ⟨j, hj, rfl⟩⟩, I.2.2.2.2.2.1, I.2.2.2.2.2.2.1, I.2.2.2.2.2.2.2⟩
section V9
variable {g : rb_G} {ms ms' ms0 : mm_S} {ad : aD} {h : Nat} {B : Nat} {κ : rb_K} {M : rb_H} {fI fB : Nat → Int32}
theorem WS.ringA (W : WS g ms ad h ms0 M fI fB) {f : Nat → Int32} (hs : sameX [33] ms ms') (hf : ∀ j, j < nN ms' 34 0 → f j = ms'.1 33 j) : WS g ms' ad h ms0 (rb_up M (ad 68 0) (rb_I 24 f)) fI fB := by
  have R := W.1
  have n3 : ad 66 0 ≠ ad 68 0 := R.ne rfl rfl (by decide)
  have n5 : ad 67 0 ≠ ad 68 0 := R.ne rfl rfl (by decide)
  refine ⟨R.step [33] hs.F (by decide) (fun k i hx hc => ?_), ?_, ?_⟩
  · by_cases e1 : k = 68
    · subst e1
      obtain rfl : i = 0 := hx
      exact ⟨rb_I 24 f, by simp [rb_up, va_up], f, rfl, hf⟩
    · exfalso
      rcases hc with ⟨F, hF, hd⟩ | hne
      · exact dX_not [33] [68] (by decide) k (by simp [e1]) F hd hF
      · refine hne ?_
        have a2 : ad k i ≠ ad 68 0 := R.ne hx rfl (Or.inl e1)
        simp [rb_up, va_up, a2]
  · simp [rb_up, va_up, n3]; exact W.2.1
  · simp [rb_up, va_up, n5]; exact W.2.2
theorem WS.ringN (W : WS g ms ad h ms0 M fI fB) {f : Nat → Int32} {sg : Int64} (hs : sameX [33, 34] ms ms') (h68 : M.2 (ad 68 0) = some (rb_I 24 f)) (hf : ∀ j, j < nN ms' 34 0 → f j = ms'.1 33 j) : WS g ms' ad h ms0 (rb_up M (ad 0 0) (rb_O 0 (mnFs ms' ad sg))) fI fB := by
  have R := W.1
  have n1 : ad 68 0 ≠ ad 0 0 := R.ne rfl rfl (by decide)
  have n2 : ad 66 0 ≠ ad 0 0 := R.ne rfl rfl (by decide)
  have n4 : ad 67 0 ≠ ad 0 0 := R.ne rfl rfl (by decide)
  refine ⟨R.step [33, 34] hs.F (by decide) (fun k i hx hc => ?_), ?_, ?_⟩
  · by_cases e0 : k = 0
    · subst e0
      obtain rfl : i = 0 := hx
      exact ⟨_, by simp [rb_up, va_up], sg, rfl⟩
    · by_cases e1 : k = 68
      · subst e1
        obtain rfl : i = 0 := hx
        exact ⟨rb_I 24 f, by simp [rb_up, va_up, n1]; exact h68, f, rfl, hf⟩
      · exfalso
        rcases hc with ⟨F, hF, hd⟩ | hne
        · exact dX_not [33, 34] [0, 68] (by decide) k (by simp [e0, e1]) F hd hF
        · refine hne ?_
          have a1 : ad k i ≠ ad 0 0 := R.ne hx rfl (Or.inl e0)
          simp [rb_up, va_up, a1]
  · simp [rb_up, va_up, n2]; exact W.2.1
  · simp [rb_up, va_up, n4]; exact W.2.2
end V9
