set_option maxRecDepth 100000
/-! weaving, the class's side: findRing (4) -/
section V12
variable {g : rb_G} {ms m' ms0 : mm_S} {ad : aD} {h : Nat} {B : Nat} {κ : rb_K} {fI fB : Nat → Int32} {N1 : Nat} {f : Nat → Nat} {n t : Nat} {L : Nat → Prop} {M : rb_H}
theorem X0_ring7 (hκ : κ.1 = g) (W : WS g ms ad h ms0 M fI fB) {p : Nat} (hp : p < 24) (hp1 : fI p ≠ 0) (hno : ∀ q, q < p → fI q = 0) (K : rb_Bd κ mX0_findRing (0, 0) M 22 [some (.ref (ad 0 0)), some (.int (nI p)), none, none] []) :
    ∀ d j, j + d = p → rb_Bd κ mX0_findRing (0, 0) M 7 [some (.ref (ad 0 0)), some (.int (nI j)), none, none] [] := by
  subst hκ
  obtain ⟨sg, hm⟩ := W.1.main
  intro d
  induction d with
  | zero =>
    intro j hj
    obtain rfl : j = p := by omega
    refine sgX0_findRing_7 ⟨_, ⟨_, hm, rfl⟩, rb_isR_ref _, _, rfl, 24, fI, _, W.2.1, vp_in_nI (by omega) (by decide), rfl, ?_⟩
    rw [nI_clamp (by omega)]
    exact ⟨fun _ => K, fun q => absurd q hp1⟩
  | succ d ih =>
    intro j hj
    refine sgX0_findRing_7 ⟨_, ⟨_, hm, rfl⟩, rb_isR_ref _, _, rfl, 24, fI, _, W.2.1, vp_in_nI (by omega) (by decide), rfl, ?_⟩
    rw [nI_clamp (by omega), nI_1]
    exact ⟨fun q => absurd (hno j (by omega)) q, fun _ => ih (j + 1) (by omega)⟩
theorem WS.rgTo {r : Nat → Int32} {k : Nat} (W : WS g (rgS ms r k) ad h ms0 M fI fB) (hk : k ≤ 24) (hs : sameX [33, 34] ms m') (h34 : m'.1 34 0 = nI k) (h33 : ∀ i, i < k → m'.1 33 i = r i) : WS g m' ad h ms0 M fI fB := by
  have hs2 : sameX [33] (rgS ms r k) (rgS ms (m'.1 33) k) := ⟨rfl, fun j hj => by
    have h1 : j ≠ 33 := fun e => hj (by rw [e]; decide)
    show (if j = 33 then _ else _) = (if j = 33 then _ else _)
    rw [if_neg h1, if_neg h1]⟩
  have n34 : nN m' 34 0 = k := by unfold nN; rw [h34, nI_clamp (by omega)]
  refine ⟨W.1.step [33, 34] (fun F hF => ⟨by rw [hs.2 F hF, rgS_same.2 F hF], by rw [hs.1]; rfl⟩) (by decide) (fun j i hx hc => ?_), W.2.1, W.2.2⟩
  obtain ⟨c, hc1, hc2⟩ := W.1.1 j i hx
  refine ⟨c, hc1, ?_⟩
  by_cases e0 : j = 0
  · subst e0
    obtain ⟨sg, rfl⟩ := hc2
    refine ⟨sg, ?_⟩
    have e : mnFs m' ad sg = mnFs (rgS ms r k) ad sg := by
      have h1 : sameX [33, 34] (rgS ms r k) m' := ⟨hs.1, fun F hF => by rw [hs.2 F hF, rgS_same.2 F hF]⟩
      rw [mn_ring h1, h34]
      rfl
    rw [e]
  · by_cases e1 : j = 68
    · subst e1
      obtain ⟨f8, rfl, e8⟩ := hc2
      refine ⟨f8, rfl, fun i hi => ?_⟩
      rw [n34] at hi
      rw [e8 i (by rw [rgS_n (by omega)]; exact hi), h33 i hi]
      rfl
    · exfalso
      rcases hc with ⟨F, hF, hd⟩ | hne
      · exact dX_not [33, 34] [0, 68] (by decide) j (by simp [e0, e1]) F hd hF
      · exact hne rfl
theorem X0_findRing (I : Inv B ms) (W : WS g ms ad h ms0 M fI fB) (hL : LfI ms L fI) (hO : ordB ms fB) (Rr : Rg ms (Cl ms) L f n t) (hno : ∀ q, q < f 0 → ¬ L q) (hs : sameX [33, 34] ms m') (h34 : m'.1 34 0 = nI (n - t)) (h33 : ∀ i, i < n - t → m'.1 33 i = nI (f (t + i))) : rb_Ct g yX0_findRing wX0_findRing 2 (0, 0) [.ref (ad 0 0)] M (fun o M' => o = .returned none ∧ M'.1 = M.1 ∧ WS g m' ad h ms0 M' fI fB) := by
  have hP0 := I.pn
  obtain ⟨sg, hm⟩ := W.1.main
  obtain ⟨c8, h68, f8, rfl, e68⟩ := W.1.1 68 0 rfl
  have R0 := Rr.2.2.1 0 (by have := Rr.1; omega)
  have hs1 : sameX [33, 34] ms (rgS ms (ms.1 33) 0) := rgS_same
  have W1 := W.ringN (sg := sg) hs1 h68 (fun j hj => by rw [rgS_n (by decide)] at hj; omega)
  rw [mn_ring hs1] at W1
  refine rb_Ct.of (by decide) (Nat.le_of_ble_eq_true rfl) rfl ?_
  refine sgX0_findRing_0 ⟨_, hm, nl rfl, ?_⟩
  refine X0_ring7 rfl W1 (p := f 0) (by omega) ((hL.2.1 _ (by omega)).mpr R0.2) (fun q hq => ?_) ?_ (f 0) 0 (Nat.zero_add _)
  · exact Classical.not_not.mp (fun z => hno q hq ((hL.2.1 q (by omega)).mp z))
  · refine X0_ring22 (N1 := M.1) rfl I hL hO Rr (rb_dpk (by decide)) zr zf (fun M2 r W2 hM2 h2 => ⟨rfl, hM2, W2.rgTo (by have := Rr.2.1; omega) hs h34 (fun i hi => by rw [h33 i hi, h2 i hi])⟩) n 0 (Nat.zero_add _) _ _ W1 rfl (fun i hi => by omega)
end V12
