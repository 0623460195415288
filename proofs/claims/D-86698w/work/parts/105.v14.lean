set_option maxRecDepth 100000
/-! weaving, the class's side: hasGiver, lacks -/
section V14
variable {g : rb_G} {ms m' ms0 : mm_S} {ad : aD} {h : Nat} {B : Nat} {κ : rb_K} {M : rb_H}
theorem bz_or {P Q : Prop} : bz P ||| bz Q = bz (P ∨ Q) := by
  by_cases p : P
  · rw [bz_t p, bz_t (Or.inl p)]
    by_cases q : Q
    · rw [bz_t q]; decide
    · rw [bz_f q]; decide
  · rw [bz_f p]
    by_cases q : Q
    · rw [bz_t q, bz_t (Or.inr q)]; decide
    · rw [bz_f q, bz_f (fun z => z.elim p q)]; decide
/-- the bodies of a chain -/
def chOk (ms : mm_S) (c : List Nat) : Prop := c.length ≤ 48 ∧ ∀ b, b ∈ c → b < 600 ∧ ms.1 10 b ≠ -9 ∧ b % 25 ≠ 24
theorem X0_hgLoop {q r : Nat} {c : List Nat} (hκ : κ.1 = g) (R : Rep g ms ad h ms0 M) (hl : xLs g M q r c.length (fun i => ad 8 (c.getD i 0))) (hc : chOk ms c) (hd : rb_dp κ 2) (hz : rb_rom κ (0, 0)) (hf : rb_fin κ (0, 0)) (K : κ.2.2.1 (.returned (some (.int (bz (hasG c))))) M) : ∀ d j, j + d = c.length → ∀ x, x = bz (∃ k, k < j ∧ c.getD k 0 % 25 < 12) → rb_Bd κ mX0_hasGiver (0, 0) M 4 [some (.ref q), some (.int x), some (.int (nI j))] [] := by
  subst hκ
  have hn := hc.1
  intro d
  induction d with
  | zero =>
    intro j hj x hx
    obtain rfl : j = c.length := by omega
    exact sgX0_hasGiver_4 (rb_isR_ref _) ⟨_, rfl, uIo (J4_size hl) (rb_dp_le hd (by decide)) hz hl.ob ⟨fun _ => ⟨by rw [hx]; exact bz_nar, hf, by rw [hx]; exact K⟩, fun q => absurd q (nI_nlt (Nat.le_refl _) (by omega))⟩⟩
  | succ d ih =>
    intro j hj x hx
    obtain ⟨b1, b2, b3⟩ := hc.2 _ (getD_mem c j (by omega))
    have hb := R.body b1 b2
    have hG := J4_get hl (show j < c.length by omega)
    have hor : ∀ y : Int32, y = bz (c.getD j 0 % 25 < 12) → x ||| y = bz (∃ k, k < j + 1 ∧ c.getD k 0 % 25 < 12) := by
      intro y hy
      rw [hx, hy, bz_or]
      refine bz_c ⟨?_, ?_⟩
      · rintro (⟨k, k1, k2⟩ | z)
        · exact ⟨k, by omega, k2⟩
        · exact ⟨j, by omega, z⟩
      · rintro ⟨k, k1, k2⟩
        rcases Nat.lt_or_ge k j with z | z
        · exact Or.inl ⟨k, z, k2⟩
        · obtain rfl : k = j := by omega
          exact Or.inr k2
    refine sgX0_hasGiver_4 (rb_isR_ref _) ⟨_, rfl, uIo (J4_size hl) (rb_dp_le hd (by decide)) hz hl.ob ⟨fun z => absurd z (nI_ge (show j < c.length by omega) (by omega)), fun _ => uRo hG hd hz hl.ob ⟨_, rfl, 6, ⟨_, hb⟩, cc_6, _, ⟨_, hb, rfl⟩, fun h1 => ?_, fun h1 => ?_⟩⟩⟩
    · rw [nI_1]
      refine ih (j + 1) (by omega) _ (hor 0 ?_)
      rw [bz_f]
      intro z
      refine h1 ?_
      unfold buse
      rw [if_neg b3, if_pos z]
    · rw [nI_1]
      refine ih (j + 1) (by omega) _ (hor 1 ?_)
      rw [bz_t]
      unfold buse at h1
      rw [if_neg b3] at h1
      by_cases z : c.getD j 0 % 25 < 12
      · exact z
      · rw [if_neg z] at h1
        exact absurd h1 (by decide)
theorem X0_hasGiver {q r : Nat} {c : List Nat} (R : Rep g ms ad h ms0 M) (hl : xLs g M q r c.length (fun i => ad 8 (c.getD i 0))) (hc : chOk ms c) : rb_Ct g yX0_hasGiver wX0_hasGiver 3 (0, 0) [.ref q] M (qr (some (.int (bz (hasG c)))) M) := by
  refine rb_Ct.of (by decide) (Nat.le_of_ble_eq_true rfl) rfl ?_
  refine sgX0_hasGiver_0 (rb_isR_ref _) (X0_hgLoop (κ := (g, rb_rm 3 (0, 0), qr (some (.int (bz (hasG c)))) M, (0, 0))) rfl R hl hc (rb_dpk (by decide)) zr zf ⟨rfl, rfl⟩ c.length 0 (Nat.zero_add _) 0 ?_)
  rw [bz_f]
  rintro ⟨k, hk, -⟩; omega
theorem mn_lack {sg : Int64} (hs : sameX [35, 36] ms m') : mnFs m' ad sg = ((mnFs ms ad sg).set 20 (.int (m'.1 35 0))).set 21 (.int (m'.1 36 0)) := by
  unfold mnFs laRf nN
  rw [hs.2 7 (by decide), hs.2 15 (by decide), hs.2 18 (by decide), hs.2 34 (by decide), hs.2 60 (by decide), hs.2 68 (by decide), hs.2 64 (by decide), hs.2 65 (by decide), hs.2 66 (by decide), hs.2 47 (by decide), hs.1]
  rfl
theorem Rep.lack (R : Rep g ms ad h ms0 M) {sg : Int64} (hs : sameX [35, 36] ms m') : Rep g m' ad h ms0 (rb_up M (ad 0 0) (rb_O 0 (mnFs m' ad sg))) := by
  refine R.step [35, 36] hs.F (by decide) (fun k i hx hc => ?_)
  by_cases e0 : k = 0
  · subst e0
    obtain rfl : i = 0 := hx
    exact ⟨_, by simp [rb_up, va_up], sg, rfl⟩
  · exfalso
    rcases hc with ⟨F, hF, hd⟩ | hne
    · exact dX_not [35, 36] [0] (by decide) k (by simp [e0]) F hd hF
    · refine hne ?_
      have a1 : ad k i ≠ ad 0 0 := R.ne hx rfl (Or.inl e0)
      simp [rb_up, va_up, a1]
theorem X0_lacks' (R : Rep g ms ad h ms0 M) {x y : Int32} (hs : sameX [35, 36] ms m') (h35 : m'.1 35 0 = x) (h36 : m'.1 36 0 = y) : rb_Ct g yX0_lacks wX0_lacks 0 (0, 0) [.ref (ad 0 0), .int x, .int y] M (fun o M' => o = .returned (some (.int 0)) ∧ M'.1 = M.1 ∧ (∀ b, b ≠ ad 0 0 → M'.2 b = M.2 b) ∧ Rep g m' ad h ms0 M') := by
  obtain ⟨sg, hm⟩ := R.main
  refine rb_Ct.of (by decide) (Nat.le_of_ble_eq_true rfl) rfl ?_
  refine sgX0_lacks_0 ⟨_, hm, nl rfl, _, rb_up_eq, nl rfl, zf, rfl, rfl, fun b hb => ?_, ?_⟩
  · rw [rb_up_ne hb, rb_up_ne hb]
  · have := R.lack (sg := sg) hs
    rw [mn_lack hs, h35, h36] at this
    have e : rb_up (rb_up M (ad 0 0) (rb_O 0 ((mnFs ms ad sg).set 20 (.int x)))) (ad 0 0) (rb_O 0 (((mnFs ms ad sg).set 20 (.int x)).set 21 (.int y))) = rb_up M (ad 0 0) (rb_O 0 (((mnFs ms ad sg).set 20 (.int x)).set 21 (.int y))) := by
      unfold rb_up
      simp only
      congr 1
      funext b
      by_cases hb : b = ad 0 0
      · simp [va_up, hb]
      · simp [va_up, hb]
    rw [e]
    exact this
end V14
