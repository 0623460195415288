set_option maxRecDepth 100000
/-! weaving, the class's side: the order -/
section V3
variable {g : rb_G} {ms ms0 : mm_S} {ad : aD} {h : Nat} {M : rb_H} {B : Nat}
/-- q is put behind p -/
def stB (f : Nat → Int32) (p q : Nat) : Nat → Int32 := va_up f p (f p ||| ((1 : Int32) <<< (nI q &&& 31)))
theorem stB_bt {f : Nat → Int32} {p q a b : Nat} (hq : q < 24) (hb : b < 24) : bt (stB f p q a) b ↔ bt (f a) b ∨ (a = p ∧ b = q) := by
  unfold stB
  by_cases e : a = p
  · rw [e, va_up_self, bt_or hq hb]
    exact ⟨fun r => r.elim Or.inl (fun z => Or.inr ⟨rfl, z⟩), fun r => r.elim Or.inl (fun z => Or.inr z.2)⟩
  · simp only [va_up, if_neg e]
    exact ⟨Or.inl, fun r => r.elim id (fun z => absurd z.1 e)⟩
theorem X0_stands (I : Inv B ms) {fI fB : Nat → Int32} (W : WS g ms ad h ms0 M fI fB) {p q : Nat} (hp : p < nN ms 0 0) (hq : q < nN ms 0 0) : rb_Ct g yX0_stands wX0_stands 0 (0, 0) [.ref (ad 0 0), .ref (ad 4 p), .ref (ad 4 q)] M (qr none (rb_up M (ad 67 0) (rb_I 24 (stB fB p q)))) := by
  have hP0 := I.pn
  obtain ⟨R, w66, w67⟩ := W
  obtain ⟨sg, hm⟩ := R.main
  refine rb_Ct.of (by decide) (Nat.le_of_ble_eq_true rfl) rfl ?_
  refine sgX0_stands_0 (rb_isR_ref _) (rb_isR_ref _) ⟨_, ⟨_, hm, rfl⟩, rb_isR_ref _, _, rfl, _, ⟨_, R.part hp, rfl⟩, _, rfl, 24, fB, _, w67, vp_in_nI (by omega) (by decide), rfl, _, rfl, _, ⟨_, R.part hq, rfl⟩, 24, fB, w67, vp_in_nI (by omega) (by decide), zf, ?_⟩
  rw [nI_clamp (by omega)]
  exact ⟨rfl, rfl⟩
end V3
