set_option maxRecDepth 100000
/-! weaving, the class's side: what is in -/
section V1
variable {g : rb_G} {ms ms0 : mm_S} {ad : aD} {h : Nat} {M : rb_H} {B : Nat}
/-- the picture, with what lies in isIn and behind -/
def WS (g : rb_G) (ms : mm_S) (ad : aD) (h : Nat) (ms0 : mm_S) (M : rb_H) (fI fB : Nat → Int32) : Prop := Rep g ms ad h ms0 M ∧ M.2 (ad 66 0) = some (rb_Z 24 fI) ∧ M.2 (ad 67 0) = some (rb_I 24 fB)
theorem WS.ex (R : Rep g ms ad h ms0 M) : ∃ fI fB, WS g ms ad h ms0 M fI fB := by
  obtain ⟨c, h1, f, rfl⟩ := R.1 66 0 rfl
  obtain ⟨c', h2, f', rfl⟩ := R.1 67 0 rfl
  exact ⟨f, f', R, h1, h2⟩
theorem WS.setI {fI fB f : Nat → Int32} (W : WS g ms ad h ms0 M fI fB) : WS g ms ad h ms0 (rb_up M (ad 66 0) (rb_Z 24 f)) f fB := by
  refine ⟨W.1.put 66 0 [] (fun F _ => ⟨rfl, rfl⟩) (fun F hF => (List.not_mem_nil hF).elim) (fun k _ F hF => (List.not_mem_nil hF).elim) rfl (fun i _ _ c hc => hc) ⟨f, rfl⟩, ?_, ?_⟩
  · simp [rb_up, va_up]
  · have : ad 67 0 ≠ ad 66 0 := W.1.ne rfl rfl (by decide)
    simp [rb_up, va_up, this]
    exact W.2.2
theorem WS.setB {fI fB f : Nat → Int32} (W : WS g ms ad h ms0 M fI fB) : WS g ms ad h ms0 (rb_up M (ad 67 0) (rb_I 24 f)) fI f := by
  refine ⟨W.1.put 67 0 [] (fun F _ => ⟨rfl, rfl⟩) (fun F hF => (List.not_mem_nil hF).elim) (fun k _ F hF => (List.not_mem_nil hF).elim) rfl (fun i _ _ c hc => hc) ⟨f, rfl⟩, ?_, ?_⟩
  · have : ad 66 0 ≠ ad 67 0 := W.1.ne rfl rfl (by decide)
    simp [rb_up, va_up, this]
    exact W.2.1
  · simp [rb_up, va_up]
/-- what take does -/
def Tk (ms : mm_S) (p : Nat) (f f' : Nat → Int32) : Prop := (∀ q, f q ≠ 0 → f' q ≠ 0) ∧ f' p ≠ 0 ∧ (∀ q k, q < nN ms 0 0 → (q = p ∨ f q = 0) → f' q ≠ 0 → k < nN ms 4 q → f' (nN ms 5 (4 * q + k)) ≠ 0) ∧ (∀ S : Nat → Prop, S p → (∀ q k, q < nN ms 0 0 → S q → k < nN ms 4 q → S (nN ms 5 (4 * q + k))) → ∀ q, f' q ≠ 0 → f q ≠ 0 ∨ S q) ∧ (isZ f → isZ f')
theorem X0_takeLoop {κ : rb_K} {p : Nat} {fB f0 : Nat → Int32} (hκ : κ.1 = g) (I : Inv B ms) (hp : p < nN ms 0 0) (hd2 : rb_dp κ 2) (hz : rb_rom κ (0, 0)) (hf : rb_fin κ (0, 0))
    (rec : ∀ q, q < p → ∀ (M : rb_H) (f : Nat → Int32), WS g ms ad h ms0 M f fB → rb_Ct g yX0_take wX0_take (q + 3) (0, 0) [.ref (ad 0 0), .ref (ad 4 q)] M (fun o M' => o = .returned none ∧ M'.1 = M.1 ∧ ∃ f', WS g ms ad h ms0 M' f' fB ∧ Tk ms q f f'))
    (hdr : ∀ q, q < p → rb_dp κ (q + 3)) (N1 : Nat)
    (hP : ∀ M' f', WS g ms ad h ms0 M' f' fB → M'.1 = N1 → Tk ms p f0 f' → κ.2.2.1 (.returned none) M') :
    ∀ j, j ≤ nN ms 4 p → ∀ (M : rb_H) (f : Nat → Int32), WS g ms ad h ms0 M f fB → M.1 = N1 → (∀ q, f0 q ≠ 0 → f q ≠ 0) → f p ≠ 0 → (∀ q k, q < nN ms 0 0 → f0 q = 0 → q ≠ p → f q ≠ 0 → k < nN ms 4 q → f (nN ms 5 (4 * q + k)) ≠ 0) → (∀ k, j ≤ k → k < nN ms 4 p → f (nN ms 5 (4 * p + k)) ≠ 0) → (∀ S : Nat → Prop, S p → (∀ q k, q < nN ms 0 0 → S q → k < nN ms 4 q → S (nN ms 5 (4 * q + k))) → ∀ q, f q ≠ 0 → f0 q ≠ 0 ∨ S q) → (isZ f0 → isZ f) → rb_Bd κ mX0_take (0, 0) M 20 [some (.ref (ad 0 0)), some (.ref (ad 4 p)), some (.int (nI j + -1))] [] := by
  subst hκ
  have D := I.dr
  have hP0 := I.pn
  have hE := D.E hp
  intro j
  induction j with
  | zero =>
    intro _ M f W hM h1 h2 h3 h4 h5 h6
    refine sgX0_take_20 (rb_isR_ref _) ⟨fun _ => ⟨hf, hP M f W hM ⟨h1, h2, fun q k k1 k2 k3 k4 => ?_, h5, h6⟩⟩, fun q => absurd q (by decide)⟩
    by_cases e : q = p
    · subst e; exact h4 k (by omega) k4
    · exact h3 q k k1 (k2.resolve_left e) e k3 k4
  | succ j ih =>
    intro hj M f W hM h1 h2 h3 h4 h5 h6
    have e1 : nI (j + 1) + -1 = nI j := (Int32.sub_eq_add_neg _ _).symm.trans (nI_pred j)
    rw [e1]
    obtain ⟨R, w66, w67⟩ := W
    obtain ⟨sg, hm⟩ := R.main
    have hl := R.ls 4 p (by decide) hp
    have hx := D.ex hp (show j < nN ms 4 p by omega)
    have hG := J4_get hl (show j < lenL ms 4 p by show j < nN ms 4 p; omega)
    have hG : rb_Ct κ.1 yJ4_get wJ4_get 2 (0, 0) [.ref (ad 24 p), .int (nI j)] M (qr (some (.ref (ad 4 (nN ms 5 (4 * p + j))))) M) := hG
    have hq := R.part (p := nN ms 5 (4 * p + j)) (by omega)
    refine sgX0_take_20 (rb_isR_ref _) ⟨fun q => absurd q (nI_pos (by omega)), fun _ => ⟨_, ⟨_, hm, rfl⟩, rb_isR_ref _, _, rfl, _, ⟨_, R.part hp, rfl⟩, rb_isR_ref _, _, rfl, uRo hG hd2 hz hl.ob ⟨_, rfl, 5, ⟨_, hq⟩, cc_5, _, ⟨_, hq, rfl⟩, _, rfl, 24, f, _, w66, vp_in_nI (by omega) (by decide), rfl, fun k0 => ?_, fun k0 => ?_⟩⟩⟩
    · rw [nI_clamp (by omega)] at k0
      refine ih (by omega) M f ⟨R, w66, w67⟩ hM h1 h2 h3 (fun k k1 k2 => ?_) h5 h6
      rcases Nat.lt_or_ge j k with r | r
      · exact h4 k r k2
      · obtain rfl : k = j := by omega
        exact k0
    · rw [nI_clamp (by omega)] at k0
      refine ⟨_, ⟨_, R.part hp, rfl⟩, rb_isR_ref _, _, rfl, uRo hG hd2 hz hl.ob ⟨_, rfl, 5, ⟨_, hq⟩, cc_5, _, _, _, rec _ hx.1 M f ⟨R, w66, w67⟩, hdr _ hx.1, hz, R.ob0, ?_⟩⟩
      rintro _ M' ⟨rfl, hM', f', W', t1, t2, t3, t4, t5⟩
      refine ⟨rfl, ih (by omega) M' f' W' (hM'.trans hM) (fun q k => t1 q (h1 q k)) (t1 p h2) (fun q k k1 k2 k3 k4 k5 => ?_) (fun k k1 k2 => ?_) (fun S s1 s2 q k => ?_) (fun z => t5 (h6 z))⟩
      · by_cases e : f q = 0
        · exact t3 q k k1 (Or.inr e) k4 k5
        · exact t1 _ (h3 q k k1 k2 k3 e k5)
      · rcases Nat.lt_or_ge j k with r | r
        · exact t1 _ (h4 k r k2)
        · obtain rfl : k = j := by omega
          exact t2
      · rcases t4 S (s2 p j hp s1 (by omega)) s2 q k with r | r
        · exact h5 S s1 s2 q r
        · exact Or.inr r
theorem X0_take (I : Inv B ms) {fB : Nat → Int32} : ∀ p, p < nN ms 0 0 → ∀ (M : rb_H) (f : Nat → Int32), WS g ms ad h ms0 M f fB → rb_Ct g yX0_take wX0_take (p + 3) (0, 0) [.ref (ad 0 0), .ref (ad 4 p)] M (fun o M' => o = .returned none ∧ M'.1 = M.1 ∧ ∃ f', WS g ms ad h ms0 M' f' fB ∧ Tk ms p f f') := by
  have D := I.dr
  have hP0 := I.pn
  intro p
  induction p using Nat.strongRecOn with
  | _ p ih =>
    intro hp M f W
    have hE := D.E hp
    obtain ⟨R, w66, w67⟩ := W
    obtain ⟨sg, hm⟩ := R.main
    have W1 : WS g ms ad h ms0 (rb_up M (ad 66 0) (rb_Z 24 (va_up f p 1))) (va_up f p 1) fB := WS.setI ⟨R, w66, w67⟩
    have hl := W1.1.ls 4 p (by decide) hp
    refine rb_Ct.of (by decide) (Nat.le_of_ble_eq_true rfl) rfl ?_
    refine sgX0_take_0 (rb_isR_ref _) ⟨_, ⟨_, hm, rfl⟩, rb_isR_ref _, _, rfl, _, ⟨_, R.part hp, rfl⟩, _, rfl, 24, f, w66, vp_in_nI (by omega) (by decide), rfl, ?_⟩
    rw [nI_clamp (by omega)]
    refine ⟨_, ⟨_, W1.1.part hp, rfl⟩, rb_isR_ref _, _, rfl, uIo (J4_size hl) (rb_dpk (by omega)) zr hl.ob ?_⟩
    rw [Int32.sub_eq_add_neg]
    refine X0_takeLoop (κ := (g, rb_rm (p + 3) (0, 0), (fun o M' => o = .returned none ∧ M'.1 = M.1 ∧ ∃ f', WS g ms ad h ms0 M' f' fB ∧ Tk ms p f f'), (0, 0))) (f0 := f) (fB := fB) rfl I hp (rb_dpk (by omega)) zr zf (fun q hq M f W => ih q hq (by omega) M f W) (fun q hq => rb_dpk (by omega)) M.1 (fun M' f' W' e t => ⟨rfl, e, f', W', t⟩) (nN ms 4 p) (Nat.le_refl _) _ _ W1 rfl (fun q k => up_ne.mpr (Or.inl k)) (up_ne.mpr (Or.inr rfl)) (fun q k _ k2 k3 k4 => ?_) (fun k k1 k2 => by omega) (fun S s1 _ q k => ?_) (fun z => z.up p)
    · exact absurd ((up_ne.mp k4).resolve_right k3) (by rw [k2]; exact fun z => z rfl)
    · rcases up_ne.mp k with r | r
      · exact Or.inl r
      · exact Or.inr (r ▸ s1)
end V1
