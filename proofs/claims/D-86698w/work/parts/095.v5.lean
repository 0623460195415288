set_option maxRecDepth 100000
/-! weaving, the class's side: layOrder's loops (2) -/
section V5
variable {g : rb_G} {ms ms0 : mm_S} {ad : aD} {h : Nat} {B : Nat} {κ : rb_K} {N1 : Nat}
/-- what the first n that x extends tell -/
def E1 (ms : mm_S) (x n a b : Nat) : Prop := (∃ t, t < n ∧ b = x ∧ nN ms 5 (4 * x + t) = a) ∨ ∃ s t, s < t ∧ t < n ∧ nN ms 5 (4 * x + s) = a ∧ nN ms 5 (4 * x + t) = b
def E2 (ms : mm_S) (x i j a b : Nat) : Prop := E1 ms x i a b ∨ (b = x ∧ nN ms 5 (4 * x + i) = a) ∨ ∃ s, s < j ∧ nN ms 5 (4 * x + s) = a ∧ nN ms 5 (4 * x + i) = b
theorem E2_E1 {x i a b : Nat} : E2 ms x i i a b ↔ E1 ms x (i + 1) a b := by
  unfold E2 E1
  constructor
  · rintro ((⟨t, t1, t2⟩ | ⟨s, t, t1, t2, t3⟩) | ⟨r1, r2⟩ | ⟨s, s1, s2⟩)
    · exact Or.inl ⟨t, by omega, t2⟩
    · exact Or.inr ⟨s, t, t1, by omega, t3⟩
    · exact Or.inl ⟨i, by omega, r1, r2⟩
    · exact Or.inr ⟨s, i, s1, by omega, s2⟩
  · rintro (⟨t, t1, t2, t3⟩ | ⟨s, t, t1, t2, t3, t4⟩)
    · rcases Nat.lt_or_ge t i with r | r
      · exact Or.inl (Or.inl ⟨t, r, t2, t3⟩)
      · obtain rfl : t = i := by omega
        exact Or.inr (Or.inl ⟨t2, t3⟩)
    · rcases Nat.lt_or_ge t i with r | r
      · exact Or.inl (Or.inr ⟨s, t, t1, r, t3, t4⟩)
      · obtain rfl : t = i := by omega
        exact Or.inr (Or.inr ⟨s, t1, t3, t4⟩)
theorem X0_lay167 (hκ : κ.1 = g) (I : Inv B ms) {x i : Nat} {fI : Nat → Int32} {Q : Nat → Nat → Prop} (hx : x < nN ms 0 0) (hi : i < nN ms 4 x) (hd : rb_dp κ 2) (hz : rb_rom κ (0, 0)) (K : ∀ M fB, WS g ms ad h ms0 M fI fB → M.1 = N1 → bits fB (fun a b => Q a b ∨ E2 ms x i i a b) → rb_Bd κ mX0_layOrder (0, 0) M 128 [some (.ref (ad 0 0)), some (.int (nI x)), some (.ref (ad 4 x)), some (.int (nI (i + 1))), none] []) :
    ∀ d j, j + d = i → ∀ M fB, WS g ms ad h ms0 M fI fB → M.1 = N1 → bits fB (fun a b => Q a b ∨ E2 ms x i j a b) → rb_Bd κ mX0_layOrder (0, 0) M 167 [some (.ref (ad 0 0)), some (.int (nI x)), some (.ref (ad 4 x)), some (.int (nI i)), some (.int (nI j))] [] := by
  subst hκ
  have D := I.dr
  have hP0 := I.pn
  have hE := D.E hx
  intro d
  induction d with
  | zero =>
    intro j hj M fB W hM hb
    obtain rfl : j = i := by omega
    refine sgX0_layOrder_167 (rb_isR_ref _) ⟨fun _ => ?_, fun q => absurd q (nI_nlt (Nat.le_refl _) (by omega))⟩
    rw [nI_1]
    exact rb_weak (by simp [rb_wk]) (K M fB W hM hb)
  | succ d ih =>
    intro j hj M fB W hM hb
    have hl := W.1.ls 4 x (by decide) hx
    have nj := D.ex (k := j) hx (by omega)
    have ni := D.ex (k := i) hx hi
    have hG1 : rb_Ct κ.1 yJ4_get wJ4_get 2 (0, 0) [.ref (ad 24 x), .int (nI j)] M (qr (some (.ref (ad 4 (nN ms 5 (4 * x + j))))) M) := J4_get hl (show j < nN ms 4 x by omega)
    have hG2 : rb_Ct κ.1 yJ4_get wJ4_get 2 (0, 0) [.ref (ad 24 x), .int (nI i)] M (qr (some (.ref (ad 4 (nN ms 5 (4 * x + i))))) M) := J4_get hl hi
    refine sgX0_layOrder_167 (rb_isR_ref _) ⟨fun q => absurd q (nI_ge (by omega) (by omega)), fun _ => ⟨_, rfl, _, ⟨_, W.1.part hx, rfl⟩, rb_isR_ref _, _, rfl, uRo hG1 hd hz hl.ob ⟨_, rfl, 5, W.1.obP (by omega), cc_5, _, ⟨_, W.1.part hx, rfl⟩, rb_isR_ref _, _, rfl, uRo hG2 hd hz hl.ob ⟨_, rfl, 5, W.1.obP (by omega), cc_5, _, _, _, X0_stands I W (by omega) (by omega), rb_dp_le hd (by decide), hz, W.1.ob0, ?_⟩⟩⟩⟩
    rintro _ _ ⟨rfl, rfl⟩
    refine ⟨rfl, ?_⟩
    rw [nI_1]
    refine ih (j + 1) (by omega) _ _ W.setB hM (fun a b ha hb' => ?_)
    rw [stB_bt (by omega) hb', hb a b ha hb']
    unfold E2
    constructor
    · rintro ((r | r | r | ⟨s, s1, s2⟩) | ⟨r1, r2⟩)
      · exact Or.inl r
      · exact Or.inr (Or.inl r)
      · exact Or.inr (Or.inr (Or.inl r))
      · exact Or.inr (Or.inr (Or.inr ⟨s, by omega, s2⟩))
      · exact Or.inr (Or.inr (Or.inr ⟨j, by omega, r1.symm, r2.symm⟩))
    · rintro (r | r | r | ⟨s, s1, s2⟩)
      · exact Or.inl (Or.inl r)
      · exact Or.inl (Or.inr (Or.inl r))
      · exact Or.inl (Or.inr (Or.inr (Or.inl r)))
      · rcases Nat.lt_or_ge s j with z | z
        · exact Or.inl (Or.inr (Or.inr (Or.inr ⟨s, z, s2⟩)))
        · obtain rfl : s = j := by omega
          exact Or.inr ⟨s2.1.symm, s2.2.symm⟩
theorem X0_lay128 (hκ : κ.1 = g) (I : Inv B ms) {x : Nat} {fI : Nat → Int32} {Q : Nat → Nat → Prop} (hx : x < nN ms 0 0) (hin : fI x ≠ 0) (hd : rb_dp κ 2) (hz : rb_rom κ (0, 0)) (K : ∀ M fB, WS g ms ad h ms0 M fI fB → M.1 = N1 → bits fB (fun a b => Q a b ∨ E1 ms x (nN ms 4 x) a b) → rb_Bd κ mX0_layOrder (0, 0) M 103 [some (.ref (ad 0 0)), some (.int (nI (x + 1))), none, none, none] []) :
    ∀ d i, i + d = nN ms 4 x → ∀ M fB, WS g ms ad h ms0 M fI fB → M.1 = N1 → bits fB (fun a b => Q a b ∨ E1 ms x i a b) → rb_Bd κ mX0_layOrder (0, 0) M 128 [some (.ref (ad 0 0)), some (.int (nI x)), some (.ref (ad 4 x)), some (.int (nI i)), none] [] := by
  subst hκ
  have D := I.dr
  have hP0 := I.pn
  have hE := D.E hx
  intro d
  induction d with
  | zero =>
    intro i hi M fB W hM hb
    obtain rfl : i = nN ms 4 x := by omega
    have hl := W.1.ls 4 x (by decide) hx
    refine sgX0_layOrder_128 (rb_isR_ref _) ⟨_, rfl, _, ⟨_, W.1.part hx, rfl⟩, rb_isR_ref _, _, rfl, uIo (J4_size hl) (rb_dp_le hd (by decide)) hz hl.ob ⟨fun _ => ?_, fun q => absurd q (nI_nlt (Nat.le_refl _) (by omega))⟩⟩
    rw [nI_1]
    exact rb_weak (by simp [rb_wk]) (K M fB W hM hb)
  | succ d ih =>
    intro i hi M fB W hM hb
    obtain ⟨sg, hm⟩ := W.1.main
    have hl := W.1.ls 4 x (by decide) hx
    have ni := D.ex (k := i) hx (by omega)
    have hG2 : rb_Ct κ.1 yJ4_get wJ4_get 2 (0, 0) [.ref (ad 24 x), .int (nI i)] M (qr (some (.ref (ad 4 (nN ms 5 (4 * x + i))))) M) := J4_get hl (show i < nN ms 4 x by omega)
    refine sgX0_layOrder_128 (rb_isR_ref _) ⟨_, rfl, _, ⟨_, W.1.part hx, rfl⟩, rb_isR_ref _, _, rfl, uIo (J4_size hl) (rb_dp_le hd (by decide)) hz hl.ob ⟨fun q => absurd q (nI_ge (show i < nN ms 4 x by omega) (show nN ms 4 x < 2 ^ 31 by omega)), fun _ => ⟨_, ⟨_, hm, rfl⟩, rb_isR_ref _, _, rfl, 24, fI, _, W.2.1, vp_in_nI (by omega) (by decide), rfl, ?_⟩⟩⟩
    rw [nI_clamp (by omega)]
    refine ⟨fun q => absurd q hin, fun _ => ⟨_, ⟨_, W.1.part hx, rfl⟩, rb_isR_ref _, _, rfl, uRo hG2 hd hz hl.ob ⟨_, rfl, 5, W.1.obP (by omega), cc_5, _, _, _, X0_stands I W (by omega) hx, rb_dp_le hd (by decide), hz, W.1.ob0, ?_⟩⟩⟩
    rintro _ _ ⟨rfl, rfl⟩
    refine ⟨rfl, ?_⟩
    refine X0_lay167 rfl I (Q := Q) hx (by omega) hd hz (fun M2 fB2 W2 hM2 hb2 => ih (i + 1) (by omega) M2 fB2 W2 hM2 (fun a b ha hb' => ?_)) i 0 (Nat.zero_add _) _ _ W.setB hM (fun a b ha hb' => ?_)
    · rw [hb2 a b ha hb']
      show (Q a b ∨ E2 ms x i i a b) ↔ (Q a b ∨ E1 ms x (i + 1) a b)
      rw [E2_E1]
    · rw [stB_bt (by omega) hb', hb a b ha hb']
      unfold E2
      constructor
      · rintro ((r | r) | ⟨r1, r2⟩)
        · exact Or.inl r
        · exact Or.inr (Or.inl r)
        · exact Or.inr (Or.inr (Or.inl ⟨r2, r1.symm⟩))
      · rintro (r | r | ⟨r1, r2⟩ | ⟨s, s1, s2⟩)
        · exact Or.inl (Or.inl r)
        · exact Or.inl (Or.inr r)
        · exact Or.inr ⟨r2.symm, r1⟩
        · omega
def QX (ms : mm_S) (f : Nat → Int32) (x a b : Nat) : Prop := ∃ y, y < x ∧ f y ≠ 0 ∧ E1 ms y (nN ms 4 y) a b
theorem X0_lay103 (hκ : κ.1 = g) (I : Inv B ms) {fI : Nat → Int32} {Q : Nat → Nat → Prop} (hd : rb_dp κ 2) (hz : rb_rom κ (0, 0)) (K : ∀ M fB, WS g ms ad h ms0 M fI fB → M.1 = N1 → bits fB (fun a b => Q a b ∨ QX ms fI (nN ms 0 0) a b) → rb_Bd κ mX0_layOrder (0, 0) M 220 [some (.ref (ad 0 0)), some (.int 0), none, none, none] []) :
    ∀ d x, x + d = nN ms 0 0 → ∀ M fB, WS g ms ad h ms0 M fI fB → M.1 = N1 → bits fB (fun a b => Q a b ∨ QX ms fI x a b) → rb_Bd κ mX0_layOrder (0, 0) M 103 [some (.ref (ad 0 0)), some (.int (nI x)), none, none, none] [] := by
  subst hκ
  have D := I.dr
  have hP0 := I.pn
  intro d
  induction d with
  | zero =>
    intro x hx M fB W hM hb
    obtain rfl : x = nN ms 0 0 := by omega
    obtain ⟨sg, hm⟩ := W.1.main
    have hl := W.1.ls 0 0 (by decide) rfl
    exact sgX0_layOrder_103 ⟨_, ⟨_, hm, rfl⟩, rb_isR_ref _, _, rfl, uIo (J4_size hl) (rb_dp_le hd (by decide)) hz hl.ob ⟨fun _ => K M fB W hM hb, fun q => absurd q (nI_nlt (Nat.le_refl _) (by omega))⟩⟩
  | succ d ih =>
    intro x hx M fB W hM hb
    have hxx : x < nN ms 0 0 := by omega
    have hE := D.E hxx
    obtain ⟨sg, hm⟩ := W.1.main
    have hl := W.1.ls 0 0 (by decide) rfl
    have hG2 : rb_Ct κ.1 yJ4_get wJ4_get 2 (0, 0) [.ref (ad 20 0), .int (nI x)] M (qr (some (.ref (ad 4 x))) M) := J4_get hl hxx
    refine sgX0_layOrder_103 ⟨_, ⟨_, hm, rfl⟩, rb_isR_ref _, _, rfl, uIo (J4_size hl) (rb_dp_le hd (by decide)) hz hl.ob ⟨fun q => absurd q (nI_ge hxx (show nN ms 0 0 < 2 ^ 31 by omega)), fun _ => ⟨_, ⟨_, hm, rfl⟩, rb_isR_ref _, _, rfl, uRo hG2 hd hz hl.ob ⟨_, rfl, 5, W.1.obP hxx, cc_5, ?_⟩⟩⟩⟩
    by_cases hin : fI x = 0
    · have next : rb_Bd κ mX0_layOrder (0, 0) M 103 [some (.ref (ad 0 0)), some (.int (nI (x + 1))), none, none, none] [] := by
        refine ih (x + 1) (by omega) M fB W hM (fun a b ha hb' => ?_)
        rw [hb a b ha hb']
        unfold QX
        constructor
        · rintro (r | ⟨y, y1, y2⟩)
          · exact Or.inl r
          · exact Or.inr ⟨y, by omega, y2⟩
        · rintro (r | ⟨y, y1, y2, y3⟩)
          · exact Or.inl r
          · rcases Nat.lt_or_ge y x with z | z
            · exact Or.inr ⟨y, z, y2, y3⟩
            · obtain rfl : y = x := by omega
              exact absurd hin y2
      have hl4 := W.1.ls 4 x (by decide) hxx
      refine sgX0_layOrder_128 (rb_isR_ref _) ⟨_, rfl, _, ⟨_, W.1.part hxx, rfl⟩, rb_isR_ref _, _, rfl, uIo (J4_size hl4) (rb_dp_le hd (by decide)) hz hl4.ob ⟨fun _ => ?_, fun _ => ⟨_, ⟨_, hm, rfl⟩, rb_isR_ref _, _, rfl, 24, fI, _, W.2.1, vp_in_nI (by omega) (by decide), rfl, ?_⟩⟩⟩
      · rw [nI_1]
        exact rb_weak (by simp [rb_wk]) next
      · rw [nI_clamp (by omega)]
        refine ⟨fun _ => ?_, fun q => absurd hin q⟩
        rw [nI_1]
        exact rb_weak (by simp [rb_wk]) next
    · refine X0_lay128 rfl I (Q := fun a b => Q a b ∨ QX ms fI x a b) hxx hin hd hz (fun M2 fB2 W2 hM2 hb2 => ih (x + 1) (by omega) M2 fB2 W2 hM2 (fun a b ha hb' => ?_)) (nN ms 4 x) 0 (Nat.zero_add _) M fB W hM (fun a b ha hb' => ?_)
      · rw [hb2 a b ha hb']
        unfold QX
        constructor
        · rintro ((r | ⟨y, y1, y2⟩) | r)
          · exact Or.inl r
          · exact Or.inr ⟨y, by omega, y2⟩
          · exact Or.inr ⟨x, by omega, hin, r⟩
        · rintro (r | ⟨y, y1, y2, y3⟩)
          · exact Or.inl (Or.inl r)
          · rcases Nat.lt_or_ge y x with z | z
            · exact Or.inl (Or.inr ⟨y, z, y2, y3⟩)
            · obtain rfl : y = x := by omega
              exact Or.inr y3
      · rw [hb a b ha hb']
        refine ⟨Or.inl, fun r => r.resolve_right ?_⟩
        unfold E1
        rintro (⟨t, t1, -⟩ | ⟨s, t, -, t1, -⟩) <;> omega
end V5
