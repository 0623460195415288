set_option maxRecDepth 100000
/-! weaving, the class's side: layOrder -/
section V6
variable {g : rb_G} {ms ms0 : mm_S} {ad : aD} {h : Nat} {B : Nat} {κ : rb_K} {N1 : Nat} {M : rb_H}
def QW (ms : mm_S) (f : Nat → Int32) (k a b : Nat) : Prop := ∃ w, w < k ∧ f (nN ms 8 w) ≠ 0 ∧ f (nN ms 9 w) ≠ 0 ∧ nN ms 8 w = a ∧ nN ms 9 w = b
theorem Dr.wt {ms : mm_S} (D : Dr ms) {k : Nat} (h : k < nN ms 7 0) : nN ms 8 k < nN ms 0 0 ∧ nN ms 9 k < nN ms 0 0 ∧ nN ms 8 k ≠ nN ms 9 k ∧ ms.1 8 k = nI (nN ms 8 k) ∧ ms.1 9 k = nI (nN ms 9 k) := by
  obtain ⟨a, b, h1, h2, h3, h4, h5⟩ := D.2.1.2 k h
  have hP := D.P
  have e1 : nN ms 8 k = a := by unfold nN; rw [h4, nI_clamp (by omega)]
  have e2 : nN ms 9 k = b := by unfold nN; rw [h5, nI_clamp (by omega)]
  rw [e1, e2]
  exact ⟨h1, h2, h3, h4, h5⟩
theorem X0_lay220 (hκ : κ.1 = g) (I : Inv B ms) {fI : Nat → Int32} {Q : Nat → Nat → Prop} (hf : rb_fin κ (0, 0)) (K : ∀ M fB, WS g ms ad h ms0 M fI fB → M.1 = N1 → bits fB (fun a b => Q a b ∨ QW ms fI (nN ms 7 0) a b) → κ.2.2.1 (.returned none) M) :
    ∀ d k, k + d = nN ms 7 0 → ∀ M fB, WS g ms ad h ms0 M fI fB → M.1 = N1 → bits fB (fun a b => Q a b ∨ QW ms fI k a b) → rb_Bd κ mX0_layOrder (0, 0) M 220 [some (.ref (ad 0 0)), some (.int (nI k)), none, none, none] [] := by
  subst hκ
  have D := I.dr
  have hP0 := I.pn
  have hW := D.2.1.1.n (by decide)
  intro d
  induction d with
  | zero =>
    intro k hk M fB W hM hb
    obtain rfl : k = nN ms 7 0 := by omega
    obtain ⟨sg, hm⟩ := W.1.main
    exact sgX0_layOrder_220 ⟨_, ⟨_, hm, rfl⟩, fun _ => ⟨hf, K M fB W hM hb⟩, fun q => absurd q (by rw [hW.1]; exact nI_nlt (Nat.le_refl _) (by omega))⟩
  | succ d ih =>
    intro k hk M fB W hM hb
    obtain ⟨sg, hm⟩ := W.1.main
    obtain ⟨w1, w2, w3, w4, w5⟩ := D.wt (k := k) (by omega)
    obtain ⟨c3, h53, f3, rfl, e3⟩ := W.1.1 53 0 rfl
    obtain ⟨c4, h54, f4, rfl, e4⟩ := W.1.1 54 0 rfl
    have e3 := (e3 k (by omega)).trans w4
    have e4 := (e4 k (by omega)).trans w5
    have v30 : vp_in (nI k) 30 := vp_in_nI (by omega) (by decide)
    have v1 : vp_in (nI (nN ms 8 k)) 24 := vp_in_nI (by omega) (by decide)
    have v2 : vp_in (nI (nN ms 9 k)) 24 := vp_in_nI (by omega) (by decide)
    have skip : (fI (nN ms 8 k) = 0 ∨ fI (nN ms 9 k) = 0) → rb_Bd κ mX0_layOrder (0, 0) M 220 [some (.ref (ad 0 0)), some (.int (nI (k + 1))), none, none, none] [] := by
      intro hs
      refine ih (k + 1) (by omega) M fB W hM (fun a b ha hb' => ?_)
      rw [hb a b ha hb']
      unfold QW
      constructor
      · rintro (r | ⟨w, z1, z2⟩)
        · exact Or.inl r
        · exact Or.inr ⟨w, by omega, z2⟩
      · rintro (r | ⟨w, z1, z2, z3, z4⟩)
        · exact Or.inl r
        · rcases Nat.lt_or_ge w k with q | q
          · exact Or.inr ⟨w, q, z2, z3, z4⟩
          · obtain rfl : w = k := by omega
            exact (hs.elim z2 z3).elim
    have c8 : (nI (nN ms 8 k)).toNatClampNeg = nN ms 8 k := nI_clamp (by omega)
    have c9 : (nI (nN ms 9 k)).toNatClampNeg = nN ms 9 k := nI_clamp (by omega)
    have ck : (nI k).toNatClampNeg = k := nI_clamp (by omega)
    refine sgX0_layOrder_220 ⟨_, ⟨_, hm, rfl⟩, fun q => absurd q (by rw [hW.1]; exact nI_ge (by omega) (by omega)), fun _ => ⟨_, ⟨_, hm, rfl⟩, rb_isR_ref _, _, ⟨_, hm, rfl⟩, rb_isR_ref _, _, rfl, 30, f3, nI (nN ms 8 k), h53, v30, by rw [ck]; exact e3, _, rfl, 24, fI, fI (nN ms 8 k), W.2.1, v1, by rw [c8], fun q1 => ?_, fun q1 => ⟨_, ⟨_, hm, rfl⟩, rb_isR_ref _, _, ⟨_, hm, rfl⟩, rb_isR_ref _, _, rfl, 30, f4, nI (nN ms 9 k), h54, v30, by rw [ck]; exact e4, _, rfl, 24, fI, fI (nN ms 9 k), W.2.1, v2, by rw [c9], fun q2 => ?_, fun q2 => ⟨_, ⟨_, hm, rfl⟩, rb_isR_ref _, _, ⟨_, hm, rfl⟩, rb_isR_ref _, _, rfl, 30, f3, nI (nN ms 8 k), h53, v30, by rw [ck]; exact e3, _, rfl, 24, fB, fB (nN ms 8 k), W.2.2, v1, by rw [c8], _, ⟨_, hm, rfl⟩, rb_isR_ref _, _, rfl, 30, f4, nI (nN ms 9 k), h54, v30, by rw [ck]; exact e4, 24, fB, W.2.2, v1, ?_⟩⟩⟩⟩
    · rw [nI_1]; exact skip (Or.inl q1)
    · rw [nI_1]; exact skip (Or.inr q2)
    · rw [nI_1, c8]
      refine ih (k + 1) (by omega) _ (stB fB (nN ms 8 k) (nN ms 9 k)) W.setB hM (fun a b ha hb' => ?_)
      rw [stB_bt (by omega) hb', hb a b ha hb']
      unfold QW
      constructor
      · rintro ((r | ⟨w, z1, z2⟩) | ⟨r1, r2⟩)
        · exact Or.inl r
        · exact Or.inr ⟨w, by omega, z2⟩
        · exact Or.inr ⟨k, by omega, q1, q2, r1.symm, r2.symm⟩
      · rintro (r | ⟨w, z1, z2, z3, z4⟩)
        · exact Or.inl (Or.inl r)
        · rcases Nat.lt_or_ge w k with q | q
          · exact Or.inl (Or.inr ⟨w, q, z2, z3, z4⟩)
          · obtain rfl : w = k := by omega
            exact Or.inr ⟨z4.1.symm, z4.2.symm⟩
theorem ordQ {fI : Nat → Int32} (D : Dr ms) (hI : ∀ q, q < 24 → (fI q ≠ 0 ↔ Cl ms q)) {a b : Nat} (ha : Cl ms a) (hb : Cl ms b) : ((QN ms (nN ms 16 0) 0 a b ∨ QX ms fI (nN ms 0 0) a b) ∨ QW ms fI (nN ms 7 0) a b) ↔ (a ≠ b ∧ Ah ms (Cl ms) a b) := by
  have hP := D.P
  have la := ha.lt D
  have lb := hb.lt D
  have num : ∀ {k i : Nat} {p : Nat}, p < 24 → ms.1 k i = nI (nN ms k i) → (nN ms k i < 24) → (ms.1 k i = nI p ↔ nN ms k i = p) := by
    intro k i p hp e hl
    rw [e, nI_eq (by omega) (by omega)]
  constructor
  · rintro ((r | ⟨y, y1, y2, y3⟩) | ⟨w, w1, w2, w3, w4, w5⟩)
    · rcases r with ⟨x, y, z1, z2, z3, z4⟩ | ⟨x, x1, -⟩
      · have nx := D.nm (k := x) (by omega)
        have ny := D.nm (k := y) (by omega)
        have ex : ms.1 17 x = nI a := by rw [nx.2, z3]
        have ey : ms.1 17 y = nI b := by rw [ny.2, z4]
        refine ⟨fun e => D.2.2.1.2.2 x y z1 z2 (by rw [ex, ey, e]), Or.inr (Or.inr (Or.inl ⟨x, y, z1, z2, ex, ey⟩))⟩
      · omega
    · have cy : Cl ms y := (hI y (by omega)).mp y2
      rcases y3 with ⟨t, t1, rfl, t3⟩ | ⟨s, t, t1, t2, t3, t4⟩
      · have nt := D.ex (k := t) y1 t1
        exact ⟨by omega, Or.inl ⟨t, t1, by rw [nt.2, t3]⟩⟩
      · have ns := D.ex (k := s) y1 (by omega)
        have nt := D.ex (k := t) y1 t2
        have es : ms.1 5 (4 * y + s) = nI a := by rw [ns.2, t3]
        have et : ms.1 5 (4 * y + t) = nI b := by rw [nt.2, t4]
        exact ⟨fun e => (D.1.2.1 y y1).2.2.2.2.2 s t t1 t2 (by rw [es, et, e]), Or.inr (Or.inl ⟨y, y1, cy, s, t, t1, t2, es, et⟩)⟩
    · have nw := D.wt w1
      exact ⟨by omega, Or.inr (Or.inr (Or.inr ⟨w, w1, by rw [nw.2.2.2.1, w4], by rw [nw.2.2.2.2, w5]⟩))⟩
  · rintro ⟨hne, r | ⟨x, x1, x2, s, t, t1, t2, es, et⟩ | ⟨x, y, z1, z2, ex, ey⟩ | ⟨w, w1, w2, w3⟩⟩
    · obtain ⟨k, k1, k2⟩ := r
      have nk := D.ex (k := k) lb k1
      exact Or.inl (Or.inr ⟨b, lb, (hI b (by omega)).mpr hb, Or.inl ⟨k, k1, rfl, (num (by omega) nk.2 (by omega)).mp k2⟩⟩)
    · have ns := D.ex (k := s) x1 (by omega)
      have nt := D.ex (k := t) x1 t2
      exact Or.inl (Or.inr ⟨x, x1, (hI x (by omega)).mpr x2, Or.inr ⟨s, t, t1, t2, (num (by omega) ns.2 (by omega)).mp es, (num (by omega) nt.2 (by omega)).mp et⟩⟩)
    · have nx := D.nm (k := x) (by omega)
      have ny := D.nm (k := y) (by omega)
      exact Or.inl (Or.inl (Or.inl ⟨x, y, z1, z2, (num (by omega) nx.2 (by omega)).mp ex, (num (by omega) ny.2 (by omega)).mp ey⟩))
    · have nw := D.wt w1
      have e1 := (num (by omega) nw.2.2.2.1 (by omega)).mp w2
      have e2 := (num (by omega) nw.2.2.2.2 (by omega)).mp w3
      exact Or.inr ⟨w, w1, by rw [e1]; exact (hI a (by omega)).mpr ha, by rw [e2]; exact (hI b (by omega)).mpr hb, e1, e2⟩
/-- the order as it lies in behind -/
def ordB (ms : mm_S) (fB : Nat → Int32) : Prop := ∀ a b, Cl ms a → Cl ms b → (bt (fB a) b ↔ (a ≠ b ∧ Ah ms (Cl ms) a b))
theorem X0_layOrder (R : Rep g ms ad h ms0 M) (I : Inv B ms) : rb_Ct g yX0_layOrder wX0_layOrder 27 (0, 0) [.ref (ad 0 0)] M (fun o M' => o = .returned none ∧ M'.1 = M.1 ∧ ∃ fI fB, WS g ms ad h ms0 M' fI fB ∧ isZ fI ∧ (∀ q, q < 24 → (fI q ≠ 0 ↔ Cl ms q)) ∧ ordB ms fB) := by
  have D := I.dr
  have hP0 := I.pn
  obtain ⟨fI, fB, W⟩ := WS.ex R
  refine rb_Ct.of (by decide) (Nat.le_of_ble_eq_true rfl) rfl ?_
  refine sgX0_layOrder_0 (X0_lay2 (N1 := M.1) (ms := ms) (ms0 := ms0) (h := h) rfl (fun M1 f1 b1 W1 hM1 h1 => ?_) 24 0 rfl M fI fB W rfl (fun i hi => by omega))
  refine X0_lay30 (N1 := M.1) rfl I (rb_dpk (by decide)) zr (fun M2 f2 b2 W2 hM2 i2 q2 => ?_) (nN ms 16 0) 0 (Nat.zero_add _) M1 f1 b1 W1 hM1 ⟨fun i hi => Or.inl (h1 i hi).1, fun q hq c => absurd (h1 q hq).1 c, fun q j q1 c => absurd (h1 q (by omega)).1 c, fun x hx => by omega⟩ (fun a b ha hb => ?_)
  · have hI2 := i2.all (k := 0) D
    refine X0_lay103 (N1 := M.1) (Q := QN ms (nN ms 16 0) 0) rfl I (rb_dpk (by decide)) zr (fun M3 b3 W3 hM3 q3 => ?_) (nN ms 0 0) 0 (Nat.zero_add _) M2 b2 W2 hM2 (fun a b ha hb => ?_)
    · refine X0_lay220 (N1 := M.1) (Q := fun a b => QN ms (nN ms 16 0) 0 a b ∨ QX ms f2 (nN ms 0 0) a b) rfl I zf (fun M4 b4 W4 hM4 q4 => ?_) (nN ms 7 0) 0 (Nat.zero_add _) M3 b3 W3 hM3 (fun a b ha hb => ?_)
      · refine ⟨rfl, hM4, f2, b4, W4, i2.1, hI2, fun a b ca cb => ?_⟩
        have := ca.lt D
        have := cb.lt D
        rw [q4 a b (by omega) (by omega)]
        exact ordQ D hI2 ca cb
      · rw [q3 a b ha hb]
        refine ⟨Or.inl, fun r => r.resolve_right ?_⟩
        rintro ⟨w, hw, -⟩; omega
    · rw [q2 a b ha hb]
      refine ⟨Or.inl, fun r => r.resolve_right ?_⟩
      rintro ⟨w, hw, -⟩; omega
  · rw [(h1 a ha).2]
    refine ⟨fun q => absurd q (bt_0 hb), ?_⟩
    rintro (⟨x, y, -, z, -⟩ | ⟨x, z, -⟩) <;> omega
end V6
