set_option maxRecDepth 100000
/-! weaving, the class's side: woven, weave -/
section V21
variable {g : rb_G} {ms m' ms0 : mm_S} {ad : aD} {h : Nat} {B : Nat} {M : rb_H} {κ : rb_K} {fB : Nat → Int32} {b0 Q : Nat} {l : List Nat} {fa : Nat → Option Nat} {C : Nat → List Nat}
theorem X0_wv47 (hκ : κ.1 = g) (I : Inv B ms) (hO : ordB ms fB) {X : Nat × Nat} (hX : rb_rom κ X) (hd : rb_dp κ 6) {q : Nat} {L' : Nat → Prop} (hl : l.length ≤ 24)
    (K : ∀ fI M na (c : Nat × Nat), NS g ms ad h ms0 M fI fB b0 Q na l 0 C fa 2 → LfI ms L' fI → na 0 = q → c.1 ≤ X.1 → c.2 ≤ X.2 → rb_Bd κ mX0_woven c M 47 [some (.ref (ad 0 0)), some (.ref q), none] []) :
    ∀ rest acc L fI M na (c : Nat × Nat), Ln ms (Cl ms) rest L L' → acc ++ rest = l → (∀ p, p ∈ acc → p < nN ms 0 0) → NS g ms ad h ms0 M fI fB b0 Q na acc 0 C fa 2 → LfI ms L fI → na 0 = q → c.1 + rest.length ≤ X.1 → c.2 + 80 * rest.length ≤ X.2 → rb_Bd κ mX0_woven c M 47 [some (.ref (ad 0 0)), some (.ref q), none] [] := by
  subst hκ
  have hP0 := I.pn
  obtain ⟨hX1, hX2⟩ := hX
  intro rest
  induction rest with
  | nil =>
    intro acc L fI M na c hLn hacc _ N hL n0 hc1 hc2
    rw [List.append_nil] at hacc
    subst hacc
    obtain ⟨-, rfl⟩ := hLn
    exact K fI M na c N hL n0 hc1 hc2
  | cons p rest ih =>
    intro acc L fI M na c hLn hacc hlt N hL n0 hc1 hc2
    simp only [List.length_cons] at hc1 hc2
    obtain ⟨hp, hnx, hleast, hLn⟩ := hLn
    refine rb_know fun hw => ?_
    have hlen : acc.length < 24 := by
      rw [← hacc] at hl
      simp at hl
      omega
    have hq := N.2.1.1
    rw [n0] at hq
    obtain ⟨sg, hm⟩ := N.1.1.main
    have hline := N.line (by omega)
    have hPl := N.1.1.ls 0 0 (by decide) rfl
    have hGp : rb_Ct κ.1 yJ4_get wJ4_get 2 (0, 0) [.ref (ad 20 0), .int (nI p)] M (qr (some (.ref (ad 4 p))) M) := J4_get hPl hp
    have hpart := N.1.1.part hp
    have hin : ∃ q, q < 24 ∧ fI q ≠ 0 := ⟨p, by omega, (hL.2.1 p (by omega)).mpr hnx.1⟩
    have hz : rb_rom κ (c.1 + 0, c.2 + 0) := ⟨by show c.1 + 0 ≤ _; omega, by show c.2 + 0 ≤ _; omega⟩
    refine sgX0_woven_47 (rb_isR_ref _) (uIo (X0_isAnyLeft N.1 hL.1) (rb_dp_le hd (by decide)) hz N.1.1.ob0 ⟨fun e => absurd hin (bz_0.mp e), fun _ => uIo (X0_nextInLine I N.1 hL hO (x := nI p) (Or.inr ⟨p, hp, hnx, hleast, rfl⟩)) (rb_dp_le hd (by decide)) hz N.1.1.ob0 ⟨fun _ => ⟨_, rfl, _, ⟨_, hq, rfl⟩, rb_isR_ref _, _, ⟨_, hm, rfl⟩, rb_isR_ref _, _, rfl, uRo hGp (rb_dp_le hd (by decide)) hz hPl.ob ⟨_, rfl, 5, ⟨_, hpart⟩, cc_5, _, rfl, _, _, _, (sJ4_add (y := ad 4 p) hline (fun i hi => N.1.1.obPe (hlt _ (getD_mem acc i hi))) (N.1.1.obPe hp) (by omega)).wf, hd, ⟨by show c.1 + 1 ≤ _; omega, by show c.2 + 80 ≤ _; omega⟩, hline.ob, ?_⟩⟩, fun e => absurd e (n9_ne (by omega))⟩⟩)
    rintro _ M8 ⟨⟨rfl, hA⟩, hw8⟩
    obtain ⟨na8, N8, e8⟩ := N.addLine (by omega) hw hA
    obtain ⟨sg8, hm8⟩ := N8.1.1.main
    refine ⟨_, rfl, _, ⟨_, hm8, rfl⟩, rb_isR_ref _, _, rfl, 24, fI, N8.1.2.1, vp_in_nI (by omega) (by decide), rfl, ?_⟩
    rw [nI_clamp (by omega)]
    refine rb_weak (by simp [rb_wk]) (ih (acc ++ [p]) _ (va_up fI p 0) _ na8 (c.1 + 1, c.2 + 80) hLn (by rw [← hacc, List.append_assoc]; rfl) (fun x hx => ?_) (N8.setI hw8) ?_ (by rw [e8 0 (by omega)]; exact n0) (by show c.1 + 1 + rest.length ≤ _; omega) (by show c.2 + 80 + 80 * rest.length ≤ _; omega))
    · rcases List.mem_append.mp hx with z | z
      · exact hlt x z
      · rw [List.mem_singleton.mp z]; exact hp
    · refine ⟨fun i hi => ?_, fun x hx => ?_, fun x hx => hL.2.2 x hx.1⟩
      · by_cases e : i = p
        · left; simp [va_up, e]
        · simp only [va_up, e, if_false]; exact hL.1 i hi
      · by_cases e : x = p
        · simp [va_up, e]
        · simp only [va_up, e, if_false]
          rw [hL.2.1 x hx]
          exact ⟨fun z => ⟨z, e⟩, fun z => z.1⟩
theorem lkAt_u {C : Nat → List Nat} {i m i' j' : Nat} (h1 : lkAt ms C l i m) (h2 : lkAt ms C l i' j') : i = i' ∧ m = j' := by
  obtain ⟨a1, a2, a3, a4, a5⟩ := h1
  obtain ⟨b1, b2, b3, b4, b5⟩ := h2
  rcases Nat.lt_trichotomy i i' with q | rfl | q
  · exact absurd a3 (b4 i m q a2)
  · rcases Nat.lt_trichotomy m j' with q | rfl | q
    · exact absurd a3 (b5 m q)
    · exact ⟨rfl, rfl⟩
    · exact absurd b3 (a5 j' q)
  · exact absurd b3 (a4 i' j' q b2)
/-- ms with m' 's fields of l -/
def takeF (l : List Nat) (ms m' : mm_S) : mm_S := (fun k => if k ∈ l then m'.1 k else ms.1 k, ms.2)
theorem takeF_s {l : List Nat} : sameX l ms (takeF l ms m') := ⟨rfl, fun k hk => if_neg hk⟩
theorem takeF_i {l : List Nat} {k : Nat} (hk : k ∈ l) : (takeF l ms m').1 k = m'.1 k := if_pos hk
theorem takeF_o {l l' : List Nat} (hs : sameX l' ms m') (hl : ∀ k, k ∈ l' → k ∈ l ∨ k ∈ WF) : sameX WF (takeF l ms m') m' := ⟨hs.1, fun k hk => by
  by_cases e : k ∈ l
  · rw [takeF_i e]
  · rw [takeF_s.2 k e]
    exact hs.2 k fun q => (hl k q).elim e hk⟩
theorem Rep.lackTo (I : Inv B ms) {l' : List Nat} {x y : Int32} (R : Rep g (lkS ms x y) ad h ms0 M) (hs : sameX l' ms m') (hl : ∀ k, k ∈ l' → k ∈ [35, 36] ∨ k ∈ WF) (hlo : low (nN ms 24 0) ms m') (h35 : m'.1 35 0 = x) (h36 : m'.1 36 0 = y) : Rep g m' ad h ms0 M := by
  have s1 : sameX [35, 36] (lkS ms x y) (takeF [35, 36] ms m') := ⟨rfl, fun k hk => by rw [takeF_s.2 k hk, lkS_same.2 k hk]⟩
  have R1 : Rep g (takeF [35, 36] ms m') ad h ms0 M := by
    refine R.step [35, 36] s1.F (by decide) fun k i hx ha => ?_
    obtain ⟨c, q1, q2⟩ := R.1 k i hx
    refine ⟨c, q1, ?_⟩
    by_cases e0 : k = 0
    · subst e0
      obtain ⟨sg, rfl⟩ := q2
      refine ⟨sg, ?_⟩
      rw [mn_lack s1, takeF_i (by decide), takeF_i (by decide), h35, h36]
      have : mnFs (lkS ms x y) ad sg = ((mnFs ms ad sg).set 20 (.int x)).set 21 (.int y) := by
        have := mn_lack (ad := ad) (sg := sg) (lkS_same (ms := ms) (x := x) (y := y))
        rw [lkS_35, lkS_36] at this
        exact this
      rw [this]
      rfl
    · exact okX_dep (g := g) k i c hx (fun F hF' => s1.F F fun q => dX_not [35, 36] [0] (by decide) k (by simpa using e0) F hF' q) q2
  have I1 : Inv B (takeF [35, 36] ms m') := I
  exact R1.lowTo I1 (takeF_o hs hl) (fun k x k1 k2 k3 => by
    rw [takeF_s.2 k (by simp; omega)]
    exact hlo k x k1 k2 k3)
theorem X0_woven (R : Rep g ms ad h ms0 M) (I : Inv B ms) {r : Int32} (hv : Wv ms r m') : rb_Ct g yX0_woven wX0_woven 28 (630, 49115) [.ref (ad 0 0)] M (xA g (r, m') ad h ms0) := by
  have hP0 := I.pn
  have hR0 := I.rn
  have D := I.dr
  obtain ⟨sg, hm⟩ := R.main
  have hrl := R.ls 1 0 (by decide) rfl
  have hnl := R.ls 3 0 (by decide) rfl
  have hN := D.N
  refine rb_Ct.of (by decide) (Nat.le_of_ble_eq_true rfl) rfl ?_
  refine rb_know fun hw0 => ?_
  have hsz : nI (lenL ms 1 0) = ms.1 24 0 := hR0.1.symm
  refine sgX0_woven_0 ⟨_, ⟨_, hm, rfl⟩, rb_isR_ref _, _, rfl, uIo (J4_size hrl) (rb_dpk (by decide)) ⟨nb rfl, nb rfl⟩ hrl.ob ?_⟩
  rw [hsz]
  rcases hv with ⟨v1, rfl, rfl⟩ | ⟨v1, v2, rfl, rfl⟩ | ⟨v1, v2, hlow, l, L', hLn, hll, hv⟩
  · exact ⟨fun z => absurd v1 z, fun _ => ⟨⟨nb rfl, nb rfl⟩, rfl, ad, rfl, R⟩⟩
  · refine ⟨fun _ => ⟨_, ⟨_, hm, rfl⟩, rb_isR_ref _, _, rfl, uIo (J4_isEmpty hnl (by show nN m' 16 0 < 2 ^ 31; omega)) (rb_dpk (by decide)) ⟨nb rfl, nb rfl⟩ hnl.ob ⟨fun z => ?_, fun _ => ⟨⟨nb rfl, nb rfl⟩, rfl, ad, rfl, R⟩⟩⟩, fun z => absurd z v1⟩
    have : lenL m' 3 0 = 0 := by show nN m' 16 0 = 0; unfold nN; rw [v2]; rfl
    rw [if_pos this] at z
    exact absurd z (by decide)
  have hQ : nN ms 24 0 < 24 := by
    refine Nat.lt_of_le_of_ne hR0.2 fun q => v1 ?_
    rw [hR0.1, q]; rfl
  have hno := (Ln.out l _ _ hLn)
  refine ⟨fun _ => ⟨_, ⟨_, hm, rfl⟩, rb_isR_ref _, _, rfl, uIo (J4_isEmpty hnl (by show nN ms 16 0 < 2 ^ 31; omega)) (rb_dpk (by decide)) ⟨nb rfl, nb rfl⟩ hnl.ob ⟨fun _ => ⟨_, _, _, (X0_layOrder R I).wf, rb_dpk (by decide), ⟨nb rfl, nb rfl⟩, R.ob0, ?_⟩, fun z => ?_⟩⟩, fun z => absurd z v1⟩
  · rintro _ M1 ⟨⟨rfl, -, fI, fB, W1, hz1, hI1, hO⟩, hw1⟩
    have hltp : ∀ p, p ∈ l → p < nN ms 0 0 := fun p hp => (hno.1 p hp).1
    have hx1 : ∀ k i, exX g ms ad k i → ad k i < M1.1 := fun k i hx => W1.1.lt hw1 hx
    have W2 : WS g ms ad h ms0 (rb_nw M1 (rb_O 27 [.int 0, .null, .null, .null, .null])) fI fB := W1.low hx1 fun b hb => rb_nw_ne (by omega)
    obtain ⟨sg2, hm2⟩ := W2.1.main
    have hrl2 := W2.1.ls 1 0 (by decide) rfl
    refine ⟨rfl, ⟨nb rfl, nb rfl⟩, _, ⟨_, hm2, rfl⟩, rb_isR_ref _, _, rfl, uIo (J4_size hrl2) (rb_dpk (by decide)) ⟨nb rfl, nb rfl⟩ hrl2.ob ⟨27, _, _, _, X27_init rb_nw_eq, rb_dpk (by decide), ⟨nb rfl, nb rfl⟩, ⟨_, rb_nw_eq⟩, ?_⟩⟩
    rintro _ M3 ⟨rfl, k0, k1, k2, k3, k4, k5⟩
    have k0 : M3.2 M1.1 = some (rb_O 27 [.int (nI (nN ms 24 0)), .ref (M1.1 + 1), .ref (M1.1 + 2), .ref (M1.1 + 3), .ref (M1.1 + 4)]) := k0
    have k1 : M3.2 (M1.1 + 1) = some (rb_O 7 [.int 0, .ref (rb_dc g), .int 0]) := k1
    have k2 : M3.2 (M1.1 + 2) = some (rb_O 7 [.int 0, .ref (rb_dc g), .int 0]) := k2
    have k3 : M3.2 (M1.1 + 3) = some (rb_R 4 4 (fun _ => none)) := k3
    have k4 : M3.2 (M1.1 + 4) = some (rb_I 24 (fun _ => 0)) := k4
    refine ⟨rfl, ?_⟩
    have W3 : WS g ms ad h ms0 M3 fI fB := W1.low hx1 fun b hb => by
      rw [k5 b (by omega) (show b < M1.1 + 1 by omega), rb_nw_ne (by omega)]
    generalize hb0 : M1.1 = b0 at hx1 k0 k1 k2 k3 k4 k5
    let na : Nat → Nat := fun t => if t = 0 then b0 else if t = 1 then b0 + 3 else if t = 2 then b0 + 4 else if t = 3 then b0 + 1 else if t = 5 then b0 + 2 else rb_dc g
    have N3 : NS g ms ad h ms0 M3 fI fB b0 (nN ms 24 0) na [] 0 (fun k => chL ms k l) (fun _ => none) 2 := by
      refine ⟨W3, ⟨k0, k3, k4, fun j hj => ?_, fun t ht => ?_, fun t t' ht ht' e => ?_⟩, hx1⟩
      · rcases Nat.lt_or_ge j 1 with q | q
        · obtain rfl : j = 0 := by omega
          exact ⟨⟨0, k1⟩, Or.inl ⟨rfl, rfl⟩⟩
        · obtain rfl : j = 1 := by omega
          exact ⟨⟨0, k2⟩, Or.inl ⟨rfl, rfl⟩⟩
      · have ht1 : t < 7 := ht.1
        have h4 : t ≠ 4 := fun q => ht.2 (by omega) (by omega) (by rw [q]; rfl)
        have h6 : t ≠ 6 := fun q => ht.2 (by omega) (by omega) (by rw [q]; rfl)
        show b0 ≤ if t = 0 then b0 else if t = 1 then b0 + 3 else if t = 2 then b0 + 4 else if t = 3 then b0 + 1 else if t = 5 then b0 + 2 else rb_dc g
        repeat' split
        all_goals omega
      · have ht1 : t < 7 := ht.1
        have h4 : t ≠ 4 := fun q => ht.2 (by omega) (by omega) (by rw [q]; rfl)
        have h6 : t ≠ 6 := fun q => ht.2 (by omega) (by omega) (by rw [q]; rfl)
        have ht1' : t' < 7 := ht'.1
        have h4' : t' ≠ 4 := fun q => ht'.2 (by omega) (by omega) (by rw [q]; rfl)
        have h6' : t' ≠ 6 := fun q => ht'.2 (by omega) (by omega) (by rw [q]; rfl)
        have e : (if t = 0 then b0 else if t = 1 then b0 + 3 else if t = 2 then b0 + 4 else if t = 3 then b0 + 1 else if t = 5 then b0 + 2 else rb_dc g) = (if t' = 0 then b0 else if t' = 1 then b0 + 3 else if t' = 2 then b0 + 4 else if t' = 3 then b0 + 1 else if t' = 5 then b0 + 2 else rb_dc g) := e
        have c1 : t = 0 ∨ t = 1 ∨ t = 2 ∨ t = 3 ∨ t = 5 := by omega
        have c2 : t' = 0 ∨ t' = 1 ∨ t' = 2 ∨ t' = 3 ∨ t' = 5 := by omega
        rcases c1 with rfl | rfl | rfl | rfl | rfl <;> rcases c2 with rfl | rfl | rfl | rfl | rfl <;> simp at e ⊢ <;> omega
    subst hb0
    refine X0_wv47 (κ := (g, rb_rm 28 (630, 49115), xA g (r, m') ad h ms0, (630, 49115))) (b0 := M1.1) (Q := nN ms 24 0) (fa := fun _ => none) (C := fun k => chL ms k l) (l := l) (h := h) (ms0 := ms0) (L' := L') rfl I hO (X := (29, 1959)) ⟨nb rfl, nb rfl⟩ (rb_dpk (by decide)) hll (fun fI4 M4 na4 c4 N4 hL4 n4 c41 c42 => ?_) l [] (Cl ms) fI M3 na (5, 39) hLn rfl (fun p hp => (List.not_mem_nil hp).elim) N3 ⟨hz1, hI1, fun q hq => hq⟩ rfl (by show 5 + l.length ≤ 29; omega) (by show 39 + 80 * l.length ≤ 1959; omega)
    have c41 : c4.1 ≤ 29 := c41
    have c42 : c4.2 ≤ 1959 := c42
    have hz4 : rb_rom (g, rb_rm 28 (630, 49115), xA g (r, m') ad h ms0, (630, 49115)) (c4.1 + 0, c4.2 + 0) := ⟨by show c4.1 + 0 ≤ 630; omega, by show c4.2 + 0 ≤ 49115; omega⟩
    rcases hv with ⟨f, n, t, Rr, hf0, rfl, hs, h34, h33⟩ | ⟨hnL, hv⟩
    · have hf := Rr.2.2.1 0 (by have := Rr.1; omega)
      have hin : ∃ q, q < 24 ∧ fI4 q ≠ 0 := ⟨f 0, by omega, (hL4.2.1 (f 0) (by omega)).mpr hf.2⟩
      have hs1 : sameX [33, 34] ms (takeF [33, 34] ms m') := takeF_s
      refine sgX0_woven_47 (rb_isR_ref _) (uIo (X0_isAnyLeft N4.1 hL4.1) (rb_dpk (by decide)) hz4 N4.1.1.ob0 ⟨fun e => absurd hin (bz_0.mp e), fun _ => uIo (X0_nextInLine I N4.1 hL4 hO (x := -9) (Or.inl ⟨rfl, hno.2.2.2.1⟩)) (rb_dpk (by decide)) hz4 N4.1.1.ob0 ⟨fun e => absurd rfl e, fun _ => ⟨_, _, _, X0_findRing (m' := takeF [33, 34] ms m') I N4.1 hL4 hO Rr hf0 hs1 (by rw [takeF_i (by decide)]; exact h34) (fun i hi => by rw [takeF_i (by decide)]; exact h33 i hi), rb_dpk (by decide), hz4, N4.1.1.ob0, ?_⟩⟩⟩)
      rintro _ M5 ⟨rfl, -, W5⟩
      refine ⟨rfl, ⟨by show c4.1 + 0 ≤ 630; omega, by show c4.2 + 0 ≤ 49115; omega⟩, rfl, ad, rfl, ?_⟩
      have I5 : Inv B (takeF [33, 34] ms m') := ⟨I.1, I.2.1, I.2.2.1, I.2.2.2.1, ⟨I.2.2.2.2.1.1, I.2.2.2.2.1.2.1, ⟨n - t, by have := Rr.2.1; omega, h34⟩⟩, I.2.2.2.2.2.1, I.2.2.2.2.2.2.1, I.2.2.2.2.2.2.2⟩
      refine W5.1.lowTo I5 (takeF_o hs (by decide)) (fun k x k1 k2 k3 => ?_)
      rw [takeF_s.2 k (by simp; omega)]
      exact hlow k x k1 k2 k3
    · have hout : ¬ ∃ q, q < 24 ∧ fI4 q ≠ 0 := by
        rintro ⟨q, q1, q2⟩
        have := (hL4.2.1 q q1).mp q2
        exact hnL q ((hL4.2.2 q this).lt D) this
      rw [← n4]
      refine sgX0_woven_47 (rb_isR_ref _) (uIo (X0_isAnyLeft N4.1 hL4.1) (rb_dpk (by decide)) hz4 N4.1.1.ob0 ⟨fun _ => ⟨_, _, _, X0_layChains I hll hltp N4, rb_dpk (by decide), ⟨by show c4.1 + 0 + 600 ≤ 630; omega, by show c4.2 + 0 + 47076 ≤ 49115; omega⟩, N4.1.1.ob0, ?_⟩, fun e => absurd (bz_1.mp e) hout⟩)
      rintro _ M5 ⟨rfl, na5, N5, n5⟩
      rw [← n5]
      refine ⟨rfl, _, _, _, (X0_isWhole I hll hltp N5).wf, rb_dpk (by decide), ⟨by show c4.1 + 0 + 600 + 0 ≤ 630; omega, by show c4.2 + 0 + 47076 + 0 ≤ 49115; omega⟩, N5.1.1.ob0, ?_⟩
      have hf8 : rb_fin (g, rb_rm 28 (630, 49115), xA g (r, m') ad h ms0, (630, 49115)) (c4.1 + 0 + 600 + 0, c4.2 + 0 + 47076 + 0) := ⟨by show c4.1 + 0 + 600 + 0 ≤ 630; omega, by show c4.2 + 0 + 47076 + 0 ≤ 49115; omega⟩
      rintro _ M6 ⟨hP, hw6⟩
      rcases hP with ⟨rfl, hP⟩ | ⟨rfl, nolk, nobad, fa', hfa', N6⟩
      · refine ⟨_, rfl, fun e => absurd rfl e, fun _ => ⟨hf8, ?_⟩⟩
        rcases hP with ⟨i, j, hlk, R6⟩ | ⟨nolk, b, hb, hbad, hbf, R6⟩
        · rcases hv with ⟨i', m1, hlk', rfl, hs, h35, h36⟩ | ⟨nolk', -⟩
          · obtain ⟨rfl, rfl⟩ := lkAt_u hlk' hlk
            exact ⟨rfl, ad, rfl, Rep.lackTo I R6 hs (by decide) hlow h35 h36⟩
          · exact absurd hlk.2.2.1 (nolk' i j hlk.1 hlk.2.1)
        · rcases hv with ⟨i', m1, hlk', -⟩ | ⟨-, ⟨b', hb', hbad', hbf', rfl, hs, h35, h36⟩ | ⟨-, -, -, -, -, hv, -⟩⟩
          · exact absurd hlk'.2.2.1 (nolk i' m1 hlk'.1 hlk'.2.1)
          · obtain rfl : b' = b := by
              rcases Nat.lt_trichotomy b' b with q | q | q
              · exact absurd hbad' (hbf b' q)
              · exact q
              · exact absurd hbad (hbf' b q)
            exact ⟨rfl, ad, rfl, Rep.lackTo I R6 hs (by decide) hlow h35 h36⟩
          · exact absurd hbad (hv b hb).1
      · rcases hv with ⟨i', m1, hlk', -⟩ | ⟨-, ⟨b', hb', hbad', -⟩ | ⟨rfl, hs, h24, h25, h28, h30, h27, h32⟩⟩
        · exact absurd hlk'.2.2.1 (nolk i' m1 hlk'.1 hlk'.2.1)
        · exact absurd hbad' (nobad b' hb')
        · obtain ⟨sg6, hm6⟩ := N6.1.1.main
          have hrl6 := N6.1.1.ls 1 0 (by decide) rfl
          refine ⟨_, rfl, fun _ => ⟨_, ⟨_, hm6, rfl⟩, rb_isR_ref _, _, rfl, _, _, _, sJ4_add (y := na5 0) hrl6 (fun i hi => ⟨27, rfl, N6.1.1.obR hi⟩) ⟨27, rfl, _, N6.2.1.1⟩ (by show nN ms 24 0 ≤ 48; omega), rb_dpk (by decide), ⟨by show c4.1 + 0 + 600 + 0 + 1 ≤ 630; omega, by show c4.2 + 0 + 47076 + 0 + 80 ≤ 49115; omega⟩, hrl6.ob, ?_⟩, fun e => absurd e (by decide)⟩
          rintro _ M7 ⟨rfl, hA⟩
          obtain ⟨hc7, hR7⟩ := Rep.newRole I rfl N6 hw6 hll hltp hQ hA hfa' hs hlow h24 h25 h28 (fun b hb => (h30 b hb).2) (fun i hi => (h32 i hi).2)
          exact ⟨_, rfl, _, rfl, _, ⟨_, hc7.trans N6.2.1.1, rfl⟩, ⟨by show c4.1 + 0 + 600 + 0 + 1 ≤ 630; omega, by show c4.2 + 0 + 47076 + 0 + 80 ≤ 49115; omega⟩, rfl, hR7⟩
  · have : ¬ lenL ms 3 0 = 0 := by
      intro q
      have q : nN ms 16 0 = 0 := q
      exact v2 (by rw [hN.1, q]; rfl)
    rw [if_neg this] at z
    exact absurd rfl z
theorem X0_weave (R : Rep g ms ad h ms0 M) (I : Inv B ms) {r : Int32} (hv : Wv ms r m') : rb_Ct g yX0_weave wX0_weave 29 (630, 49115) [.ref (ad 0 0)] M (xA g (r, clr m') ad h ms0) := by
  refine rb_Ct.of (by decide) (Nat.le_of_ble_eq_true rfl) rfl ?_
  refine sgX0_weave_0 ⟨_, _, _, X0_woven R I hv, rb_dpk (by decide), ⟨nb rfl, nb rfl⟩, R.ob0, ?_⟩
  rintro _ M5 ⟨rfl, ad', e, R5⟩
  have hE := X0_emptyDraft R5
  rw [e] at hE
  refine ⟨_, rfl, _, _, _, hE, rb_dpk (by decide), ⟨nb rfl, nb rfl⟩, by rw [← e]; exact R5.ob0, ?_⟩
  rintro _ M6 ⟨rfl, R6⟩
  exact ⟨rfl, ⟨nb rfl, nb rfl⟩, rfl, ad', e, R6⟩
end V21
