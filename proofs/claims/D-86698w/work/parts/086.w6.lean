set_option maxRecDepth 100000
/-! weaving: the chains in the model -/
theorem nI_neg {x : Int32} (hx : iN x 10) : (x < 0 ↔ x = -9) ∧ (0 ≤ x ↔ ¬ x = -9) := by
  rcases hx with rfl | ⟨n, h1, rfl⟩
  · decide
  · refine ⟨⟨fun q => absurd q (nI_pos (by omega)), fun q => ?_⟩, ⟨fun _ q => ?_, fun _ => nI_pos' (by omega)⟩⟩
    · have := nI_pos' (n := n) (by omega)
      rw [q] at this
      exact absurd this (by decide)
    · have := nI_pos' (n := n) (by omega)
      rw [q] at this
      exact absurd this (by decide)
/-- the member m of p is out -/
def exc (ms : mm_S) (p m : Nat) : Prop := ∃ k, k < nN ms 18 0 ∧ ms.1 19 k = nI p ∧ ms.1 20 k = nI m
/-- what p puts into the chain of m -/
noncomputable def chP (ms : mm_S) (m p : Nat) : List Nat :=
  (@ite _ (¬ ms.1 10 (25 * p + (12 * 0 + m)) = -9 ∧ ¬ exc ms p m) (Classical.propDecidable _) [25 * p + (12 * 0 + m)] []) ++ (if ¬ ms.1 10 (25 * p + (12 * 1 + m)) = -9 then [25 * p + (12 * 1 + m)] else [])
noncomputable def chL (ms : mm_S) (m : Nat) : List Nat → List Nat
  | [] => []
  | p :: l => chP ms m p ++ chL ms m l
theorem chP_len (ms : mm_S) (m p : Nat) : (chP ms m p).length ≤ 2 := by
  unfold chP
  rw [List.length_append]
  have h1 : (@ite (List Nat) (¬ ms.1 10 (25 * p + (12 * 0 + m)) = -9 ∧ ¬ exc ms p m) (Classical.propDecidable _) [25 * p + (12 * 0 + m)] []).length ≤ 1 := by split <;> simp
  have h2 : (if ¬ ms.1 10 (25 * p + (12 * 1 + m)) = -9 then [25 * p + (12 * 1 + m)] else []).length ≤ 1 := by split <;> simp
  omega
theorem chL_len (ms : mm_S) (m : Nat) : ∀ l : List Nat, (chL ms m l).length ≤ 2 * l.length := by
  intro l
  induction l with
  | nil => exact Nat.le_refl _
  | cons p l ih =>
    unfold chL
    rw [List.length_append, List.length_cons]
    have := chP_len ms m p
    omega
theorem chP_same {l : List Nat} {a b : mm_S} (h : sameX l a b) (hl : ∀ k, k ∈ [10, 18, 19, 20] → k ∉ l) : chP b = chP a := by
  have e := fun k hk => h.2 k (hl k hk)
  funext m p
  unfold chP exc nN
  rw [e 10 (by decide), e 18 (by decide), e 19 (by decide), e 20 (by decide)]
theorem chL_same {l : List Nat} {a b : mm_S} (h : sameX l a b) (hl : ∀ k, k ∈ [10, 18, 19, 20] → k ∉ l) : chL b = chL a := by
  funext m k
  induction k with
  | nil => rfl
  | cons p k ih => unfold chL; rw [ih, chP_same h hl]
/-- numbers put at the end of a chain -/
def pushL (ms : mm_S) (at' c : Nat) : List Nat → mm_S
  | [] => ms
  | v :: vs => pushL (mm_sI (mm_sI ms 29 (48 * at' + c) (nI v)) 28 at' (nI (c + 1))) at' (c + 1) vs
theorem pushL_app {at' : Nat} : ∀ (a b : List Nat) (ms : mm_S) (c : Nat), pushL ms at' c (a ++ b) = pushL (pushL ms at' c a) at' (c + a.length) b := by
  intro a
  induction a with
  | nil => intro b ms c; rfl
  | cons v a ih =>
    intro b ms c
    show pushL (mm_sI (mm_sI ms 29 (48 * at' + c) (nI v)) 28 at' (nI (c + 1))) at' (c + 1) (a ++ b) = pushL (pushL (mm_sI (mm_sI ms 29 (48 * at' + c) (nI v)) 28 at' (nI (c + 1))) at' (c + 1) a) at' (c + (a.length + 1)) b
    rw [ih, show c + 1 + a.length = c + (a.length + 1) by omega]
theorem pushL_out {at' : Nat} : ∀ (a : List Nat) (ms : mm_S) (c : Nat), ms.1 28 at' = nI c → sameX [28, 29] ms (pushL ms at' c a) ∧ (pushL ms at' c a).1 28 at' = nI (c + a.length) ∧ (∀ x, x ≠ at' → (pushL ms at' c a).1 28 x = ms.1 28 x) ∧ (∀ x, x < 48 * at' + c ∨ 48 * at' + (c + a.length) ≤ x → (pushL ms at' c a).1 29 x = ms.1 29 x) ∧ ∀ i, i < a.length → (pushL ms at' c a).1 29 (48 * at' + (c + i)) = nI (a.getD i 0) := by
  intro a
  induction a with
  | nil => intro ms c h0; exact ⟨.refl, h0, fun _ _ => rfl, fun _ _ => rfl, fun i hi => absurd hi (Nat.not_lt_zero _)⟩
  | cons v a ih =>
    intro ms c h0
    obtain ⟨h1, h2, h3, h4, h5⟩ := ih (mm_sI (mm_sI ms 29 (48 * at' + c) (nI v)) 28 at' (nI (c + 1))) (c + 1) (by rw [mm_sI_k, va_up_self])
    have e29 : (mm_sI (mm_sI ms 29 (48 * at' + c) (nI v)) 28 at' (nI (c + 1))).1 29 = va_up (ms.1 29) (48 * at' + c) (nI v) := by rw [mm_sI_ne (by decide), mm_sI_k]
    have e28 : (mm_sI (mm_sI ms 29 (48 * at' + c) (nI v)) 28 at' (nI (c + 1))).1 28 = va_up (ms.1 28) at' (nI (c + 1)) := by rw [mm_sI_k, mm_sI_ne (by decide)]
    rw [List.length_cons]
    refine ⟨sameX.trans (sameX.trans (.sI (by decide)) (.sI (by decide))) h1, ?_, fun x hx => ?_, fun x hx => ?_, fun i hi => ?_⟩
    · show (pushL (mm_sI (mm_sI ms 29 (48 * at' + c) (nI v)) 28 at' (nI (c + 1))) at' (c + 1) a).1 28 at' = _
      rw [h2]; congr 1; omega
    · refine (h3 x hx).trans ?_
      rw [e28]
      simp only [va_up, if_neg hx]
    · refine (h4 x (by omega)).trans ?_
      rw [e29]
      simp only [va_up, if_neg (show ¬ x = 48 * at' + c by omega)]
    · cases i with
      | zero =>
        refine (h4 _ (by omega)).trans ?_
        rw [e29, Nat.add_zero, va_up_self]; rfl
      | succ i =>
        have := h5 i (by omega)
        rw [show c + 1 + i = c + (i + 1) by omega] at this
        exact this
theorem getD_mem : ∀ (l : List Nat) (k : Nat), k < l.length → l.getD k 0 ∈ l := by
  intro l
  induction l with
  | nil => intro k hk; exact absurd hk (Nat.not_lt_zero _)
  | cons p l ih =>
    intro k hk
    cases k with
    | zero => exact List.mem_cons_self
    | succ k => exact List.mem_cons_of_mem _ (ih k (by rw [List.length_cons] at hk; omega))
/-- a chain -/
def rowC (ms : mm_S) (at' : Nat) (c : List Nat) : Prop := ms.1 28 at' = nI c.length ∧ ∀ i, i < c.length → ms.1 29 (48 * at' + i) = nI (c.getD i 0)
section W6
variable {g : rb_G} {M0 : rb_H} {h : Nat}
theorem bo0 {p m : Nat} : F_bodyOf (nI p) 0 (nI m) = nI (25 * p + (12 * 0 + m)) := by
  unfold F_bodyOf
  rw [if_neg (by decide), show (0 : Int32) = nI 0 from rfl, ix12, ix25]
theorem bo1 {p m : Nat} : F_bodyOf (nI p) 1 (nI m) = nI (25 * p + (12 * 1 + m)) := by
  unfold F_bodyOf
  rw [if_neg (by decide), show (1 : Int32) = nI 1 from rfl, ix12, ix25]
theorem X4_exLoop {ms : mm_S} {p m : Nat} {κ : rb_K} (hE : iB (ms.1 18 0) 6) (hP : κ.2.2.1 (.returned (some (.int (bz (exc ms p m))))) (mm_H h ms M0)) : ∀ d j, j + d = nN ms 18 0 → ∀ x, x = bz (∃ k, k < j ∧ ms.1 19 k = nI p ∧ ms.1 20 k = nI m) → rb_Bd κ mX4_isExcluded (0, 0) (mm_H h ms M0) 5 [some (.ref h), some (.int (nI p)), some (.int (nI m)), some (.int x), some (.int (nI j))] [] := by
  have hE := hE.n (by decide)
  intro d
  induction d with
  | zero =>
    intro j hj x hx
    obtain rfl : j = nN ms 18 0 := by omega
    exact sgX4_isExcluded_5 ⟨fun _ => ⟨by rw [hx]; exact bz_nar, by rw [hx]; exact hP⟩, fun q => absurd q (by rw [hE.1]; exact nI_nlt (Nat.le_refl _) (by omega))⟩
  | succ d ih =>
    intro j hj x hx
    have hno : x = 0 → ¬ (ms.1 19 j = nI p ∧ ms.1 20 j = nI m) → (0 : Int32) = bz (∃ k, k < j + 1 ∧ ms.1 19 k = nI p ∧ ms.1 20 k = nI m) := by
      intro h0 hne
      rw [bz_f]
      rintro ⟨w, h1, h2⟩
      rcases Nat.lt_or_ge w j with r | r
      · exact (bz_0.mp (hx.symm.trans h0)) ⟨w, r, h2⟩
      · obtain rfl : w = j := by omega
        exact hne h2
    refine sgX4_isExcluded_5 ⟨fun q => absurd q (by rw [hE.1]; exact nI_ge (by omega) (by omega)), fun _ => ⟨fun h1 => ?_, fun h1 => ?_⟩⟩
    · rw [nI_1]
      refine ih (j + 1) (by omega) 1 ?_
      rw [hx, bz_1] at h1
      obtain ⟨w, r1, r2⟩ := h1
      rw [bz_t ⟨w, by omega, r2⟩]
    · rw [nI_1, nI_clamp (by omega)]
      have hv : vp_in (nI j) 6 := vp_in_nI (by omega) (by decide)
      refine ⟨hv, fun h2 => ih (j + 1) (by omega) 0 (hno h1 (fun q => h2 q.1)), fun h2 => ⟨hv, fun h3 => ih (j + 1) (by omega) 0 (hno h1 (fun q => h3 q.2)), fun h3 => ih (j + 1) (by omega) 1 ?_⟩⟩
      rw [bz_t ⟨j, by omega, h2, h3⟩]
theorem X4_isExcluded {ms : mm_S} {p m : Nat} (hE : iB (ms.1 18 0) 6) : mm_C g yX4_isExcluded wX4_isExcluded 0 h M0 ms [.ref h, .int (nI p), .int (nI m)] (some (.int (bz (exc ms p m)))) ms := by
  refine rb_Ct.of (by decide) (Nat.le_of_ble_eq_true rfl) rfl ?_
  refine sgX4_isExcluded_0 (X4_exLoop (κ := mm_k1 g 0 h M0 (some (.int (bz (exc ms p m)))) ms) hE ⟨rfl, rfl⟩ (nN ms 18 0) 0 (by omega) 0 ?_)
  rw [bz_f]
  rintro ⟨k, hk, -⟩; omega
theorem X4_chainLoop {ms0 : mm_S} {R m n : Nat} {κ : rb_K} (hR : R < 24) (hm : m < 12) (hE : iB (ms0.1 18 0) 6) (hB : ∀ b, b < 600 → iN (ms0.1 10 b) 10) (h25 : ms0.1 25 R = nI n) (hn : n ≤ 24) (hd : rb_dp κ 0) :
    ∀ (l : List Nat) (i c : Nat) (ms : mm_S), sameX [28, 29] ms0 ms → i + l.length = n → (∀ k, k < l.length → l.getD k 0 < 24 ∧ ms0.1 26 (24 * R + (i + k)) = nI (l.getD k 0)) → ms.1 28 (12 * R + m) = nI c → c + 2 * l.length ≤ 48 → κ.2.2.1 (.returned none) (mm_H h (pushL ms (12 * R + m) c (chL ms0 m l)) M0) → rb_Bd κ mX4_chain (0, 0) (mm_H h ms M0) 17 [some (.ref h), some (.int (nI R)), some (.int (nI m)), some (.int (nI (12 * R + m))), some (.int (nI i)), none, none, none] [] := by
  intro l
  induction l with
  | nil =>
    intro i c ms hs hi hl h28 hc hP
    rw [List.length_nil] at hi
    refine sgX4_chain_17 ?_
    rw [nI_clamp (by omega), hs.2 25 (by decide), h25]
    exact ⟨vp_in_nI (N := 24) (by omega) (by decide), fun _ => hP, fun q => absurd q (nI_nlt (by omega) (by omega))⟩
  | cons p l ih =>
    intro i c ms hs hi hl h28 hc hP
    rw [List.length_cons] at hi hc
    have hp := hl 0 (by rw [List.length_cons]; omega)
    rw [Nat.add_zero, show (p :: l).getD 0 0 = p from rfl] at hp
    have next : ∀ (cs : List Nat) (ls : List (Option Value)), chP ms0 m p = cs → rb_wk ([some (.ref h), some (.int (nI R)), some (.int (nI m)), some (.int (nI (12 * R + m))), some (.int (nI (i + 1)))] ++ ls) [some (.ref h), some (.int (nI R)), some (.int (nI m)), some (.int (nI (12 * R + m))), some (.int (nI (i + 1))), none, none, none] → rb_Bd κ mX4_chain (0, 0) (mm_H h (pushL ms (12 * R + m) c cs) M0) 17 ([some (.ref h), some (.int (nI R)), some (.int (nI m)), some (.int (nI (12 * R + m))), some (.int (nI (i + 1)))] ++ ls) [] := by
      intro cs ls hcs hw
      refine rb_weak hw ?_
      subst hcs
      have hpo := pushL_out (chP ms0 m p) ms c h28
      have hcl := chP_len ms0 m p
      refine ih (i + 1) (c + (chP ms0 m p).length) (pushL ms (12 * R + m) c (chP ms0 m p)) (hs.trans hpo.1) (by omega) (fun k hk => ?_) hpo.2.1 (by omega) ?_
      · have := hl (k + 1) (by rw [List.length_cons]; omega)
        rw [show i + (k + 1) = i + 1 + k by omega] at this
        exact this
      · rw [← pushL_app]
        exact hP
    refine sgX4_chain_17 ?_
    rw [nI_clamp (by omega), hs.2 25 (by decide), h25, ix24, nI_clamp (by omega), hs.2 26 (by decide), hp.2, nI_1, nI_clamp (n := 12 * R + m) (by omega)]
    have v28 : vp_in (nI (12 * R + m)) (mm_l 28) := vp_in_nI (N := 288) (by omega) (by decide)
    have v29 : vp_in (nI (48 * (12 * R + m) + c)) (mm_l 29) := vp_in_nI (N := 13824) (by omega) (by decide)
    have v29' : vp_in (nI (48 * (12 * R + m) + (c + 1))) (mm_l 29) := vp_in_nI (N := 13824) (by omega) (by decide)
    refine ⟨vp_in_nI (N := 24) (by omega) (by decide), fun q => absurd q (nI_ge (by omega) (by omega)), fun _ => ⟨vp_in_nI (N := 576) (by omega) (by decide), _, _, _, X4_bodyOf, hd, _, _, _, X4_bodyOf, hd, ?_⟩⟩
    rw [bo0, bo1, nI_clamp (n := 25 * p + (12 * 0 + m)) (by omega), nI_clamp (n := 25 * p + (12 * 1 + m)) (by omega), hs.2 10 (by decide), h28, ix48, nI_clamp (n := 48 * (12 * R + m) + c) (by omega), nI_1]
    have n0 := nI_neg (hB (25 * p + (12 * 0 + m)) (by omega))
    have n1 := nI_neg (hB (25 * p + (12 * 1 + m)) (by omega))
    rw [n0.1, n0.2, n1.1, n1.2]
    have v0 : vp_in (nI (25 * p + (12 * 0 + m))) (mm_l 10) := vp_in_nI (N := 601) (by omega) (by decide)
    have v1 : vp_in (nI (25 * p + (12 * 1 + m))) (mm_l 10) := vp_in_nI (N := 601) (by omega) (by decide)
    have eE : exc ms = exc ms0 := by
      funext a b
      unfold exc nN
      rw [hs.2 18 (by decide), hs.2 19 (by decide), hs.2 20 (by decide)]
    refine ⟨v0, fun a1 => ⟨v1, fun a2 => ?_, fun a2 => ⟨v28, v29, v28, v28, ?_⟩⟩, fun a1 => ⟨_, _, _, X4_isExcluded (by rw [hs.2 18 (by decide)]; exact hE), hd, ?_⟩⟩
    rotate_left 2
    rw [hs.2 10 (by decide), h28, ix48, nI_clamp (n := 48 * (12 * R + m) + c) (by omega), nI_1, n1.1, n1.2]
    refine ⟨fun a3 => ⟨v1, fun a2 => ?_, fun a2 => ⟨v28, v29, v28, v28, ?_⟩⟩, fun a3 => ⟨v28, v29, v28, v28, v1, fun a2 => ?_, fun a2 => ⟨v28, ?_⟩⟩⟩
    rotate_left 4
    · exact next [] _ (by unfold chP; rw [if_neg (fun q => q.1 a1), if_neg (fun q => q a2)]; rfl) (by simp [rb_wk])
    · exact next [25 * p + (12 * 1 + m)] _ (by unfold chP; rw [if_neg (fun q => q.1 a1), if_pos a2]; rfl) (by simp [rb_wk])
    · rw [bz_1, eE] at a3
      exact next [] _ (by unfold chP; rw [if_neg (fun q => q.2 a3), if_neg (fun q => q a2)]; rfl) (by simp [rb_wk])
    · rw [bz_1, eE] at a3
      exact next [25 * p + (12 * 1 + m)] _ (by unfold chP; rw [if_neg (fun q => q.2 a3), if_pos a2]; rfl) (by simp [rb_wk])
    · rw [bz_0, eE] at a3
      exact next [25 * p + (12 * 0 + m)] _ (by unfold chP; rw [if_pos ⟨a1, a3⟩, if_neg (fun q => q a2)]; rfl) (by simp [rb_wk])
    · rw [bz_0, eE] at a3
      rw [mm_sI_k, va_up_self, ix48, nI_clamp (by omega), nI_1]
      exact ⟨v29', v28, v28, next [25 * p + (12 * 0 + m), 25 * p + (12 * 1 + m)] _ (by unfold chP; rw [if_pos ⟨a1, a3⟩, if_pos a2]; rfl) (by simp [rb_wk])⟩
theorem X4_chain {ms : mm_S} {R m : Nat} {l : List Nat} (hR : R < 24) (hm : m < 12) (hE : iB (ms.1 18 0) 6) (hB : ∀ b, b < 600 → iN (ms.1 10 b) 10) (hl : rowL ms R l) (hn : l.length ≤ 24) (hlt : ∀ p, p ∈ l → p < 24) : ∃ ms', sameX [28, 29] ms ms' ∧ rowC ms' (12 * R + m) (chL ms m l) ∧ (∀ x, x ≠ 12 * R + m → ms'.1 28 x = ms.1 28 x) ∧ (∀ x, x < 48 * (12 * R + m) ∨ 48 * (12 * R + m) + 48 ≤ x → ms'.1 29 x = ms.1 29 x) ∧ mm_C g yX4_chain wX4_chain 1 h M0 ms [.ref h, .int (nI R), .int (nI m)] none ms' := by
  have hpo := pushL_out (at' := 12 * R + m) (chL ms m l) (mm_sI ms 28 (12 * R + m) 0) 0 (by rw [mm_sI_k, va_up_self]; rfl)
  have hcl := chL_len ms m l
  have hs : sameX [28, 29] ms (mm_sI ms 28 (12 * R + m) 0) := .sI (by decide)
  obtain ⟨p1, p2, p3, p4, p5⟩ := hpo
  rw [Nat.zero_add] at p2
  refine ⟨_, hs.trans p1, ⟨p2, fun i hi => ?_⟩, fun x hx => ?_, fun x hx => ?_, ?_⟩
  · have := p5 i hi
    rw [Nat.zero_add] at this
    exact this
  · rw [p3 x hx, mm_sI_k]
    simp only [va_up, if_neg hx]
  · rw [p4 x (by omega), mm_sI_ne (by decide)]
  · refine rb_Ct.of (by decide) (Nat.le_of_ble_eq_true rfl) rfl ?_
    refine sgX4_chain_0 ?_
    rw [ix12, nI_clamp (by omega)]
    refine ⟨vp_in_nI (N := 288) (by omega) (by decide), ?_⟩
    refine X4_chainLoop (ms0 := ms) (n := l.length) hR hm hE hB hl.1 hn (rb_dpk (by decide)) l 0 0 _ hs (by omega) (fun k hk => ⟨?_, ?_⟩) (by rw [mm_sI_k, va_up_self]; rfl) (by omega) ⟨rfl, rfl⟩
    · exact hlt _ (getD_mem l k hk)
    · rw [Nat.zero_add]
      exact hl.2 k hk
end W6
