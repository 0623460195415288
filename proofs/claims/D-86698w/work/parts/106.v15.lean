set_option maxRecDepth 100000
/-! weaving, the class's side: the new role before it is known -/
section V15
variable {g : rb_G} {M M' : rb_H}
theorem xLs.mv {a r n : Nat} {f : Nat → Nat} (L : xLs g M a r n f) (hw : rb_Wf g M) (ha : M'.2 a = M.2 a) (hr : r ≠ rb_dc g → M'.2 r = M.2 r) : xLs g M' a r n f := by
  by_cases e : r = rb_dc g
  · refine L.moved ha (fun hn => ?_) (Or.inr (Or.inr e))
    rcases L.2 with q | ⟨cap, _, _, _, q⟩
    · exact absurd q.1 hn
    · have h1 := (hw.2.2 _ _ q).1
      have h2 := hw.2.1
      rw [e] at h1
      exact absurd h2 (Nat.not_lt.mpr h1)
  · exact L.moved ha (fun _ => hr e) (Or.inl (hr e))
/-- the cells of the new role that are there: 0 the role, 1 aliases, 2 started, 3 + 2 * j a list, 4 + 2 * j its array -/
def nrX (g : rb_G) (na : Nat → Nat) (J t : Nat) : Prop := t < 3 + 2 * J ∧ (4 ≤ t → t % 2 = 0 → na t ≠ rb_dc g)
def NR (g : rb_G) (M : rb_H) (b0 R : Nat) (na : Nat → Nat) (n : Nat → Nat) (F : Nat → Nat → Nat) (fa : Nat → Option Nat) (J : Nat) : Prop :=
  M.2 (na 0) = some (rb_O 27 [.int (nI R), .ref (na 3), .ref (na 5), .ref (na 1), .ref (na 2)]) ∧ M.2 (na 1) = some (rb_R 4 4 fa) ∧ M.2 (na 2) = some (rb_I 24 (fun _ => 0)) ∧
  (∀ j, j < J → xLs g M (na (3 + 2 * j)) (na (4 + 2 * j)) (n j) (F j)) ∧
  (∀ t, nrX g na J t → b0 ≤ na t) ∧ (∀ t t', nrX g na J t → nrX g na J t' → na t = na t' → t = t')
variable {b0 R J : Nat} {na n n' : Nat → Nat} {F F' : Nat → Nat → Nat} {fa : Nat → Option Nat}
theorem nrX.lo {t : Nat} (h : t < 3) : nrX g na J t := ⟨by omega, fun q => by omega⟩
theorem nrX.od {j : Nat} (h : j < J) : nrX g na J (3 + 2 * j) := ⟨by omega, fun _ q => by omega⟩
theorem nrX.ev {j : Nat} (h : j < J) (h2 : na (4 + 2 * j) ≠ rb_dc g) : nrX g na J (4 + 2 * j) := ⟨by omega, fun _ _ => h2⟩
theorem nrX.cs {t : Nat} (h : nrX g na J t) : t = 0 ∨ t = 1 ∨ t = 2 ∨ (∃ j, j < J ∧ t = 3 + 2 * j) ∨ ∃ j, j < J ∧ t = 4 + 2 * j ∧ na t ≠ rb_dc g := by
  obtain ⟨h1, h2⟩ := h
  rcases Nat.lt_or_ge t 3 with q | q
  · omega
  · rcases Nat.mod_two_eq_zero_or_one t with r | r
    · exact Or.inr (Or.inr (Or.inr (Or.inr ⟨(t - 4) / 2, by omega, by omega, h2 (by omega) r⟩)))
    · exact Or.inr (Or.inr (Or.inr (Or.inl ⟨(t - 3) / 2, by omega, by omega⟩)))
theorem NR.ex (N : NR g M b0 R na n F fa J) {t : Nat} (h : nrX g na J t) : ∃ c, M.2 (na t) = some c := by
  obtain ⟨h0, h1, h2, h3, -⟩ := N
  rcases h.cs with rfl | rfl | rfl | ⟨j, hj, rfl⟩ | ⟨j, hj, rfl, hd⟩
  · exact ⟨_, h0⟩
  · exact ⟨_, h1⟩
  · exact ⟨_, h2⟩
  · obtain ⟨⟨md, q⟩, -⟩ := h3 j hj
    exact ⟨_, q⟩
  · obtain ⟨-, q⟩ := h3 j hj
    rcases q with q | ⟨cap, _, _, _, q⟩
    · exact absurd q.2 hd
    · exact ⟨_, q⟩
theorem NR.lt (N : NR g M b0 R na n F fa J) (hw : rb_Wf g M) {t : Nat} (h : nrX g na J t) : na t < M.1 := by
  obtain ⟨c, q⟩ := N.ex h
  exact (hw.2.2 _ _ q).2
theorem NR.le (N : NR g M b0 R na n F fa J) (hw : rb_Wf g M) : b0 ≤ M.1 := Nat.le_of_lt (Nat.lt_of_le_of_lt (N.2.2.2.2.1 0 (nrX.lo (by omega))) (N.lt hw (nrX.lo (by omega))))
theorem NR.moved (N : NR g M b0 R na n F fa J) (hw : rb_Wf g M) (hm : ∀ t, nrX g na J t → M'.2 (na t) = M.2 (na t)) : NR g M' b0 R na n F fa J := by
  obtain ⟨h0, h1, h2, h3, h4, h5⟩ := N
  refine ⟨by rw [hm 0 (nrX.lo (by omega))]; exact h0, by rw [hm 1 (nrX.lo (by omega))]; exact h1, by rw [hm 2 (nrX.lo (by omega))]; exact h2, fun j hj => ?_, h4, h5⟩
  exact (h3 j hj).mv hw (hm _ (nrX.od hj)) (fun q => hm _ (nrX.ev hj q))
/-- something is added to a list of the new role -/
theorem NR.add (N : NR g M b0 R na n F fa J) (hw : rb_Wf g M) {j y : Nat} (hj : j < J) (hA : LSad g M (na (3 + 2 * j)) (na (4 + 2 * j)) (n j) (F j) y M') (hn : n' j = n j + 1) (hF : ∀ i, i < n j + 1 → F' j i = if i = n j then y else F j i) (ho : ∀ k, k < J → k ≠ j → n' k = n k ∧ ∀ i, i < n k → F' k i = F k i) :
    ∃ na', NR g M' b0 R na' n' F' fa J ∧ (∀ t, t ≠ 4 + 2 * j → na' t = na t) ∧ ∀ b, b < b0 → M'.2 b = M.2 b := by
  have hle := N.le hw
  have hlt := fun t ht => N.lt hw (t := t) ht
  obtain ⟨h0, h1, h2, h3, h4, h5⟩ := N
  obtain ⟨r', hL, hr', hot⟩ := hA
  have hr0 : heapLe g r' := by
    rcases hr' with ⟨rfl, e, he⟩ | rfl
    · exact (hw.2.2 _ _ he).1
    · exact hw.1
  have hrd : r' ≠ rb_dc g := fun q => by
    have := hw.2.1
    rw [← q] at this
    exact absurd this (Nat.not_lt.mpr hr0)
  have hrb : b0 ≤ r' := by
    rcases hr' with ⟨e, -⟩ | e
    · rw [e]; exact h4 _ (nrX.ev hj (by rw [← e]; exact hrd))
    · rw [e]; exact hle
  have hne : ∀ t, nrX g na J t → t ≠ 4 + 2 * j → na t ≠ r' := by
    intro t ht hk
    rcases hr' with ⟨e, -⟩ | e
    · rw [e]; exact fun q => hk (h5 _ _ ht (nrX.ev hj (by rw [← e]; exact hrd)) q)
    · rw [e]; exact Nat.ne_of_lt (hlt t ht)
  let na' : Nat → Nat := fun t => if t = 4 + 2 * j then r' else na t
  have ea : ∀ t, t ≠ 4 + 2 * j → na' t = na t := fun t q => if_neg q
  have es : na' (4 + 2 * j) = r' := if_pos rfl
  have hx : ∀ t, t ≠ 4 + 2 * j → (nrX g na' J t ↔ nrX g na J t) := by
    intro t ht
    unfold nrX
    rw [ea t ht]
  have hc : ∀ t, nrX g na J t → t ≠ 3 + 2 * j → t ≠ 4 + 2 * j → M'.2 (na t) = M.2 (na t) := fun t ht k1 k2 => hot _ (fun q => k1 (h5 _ _ ht (nrX.od hj) q)) (hne t ht k2)
  refine ⟨na', ⟨?_, ?_, ?_, fun k hk => ?_, fun t ht => ?_, fun t t' ht ht' e => ?_⟩, ea, fun b hb => hot b ?_ ?_⟩
  · rw [ea 0 (by omega), ea 3 (by omega), ea 5 (by omega), ea 1 (by omega), ea 2 (by omega), hc 0 (nrX.lo (by omega)) (by omega) (by omega)]
    exact h0
  · rw [ea 1 (by omega), hc 1 (nrX.lo (by omega)) (by omega) (by omega)]
    exact h1
  · rw [ea 2 (by omega), hc 2 (nrX.lo (by omega)) (by omega) (by omega)]
    exact h2
  · by_cases hkj : k = j
    · subst hkj
      rw [es, ea _ (by omega), hn]
      exact hL.congr fun i hi => (hF i hi).symm
    · obtain ⟨e1, e2⟩ := ho k hk hkj
      rw [ea (4 + 2 * k) (by omega), ea (3 + 2 * k) (by omega), e1]
      exact ((h3 k hk).mv hw (hc _ (nrX.od hk) (by omega) (by omega)) (fun q => hc _ (nrX.ev hk q) (by omega) (by omega))).congr fun i hi => (e2 i hi).symm
  · by_cases e : t = 4 + 2 * j
    · rw [e, es]; exact hrb
    · rw [ea t e]; exact h4 t ((hx t e).mp ht)
  · by_cases e1 : t = 4 + 2 * j
    · by_cases e2 : t' = 4 + 2 * j
      · rw [e1, e2]
      · rw [e1, es, ea t' e2] at e
        exact absurd e.symm (hne t' ((hx t' e2).mp ht') e2)
    · by_cases e2 : t' = 4 + 2 * j
      · rw [e2, es, ea t e1] at e
        exact absurd e (hne t ((hx t e1).mp ht) e1)
      · rw [ea t e1, ea t' e2] at e
        exact h5 t t' ((hx t e1).mp ht) ((hx t' e2).mp ht') e
  · have := h4 _ (nrX.od (g := g) (na := na) hj)
    omega
  · omega
/-- a list is made -/
theorem NR.list (N : NR g M b0 R na n F fa J) (hw : rb_Wf g M) (hJ : 2 ≤ J) (hn : n' J = 0) (ho : ∀ k, k < J → n' k = n k ∧ ∀ i, i < n k → F' k i = F k i) :
    NR g (rb_up (rb_nw M (rb_O 7 [.int 0, .null, .int 0])) M.1 (rb_O 7 [.int 0, .ref (rb_dc g), .int 0])) b0 R (fun t => if t = 3 + 2 * J then M.1 else if t = 4 + 2 * J then rb_dc g else na t) n' F' fa (J + 1) := by
  have hle := N.le hw
  have hlt := fun t ht => N.lt hw (t := t) ht
  rw [rb_up_nw]
  have hc : ∀ t, nrX g na J t → (rb_nw M (rb_O 7 [.int 0, .ref (rb_dc g), .int 0])).2 (na t) = M.2 (na t) := fun t ht => rb_nw_ne (Nat.ne_of_lt (hlt t ht))
  have N2 := N.moved hw hc
  obtain ⟨h0, h1, h2, h3, h4, h5⟩ := N2
  generalize hna : (fun t => if t = 3 + 2 * J then M.1 else if t = 4 + 2 * J then rb_dc g else na t) = na'
  have ea : ∀ t, t < 3 + 2 * J → na' t = na t := fun t q => by rw [← hna]; show (if _ then _ else if _ then _ else _) = _; rw [if_neg (by omega), if_neg (by omega)]
  have e1 : na' (3 + 2 * J) = M.1 := by rw [← hna]; exact if_pos rfl
  have e2 : na' (4 + 2 * J) = rb_dc g := by rw [← hna]; show (if _ then _ else if _ then _ else _) = _; rw [if_neg (by omega), if_pos rfl]
  have hx : ∀ t, nrX g na' (J + 1) t → t ≠ 3 + 2 * J → t < 3 + 2 * J ∧ nrX g na J t := by
    intro t ht hk
    have : t < 3 + 2 * J := by
      rcases Nat.lt_or_ge t (3 + 2 * J) with q | q
      · exact q
      · have e : t = 4 + 2 * J := by have := ht.1; omega
        exact absurd (by rw [e]; exact e2) (ht.2 (by omega) (by omega))
    refine ⟨this, this, fun q1 q2 => ?_⟩
    have := ht.2 q1 q2
    rwa [ea t (by assumption)] at this
  refine ⟨?_, ?_, ?_, fun k hk => ?_, fun t ht => ?_, fun t t' ht ht' e => ?_⟩
  · rw [ea 0 (by omega), ea 3 (by omega), ea 5 (by omega), ea 1 (by omega), ea 2 (by omega)]
    exact h0
  · rw [ea 1 (by omega)]
    exact h1
  · rw [ea 2 (by omega)]
    exact h2
  · by_cases hkj : k = J
    · subst hkj
      rw [e1, e2, hn]
      exact ⟨⟨0, by rw [nI_0]; exact rb_nw_eq⟩, Or.inl ⟨rfl, rfl⟩⟩
    · obtain ⟨q1, q2⟩ := ho k (by omega)
      rw [ea (4 + 2 * k) (by omega), ea (3 + 2 * k) (by omega), q1]
      exact (h3 k (by omega)).congr fun i hi => (q2 i hi).symm
  · by_cases e : t = 3 + 2 * J
    · rw [e, e1]; exact hle
    · obtain ⟨q1, q2⟩ := hx t ht e
      rw [ea t q1]; exact h4 t q2
  · by_cases k1 : t = 3 + 2 * J
    · by_cases k2 : t' = 3 + 2 * J
      · rw [k1, k2]
      · obtain ⟨q1, q2⟩ := hx t' ht' k2
        rw [k1, e1, ea t' q1] at e
        exact absurd e.symm (Nat.ne_of_lt (hlt t' q2))
    · obtain ⟨q1, q2⟩ := hx t ht k1
      by_cases k2 : t' = 3 + 2 * J
      · rw [k2, e1, ea t q1] at e
        exact absurd e (Nat.ne_of_lt (hlt t q2))
      · obtain ⟨q3, q4⟩ := hx t' ht' k2
        rw [ea t q1, ea t' q3] at e
        exact h5 t t' q2 q4 e
/-- an alias is written -/
theorem NR.al (N : NR g M b0 R na n F fa J) (hw : rb_Wf g M) {f : Nat → Option Nat} : NR g (rb_up M (na 1) (rb_R 4 4 f)) b0 R na n F f J := by
  obtain ⟨h0, h1, h2, h3, h4, h5⟩ := N
  have hc : ∀ t, nrX g na J t → t ≠ 1 → (rb_up M (na 1) (rb_R 4 4 f)).2 (na t) = M.2 (na t) := fun t ht k => rb_up_ne (fun q => k (h5 _ _ ht (nrX.lo (by omega)) q))
  refine ⟨by rw [hc 0 (nrX.lo (by omega)) (by omega)]; exact h0, rb_up_eq, by rw [hc 2 (nrX.lo (by omega)) (by omega)]; exact h2, fun j hj => ?_, h4, h5⟩
  exact (h3 j hj).mv hw (hc _ (nrX.od hj) (by omega)) (fun q => hc _ (nrX.ev hj q) (by omega))
/-! with the picture -/
def nOf (acc : List Nat) (m : Nat) (C : Nat → List Nat) (j : Nat) : Nat := if j = 0 then acc.length else if j = 1 then m else (C (j - 2)).length
def FOf (ad : aD) (na : Nat → Nat) (acc : List Nat) (C : Nat → List Nat) (j i : Nat) : Nat := if j = 0 then ad 4 (acc.getD i 0) else if j = 1 then na (7 + 2 * i) else ad 8 ((C (j - 2)).getD i 0)
/-- the new role with the line acc, m chains (what lies in C), aliases fa, J lists -/
def NS (g : rb_G) (ms : mm_S) (ad : aD) (h : Nat) (ms0 : mm_S) (M : rb_H) (fI fB : Nat → Int32) (b0 R : Nat) (na : Nat → Nat) (acc : List Nat) (m : Nat) (C : Nat → List Nat) (fa : Nat → Option Nat) (J : Nat) : Prop :=
  WS g ms ad h ms0 M fI fB ∧ NR g M b0 R na (nOf acc m C) (FOf ad na acc C) fa J ∧ ∀ k i, exX g ms ad k i → ad k i < b0
variable {ms ms0 : mm_S} {ad : aD} {h : Nat} {fI fB : Nat → Int32} {acc : List Nat} {m : Nat} {C C' : Nat → List Nat}
theorem WS.low (W : WS g ms ad h ms0 M fI fB) (hb : ∀ k i, exX g ms ad k i → ad k i < b0) (hm : ∀ b, b < b0 → M'.2 b = M.2 b) : WS g ms ad h ms0 M' fI fB :=
  ⟨W.1.moved fun k i hx => hm _ (hb k i hx), by rw [hm _ (hb 66 0 rfl)]; exact W.2.1, by rw [hm _ (hb 67 0 rfl)]; exact W.2.2⟩
theorem getD_snoc (l : List Nat) (p i : Nat) (hi : i < l.length + 1) : (l ++ [p]).getD i 0 = if i = l.length then p else l.getD i 0 := by
  by_cases e : i = l.length
  · subst e; simp
  · rw [if_neg e, List.getD_eq_getElem?_getD, List.getD_eq_getElem?_getD, List.getElem?_append_left (by omega)]
theorem FOf_na {na na' : Nat → Nat} (e : ∀ i, na' (7 + 2 * i) = na (7 + 2 * i)) : FOf ad na' acc C = FOf ad na acc C := by
  funext j i
  unfold FOf
  rw [e]
theorem NS.line (N : NS g ms ad h ms0 M fI fB b0 R na acc m C fa J) (hJ : 2 ≤ J) : xLs g M (na 3) (na 4) acc.length (fun i => ad 4 (acc.getD i 0)) := N.2.1.2.2.2.1 0 (by omega)
theorem NS.chs (N : NS g ms ad h ms0 M fI fB b0 R na acc m C fa J) (hJ : 2 ≤ J) : xLs g M (na 5) (na 6) m (fun i => na (7 + 2 * i)) := N.2.1.2.2.2.1 1 (by omega)
theorem NS.ch (N : NS g ms ad h ms0 M fI fB b0 R na acc m C fa J) {k : Nat} (hk : k + 2 < J) : xLs g M (na (7 + 2 * k)) (na (8 + 2 * k)) (C k).length (fun i => ad 8 ((C k).getD i 0)) := by
  have := N.2.1.2.2.2.1 (k + 2) hk
  have e1 : nOf acc m C (k + 2) = (C k).length := by unfold nOf; rw [if_neg (by omega), if_neg (by omega)]; rfl
  have e2 : FOf ad na acc C (k + 2) = fun i => ad 8 ((C k).getD i 0) := by funext i; unfold FOf; rw [if_neg (by omega), if_neg (by omega)]; rfl
  rw [e1, e2, show 3 + 2 * (k + 2) = 7 + 2 * k by omega, show 4 + 2 * (k + 2) = 8 + 2 * k by omega] at this
  exact this
theorem NS.addLine (N : NS g ms ad h ms0 M fI fB b0 R na acc m C fa J) (hJ : 2 ≤ J) (hw : rb_Wf g M) {p : Nat} (hA : LSad g M (na 3) (na 4) acc.length (fun i => ad 4 (acc.getD i 0)) (ad 4 p) M') : ∃ na', NS g ms ad h ms0 M' fI fB b0 R na' (acc ++ [p]) m C fa J ∧ ∀ t, t ≠ 4 → na' t = na t := by
  obtain ⟨W, N, hb⟩ := N
  obtain ⟨na', N', e, hm⟩ := N.add (j := 0) (n' := nOf (acc ++ [p]) m C) (F' := FOf ad na (acc ++ [p]) C) hw (by omega) hA (by simp [nOf]) (fun i hi => by
    have hi : i < acc.length + 1 := hi
    show ad 4 ((acc ++ [p]).getD i 0) = if i = acc.length then ad 4 p else ad 4 (acc.getD i 0)
    rw [getD_snoc acc p i hi]
    split <;> rfl) (fun k hk hk0 => by
    unfold nOf FOf
    rw [if_neg hk0, if_neg hk0]
    exact ⟨rfl, fun i _ => by rw [if_neg hk0, if_neg hk0]⟩)
  refine ⟨na', ⟨W.low hb hm, ?_, hb⟩, e⟩
  rw [FOf_na (na := na) (fun i => e _ (by omega))]
  exact N'
theorem NS.addChain (N : NS g ms ad h ms0 M fI fB b0 R na acc m C fa J) {k b : Nat} (hk : k + 2 < J) (hw : rb_Wf g M) (hA : LSad g M (na (7 + 2 * k)) (na (8 + 2 * k)) (C k).length (fun i => ad 8 ((C k).getD i 0)) (ad 8 b) M') (hC : C' k = C k ++ [b]) (hC2 : ∀ i, i ≠ k → C' i = C i) : ∃ na', NS g ms ad h ms0 M' fI fB b0 R na' acc m C' fa J ∧ ∀ t, t ≠ 8 + 2 * k → na' t = na t := by
  obtain ⟨W, N, hb⟩ := N
  have e1 : ∀ C : Nat → List Nat, nOf acc m C (k + 2) = (C k).length := fun C => by unfold nOf; rw [if_neg (by omega), if_neg (by omega)]; rfl
  have e2 : ∀ C : Nat → List Nat, FOf ad na acc C (k + 2) = fun i => ad 8 ((C k).getD i 0) := fun C => by funext i; unfold FOf; rw [if_neg (by omega), if_neg (by omega)]; rfl
  obtain ⟨na', N', e, hm⟩ := N.add (j := k + 2) (y := ad 8 b) (M' := M') (n' := nOf acc m C') (F' := FOf ad na acc C') hw hk (by rw [e1, e2, show 3 + 2 * (k + 2) = 7 + 2 * k by omega, show 4 + 2 * (k + 2) = 8 + 2 * k by omega]; exact hA) (by rw [e1, e1, hC]; simp) (fun i hi => by
    rw [e1] at hi ⊢
    rw [e2, e2, hC]
    show ad 8 ((C k ++ [b]).getD i 0) = if i = (C k).length then ad 8 b else ad 8 ((C k).getD i 0)
    rw [getD_snoc _ b i hi]
    split <;> rfl) (fun k' hk' hk0 => by
    unfold nOf FOf
    by_cases k0 : k' = 0
    · simp [k0]
    · by_cases k1 : k' = 1
      · simp [k1]
      · simp [k0, k1, hC2 (k' - 2) (by omega)])
  refine ⟨na', ⟨W.low hb hm, ?_, hb⟩, fun t ht => e t (by omega)⟩
  rw [FOf_na (na := na) (fun i => e _ (by omega))]
  exact N'
theorem NS.addChs (N : NS g ms ad h ms0 M fI fB b0 R na acc m C fa J) (hJ : 2 ≤ J) (hw : rb_Wf g M) (hA : LSad g M (na 5) (na 6) m (fun i => na (7 + 2 * i)) (na (7 + 2 * m)) M') : ∃ na', NS g ms ad h ms0 M' fI fB b0 R na' acc (m + 1) C fa J ∧ ∀ t, t ≠ 6 → na' t = na t := by
  obtain ⟨W, N, hb⟩ := N
  obtain ⟨na', N', e, hm⟩ := N.add (j := 1) (n' := nOf acc (m + 1) C) (F' := FOf ad na acc C) hw (by omega) hA rfl (fun i hi => by
    show na (7 + 2 * i) = if i = m then na (7 + 2 * m) else na (7 + 2 * i)
    by_cases e : i = m
    · rw [if_pos e, e]
    · rw [if_neg e]) (fun k hk hk0 => by
    unfold nOf
    rw [if_neg hk0, if_neg hk0]
    exact ⟨rfl, fun i _ => rfl⟩)
  refine ⟨na', ⟨W.low hb hm, ?_, hb⟩, e⟩
  rw [FOf_na (na := na) (fun i => e _ (by omega))]
  exact N'
theorem NS.newCh (N : NS g ms ad h ms0 M fI fB b0 R na acc m C fa (m + 2)) (hw : rb_Wf g M) (hC : C' m = []) (hC2 : ∀ i, i < m → C' i = C i) : ∃ na', NS g ms ad h ms0 (rb_up (rb_nw M (rb_O 7 [.int 0, .null, .int 0])) M.1 (rb_O 7 [.int 0, .ref (rb_dc g), .int 0])) fI fB b0 R na' acc m C' fa (m + 3) ∧ na' (7 + 2 * m) = M.1 ∧ ∀ t, t < 7 + 2 * m → na' t = na t := by
  obtain ⟨W, N, hb⟩ := N
  have hle := N.le hw
  have N' := N.list (n' := nOf acc m C') (F' := FOf ad na acc C') hw (by omega) (by unfold nOf; rw [if_neg (by omega), if_neg (by omega), Nat.add_sub_cancel, hC]; rfl) (fun k hk => by
    unfold nOf FOf
    by_cases k0 : k = 0
    · simp [k0]
    · by_cases k1 : k = 1
      · simp [k1]
      · simp [k0, k1, hC2 (k - 2) (by omega)])
  generalize hna : (fun t => if t = 3 + 2 * (m + 2) then M.1 else if t = 4 + 2 * (m + 2) then rb_dc g else na t) = na' at N'
  have ea : ∀ t, t < 7 + 2 * m → na' t = na t := fun t q => by rw [← hna]; show (if _ then _ else if _ then _ else _) = _; rw [if_neg (by omega), if_neg (by omega)]
  have e1 : na' (7 + 2 * m) = M.1 := by rw [← hna]; exact if_pos (by omega)
  refine ⟨na', ⟨W.low hb fun b hb => ?_, ?_, hb⟩, e1, ea⟩
  · rw [rb_up_nw, rb_nw_ne (by omega)]
  · obtain ⟨h0, h1, h2, h3, h4⟩ := N'
    refine ⟨h0, h1, h2, fun j hj => (h3 j hj).congr fun i hi => ?_, h4⟩
    unfold FOf
    by_cases k1 : j = 1
    · subst k1
      have hi : i < m := hi
      simp [ea (7 + 2 * i) (by omega)]
    · simp [k1]
theorem NS.al (N : NS g ms ad h ms0 M fI fB b0 R na acc m C fa J) (hw : rb_Wf g M) {f : Nat → Option Nat} : NS g ms ad h ms0 (rb_up M (na 1) (rb_R 4 4 f)) fI fB b0 R na acc m C f J := by
  obtain ⟨W, N, hb⟩ := N
  refine ⟨W.low hb fun b hb => rb_up_ne ?_, N.al hw, hb⟩
  have := N.2.2.2.2.1 1 (nrX.lo (by omega))
  omega
theorem NS.setI (N : NS g ms ad h ms0 M fI fB b0 R na acc m C fa J) (hw : rb_Wf g M) {f : Nat → Int32} : NS g ms ad h ms0 (rb_up M (ad 66 0) (rb_Z 24 f)) f fB b0 R na acc m C fa J := by
  obtain ⟨W, N, hb⟩ := N
  refine ⟨W.setI, N.moved hw fun t ht => rb_up_ne ?_, hb⟩
  have h1 := N.2.2.2.2.1 t ht
  have h2 := hb 66 0 rfl
  omega
end V15
