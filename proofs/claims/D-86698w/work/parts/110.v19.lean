set_option maxRecDepth 100000
/-! weaving, the class's side: the new role is known -/
/-- the tags of the new role, and its cells -/
def rTp (Q k i t : Nat) : Prop := (k = 10 ∧ i = Q ∧ t = 0) ∨ (k = 11 ∧ i = Q ∧ t = 1) ∨ (k = 12 ∧ i = Q ∧ t = 2) ∨ (k = 26 ∧ i = Q ∧ t = 3) ∨ (k = 36 ∧ i = Q ∧ t = 4) ∨ (k = 27 ∧ i = Q ∧ t = 5) ∨ (k = 37 ∧ i = Q ∧ t = 6) ∨ (k = 28 ∧ 12 * Q ≤ i ∧ i < 12 * Q + 12 ∧ t = 7 + 2 * (i - 12 * Q)) ∨ (k = 38 ∧ 12 * Q ≤ i ∧ i < 12 * Q + 12 ∧ t = 8 + 2 * (i - 12 * Q))
theorem rTp.fn {Q k i t t' : Nat} (h : rTp Q k i t) (h' : rTp Q k i t') : t = t' := by
  unfold rTp at h'
  rcases h with ⟨rfl, h1, rfl⟩ | ⟨rfl, h1, rfl⟩ | ⟨rfl, h1, rfl⟩ | ⟨rfl, h1, rfl⟩ | ⟨rfl, h1, rfl⟩ | ⟨rfl, h1, rfl⟩ | ⟨rfl, h1, rfl⟩ | ⟨rfl, h1, h2, rfl⟩ | ⟨rfl, h1, h2, rfl⟩ <;> simp at h' <;> omega
theorem rTp.inj {Q k i k' i' t : Nat} (h : rTp Q k i t) (h' : rTp Q k' i' t) : k = k' ∧ i = i' := by
  unfold rTp at h'
  rcases h with ⟨rfl, h1, rfl⟩ | ⟨rfl, h1, rfl⟩ | ⟨rfl, h1, rfl⟩ | ⟨rfl, h1, rfl⟩ | ⟨rfl, h1, rfl⟩ | ⟨rfl, h1, rfl⟩ | ⟨rfl, h1, rfl⟩ | ⟨rfl, h1, h2, rfl⟩ | ⟨rfl, h1, h2, rfl⟩ <;> rcases h' with ⟨k1, k2, k3⟩ | ⟨k1, k2, k3⟩ | ⟨k1, k2, k3⟩ | ⟨k1, k2, k3⟩ | ⟨k1, k2, k3⟩ | ⟨k1, k2, k3⟩ | ⟨k1, k2, k3⟩ | ⟨k1, k2, k3, k4⟩ | ⟨k1, k2, k3, k4⟩ <;> first | exact ⟨k1.symm, h1.trans k2.symm⟩ | omega
theorem rTp.kk {Q k i t : Nat} (h : rTp Q k i t) : k ∈ [10, 11, 12, 26, 36, 27, 37, 28, 38] := by
  rcases h with h | h | h | h | h | h | h | h | h <;> (rw [h.1]; decide)
theorem rTp.no {Q k i : Nat} (h : [10, 11, 12, 26, 36, 27, 37, 28, 38].contains k = false) (t : Nat) : ¬ rTp Q k i t := fun e => by
  have := e.kk
  rw [← List.contains_iff_mem, h] at this
  exact absurd this (by decide)
theorem rTp.ten {Q k i t : Nat} (h : rTp Q k i t) (hk : k = 10) : i = Q := by
  unfold rTp at h
  omega
theorem rTp.dn {Q k i t : Nat} (e : rTp Q (k + 10) i t) (h1 : 20 ≤ k) (h2 : k < 30) : rTp Q k i (t - 1) := by
  rcases e with h | h | h | h | ⟨h, h3, h4⟩ | h | ⟨h, h3, h4⟩ | h | ⟨h, h3, h4, h5⟩
  · omega
  · omega
  · omega
  · omega
  · exact Or.inr (Or.inr (Or.inr (Or.inl ⟨by omega, h3, by omega⟩)))
  · omega
  · exact Or.inr (Or.inr (Or.inr (Or.inr (Or.inr (Or.inl ⟨by omega, h3, by omega⟩)))))
  · omega
  · exact Or.inr (Or.inr (Or.inr (Or.inr (Or.inr (Or.inr (Or.inr (Or.inl ⟨by omega, h3, h4, by omega⟩)))))))
theorem rTp.lt {Q k i t : Nat} (e : rTp Q k i t) : t < 31 := by
  unfold rTp at e
  omega
theorem rTp.ev {Q k i t : Nat} (e : rTp Q k i t) (h4 : 4 ≤ t) (h2 : t % 2 = 0) : k = 36 ∨ k = 37 ∨ k = 38 := by
  unfold rTp at e
  omega
theorem rTp.ls {Q j i t : Nat} (e : rTp Q (30 + j) i t) : (j = 6 ∧ i = Q ∧ t = 4) ∨ (j = 7 ∧ i = Q ∧ t = 6) ∨ (j = 8 ∧ ∃ m, m < 12 ∧ i = 12 * Q + m ∧ t = 8 + 2 * m) := by
  unfold rTp at e
  by_cases j8 : j = 8
  · exact Or.inr (Or.inr ⟨j8, i - 12 * Q, by omega, by omega, by omega⟩)
  · omega
theorem rTp_28 {Q m : Nat} (hm : m < 12) : rTp Q 28 (12 * Q + m) (7 + 2 * m) := by
  unfold rTp
  omega
theorem rTp_38 {Q m : Nat} (hm : m < 12) : rTp Q 38 (12 * Q + m) (8 + 2 * m) := by
  unfold rTp
  omega
noncomputable def adR (ad : aD) (na : Nat → Nat) (Q r' : Nat) : aD := fun k i => if k = 31 ∧ i = 0 then r' else @dite _ (∃ t, rTp Q k i t) (Classical.propDecidable _) (fun e => na e.choose) (fun _ => ad k i)
theorem adR_31 {ad : aD} {na : Nat → Nat} {Q r' : Nat} : adR ad na Q r' 31 0 = r' := if_pos ⟨rfl, rfl⟩
theorem adR_t {ad : aD} {na : Nat → Nat} {Q r' k i t : Nat} (e : rTp Q k i t) : adR ad na Q r' k i = na t := by
  have hk : ¬ (k = 31 ∧ i = 0) := by unfold rTp at e; omega
  have hx : ∃ t, rTp Q k i t := ⟨t, e⟩
  unfold adR
  rw [if_neg hk, dif_pos hx, hx.choose_spec.fn e]
theorem adR_o {ad : aD} {na : Nat → Nat} {Q r' k i : Nat} (h1 : ¬ (k = 31 ∧ i = 0)) (h2 : ∀ t, ¬ rTp Q k i t) : adR ad na Q r' k i = ad k i := by
  unfold adR
  rw [if_neg h1, dif_neg (fun q => h2 _ q.choose_spec)]
section V19
variable {g : rb_G} {ms m' ms0 : mm_S} {ad : aD} {h : Nat} {B : Nat} {M M' : rb_H} {fI fB : Nat → Int32} {b0 Q : Nat} {na : Nat → Nat} {l : List Nat} {fa : Nat → Option Nat}
/-- ms' but for the number of roles -/
def but24 (ms m' : mm_S) : mm_S := (fun k => if k = 24 then ms.1 24 else m'.1 k, m'.2)
theorem b24_n {k : Nat} (hk : k ≠ 24) : (but24 ms m').1 k = m'.1 k := by
  show (if k = 24 then ms.1 24 else m'.1 k) = m'.1 k
  rw [if_neg hk]
theorem b24_s : (but24 ms m').1 24 = ms.1 24 := by
  show (if (24 : Nat) = 24 then ms.1 24 else m'.1 24) = ms.1 24
  rw [if_pos rfl]
theorem exM_24 {g : rb_G} {m1 : mm_S} {ad : aD} {Q k i t : Nat} (h24 : nN m1 24 0 = Q) (hx : exX g m1 ad k i) (e : rTp Q k i t) : False := by
  rcases e with ⟨rfl, rfl, -⟩ | ⟨rfl, rfl, -⟩ | ⟨rfl, rfl, -⟩ | ⟨rfl, rfl, -⟩ | ⟨rfl, rfl, -⟩ | ⟨rfl, rfl, -⟩ | ⟨rfl, rfl, -⟩ | ⟨rfl, h1, h2, -⟩ | ⟨rfl, h1, h2, -⟩
  · have hx : i < nN m1 24 0 := hx
    omega
  · have hx : i < nN m1 24 0 := hx
    omega
  · have hx : i < nN m1 24 0 := hx
    omega
  · have hx : i < nN m1 24 0 := hx
    omega
  · have hx : i < nN m1 24 0 := hx.1
    omega
  · have hx : i < nN m1 24 0 := hx
    omega
  · have hx : i < nN m1 24 0 := hx.1
    omega
  · have hx : i < 12 * nN m1 24 0 := hx
    omega
  · have hx : i < 12 * nN m1 24 0 := hx.1
    omega
theorem Rep.newRole (I : Inv B ms) (hQ : nN ms 24 0 = Q) (N : NS g ms ad h ms0 M fI fB b0 Q na l 12 (fun k => chL ms k l) fa 14) (hw : rb_Wf g M) (hll : l.length ≤ 24) (hlt : ∀ p, p ∈ l → p < nN ms 0 0) (hQ24 : Q < 24) (hA : LSad g M (ad 21 0) (ad 31 0) Q (eltL ms ad 1 0) (na 0) M') (hfa : ∀ a, a < 4 → fa a = alS ms ad a)
    (hs : sameX [24, 25, 26, 27, 28, 29, 30, 31, 32, 37, 38] ms m') (hlo : low Q ms m') (h24 : m'.1 24 0 = nI (Q + 1)) (h25 : rowL m' Q l) (h28 : ∀ m, m < 12 → rowC m' (12 * Q + m) (chL ms m l)) (h30 : ∀ b, b < 4 → alRes ms (fun m => chL ms m l) Q m' b) (h32 : ∀ i, i < l.length → m'.1 32 (24 * Q + i) = 0) : M'.2 (na 0) = M.2 (na 0) ∧ ∃ ad', ad' 0 0 = ad 0 0 ∧ Rep g m' ad' h ms0 M' := by
  have hP0 := I.pn
  have hlt24 : ∀ p, p ∈ l → p < 24 := fun p hp => by have := hlt p hp; omega
  have hle := N.2.1.le hw
  have hnl := fun t ht => N.2.1.lt hw (t := t) ht
  have hnb := N.2.1.2.2.2.2.1
  have hni := N.2.1.2.2.2.2.2
  have hlow := N.2.2
  have hWs : sameX WF ms (but24 ms m') := ⟨hs.1, fun k hk => by
    by_cases e : k = 24
    · rw [e, b24_s]
    · rw [b24_n e]
      refine hs.2 k fun q => ?_
      have : ∀ k, k ∈ [24, 25, 26, 27, 28, 29, 30, 31, 32, 37, 38] → k ≠ 24 → k ∈ WF := by decide
      exact hk (this k q e)⟩
  have hWl : low (nN ms 24 0) ms (but24 ms m') := by
    intro k x k1 k2 k3
    rw [b24_n (by omega)]
    rw [hQ] at k3
    exact hlo k x k1 k2 k3
  have I1 := Inv_low I hWs hWl
  have R0 := N.1.1.lowTo I hWs hWl
  have hb24 : ∀ F, F ∉ [24] → sameF (but24 ms m') m' F := fun F hF => ⟨(b24_n (by simpa using hF)).symm, rfl⟩
  have n24 : nN (but24 ms m') 24 0 = Q := by unfold nN; rw [b24_s]; exact hQ
  have n24' : nN m' 24 0 = Q + 1 := by unfold nN; rw [h24, nI_clamp (by omega)]
  generalize hm1 : but24 ms m' = m1 at hWs hWl I1 R0 hb24 n24
  have hexb : ∀ k i, exX g m1 ad k i → ad k i < b0 := fun k i hx => by
    refine hlow k i ?_
    have hWl' := hWl
    rw [show nN ms 24 0 = nN ms 24 0 from rfl] at hWl'
    by_cases hk : k ∈ [14, 15, 16, 17, 18]
    · simp only [List.mem_cons, List.not_mem_nil, or_false] at hk
      rcases hk with rfl | rfl | rfl | rfl | rfl <;> exact (stX_low I hWs hWl).mp hx
    · refine (exX_dep k i fun F hF => hWs.F F fun q => ?_).mp hx
      rcases Nat.lt_or_ge k 40 with hk40 | hk40
      · have key : ∀ k, k < 40 → k ∉ [14, 15, 16, 17, 18] → ∀ F, F ∈ eX k → F ∉ WF := by decide
        exact key k hk40 hk F hF q
      · unfold eX at hF
        rw [if_neg (by omega), if_neg (by omega), if_neg (by omega)] at hF
        cases hF
  let Mb : rb_H := (b0, fun b => if b < b0 then M.2 b else none)
  have hMb : ∀ b, b < b0 → Mb.2 b = M.2 b := fun b hb => if_pos hb
  have R1 : Rep g m1 ad h ms0 Mb := R0.moved fun k i hx => hMb _ (hexb k i hx)
  have hwb : rb_Wf g Mb := by
    refine ⟨?_, hw.2.1, fun a e he => ?_⟩
    · have := hnb 0 (nrX.lo (by omega))
      have h0 := R1.1 0 0 rfl
      obtain ⟨c, q1, -⟩ := N.1.1.1 0 0 rfl
      have q2 := (hw.2.2 _ _ q1).1
      have q3 := hlow 0 0 rfl
      show _ ≤ b0
      omega
    · by_cases hb : a < b0
      · rw [hMb a hb] at he
        exact ⟨(hw.2.2 _ _ he).1, hb⟩
      · have : Mb.2 a = none := if_neg hb
        rw [this] at he
        cases he
  obtain ⟨r', hL', hr', hot⟩ := hA
  have hr0 : heapLe g r' := by
    rcases hr' with ⟨rfl, e, he⟩ | rfl
    · exact (hw.2.2 _ _ he).1
    · exact hw.1
  have hrd : r' ≠ rb_dc g := fun q => by
    have := hw.2.1
    rw [← q] at this
    exact absurd this (Nat.not_lt.mpr hr0)
  have hr1 : (r' = ad 31 0 ∧ ad 31 0 < b0) ∨ r' = M.1 := by
    rcases hr' with ⟨e, -⟩ | e
    · exact Or.inl ⟨e, hlow 31 0 ⟨rfl, by rw [← e]; exact hrd⟩⟩
    · exact Or.inr e
  have h21 : ad 21 0 < b0 := hlow 21 0 rfl
  have hcl : ∀ t, nrX g na 14 t → M'.2 (na t) = M.2 (na t) := by
    intro t ht
    have q1 := hnb t ht
    have q2 := hnl t ht
    refine hot _ (by omega) ?_
    rcases hr1 with ⟨e, q⟩ | e <;> omega
  have a31 : adR ad na Q r' 31 0 = r' := adR_31
  have aT : ∀ {k i t : Nat}, rTp Q k i t → adR ad na Q r' k i = na t := adR_t
  have aO : ∀ {k i : Nat}, ¬ (k = 31 ∧ i = 0) → (∀ t, ¬ rTp Q k i t) → adR ad na Q r' k i = ad k i := adR_o
  have a4 : ∀ p, adR ad na Q r' 4 p = ad 4 p := fun p => aO (by omega) (rTp.no rfl)
  have a8 : ∀ p, adR ad na Q r' 8 p = ad 8 p := fun p => aO (by omega) (rTp.no rfl)
  have a10 : adR ad na Q r' 10 Q = na 0 := aT (Or.inl ⟨rfl, rfl, rfl⟩)
  have a11 : adR ad na Q r' 11 Q = na 1 := aT (Or.inr (Or.inl ⟨rfl, rfl, rfl⟩))
  have a12 : adR ad na Q r' 12 Q = na 2 := aT (Or.inr (Or.inr (Or.inl ⟨rfl, rfl, rfl⟩)))
  have a26 : adR ad na Q r' 26 Q = na 3 := aT (Or.inr (Or.inr (Or.inr (Or.inl ⟨rfl, rfl, rfl⟩))))
  have a36 : adR ad na Q r' 36 Q = na 4 := aT (Or.inr (Or.inr (Or.inr (Or.inr (Or.inl ⟨rfl, rfl, rfl⟩)))))
  have a27 : adR ad na Q r' 27 Q = na 5 := aT (Or.inr (Or.inr (Or.inr (Or.inr (Or.inr (Or.inl ⟨rfl, rfl, rfl⟩))))))
  have a37 : adR ad na Q r' 37 Q = na 6 := aT (Or.inr (Or.inr (Or.inr (Or.inr (Or.inr (Or.inr (Or.inl ⟨rfl, rfl, rfl⟩)))))))
  have a28 : ∀ m, m < 12 → adR ad na Q r' 28 (12 * Q + m) = na (7 + 2 * m) := fun m hm => aT (rTp_28 hm)
  have a38 : ∀ m, m < 12 → adR ad na Q r' 38 (12 * Q + m) = na (8 + 2 * m) := fun m hm => aT (rTp_38 hm)
  have hlen6 : nN m' 25 Q = l.length := rowL_n h25 hll
  have hlen8 : ∀ m, m < 12 → nN m' 28 (12 * Q + m) = (chL ms m l).length := fun m hm => rowC_n (h28 m hm) (by have := chL_len ms m l; omega)
  have helt6 : ∀ t, t < l.length → nN m' 26 (24 * Q + t) = l.getD t 0 := fun t ht => by
    have := hlt24 _ (getD_mem l t ht)
    unfold nN
    rw [h25.2 t ht, nI_clamp (by omega)]
  have helt8 : ∀ m t, m < 12 → t < (chL ms m l).length → nN m' 29 (48 * (12 * Q + m) + t) = (chL ms m l).getD t 0 := fun m t hm ht => by
    have := chL_ok (ms := ms) hm l hlt24 (getD_mem (chL ms m l) t ht)
    unfold nN
    rw [(h28 m hm).2 t ht, nI_clamp (by omega)]
  have hline := N.line (by omega)
  have hchs := N.chs (by omega)
  have hch : ∀ m, m < 12 → xLs g M (na (7 + 2 * m)) (na (8 + 2 * m)) (chL ms m l).length (fun i => ad 8 ((chL ms m l).getD i 0)) := fun m hm => N.ch (k := m) (by omega)
  have nodc : ∀ {r n : Nat} {c : rb_E}, M.2 r = some c → r ≠ rb_dc g := fun {r n c} hc q => by
    have h1 := (hw.2.2 _ _ hc).1
    have h2 := hw.2.1
    omega
  generalize hAD : adR ad na Q r' = ad' at a31 aT aO a4 a8 a10 a11 a12 a26 a36 a27 a37 a28 a38
  have hok31 : ∃ c, M'.2 r' = some c ∧ okE m' ad' 1 0 c := by
    rcases hL'.2 with ⟨q, -⟩ | ⟨cap, q1, q2, q3, q4⟩
    · omega
    · refine ⟨_, q4, cap, by show nN m' 24 0 ≤ cap; omega, q2, q3, ?_⟩
      congr 4
      funext t
      show _ = if t < nN m' 24 0 then some (ad' 10 t) else none
      rw [n24']
      by_cases ht : t < Q + 1
      · rw [if_pos ht, if_pos ht]
        show some (if t = Q then na 0 else ad 10 t) = some (ad' 10 t)
        by_cases e : t = Q
        · rw [if_pos e, e, a10]
        · rw [if_neg e, aO (by omega) (fun t' q => e (q.ten rfl))]
      · rw [if_neg ht, if_neg ht]
  refine ⟨hcl 0 (nrX.lo (by omega)), ad', by rw [aO (by omega) (rTp.no rfl)], R1.build hwb (fun k i => (∃ t, rTp Q k i t) ∨ (k = 31 ∧ i = 0 ∧ r' = M.1)) ?_ ?_ ?_ ?_ ?_ ?_⟩
  · intro k i hx hn
    by_cases k31 : k = 31 ∧ i = 0
    · obtain ⟨rfl, rfl⟩ := k31
      rcases hr1 with ⟨e, q⟩ | e
      · exact ⟨⟨rfl, by rw [← e]; exact hrd⟩, by rw [a31, e]⟩
      · exact absurd (Or.inr ⟨rfl, rfl, e⟩) hn
    · have hno : ∀ t, ¬ rTp Q k i t := fun t e => hn (Or.inl ⟨t, e⟩)
      have ea := aO k31 hno
      refine ⟨?_, ea⟩
      have hx2 : exX g m' ad k i := by
        unfold exX at hx ⊢
        rw [ea] at hx
        exact hx
      by_cases hk : k ∈ [10, 11, 12, 26, 27, 28, 36, 37, 38]
      · simp only [List.mem_cons, List.not_mem_nil, or_false] at hk
        unfold rTp at hno
        rcases hk with rfl | rfl | rfl | rfl | rfl | rfl | rfl | rfl | rfl
        · have hx2 : i < nN m' 24 0 := hx2
          have := hno 0
          show i < nN m1 24 0
          omega
        · have hx2 : i < nN m' 24 0 := hx2
          have := hno 1
          show i < nN m1 24 0
          omega
        · have hx2 : i < nN m' 24 0 := hx2
          have := hno 2
          show i < nN m1 24 0
          omega
        · have hx2 : i < nN m' 24 0 := hx2
          have := hno 3
          show i < nN m1 24 0
          omega
        · have hx2 : i < nN m' 24 0 := hx2
          have := hno 5
          show i < nN m1 24 0
          omega
        · have hx2 : i < 12 * nN m' 24 0 := hx2
          have := hno (7 + 2 * (i - 12 * Q))
          show i < 12 * nN m1 24 0
          omega
        · have hx3 : i < nN m' 24 0 := hx2.1
          have := hno 4
          exact ⟨show i < nN m1 24 0 by omega, hx2.2⟩
        · have hx3 : i < nN m' 24 0 := hx2.1
          have := hno 6
          exact ⟨show i < nN m1 24 0 by omega, hx2.2⟩
        · have hx3 : i < 12 * nN m' 24 0 := hx2.1
          have := hno (8 + 2 * (i - 12 * Q))
          exact ⟨show i < 12 * nN m1 24 0 by omega, hx2.2⟩
      · refine (exX_dep k i fun F hF => hb24 F fun q => ?_).mp hx2
        rcases Nat.lt_or_ge k 40 with hk40 | hk40
        · have key : ∀ k, k < 40 → k ∉ [10, 11, 12, 26, 27, 28, 36, 37, 38] → ∀ F, F ∈ eX k → F ∉ [24] := by decide
          exact key k hk40 hk F hF q
        · unfold eX at hF
          rw [if_neg (by omega), if_neg (by omega), if_neg (by omega)] at hF
          cases hF
  · intro k i hx hx' hn
    by_cases e21 : k = 21
    · subst e21
      obtain rfl : i = 0 := hx
      obtain ⟨⟨md, hL1⟩, -⟩ := hL'
      right
      refine ⟨_, hL1, md, ?_⟩
      show rb_O 7 _ = rb_O 7 [.int md, .ref (ad' 31 0), .int (nI (nN m' 24 0))]
      rw [a31, n24']
    by_cases e31 : k = 31
    · subst e31
      obtain ⟨hi, hd⟩ := hx
      obtain rfl : i = 0 := hi
      right
      rcases hr1 with ⟨e1, e2⟩ | e
      · obtain ⟨c, q1, q2⟩ := hok31
        exact ⟨c, by rw [← e1]; exact q1, q2⟩
      · exact absurd (Or.inr ⟨rfl, rfl, e⟩) hn
    left
    have hb := hexb k i hx
    refine ⟨?_, fun F hF => hb24 F fun q => dX_not [24] [21, 31] (by decide) k (by simp only [List.mem_cons, List.not_mem_nil, or_false]; omega) F hF q, fun k' i' hr => ?_⟩
    · rw [hMb _ hb]
      refine hot _ (R1.ne hx (k' := 21) (i' := 0) rfl (by omega)) ?_
      rcases hr1 with ⟨e1, e2⟩ | e
      · rw [e1]; exact R1.ne hx (k' := 31) (i' := 0) ⟨rfl, by rw [← e1]; exact hrd⟩ (by omega)
      · omega
    · have h31 : ¬ (k' = 31 ∧ i' = 0) := by
        rintro ⟨rfl, rfl⟩
        exact rX_30 (l := 1) (by decide) e21 hr
      refine aO h31 fun t e => ?_
      rcases rX_ex I1 hx hr with q | ⟨q1, q2, q3, q4⟩
      · exact exM_24 n24 q e
      · subst q4
        rw [q1] at e
        exact exM_24 n24 hx (rTp.dn e q2 q3)
  · intro k i hn hx'
    rcases hn with ⟨t, e⟩ | ⟨rfl, rfl, e⟩
    · have hnx : nrX g na 14 t := by
        refine ⟨e.lt, fun t4 te => ?_⟩
        have hk := e.ev t4 te
        rw [← aT e]
        rcases hk with rfl | rfl | rfl <;> exact hx'.2
      rw [aT e, hcl t hnx]
      refine ⟨hnb t hnx, ?_⟩
      rcases e with ⟨rfl, rfl, rfl⟩ | ⟨rfl, rfl, rfl⟩ | ⟨rfl, rfl, rfl⟩ | ⟨rfl, rfl, rfl⟩ | ⟨rfl, rfl, rfl⟩ | ⟨rfl, rfl, rfl⟩ | ⟨rfl, rfl, rfl⟩ | ⟨rfl, k1, k2, rfl⟩ | ⟨rfl, k1, k2, rfl⟩
      · refine ⟨_, N.2.1.1, ?_⟩
        show rb_O 27 _ = rb_O 27 [.int (nI i), .ref (ad' 26 i), .ref (ad' 27 i), .ref (ad' 11 i), .ref (ad' 12 i)]
        rw [a26, a27, a11, a12]
      · refine ⟨_, N.2.1.2.1, fa, rfl, fun a ha => ?_⟩
        rw [hfa a ha]
        unfold alS alRf
        rcases h30 a ha with ⟨q1, q2⟩ | ⟨q1, q2, t, ht, hp, q3⟩
        · rw [if_pos q1, if_pos q2]
        · obtain ⟨-, p, m, hp1, hm1, e21, e22⟩ := (I.2.2.2.1.2.2 a ha).resolve_left q1
          have n22 : nN ms 22 a = m := by unfold nN; rw [e22, nI_clamp (by omega)]
          have n21 : nN ms 21 a = p := by unfold nN; rw [e21, nI_clamp (by omega)]
          rw [n22] at ht hp
          rw [n21] at hp
          have hcl := chL_len ms m l
          have ht : t < (chL ms m l).length := ht
          have n30 : nN m' 30 (4 * i + a) = m := by unfold nN; rw [q2, e22, nI_clamp (by omega)]
          have n31 : nN m' 31 (4 * i + a) = t := by unfold nN; rw [q3, nI_clamp (by omega)]
          rw [if_neg q1, if_neg (by rw [q2, e22]; exact n9_ne (by omega)), n30, n31, helt8 m t hm1 ht, a8, n21, n22]
          congr 2
          rcases hp with ⟨z, -⟩ | ⟨k, k1, k2, -, k4⟩
          · exact absurd z (n9_ne (by omega))
          · have k1 : k < (chL ms m l).length := k1
            have : t = k := (nI_eq (by omega) (by omega)).mp k4
            subst this
            have k2 : (chL ms m l).getD t 0 = 25 * p + (12 * 0 + m) := k2
            rw [k2]
            omega
      · refine ⟨_, N.2.1.2.2.1, _, rfl, fun j hj => ?_⟩
        rw [hlen6] at hj
        exact (h32 j hj).symm
      · obtain ⟨⟨md, q⟩, -⟩ := hline
        refine ⟨_, q, md, ?_⟩
        show rb_O 7 _ = rb_O 7 [.int md, .ref (ad' 36 i), .int (nI (nN m' 25 i))]
        rw [a36, hlen6]
      · rcases hline.2 with ⟨-, q⟩ | ⟨cap, q1, q2, q3, q4⟩
        · exact absurd q (hnx.2 (by omega) (by omega))
        · refine ⟨_, q4, cap, by show nN m' 25 i ≤ cap; omega, q2, q3, ?_⟩
          congr 4
          funext t
          show _ = if t < nN m' 25 i then some (ad' 4 (nN m' 26 (24 * i + t))) else none
          rw [hlen6]
          by_cases ht : t < l.length
          · rw [if_pos ht, if_pos ht, helt6 t ht, a4]
          · rw [if_neg ht, if_neg ht]
      · obtain ⟨⟨md, q⟩, -⟩ := hchs
        refine ⟨_, q, md, ?_⟩
        show rb_O 7 _ = rb_O 7 [.int md, .ref (ad' 37 i), .int (nI 12)]
        rw [a37]
      · rcases hchs.2 with ⟨-, q⟩ | ⟨cap, q1, q2, q3, q4⟩
        · exact absurd q (hnx.2 (by omega) (by omega))
        · refine ⟨_, q4, cap, q1, q2, q3, ?_⟩
          congr 4
          funext t
          show _ = if t < 12 then some (ad' 28 (12 * i + t)) else none
          by_cases ht : t < 12
          · rw [if_pos ht, if_pos ht, a28 t ht]
          · rw [if_neg ht, if_neg ht]
      · obtain ⟨m, hm, rfl⟩ : ∃ m, m < 12 ∧ i = 12 * Q + m := ⟨i - 12 * Q, by omega, by omega⟩
        rw [show 12 * Q + m - 12 * Q = m by omega]
        obtain ⟨⟨md, q⟩, -⟩ := hch m hm
        refine ⟨_, q, md, ?_⟩
        show rb_O 7 _ = rb_O 7 [.int md, .ref (ad' 38 (12 * Q + m)), .int (nI (nN m' 28 (12 * Q + m)))]
        rw [a38 m hm, hlen8 m hm]
      · obtain ⟨m, hm, rfl⟩ : ∃ m, m < 12 ∧ i = 12 * Q + m := ⟨i - 12 * Q, by omega, by omega⟩
        rw [show 12 * Q + m - 12 * Q = m by omega] at hnx ⊢
        rcases (hch m hm).2 with ⟨-, q⟩ | ⟨cap, q1, q2, q3, q4⟩
        · exact absurd q (hnx.2 (by omega) (by omega))
        · refine ⟨_, q4, cap, by show nN m' 28 (12 * Q + m) ≤ cap; rw [hlen8 m hm]; exact q1, q2, q3, ?_⟩
          congr 4
          funext t
          show _ = if t < nN m' 28 (12 * Q + m) then some (ad' 8 (nN m' 29 (48 * (12 * Q + m) + t))) else none
          rw [hlen8 m hm]
          by_cases ht : t < (chL ms m l).length
          · rw [if_pos ht, if_pos ht, helt8 m t hm ht, a8]
          · rw [if_neg ht, if_neg ht]
    · rw [a31]
      exact ⟨by rw [e]; exact hle, hok31⟩
  · intro k i k' i' hn hn' hx hx' he
    have hnx : ∀ {k i t : Nat}, rTp Q k i t → exX g m' ad' k i → nrX g na 14 t := by
      intro k i t e hx'
      refine ⟨e.lt, fun t4 te => ?_⟩
      have hk := e.ev t4 te
      rw [← aT e]
      rcases hk with rfl | rfl | rfl <;> exact hx'.2
    rcases hn with ⟨t, e⟩ | ⟨rfl, rfl, e⟩
    · rcases hn' with ⟨t', e'⟩ | ⟨rfl, rfl, e'⟩
      · rw [aT e, aT e'] at he
        obtain rfl := hni t t' (hnx e hx) (hnx e' hx') he
        exact e.inj e'
      · rw [aT e, a31] at he
        have := hnl t (hnx e hx)
        omega
    · rcases hn' with ⟨t', e'⟩ | ⟨rfl, rfl, e'⟩
      · rw [aT e', a31] at he
        have := hnl t' (hnx e' hx')
        omega
      · exact ⟨rfl, rfl⟩
  · intro j i hj hx hd
    by_cases k31 : 30 + j = 31 ∧ i = 0
    · rw [k31.1, k31.2, a31] at hd
      exact absurd hd hrd
    by_cases ht : ∃ t, rTp Q (30 + j) i t
    · obtain ⟨t, e⟩ := ht
      rw [aT e] at hd
      have := e.ls
      rcases this with ⟨rfl, rfl, rfl⟩ | ⟨rfl, rfl, rfl⟩ | ⟨rfl, m, hm, rfl, rfl⟩
      · rcases hline.2 with ⟨q, -⟩ | ⟨cap, q1, q2, q3, q4⟩
        · show nN m' 25 i = 0
          rw [hlen6]; exact q
        · exact absurd hd (nodc (n := 0) q4)
      · rcases hchs.2 with ⟨q, -⟩ | ⟨cap, q1, q2, q3, q4⟩
        · omega
        · exact absurd hd (nodc (n := 0) q4)
      · rcases (hch m hm).2 with ⟨q, -⟩ | ⟨cap, q1, q2, q3, q4⟩
        · show nN m' 28 (12 * Q + m) = 0
          rw [hlen8 m hm]; exact q
        · exact absurd hd (nodc (n := 0) q4)
    · have hno : ∀ t, ¬ rTp Q (30 + j) i t := fun t e => ht ⟨t, e⟩
      rw [aO k31 hno] at hd
      have hx1 : exL m1 j i := by
        by_cases hj3 : j = 6 ∨ j = 7 ∨ j = 8
        · unfold rTp at hno
          rcases hj3 with rfl | rfl | rfl
          · have hx : i < nN m' 24 0 := hx
            have := hno 4
            show i < nN m1 24 0
            omega
          · have hx : i < nN m' 24 0 := hx
            have := hno 6
            show i < nN m1 24 0
            omega
          · have hx : i < 12 * nN m' 24 0 := hx
            have := hno (8 + 2 * (i - 12 * Q))
            show i < 12 * nN m1 24 0
            omega
        · refine (exL_dep j hj i fun F hF => hb24 F fun q => ?_).mp hx
          have key : ∀ k, k < 10 → k ∉ [6, 7, 8] → ∀ F, F ∈ eL k → F ∉ [24] := by decide
          exact key j hj (by simp only [List.mem_cons, List.not_mem_nil, or_false]; omega) F hF q
      have hj1 : j ≠ 1 := by
        rintro rfl
        exact k31 ⟨rfl, hx⟩
      rw [(lenL_dep j hj i fun F hF => hb24 F fun q => ?_).1]
      · exact R1.2.2.1 j i hj hx1 hd
      · have key : ∀ k, k < 10 → k ≠ 1 → ∀ F, F ∈ dL k → F ∉ [24] := by decide
        exact key j hj hj1 F hF q
  · intro j hj
    rw [aO (by omega) (rTp.no rfl)]
    exact R1.2.2.2 j hj
end V19
