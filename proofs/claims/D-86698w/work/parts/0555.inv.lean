set_option maxRecDepth 100000
/-! what holds of ms between two calls -/
def IvP (ms : mm_S) : Prop := iB (ms.1 0 0) 24 ∧
  (∀ p, p < nN ms 0 0 → iB (ms.1 1 p) 4 ∧ iB (ms.1 2 p) 2 ∧ iB (ms.1 3 p) 2 ∧ iB (ms.1 4 p) 4 ∧ (∀ k, k < nN ms 4 p → ∃ q, q < p ∧ ms.1 5 (4 * p + k) = nI q) ∧ ∀ j k, j < k → k < nN ms 4 p → ms.1 5 (4 * p + j) ≠ ms.1 5 (4 * p + k)) ∧
  (∀ p, nN ms 0 0 ≤ p → p < 24 → ms.1 4 p = 0 ∧ (∀ m, m < 12 → ms.1 6 (12 * p + m) = 0) ∧ ∀ b, b < 25 → ms.1 10 (25 * p + b) = -9)
def IvW (ms : mm_S) : Prop := iB (ms.1 7 0) 30 ∧ ∀ k, k < nN ms 7 0 → ∃ a b, a < nN ms 0 0 ∧ b < nN ms 0 0 ∧ a ≠ b ∧ ms.1 8 k = nI a ∧ ms.1 9 k = nI b
/-- an act of what w, of a body of the part p, with a and b, fits -/
def aOk (ms : mm_S) (w p : Nat) (a b : Int32) : Prop := match w with
  | 0 => -1000 ≤ a ∧ a ≤ 1000
  | 1 => True
  | 2 => -1000 ≤ a ∧ a ≤ 1000
  | 3 => -1000 ≤ a ∧ a ≤ 1000
  | 4 => 0 ≤ a ∧ a ≤ ms.1 1 p - 1
  | 5 => 0 ≤ a ∧ a ≤ ms.1 1 p - 1
  | 6 => 0 ≤ a ∧ a ≤ ms.1 1 p - 1
  | 7 => 0 ≤ a ∧ a ≤ 7
  | 8 => 0 ≤ a ∧ a ≤ 7
  | 9 => True
  | 10 => 0 ≤ a ∧ a ≤ 11
  | 11 => 0 ≤ a ∧ a ≤ 3
  | 12 => 0 ≤ a ∧ a ≤ 10
  | 13 => 0 ≤ a ∧ a ≤ 9
  | 14 => True
  | 15 => 0 ≤ a ∧ a ≤ ms.1 2 p - 1
  | 16 => (0 ≤ a ∧ a ≤ ms.1 2 p - 1) ∧ (0 ≤ b ∧ b ≤ ms.1 1 p - 1)
  | 17 => (0 ≤ a ∧ a ≤ ms.1 2 p - 1) ∧ (0 ≤ b ∧ b ≤ ms.1 1 p - 1)
  | 18 => (0 ≤ a ∧ a ≤ ms.1 3 p - 1) ∧ (0 ≤ b ∧ b ≤ 11)
  | _ => (0 ≤ a ∧ a ≤ ms.1 3 p - 1) ∧ (0 ≤ b ∧ b ≤ 23)
def IvB (ms : mm_S) : Prop := (∀ b, b < 600 → iN (ms.1 10 b) 10 ∧ (ms.1 10 b ≠ -9 → iN (ms.1 11 b) 16 ∧ ∀ k, k < nN ms 10 b → ∃ w, w ≤ 19 ∧ ms.1 12 (10 * b + k) = nI w ∧ aOk ms w (b / 25) (ms.1 13 (10 * b + k)) (ms.1 14 (10 * b + k)))) ∧
  (ms.1 15 0 = -9 ∨ ∃ b, b < 600 ∧ ms.1 15 0 = nI b ∧ ms.1 10 b ≠ -9)
def IvD (ms : mm_S) : Prop := (iB (ms.1 16 0) 8 ∧ (∀ k, k < nN ms 16 0 → ∃ p, p < nN ms 0 0 ∧ ms.1 17 k = nI p) ∧ ∀ j k, j < k → k < nN ms 16 0 → ms.1 17 j ≠ ms.1 17 k) ∧
  (iB (ms.1 18 0) 6) ∧ ∀ a, a < 4 → ms.1 23 a = 0 ∨ (ms.1 23 a = 1 ∧ ∃ p m, p < nN ms 0 0 ∧ m < 12 ∧ ms.1 21 a = nI p ∧ ms.1 22 a = nI m)
/-- a role -/
def rOk (ms : mm_S) (r : Nat) : Prop := iB (ms.1 25 r) 24 ∧
  (∀ i, i < nN ms 25 r → ∃ p, p < nN ms 0 0 ∧ ms.1 26 (24 * r + i) = nI p) ∧ (∀ i j, i < j → j < nN ms 25 r → ms.1 26 (24 * r + i) ≠ ms.1 26 (24 * r + j)) ∧
  (∀ p, p < 24 → (∃ i, i < nN ms 25 r ∧ ms.1 26 (24 * r + i) = nI p ∧ ms.1 27 (24 * r + p) = nI i) ∨ ((∀ i, i < nN ms 25 r → ms.1 26 (24 * r + i) ≠ nI p) ∧ ms.1 27 (24 * r + p) = -9)) ∧
  (∀ m, m < 12 → iB (ms.1 28 (12 * r + m)) 48 ∧ (∀ t, t < nN ms 28 (12 * r + m) → ∃ p u, p < nN ms 0 0 ∧ u < 2 ∧ ms.1 29 (48 * (12 * r + m) + t) = nI (25 * p + (12 * u + m)) ∧ ms.1 10 (25 * p + (12 * u + m)) ≠ -9 ∧ ∃ i, i < nN ms 25 r ∧ ms.1 26 (24 * r + i) = nI p) ∧ ∀ s t, s < t → t < nN ms 28 (12 * r + m) → ms.1 29 (48 * (12 * r + m) + s) ≠ ms.1 29 (48 * (12 * r + m) + t)) ∧
  (∀ a, a < 4 → ms.1 30 (4 * r + a) = -9 ∨ ∃ m t, m < 12 ∧ ms.1 30 (4 * r + a) = nI m ∧ t < nN ms 28 (12 * r + m) ∧ ms.1 31 (4 * r + a) = nI t) ∧
  ∀ i, i < nN ms 25 r → iB (ms.1 32 (24 * r + i)) 2
def IvR (ms : mm_S) : Prop := iB (ms.1 24 0) 24 ∧ (∀ r, r < nN ms 24 0 → rOk ms r) ∧ iB (ms.1 34 0) 24
def IvO (ms : mm_S) : Prop := iB (ms.1 40 0) 100 ∧ (∀ o, o < nN ms 40 0 → ∃ r, r < nN ms 24 0 ∧ ms.1 41 o = nI r) ∧
  ∀ o i k, o < nN ms 40 0 → i < nN ms 25 (nN ms 41 o) → k < 2 → iN (ms.1 43 (2 * (24 * o + i) + k)) 12 ∧ (ms.1 45 (2 * (24 * o + i) + k) = -9 ∨ ∃ q, q < nN ms 40 0 ∧ ms.1 45 (2 * (24 * o + i) + k) = nI q)
def IvT (ms : mm_S) : Prop := iB (ms.1 60 0) 1500 ∧ iB (ms.1 68 0) 60 ∧ (ms.1 24 0 = 0 → ms.1 68 0 = 0) ∧
  ∀ j, j < nN ms 68 0 → ∃ b, b < 600 ∧ ms.1 10 b ≠ -9 ∧ ms.1 69 j = nI (b / 25) ∧ ms.1 70 j = buse b ∧ ms.1 71 j = bmem b
/-- B: as many marks at most -/
def Inv (B : Nat) (ms : mm_S) : Prop := IvP ms ∧ IvW ms ∧ IvB ms ∧ IvD ms ∧ IvR ms ∧ IvO ms ∧ IvT ms ∧ iB (ms.1 47 0) B ∧ ms.1 50 0 = 0
