set_option maxRecDepth 100000
/-! THE PICTURE: the class's heap as it belongs to the state ms of the model. Cells by tags (kind, index); ad: the address of a tag -/
abbrev nN (ms : mm_S) (k i : Nat) : Nat := (ms.1 k i).toNatClampNeg
abbrev aD : Type := Nat → Nat → Nat
/-- the body b, if there is one -/
def bRf (ms : mm_S) (ad : aD) (b : Nat) : Option Nat := if ms.1 10 b = -9 then none else some (ad 8 b)
def laRf (ms : mm_S) (ad : aD) : Option Nat := if ms.1 15 0 = -9 then none else some (ad 8 (nN ms 15 0))
def buse (b : Nat) : Int32 := if b % 25 = 24 then 2 else if b % 25 < 12 then 0 else 1
def bmem (b : Nat) : Int32 := if b % 25 = 24 then -9 else nI (b % 25 % 12)
def alRf (ms : mm_S) (ad : aD) (r a : Nat) : Option Nat := if ms.1 30 (4 * r + a) = -9 then none else some (ad 8 (nN ms 29 (48 * (12 * r + nN ms 30 (4 * r + a)) + nN ms 31 (4 * r + a))))
def hoRf (ms : mm_S) (ad : aD) (x : Nat) : Option Nat := if ms.1 45 x = -9 then none else some (ad 13 (nN ms 45 x))
/-- the body that ran as the j-th -/
def rbd (ms : mm_S) (j : Nat) : Nat := 25 * nN ms 69 j + (if ms.1 70 j = 2 then 24 else 12 * nN ms 70 j + nN ms 71 j)
/-- the state s (24 * object + place; 2400: a start's) is there; its part -/
def stX (ms : mm_S) (s : Nat) : Prop := (s / 24 < nN ms 40 0 ∧ s % 24 < nN ms 25 (nN ms 41 (s / 24))) ∨ (s = 2400 ∧ ms.1 50 0 ≠ 0 ∧ ms.1 52 0 = 100)
def stP (ms : mm_S) (s : Nat) : Nat := if s = 2400 then nN ms 51 0 / 25 else nN ms 26 (24 * nN ms 41 (s / 24) + s % 24)
/-- an act's class and fields -/
def aCi (w : Nat) : Nat := if w < 8 then w + 8 else w + 7
def aFs (w : Nat) (a b : Int32) (x : Nat) : List Value := match w with
  | 0 => [.int a, .int 0, .ref x, .ref x]
  | 1 => [.int 0, .int 0, .ref x, .ref x]
  | 2 => [.int a, .int 0, .ref x, .ref x]
  | 3 => [.int a, .int 0, .ref x, .ref x, .ref x]
  | 4 => [.int a, .int 0, .ref x, .ref x]
  | 5 => [.int a, .int 0, .ref x, .ref x, .ref x]
  | 6 => [.int a, .int 0, .ref x, .ref x, .ref x]
  | 7 => [.int a, .int 0, .ref x, .int 0, .ref x]
  | 8 => [.int a, .int 0, .ref x, .int 1, .ref x]
  | 9 => [.int 0, .int 0, .ref x, .ref x]
  | 10 => [.int a, .int 0, .ref x, .ref x]
  | 11 => [.int a, .int 0, .ref x, .ref x, .ref x]
  | 12 => [.int a, .int 0, .ref x, .ref x]
  | 13 => [.int a, .int 0, .ref x, .ref x]
  | 14 => [.int 0, .int 0, .ref x, .ref x]
  | 15 => [.int a, .int 0, .ref x, .ref x]
  | 16 => [.int a, .int b, .ref x, .ref x, .ref x]
  | 17 => [.int a, .int b, .ref x, .ref x, .ref x, .ref x]
  | 18 => [.int a, .int b, .ref x, .ref x, .ref x]
  | _ => [.int a, .int b, .ref x, .ref x]
/-- the frame of the j-th body that runs -/
def frFs (ms : mm_S) (ad : aD) (j : Nat) : List Value := [va_rf (if ms.1 52 j = 100 then none else some (ad 13 (nN ms 52 j))), .ref (ad 14 (24 * nN ms 52 j + nN ms 53 j)), va_rf (if ms.1 52 j = 100 then none else some (ad 28 (12 * nN ms 41 (nN ms 52 j) + nN ms 54 j))), .int (if ms.1 52 j = 100 then 0 else ms.1 55 j), .ref (ad 8 (nN ms 51 j)), .long (ms.2 58 j), .int (ms.1 56 j), .int (nI (j + 1))]
def mnFs (ms : mm_S) (ad : aD) (sg : Int64) : List Value := [.ref (ad 1 0), .ref (ad 2 0), .ref (ad 20 0), .ref (ad 53 0), .ref (ad 54 0), .int (ms.1 7 0), va_rf (laRf ms ad), .ref (ad 21 0), .ref (ad 22 0), .ref (ad 59 0), .ref (ad 23 0), .ref (ad 61 0), .ref (ad 62 0), .int (ms.1 18 0), .ref (ad 64 0), .ref (ad 65 0), .ref (ad 66 0), .ref (ad 67 0), .ref (ad 68 0), .int (ms.1 34 0), .int (ms.1 35 0), .int (ms.1 36 0), .ref (ad 72 0), .int (ms.1 60 0), .ref (ad 74 0), .ref (ad 75 0), .int (ms.1 68 0), .int (ms.1 64 0), .int (ms.1 65 0), .int (ms.1 66 0), .long (ms.2 67 0), .long (ms.2 62 0), .long sg, .long (ms.2 49 0), .ref (ad 84 0), .int (ms.1 47 0)]
/-- the lists: 0 parts, 1 roles, 2 things, 3 named, 4 extended of a part, 5 acts of a body, 6 line of a role, 7 chains of a role, 8 a chain, 9 states of a thing -/
def lenL (ms : mm_S) (l i : Nat) : Nat := match l with
  | 0 => nN ms 0 0
  | 1 => nN ms 24 0
  | 2 => nN ms 40 0
  | 3 => nN ms 16 0
  | 4 => nN ms 4 i
  | 5 => nN ms 10 i
  | 6 => nN ms 25 i
  | 7 => 12
  | 8 => nN ms 28 i
  | _ => nN ms 25 (nN ms 41 i)
/-- the tag of an element -/
def eltT (ms : mm_S) (l i t : Nat) : Nat × Nat := match l with
  | 0 => (4, t)
  | 1 => (10, t)
  | 2 => (13, t)
  | 3 => (4, nN ms 17 t)
  | 4 => (4, nN ms 5 (4 * i + t))
  | 5 => (9, 10 * i + t)
  | 6 => (4, nN ms 26 (24 * i + t))
  | 7 => (28, 12 * i + t)
  | 8 => (8, nN ms 29 (48 * i + t))
  | _ => (14, 24 * i + t)
abbrev eltL (ms : mm_S) (ad : aD) (l i t : Nat) : Nat := ad (eltT ms l i t).1 (eltT ms l i t).2
def exL (ms : mm_S) (l i : Nat) : Prop := match l with
  | 0 => i = 0
  | 1 => i = 0
  | 2 => i = 0
  | 3 => i = 0
  | 4 => i < nN ms 0 0
  | 5 => i < 600 ∧ ms.1 10 i ≠ -9
  | 6 => i < nN ms 24 0
  | 7 => i < nN ms 24 0
  | 8 => i < 12 * nN ms 24 0
  | 9 => i < nN ms 40 0
  | _ => False
def okL (ms : mm_S) (ad : aD) (l i : Nat) (c : rb_E) : Prop := ∃ md : Int32, c = rb_O 7 [.int md, .ref (ad (30 + l) i), .int (nI (lenL ms l i))]
def okE (ms : mm_S) (ad : aD) (l i : Nat) (c : rb_E) : Prop := ∃ cap, lenL ms l i ≤ cap ∧ 1 ≤ cap ∧ cap ≤ 200 ∧ c = rb_R 3 cap (fun t => if t < lenL ms l i then some (eltL ms ad l i t) else none)
def ok0 (ms : mm_S) (ad : aD) (h : Nat) (ms0 : mm_S) (i : Nat) (c : rb_E) : Prop := ∃ sg : Int64, c = rb_O 0 (mnFs ms ad sg)
def ok1 (ms : mm_S) (ad : aD) (h : Nat) (ms0 : mm_S) (i : Nat) (c : rb_E) : Prop := ∃ fs : List Value, c = rb_O 1 fs ∧ fs.length = 10
def ok2 (ms : mm_S) (ad : aD) (h : Nat) (ms0 : mm_S) (i : Nat) (c : rb_E) : Prop := ∃ fs : List Value, c = rb_O 2 fs ∧ fs.length = 7
def ok4 (ms : mm_S) (ad : aD) (h : Nat) (ms0 : mm_S) (i : Nat) (c : rb_E) : Prop := c = rb_O 5 [.int (nI i), .int (ms.1 1 i), .int (ms.1 2 i), .int (ms.1 3 i), .ref (ad 24 i), .ref (ad 5 i), .ref (ad 6 i), va_rf (bRf ms ad (25 * i + 24)), .ref (ad 7 i)]
def ok5 (ms : mm_S) (ad : aD) (h : Nat) (ms0 : mm_S) (i : Nat) (c : rb_E) : Prop := ∃ f : Nat → Option Nat, c = rb_R 4 12 f ∧ ∀ m, m < 12 → f m = bRf ms ad (25 * i + m)
def ok6 (ms : mm_S) (ad : aD) (h : Nat) (ms0 : mm_S) (i : Nat) (c : rb_E) : Prop := ∃ f : Nat → Option Nat, c = rb_R 4 12 f ∧ ∀ m, m < 12 → f m = bRf ms ad (25 * i + 12 + m)
def ok7 (ms : mm_S) (ad : aD) (h : Nat) (ms0 : mm_S) (i : Nat) (c : rb_E) : Prop := ∃ f : Nat → Int32, c = rb_Z 12 f ∧ ∀ m, m < 12 → f m = ms.1 6 (12 * i + m)
def ok8 (ms : mm_S) (ad : aD) (h : Nat) (ms0 : mm_S) (i : Nat) (c : rb_E) : Prop := c = rb_O 6 [.ref (ad 4 (i / 25)), .int (buse i), .int (bmem i), .int (ms.1 11 i), .ref (ad 25 i)]
def ok9 (ms : mm_S) (ad : aD) (h : Nat) (ms0 : mm_S) (i : Nat) (c : rb_E) : Prop := c = rb_O (aCi (nN ms 12 i)) (aFs (nN ms 12 i) (ms.1 13 i) (ms.1 14 i) (ad 0 0))
def ok10 (ms : mm_S) (ad : aD) (h : Nat) (ms0 : mm_S) (i : Nat) (c : rb_E) : Prop := c = rb_O 27 [.int (nI i), .ref (ad 26 i), .ref (ad 27 i), .ref (ad 11 i), .ref (ad 12 i)]
def ok11 (ms : mm_S) (ad : aD) (h : Nat) (ms0 : mm_S) (i : Nat) (c : rb_E) : Prop := ∃ f : Nat → Option Nat, c = rb_R 4 4 f ∧ ∀ a, a < 4 → f a = alRf ms ad i a
def ok12 (ms : mm_S) (ad : aD) (h : Nat) (ms0 : mm_S) (i : Nat) (c : rb_E) : Prop := ∃ f : Nat → Int32, c = rb_I 24 f ∧ ∀ j, j < nN ms 25 i → f j = ms.1 32 (24 * i + j)
def ok13 (ms : mm_S) (ad : aD) (h : Nat) (ms0 : mm_S) (i : Nat) (c : rb_E) : Prop := c = rb_O 29 [.int (nI i), .ref (ad 10 (nN ms 41 i)), .ref (ad 29 i)]
def ok14 (ms : mm_S) (ad : aD) (h : Nat) (ms0 : mm_S) (i : Nat) (c : rb_E) : Prop := c = rb_O 28 [.ref (ad 15 i), .ref (ad 16 i), .ref (ad 17 i), .ref (ad 18 i)]
def ok15 (ms : mm_S) (ad : aD) (h : Nat) (ms0 : mm_S) (i : Nat) (c : rb_E) : Prop := ∃ f : Nat → Int64, c = rb_L (nN ms 1 (stP ms i)) f ∧ ∀ j, j < nN ms 1 (stP ms i) → f j = ms.2 42 (4 * i + j)
def ok16 (ms : mm_S) (ad : aD) (h : Nat) (ms0 : mm_S) (i : Nat) (c : rb_E) : Prop := ∃ f : Nat → Int64, c = rb_L (12 * nN ms 2 (stP ms i)) f ∧ ∀ k j, k < nN ms 2 (stP ms i) → j < 12 → ms.1 43 (2 * i + k) ≠ -9 → f (12 * k + j) = ms.2 44 (12 * (2 * i + k) + j)
def ok17 (ms : mm_S) (ad : aD) (h : Nat) (ms0 : mm_S) (i : Nat) (c : rb_E) : Prop := ∃ f : Nat → Int32, c = rb_I 2 f ∧ ∀ k, k < 2 → f k = if ms.1 43 (2 * i + k) = -9 then -1 else ms.1 43 (2 * i + k)
def ok18 (ms : mm_S) (ad : aD) (h : Nat) (ms0 : mm_S) (i : Nat) (c : rb_E) : Prop := ∃ f : Nat → Option Nat, c = rb_R 6 2 f ∧ ∀ k, k < 2 → f k = hoRf ms ad (2 * i + k)
def ok19 (ms : mm_S) (ad : aD) (h : Nat) (ms0 : mm_S) (i : Nat) (c : rb_E) : Prop := ∃ fs : List Value, c = rb_O 3 fs ∧ fs.length = 8 ∧ (1 ≤ i → i ≤ nN ms 50 0 → fs = frFs ms ad (i - 1))
def ok40 (ms : mm_S) (ad : aD) (h : Nat) (ms0 : mm_S) (i : Nat) (c : rb_E) : Prop := c = mm_E h ms0 i
def ok53 (ms : mm_S) (ad : aD) (h : Nat) (ms0 : mm_S) (i : Nat) (c : rb_E) : Prop := ∃ f : Nat → Int32, c = rb_I 30 f ∧ ∀ j, j < nN ms 7 0 → f j = ms.1 8 j
def ok54 (ms : mm_S) (ad : aD) (h : Nat) (ms0 : mm_S) (i : Nat) (c : rb_E) : Prop := ∃ f : Nat → Int32, c = rb_I 30 f ∧ ∀ j, j < nN ms 7 0 → f j = ms.1 9 j
def ok59 (ms : mm_S) (ad : aD) (h : Nat) (ms0 : mm_S) (i : Nat) (c : rb_E) : Prop := ∃ f : Nat → Int64, c = rb_L 8 f ∧ ∀ j, j < 8 → f j = ms.2 46 j
def ok61 (ms : mm_S) (ad : aD) (h : Nat) (ms0 : mm_S) (i : Nat) (c : rb_E) : Prop := ∃ f : Nat → Int32, c = rb_I 6 f ∧ ∀ j, j < nN ms 18 0 → f j = ms.1 19 j
def ok62 (ms : mm_S) (ad : aD) (h : Nat) (ms0 : mm_S) (i : Nat) (c : rb_E) : Prop := ∃ f : Nat → Int32, c = rb_I 6 f ∧ ∀ j, j < nN ms 18 0 → f j = ms.1 20 j
def ok64 (ms : mm_S) (ad : aD) (h : Nat) (ms0 : mm_S) (i : Nat) (c : rb_E) : Prop := ∃ f : Nat → Int32, c = rb_I 4 f ∧ ∀ a, a < 4 → f a = if ms.1 23 a = 0 then -9 else ms.1 21 a
def ok65 (ms : mm_S) (ad : aD) (h : Nat) (ms0 : mm_S) (i : Nat) (c : rb_E) : Prop := ∃ f : Nat → Int32, c = rb_I 4 f ∧ ∀ a, a < 4 → ms.1 23 a ≠ 0 → f a = ms.1 22 a
def ok66 (ms : mm_S) (ad : aD) (h : Nat) (ms0 : mm_S) (i : Nat) (c : rb_E) : Prop := ∃ f : Nat → Int32, c = rb_Z 24 f
def ok67 (ms : mm_S) (ad : aD) (h : Nat) (ms0 : mm_S) (i : Nat) (c : rb_E) : Prop := ∃ f : Nat → Int32, c = rb_I 24 f
def ok68 (ms : mm_S) (ad : aD) (h : Nat) (ms0 : mm_S) (i : Nat) (c : rb_E) : Prop := ∃ f : Nat → Int32, c = rb_I 24 f ∧ ∀ j, j < nN ms 34 0 → f j = ms.1 33 j
def ok72 (ms : mm_S) (ad : aD) (h : Nat) (ms0 : mm_S) (i : Nat) (c : rb_E) : Prop := ∃ f : Nat → Option Nat, c = rb_R 5 41 f ∧ ∀ k, k < 41 → f k = some (ad 19 k)
def ok74 (ms : mm_S) (ad : aD) (h : Nat) (ms0 : mm_S) (i : Nat) (c : rb_E) : Prop := ∃ f : Nat → Option Nat, c = rb_R 4 60 f ∧ ∀ j, j < nN ms 68 0 → f j = some (ad 8 (rbd ms j))
def ok75 (ms : mm_S) (ad : aD) (h : Nat) (ms0 : mm_S) (i : Nat) (c : rb_E) : Prop := ∃ f : Nat → Int32, c = rb_I 60 f ∧ ∀ j, j < nN ms 68 0 → f j = ms.1 72 j
def ok84 (ms : mm_S) (ad : aD) (h : Nat) (ms0 : mm_S) (i : Nat) (c : rb_E) : Prop := ∃ f : Nat → Int64, c = rb_L 100 f ∧ ∀ j, j < nN ms 47 0 → j < 100 → f j = ms.2 48 j
def okA (ms : mm_S) (ad : aD) (h : Nat) (ms0 : mm_S) (k i : Nat) (c : rb_E) : Prop :=
  if k = 0 then ok0 ms ad h ms0 i c else
  if k = 1 then ok1 ms ad h ms0 i c else
  if k = 2 then ok2 ms ad h ms0 i c else
  if k = 4 then ok4 ms ad h ms0 i c else
  if k = 5 then ok5 ms ad h ms0 i c else
  if k = 6 then ok6 ms ad h ms0 i c else
  if k = 7 then ok7 ms ad h ms0 i c else
  if k = 8 then ok8 ms ad h ms0 i c else
  if k = 9 then ok9 ms ad h ms0 i c else
  if k = 10 then ok10 ms ad h ms0 i c else
  if k = 11 then ok11 ms ad h ms0 i c else
  if k = 12 then ok12 ms ad h ms0 i c else
  if k = 13 then ok13 ms ad h ms0 i c else
  if k = 14 then ok14 ms ad h ms0 i c else
  if k = 15 then ok15 ms ad h ms0 i c else
  if k = 16 then ok16 ms ad h ms0 i c else
  if k = 17 then ok17 ms ad h ms0 i c else
  if k = 18 then ok18 ms ad h ms0 i c else
  if k = 19 then ok19 ms ad h ms0 i c else
  False
def okB (ms : mm_S) (ad : aD) (h : Nat) (ms0 : mm_S) (k i : Nat) (c : rb_E) : Prop :=
  if k = 40 then ok40 ms ad h ms0 i c else
  if k = 53 then ok53 ms ad h ms0 i c else
  if k = 54 then ok54 ms ad h ms0 i c else
  if k = 59 then ok59 ms ad h ms0 i c else
  if k = 61 then ok61 ms ad h ms0 i c else
  if k = 62 then ok62 ms ad h ms0 i c else
  if k = 64 then ok64 ms ad h ms0 i c else
  if k = 65 then ok65 ms ad h ms0 i c else
  if k = 66 then ok66 ms ad h ms0 i c else
  if k = 67 then ok67 ms ad h ms0 i c else
  if k = 68 then ok68 ms ad h ms0 i c else
  if k = 72 then ok72 ms ad h ms0 i c else
  if k = 74 then ok74 ms ad h ms0 i c else
  if k = 75 then ok75 ms ad h ms0 i c else
  if k = 84 then ok84 ms ad h ms0 i c else
  False
/-- the cell c is as it belongs to the tag (k, i) -/
def okX (ms : mm_S) (ad : aD) (h : Nat) (ms0 : mm_S) (k i : Nat) (c : rb_E) : Prop := if k < 20 then okA ms ad h ms0 k i c else if k < 30 then okL ms ad (k - 20) i c else if k < 40 then okE ms ad (k - 30) i c else okB ms ad h ms0 k i c
def exA (ms : mm_S) (k i : Nat) : Prop :=
  if k = 0 then (i = 0) else
  if k = 1 then (i = 0) else
  if k = 2 then (i = 0) else
  if k = 4 then (i < nN ms 0 0) else
  if k = 5 then (i < nN ms 0 0) else
  if k = 6 then (i < nN ms 0 0) else
  if k = 7 then (i < nN ms 0 0) else
  if k = 8 then (i < 600 ∧ ms.1 10 i ≠ -9) else
  if k = 9 then (i / 10 < 600 ∧ ms.1 10 (i / 10) ≠ -9 ∧ i % 10 < nN ms 10 (i / 10)) else
  if k = 10 then (i < nN ms 24 0) else
  if k = 11 then (i < nN ms 24 0) else
  if k = 12 then (i < nN ms 24 0) else
  if k = 13 then (i < nN ms 40 0) else
  if k = 14 then (stX ms i) else
  if k = 15 then (stX ms i) else
  if k = 16 then (stX ms i) else
  if k = 17 then (stX ms i) else
  if k = 18 then (stX ms i) else
  if k = 19 then (i < 41) else
  False
def exB (k i : Nat) : Prop :=
  if k = 40 then (i < 52) else
  if k = 53 then (i = 0) else
  if k = 54 then (i = 0) else
  if k = 59 then (i = 0) else
  if k = 61 then (i = 0) else
  if k = 62 then (i = 0) else
  if k = 64 then (i = 0) else
  if k = 65 then (i = 0) else
  if k = 66 then (i = 0) else
  if k = 67 then (i = 0) else
  if k = 68 then (i = 0) else
  if k = 72 then (i = 0) else
  if k = 74 then (i = 0) else
  if k = 75 then (i = 0) else
  if k = 84 then (i = 0) else
  False
/-- the tag (k, i) is there -/
def exX (g : rb_G) (ms : mm_S) (ad : aD) (k i : Nat) : Prop := if k < 20 then exA ms k i else if k < 30 then exL ms (k - 20) i else if k < 40 then exL ms (k - 30) i ∧ ad k i ≠ rb_dc g else exB k i
def Rep (g : rb_G) (ms : mm_S) (ad : aD) (h : Nat) (ms0 : mm_S) (M : rb_H) : Prop :=
  (∀ k i, exX g ms ad k i → ∃ c, M.2 (ad k i) = some c ∧ okX ms ad h ms0 k i c) ∧
  (∀ k i k' i', exX g ms ad k i → exX g ms ad k' i' → ad k i = ad k' i' → k = k' ∧ i = i') ∧
  (∀ l i, l < 10 → exL ms l i → ad (30 + l) i = rb_dc g → lenL ms l i = 0) ∧ ∀ j, j < 52 → ad 40 j = h + j
