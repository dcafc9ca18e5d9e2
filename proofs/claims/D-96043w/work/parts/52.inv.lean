/-! THE INVARIANT between the class (addresses 0..) and the model (17..), in parts -/
def iRg (w : Nat) (x : Int32) : Prop := ∃ a, a ≤ (if w = 0 then 12 else if w = 1 then 5 else 3) ∧ x = nI a
/-- n players, their cells at pa -/
def iP (h : Hp) (n : Nat) (pa : Nat → Nat) : Prop :=
  n ≤ 4 ∧ zi h 0 3 = nI n ∧ zi h 17 6 = nI n ∧
  (∀ p, p < n → zr h 1 p = some (pa p) ∧ 42 ≤ pa p ∧ pa p < zx h ∧ zt h (pa p) = 3 ∧ ∀ w, w < 3 → zi h (pa p) w = zi h 18 (4 * w + p) ∧ iRg w (zi h 18 (4 * w + p))) ∧
  (∀ p q, p < n → q < n → pa p = pa q → p = q)
/-- the order: who is at a place, at which place one is -/
def iO (h : Hp) (n : Nat) (ord plc : Nat → Nat) : Prop :=
  (∀ k, k < 4 → zi h 2 k = nI (ord k) ∧ zi h 22 k = nI (ord k) ∧ ord k < 4) ∧ (∀ k, k < n → ord k < n ∧ plc (ord k) = k) ∧ (∀ p, p < n → plc p < n ∧ ord (plc p) = p ∧ zi h 23 p = nI (plc p))
/-- bell, prizes, powers of twelve -/
def iB (h : Hp) (b : Nat) : Prop :=
  b ≤ 9 ∧ zi h 0 4 = nI b ∧ zi h 17 9 = nI b ∧ (∀ m, m < 5 → zi h 3 m = zi h 24 m ∧ ∃ v, v ≤ 9 ∧ zi h 24 m = nI v) ∧ ∀ k, k < 10 → zj h 10 k = lN (12 ^ k)
/-- a fight in deed: who is in, whose turn, throws -/
def iDd (n : Nat) (ord : Nat → Nat) (b : Nat) (s0 p0 m0 s2 t2 m2 : Int32) : Prop :=
  ∃ s pl m, s0 = nI s ∧ s2 = nI s ∧ s < 2 ^ n ∧ p0 = nI pl ∧ pl < 4 ∧ t2 = nI (ord pl) ∧ (0 < n → pl < n ∧ s.testBit (ord pl) = true) ∧ m0 = nI m ∧ m2 = nI m ∧ m ≤ b
def iD (h : Hp) (n : Nat) (ord : Nat → Nat) (b : Nat) : Prop :=
  iDd n ord b (zi h 0 26) (zi h 0 27) (zi h 0 28) (zi h 17 33) (zi h 17 34) (zi h 17 35) ∧
  ((zi h 0 32 = 0 ∧ zi h 17 36 = 0) ∨ (zi h 0 32 = 1 ∧ zi h 17 36 = 1 ∧ iDd n ord b (zi h 0 29) (zi h 0 30) (zi h 0 31) (zi h 17 37) (zi h 17 38) (zi h 17 39)))
/-- changes done and undone -/
def iC1 (h : Hp) (n k : Nat) : Prop := ∃ a w p, zr h 4 k = some a ∧ 42 ≤ a ∧ a < zx h ∧ zt h a = 4 ∧ w < 3 ∧ p < n ∧ zi h a 0 = nI w ∧ zi h a 1 = nI p ∧ zi h 19 k = nI (4 * w + p) ∧ zi h a 2 = zi h 20 k ∧ zi h a 3 = zi h 21 k ∧ iRg w (zi h 20 k) ∧ iRg w (zi h 21 k)
def iC (h : Hp) (n : Nat) : Prop :=
  ∃ d u, d + u ≤ 40 ∧ zi h 0 6 = nI d ∧ zi h 0 7 = nI u ∧ zi h 17 5 = nI d ∧ zi h 17 4 = nI (d + u) ∧ ∀ k, k < d + u → iC1 h n k
/-- the tape -/
def iT (h : Hp) : Prop := ∃ t, t ≤ 120 ∧ zi h 0 9 = nI t ∧ zi h 17 13 = nI t ∧ ∀ k, k < t → ∃ b, b ≤ 255 ∧ zi h 26 k = nI b ∧ zi h 5 k = (nI b).toInt8.toInt32
/-- slots of a body's cell -/
def bSl (j : Nat) : Nat := if j = 0 then 2 else if j = 1 ∨ j = 2 ∨ j = 6 then 3 else if j = 3 ∨ j = 4 then 4 else 5
/-- bodies -/
def iBo (h : Hp) (m : Nat) (ba : Nat → Nat) : Prop :=
  m ≤ 50 ∧ zi h 0 36 = nI m ∧ zi h 17 40 = nI m ∧ ∀ k, k < m → zr h 15 k = some (ba k) ∧ 42 ≤ ba k ∧ ba k < zx h ∧ zi h (ba k) 0 = nI k ∧ ∃ j, j ≤ 7 ∧ zt h (ba k) = 14 + j ∧ zi h 36 k = nI j ∧ ∀ s, 1 ≤ s → s < bSl j → zr h (ba k) s = some 0
/-- the trace -/
def iTr (h : Hp) : Prop := ∃ r, r < 1000 ∧ zi h 0 33 = nI r ∧ zi h 17 43 = nI r ∧ ∀ k, k < 24 → k < r → zi h 14 k = zi h 37 k
/-- what a row of sort s may hold -/
def iFt (s : Nat) (x : Int32) : Prop := s = 3 ∨ fits (if s = 0 then .byte else if s = 1 then .short else if s = 2 then .int else .boolean) (.int x) = true
/-- one shelf: nothing, a body, a row of sort s -/
def iS1 (h : Hp) (m : Nat) (ba : Nat → Nat) (d : Nat) (ra : Nat) : Prop :=
  (zr h 16 d = none ∧ zi h 38 d = -1) ∨
  (∃ k, k < m ∧ zr h 16 d = some (ba k) ∧ zi h 38 d = nI k) ∨
  (∃ a s l, zr h 16 d = some a ∧ 42 ≤ a ∧ a < zx h ∧ s < 5 ∧ zt h a = 23 + s ∧ zr h a 0 = some ra ∧ 42 ≤ ra ∧ ra < zx h ∧ zt h ra = (if s = 0 then 101 else if s = 1 then 102 else if s = 2 then 100 else if s = 3 then 104 else 103) ∧ zn h ra = l ∧ l ≤ 60 ∧ zi h 38 d = nI (50 + s) ∧ zi h 39 d = nI l ∧ ∀ i, i < l → (if s = 3 then zj h ra i else (zi h ra i).toInt64) = zj h 40 (60 * d + i) ∧ iFt s (zi h ra i))
def iS (h : Hp) (m : Nat) (ba : Nat → Nat) : Prop :=
  ∃ ra : Nat → Nat, (∀ d, d < 6 → iS1 h m ba d (ra d)) ∧ ∀ d e, d < 6 → e < 6 → 50 ≤ (zi h 38 d).toInt → 50 ≤ (zi h 38 e).toInt → ra d = ra e → d = e
/-- room -/
def iR (h : Hp) (i : Nat) : Prop := zc h ≤ 42 + 9000 * i ∧ zs h ≤ 20000 + 100000 * i
