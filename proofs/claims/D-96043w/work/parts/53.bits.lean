/-! SETS of players as numbers below 16 -/
def pc (s : Nat) : Nat := (if s.testBit 0 then 1 else 0) + (if s.testBit 1 then 1 else 0) + (if s.testBit 2 then 1 else 0) + (if s.testBit 3 then 1 else 0)
def cl (s t : Nat) : Nat := if s.testBit t then s - 2 ^ t else s
theorem lt16 {P : Nat → Prop} (h : P 0 ∧ P 1 ∧ P 2 ∧ P 3 ∧ P 4 ∧ P 5 ∧ P 6 ∧ P 7 ∧ P 8 ∧ P 9 ∧ P 10 ∧ P 11 ∧ P 12 ∧ P 13 ∧ P 14 ∧ P 15) : ∀ s, s < 16 → P s := by
  intro s hs
  obtain ⟨h0, h1, h2, h3, h4, h5, h6, h7, h8, h9, h10, h11, h12, h13, h14, h15⟩ := h
  have : s = 0 ∨ s = 1 ∨ s = 2 ∨ s = 3 ∨ s = 4 ∨ s = 5 ∨ s = 6 ∨ s = 7 ∨ s = 8 ∨ s = 9 ∨ s = 10 ∨ s = 11 ∨ s = 12 ∨ s = 13 ∨ s = 14 ∨ s = 15 := by omega
  rcases this with rfl | rfl | rfl | rfl | rfl | rfl | rfl | rfl | rfl | rfl | rfl | rfl | rfl | rfl | rfl | rfl <;> assumption
theorem lt4 {P : Nat → Prop} (h : P 0 ∧ P 1 ∧ P 2 ∧ P 3) : ∀ s, s < 4 → P s := by
  intro s hs
  obtain ⟨h0, h1, h2, h3⟩ := h
  have : s = 0 ∨ s = 1 ∨ s = 2 ∨ s = 3 := by omega
  rcases this with rfl | rfl | rfl | rfl <;> assumption
theorem b_has : ∀ s, s < 16 → ∀ p, p < 4 → ((((nI s >>> (nI p &&& 31)) &&& (1 : Int32)) = (1 : Int32)) ↔ s.testBit p = true) := by decide
theorem b_bit : ∀ s, s < 16 → ∀ p, p < 4 → ((nI s >>> (nI p &&& 31)) &&& (1 : Int32)) = (if s.testBit p then (1 : Int32) else 0) := by decide
theorem b_cl : ∀ s, s < 16 → ∀ p, p < 4 → nI s &&& (((1 : Int32) <<< (nI p &&& 31)) ^^^ (-1 : Int32)) = nI (cl s p) := by decide
theorem b_or : ∀ s, s < 16 → ∀ p, p < 4 → s.testBit p = false → nI s ||| ((1 : Int32) <<< (nI p &&& 31)) = nI (s + 2 ^ p) := by decide
theorem b_all : ∀ n, n < 5 → ((1 : Int32) <<< (nI n &&& 31)) - (1 : Int32) = nI (2 ^ n - 1) := by decide
theorem cl_lt : ∀ s, s < 16 → ∀ p, p < 4 → cl s p < 16 := by decide
theorem cl_le (s p : Nat) : cl s p ≤ s := by
  unfold cl
  split
  · exact Nat.sub_le _ _
  · exact Nat.le_refl _
theorem cl_bit : ∀ s, s < 16 → ∀ p, p < 4 → ∀ q, q < 4 → (cl s p).testBit q = (s.testBit q && decide (q ≠ p)) := by decide
theorem pc_le : ∀ s, s < 16 → pc s ≤ 4 := by decide
theorem pc_all : ∀ n, n < 5 → pc (2 ^ n - 1) = n := by decide
theorem all_bit : ∀ n, n < 5 → ∀ p, p < 4 → ((2 ^ n - 1).testBit p = true ↔ p < n) := by decide
theorem b_out : ∀ n, n < 5 → ∀ s, s < 2 ^ n → ∀ p, p < 4 → s.testBit p = true → p < n := by decide
theorem pow16 {n : Nat} (h : n ≤ 4) : 2 ^ n ≤ 16 := by
  have : n = 0 ∨ n = 1 ∨ n = 2 ∨ n = 3 ∨ n = 4 := by omega
  rcases this with rfl | rfl | rfl | rfl | rfl <;> decide
theorem sX0_has (h : Hp) {s p : Nat} (hs : s < 16) (hp : p < 4) : X0_has h (nI s) (nI p) = some (pB (s.testBit p = true), h) := by
  unfold X0_has pB
  by_cases c : s.testBit p = true
  · rw [if_pos ((b_has s hs p hp).mpr c), if_pos c]
  · rw [if_neg (fun z => c ((b_has s hs p hp).mp z)), if_neg c]
theorem sX2_isIn (h : Hp) {s p : Nat} (hs : s < 16) (hp : p < 4) : X2_isIn h (nI s) (nI p) = some (pB (s.testBit p = true), h) := by
  unfold X2_isIn pB
  by_cases c : s.testBit p = true
  · rw [if_pos ((b_has s hs p hp).mpr c), if_pos c]
  · rw [if_neg (fun z => c ((b_has s hs p hp).mp z)), if_neg c]
theorem sJ13 (h : Hp) : ∀ s, s < 16 → J13_bitCount h (nI s) = some (nI (pc s), h) := by
  refine lt16 ?_
  refine ⟨rfl, rfl, rfl, rfl, rfl, rfl, rfl, rfl, rfl, rfl, rfl, rfl, rfl, rfl, rfl, rfl⟩
theorem bit_step : ∀ s, s < 16 → s ≠ 0 → ∃ s', s' < s ∧ nI s &&& (nI s - (1 : Int32)) = nI s' ∧ pc s = pc s' + 1 := by
  refine lt16 ?_
  refine ⟨fun z => absurd rfl z, fun _ => ⟨0, by decide⟩, fun _ => ⟨0, by decide⟩, fun _ => ⟨2, by decide⟩, fun _ => ⟨0, by decide⟩, fun _ => ⟨4, by decide⟩, fun _ => ⟨4, by decide⟩, fun _ => ⟨6, by decide⟩, fun _ => ⟨0, by decide⟩, fun _ => ⟨8, by decide⟩, fun _ => ⟨8, by decide⟩, fun _ => ⟨10, by decide⟩, fun _ => ⟨8, by decide⟩, fun _ => ⟨12, by decide⟩, fun _ => ⟨12, by decide⟩, fun _ => ⟨14, by decide⟩⟩
theorem pc_0 : pc 0 = 0 := by decide
theorem sX2_bitsOf (h : Hp) {s : Nat} (hs : s < 16) : X2_bitsOf h (nI s) = some (nI (pc s), h) := by
  have key : ∀ m, (fun m g => ∀ s a, s < 16 → s < m → g h (nI a) (nI s) = some (nI (a + pc s), h)) m (zfix (fun (_ : Hp) (_ : Int32) (_ : Int32) => (none : Option (Int32 × Hp))) X2_bitsOf_b4 m) := by
    refine zfix_ind (σ := Hp → Int32 → Int32 → Option (Int32 × Hp)) _ _ (fun m g => ∀ s a, s < 16 → s < m → g h (nI a) (nI s) = some (nI (a + pc s), h)) (fun s a _ z => absurd z (Nat.not_lt_zero _)) (fun m g ih s a hs hm => ?_)
    unfold X2_bitsOf_b4
    by_cases c : s = 0
    · rw [c, if_pos nI_0, pc_0]; rfl
    · rw [if_neg (nI_ne0 (by omega) (by omega))]
      obtain ⟨s', h1, h2, h3⟩ := bit_step s hs c
      simp only [nm_u]
      rw [h2, nI_1, ih s' (a + 1) (by omega) (by omega), h3]
      congr 3; omega
  have := key zFU s 0 hs (by rw [zFU_u]; omega)
  rw [Nat.zero_add] at this
  exact this
theorem sX0_isOver (h : Hp) {b s m : Nat} (hs : s < 16) (hb : b < 2 ^ 31) (hm : m < 2 ^ 31) (e : zi h 0 4 = nI b) : X0_isOver h (nI s) (nI m) = some (pB (b ≤ m ∨ pc s ≤ 1), h) := by
  unfold X0_isOver pB
  rw [e, sJ13 h s hs, bd_s]
  have h1 := pc_le s hs
  by_cases c : b ≤ m
  · rw [if_pos ((nI_leI hb hm).mpr c), if_pos (Or.inl c)]
  · rw [if_neg (fun z => c ((nI_leI hb hm).mp z))]
    by_cases d : pc s ≤ 1
    · rw [if_neg (fun z => by have := (nI_ltI (by omega) (by omega)).mp (show nI 1 < nI (pc s) from z); omega), if_pos (Or.inr d)]
    · rw [if_pos (show (1 : Int32) < nI (pc s) from (nI_ltI (a := 1) (by omega) (by omega)).mpr (by omega)), if_neg (by omega)]
theorem sX2_isOver (h : Hp) {b s m : Nat} (hs : s < 16) (hb : b < 2 ^ 31) (hm : m < 2 ^ 31) (e : zi h 17 9 = nI b) : X2_isOver h (nI m) (nI s) = some (pB (b ≤ m ∨ pc s ≤ 1), h) := by
  unfold X2_isOver pB
  rw [e, sX2_bitsOf h hs, bd_s]
  have h1 := pc_le s hs
  by_cases c : b ≤ m
  · rw [if_pos ((nI_leI hb hm).mpr c), if_pos (Or.inl c)]
  · rw [if_neg (fun z => c ((nI_leI hb hm).mp z))]
    by_cases d : pc s ≤ 1
    · rw [if_neg (fun z => by have := (nI_leI (by omega) (by omega)).mp (show nI 2 ≤ nI (pc s) from z); omega), if_pos (Or.inr d)]
    · rw [if_pos (show (2 : Int32) ≤ nI (pc s) from (nI_leI (a := 2) (by omega) (by omega)).mpr (by omega)), if_neg (by omega)]
theorem sX0_all (h : Hp) {n : Nat} (hn : n ≤ 4) (e : zi h 0 3 = nI n) : X0_everybody h = some (nI (2 ^ n - 1), h) := by
  rw [sX0_everybody, e, b_all n (by omega)]
theorem sX2_allN (h : Hp) {n : Nat} (hn : n ≤ 4) (e : zi h 17 6 = nI n) : X2_all h = some (nI (2 ^ n - 1), h) := by
  rw [sX2_all, e, b_all n (by omega)]
theorem sX0_at (h : Hp) (s pl m : Nat) : X0_at h (nI s) (nI pl) (nI m) = some (nI (40 * s + 10 * pl + m), h) := by
  show some ((((nI 40) * nI s) + ((nI 10) * nI pl)) + nI m, h) = _
  rw [pk_mul, pk_mul, nI_add, nI_add]
theorem sX2_st (h : Hp) (m s w : Nat) : X2_stateOf h (nI m) (nI s) (nI w) = some (nI ((m * 16 + s) * 4 + w), h) := by
  show some ((((nI m * nI 16) + nI s) * nI 4) + nI w, h) = _
  rw [pk_mul, nI_add, pk_mul, nI_add]
