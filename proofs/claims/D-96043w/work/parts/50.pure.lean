/-! PLAIN LEAN: laws of the pure heap and of the combinators -/
theorem zi_si (h : Hp) (q k : Nat) (v : Int32) (a b : Nat) : zi (zsi h q k v) a b = if a = q ∧ b = k then v else zi h a b := rfl
theorem zj_sj (h : Hp) (q k : Nat) (v : Int64) (a b : Nat) : zj (zsj h q k v) a b = if a = q ∧ b = k then v else zj h a b := rfl
theorem zr_sr (h : Hp) (q k : Nat) (v : Option Nat) (a b : Nat) : zr (zsr h q k v) a b = if a = q ∧ b = k then v else zr h a b := rfl
theorem zi_sj (h : Hp) (q k : Nat) (v : Int64) : zi (zsj h q k v) = zi h := rfl
theorem zi_sr (h : Hp) (q k : Nat) (v : Option Nat) : zi (zsr h q k v) = zi h := rfl
theorem zj_si (h : Hp) (q k : Nat) (v : Int32) : zj (zsi h q k v) = zj h := rfl
theorem zj_sr (h : Hp) (q k : Nat) (v : Option Nat) : zj (zsr h q k v) = zj h := rfl
theorem zr_si (h : Hp) (q k : Nat) (v : Int32) : zr (zsi h q k v) = zr h := rfl
theorem zr_sj (h : Hp) (q k : Nat) (v : Int64) : zr (zsj h q k v) = zr h := rfl
theorem zfix_s {σ : Type} (d : σ) (f : σ → σ) (n : Nat) : zfix d f (n + 1) = f (zfix d f n) := rfl
theorem nm_u {α β : Type} (a : α) (f : α → β) : nm a f = f a := rfl
theorem ck_t {α : Type} {c : Prop} [Decidable c] {k : Option α} (hc : c) : ck c k = k := if_pos hc
theorem bd_s {α β : Type} (r : α) (h : Hp) (k : α → Hp → Option β) : bd (some (r, h)) k = k r h := rfl
theorem dr_s {α : Type} (a : Nat) (k : Nat → Option α) : dr (some a) k = k a := rfl
theorem oc_1 {α : Type} (a : Nat) (n : Option α) (k : Nat → Option α) : oc (some a) n k = k a := rfl
theorem oc_0 {α : Type} (n : Option α) (k : Nat → Option α) : oc none n k = n := rfl
/-! leaves -/
def pB (c : Prop) [Decidable c] : Int32 := if c then 1 else 0
theorem pB0 {c : Prop} [Decidable c] : pB c = 0 ↔ ¬ c := by unfold pB; by_cases h : c <;> simp [h]
def pHas (s p : Int32) : Prop := ((s >>> (p &&& 31)) &&& 1) = 1
theorem sX0_in (h : Hp) (x a b : Int32) : X0_in h x a b = some (pB (a ≤ x ∧ x ≤ b), h) := by
  unfold X0_in pB
  by_cases h1 : x < a
  · rw [if_pos h1, if_neg (fun z => by exact absurd h1 (Int32.not_lt.mpr z.1))]
  · by_cases h2 : b < x
    · rw [if_neg h1, if_pos h2, if_neg (fun z => absurd h2 (Int32.not_lt.mpr z.2))]
    · rw [if_neg h1, if_neg h2, if_pos ⟨Int32.not_lt.mp h1, Int32.not_lt.mp h2⟩]
theorem sX2_within (h : Hp) (x a b : Int64) : X2_within h x a b = some (pB (a ≤ x ∧ x ≤ b), h) := by
  unfold X2_within pB
  by_cases h1 : x < a
  · rw [if_pos h1, if_neg (fun z => by exact absurd h1 (Int64.not_lt.mpr z.1))]
  · by_cases h2 : b < x
    · rw [if_neg h1, if_pos h2, if_neg (fun z => absurd h2 (Int64.not_lt.mpr z.2))]
    · rw [if_neg h1, if_neg h2, if_pos ⟨Int64.not_lt.mp h1, Int64.not_lt.mp h2⟩]
theorem sX0_isPlayer (h : Hp) (p : Int32) : X0_isPlayer h p = some (pB (0 ≤ p ∧ p ≤ zi h 0 3 - 1), h) := by
  unfold X0_isPlayer
  rw [sX0_in, bd_s]
theorem sX0_everybody (h : Hp) : X0_everybody h = some ((1 <<< (zi h 0 3 &&& 31)) - 1, h) := rfl
theorem sX2_all (h : Hp) : X2_all h = some ((1 <<< (zi h 17 6 &&& 31)) - 1, h) := rfl
theorem sX0_beginAnew (h : Hp) : ∃ h', X0_beginAnew h = some ((), h') := by
  unfold X0_beginAnew
  simp only [nm_u, sX0_everybody, bd_s]
  exact ⟨_, rfl⟩
