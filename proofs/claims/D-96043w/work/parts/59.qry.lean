/-! QUESTIONS about values -/
theorem gm.f0 {σ : Sg} {h h' : Hp} (g : gm σ h) (a : f0 h h') : gm σ h' :=
  ⟨(a.2.1 17 6 (by decide) (by decide) (by omega)).trans g.1, fun k hk => (a.2.1 22 k (by decide) (by decide) (by omega)).trans (g.2.1 k hk), fun k hk => (a.2.1 23 k (by decide) (by decide) (by omega)).trans (g.2.2.1 k hk), fun p hp w hw => (a.2.1 18 _ (by decide) (by decide) (by omega)).trans (g.2.2.2.1 p hp w hw), (a.2.1 17 9 (by decide) (by decide) (by omega)).trans g.2.2.2.2.1, fun m hm => (a.2.1 24 m (by decide) (by decide) (by omega)).trans (g.2.2.2.2.2.1 m hm), g.2.2.2.2.2.2.fr ⟨a.2.1 17 15 (by decide) (by decide) (by omega), fun k => a.2.1 27 k (by decide) (by decide) (by omega)⟩⟩
/-- what one has at the beginning, if place k begins -/
def dF (σ : Sg) (k p : Nat) : Int64 := dV σ (sB σ) (2 ^ sN σ - 1) (sO σ k) p
theorem allb {σ : Sg} (ok : sOK σ) {k : Nat} (hk : k < sN σ) : (2 ^ sN σ - 1).testBit (sO σ k) = true := by
  have := (ok.2.1 k hk).1
  exact (all_bit _ (by have := ok.1; omega) _ (by have := ok.1; omega)).mpr this
theorem all_lt (σ : Sg) : 2 ^ sN σ - 1 < 2 ^ sN σ := by
  have : 0 < 2 ^ sN σ := Nat.pos_of_ne_zero (by intro z; have := Nat.pow_eq_zero.mp z; omega)
  omega
theorem sX0_from {σ : Sg} (ok : sOK σ) {h : Hp} (g : gc σ h) (t : tC σ h 0) {k p : Nat} (hk : k < sN σ) (hp : p < sN σ) : X0_valueAt h (nI (2 ^ sN σ - 1)) (nI k) 0 (nI p) = some (dF σ k p, h) :=
  sX0_valueAt ok g (m := 0) (all_lt σ) hk (Nat.zero_le _) hp (allb ok hk) t
theorem sX0_worthOf {σ : Sg} (ok : sOK σ) {h : Hp} (g : gc σ h) (t : tC σ h 0) {p : Nat} (hp : p < sN σ) : X0_worthOf h (nI p) = some (dF σ 0 p, h) := by
  unfold X0_worthOf
  rw [sX0_all h ok.1 g.1, bd_s, show X0_valueAt h (nI (2 ^ sN σ - 1)) (0 : Int32) (0 : Int32) (nI p) = some (dF σ 0 p, h) from sX0_from ok g t (k := 0) (by omega) hp, bd_s]
theorem sX2_startAll {σ : Sg} (ok : sOK σ) {h : Hp} (g : gm σ h) {k : Nat} (hk : k < sN σ) : X2_startOf h (nI (2 ^ sN σ - 1)) (nI k) = some (nI (sO σ k), h) := by
  have hn := ok.1
  have h16 : 2 ^ sN σ - 1 < 16 := Nat.lt_of_lt_of_le (all_lt σ) (pow16 hn)
  unfold X2_startOf
  obtain ⟨N, hN⟩ : ∃ N, zFU = N + 1 := ⟨4095, zFU_u⟩
  rw [hN, zfix_s]
  unfold X2_startOf_b2
  rw [g.1, if_neg (fun z => by have := (nI_leI (by omega) (by omega)).mp (show nI _ ≤ nI 0 from z); omega), ck_t (nI_ne0 (by omega) (by omega)), Int32.add_zero, pk_rem (by omega) (by omega) (by omega), Nat.mod_eq_of_lt hk, ck_i (by omega) (by omega), nI_clamp (by omega), g.2.1 k hk]
  simp only [nm_u]
  rw [sX2_isIn h h16 (by have := (ok.2.1 k hk).1; omega), bd_s, if_neg (fun z => (pB0.mp z) (allb ok hk))]
theorem sX2_from {σ : Sg} (ok : sOK σ) {h : Hp} (g : gm σ h) (t : tM σ h 0) {k p : Nat} (hk : k < sN σ) (hp : p < sN σ) : X2_worthFrom h (nI (2 ^ sN σ - 1)) (nI k) (nI p) = some (dF σ k p, h) := by
  have hn := ok.1
  have hpw := pow16 hn
  have ha := all_lt σ
  have ho := (ok.2.1 k hk).1
  unfold X2_worthFrom
  rw [sX2_startAll ok g hk, bd_s, show (0 : Int32) = nI 0 from rfl, sX2_st, bd_s, show (4 : Int32) = nI 4 from rfl, pk_mul, nI_add, ck_i (by omega) (by omega), nI_clamp (by omega), (t 0 (Nat.le_refl _) (Nat.zero_le _) _ ha _ ho (Or.inr (Or.inr (allb ok hk)))).2.2 p hp]
  rfl
theorem sX2_worthOf {σ : Sg} (ok : sOK σ) {h : Hp} (g : gm σ h) {p : Nat} (hp : p < sN σ) : wp (X2_worthOf h (nI p)) (fun r h' => r = dF σ 0 p ∧ f2 h h' ∧ tM σ h' 0 ∧ pw12 h') := by
  unfold X2_worthOf
  rw [wp_bd]
  refine (sX2_solves ok g).mono ?_
  rintro _ h1 ⟨fr, t, pw⟩
  have g1 := g.fr fr
  rw [sX2_allN h1 ok.1 g1.1, bd_s, show X2_worthFrom h1 (nI (2 ^ sN σ - 1)) (0 : Int32) (nI p) = some (dF σ 0 p, h1) from sX2_from ok g1 t (k := 0) (by omega) hp, bd_s]
  exact wp.of rfl ⟨rfl, fr, t, pw⟩
/-- begin -/
def qB (σ : Sg) (p : Nat) : Nat → Nat
  | 0 => 0
  | k + 1 => if dF σ (qB σ p k) p < dF σ k p then k else qB σ p k
theorem qB_lt (σ : Sg) (p : Nat) : ∀ k, qB σ p (k + 1) ≤ k := by
  intro k
  induction k with
  | zero => unfold qB; split <;> simp [qB]
  | succ k ih =>
    unfold qB
    split
    · omega
    · omega
abbrev isP (σ : Sg) (x : Int32) : Prop := 0 ≤ x ∧ x ≤ nI (sN σ) - 1
theorem isP.nI {σ : Sg} (ok : sOK σ) {x : Int32} (c : isP σ x) : ∃ p, p < sN σ ∧ x = nI p := (nI_isP (by have := ok.1; omega)).mp c
theorem sX0_isP {σ : Sg} {h : Hp} (g : gc σ h) (x : Int32) : X0_isPlayer h x = some (pB (isP σ x), h) := by
  rw [sX0_isPlayer, g.1]
theorem sX2_wi (h : Hp) (x a b : Int32) : X2_within h x.toInt64 a.toInt64 b.toInt64 = some (pB (a ≤ x ∧ x ≤ b), h) := by
  rw [sX2_within]
  unfold pB
  by_cases c : a ≤ x ∧ x ≤ b
  · rw [if_pos ⟨Int32.toInt64_le.mpr c.1, Int32.toInt64_le.mpr c.2⟩, if_pos c]
  · rw [if_neg (fun z => c ⟨Int32.toInt64_le.mp z.1, Int32.toInt64_le.mp z.2⟩), if_neg c]
theorem sX2_isP {σ : Sg} {h : Hp} (g : gm σ h) (x : Int32) : X2_isPlayer h x = some (pB (isP σ x), h) := by
  unfold X2_isPlayer
  rw [show (0 : Int64) = (0 : Int32).toInt64 from by decide, sX2_wi, bd_s, g.1]
def qBegin (σ : Sg) (x : Int32) : Int32 := if isP σ x then nI (qB σ x.toNatClampNeg (sN σ)) else -1
theorem sX0_begin {σ : Sg} (ok : sOK σ) {h : Hp} (g : gc σ h) (x : Int32) : wp (X0_begin h x) (fun r h' => r = qBegin σ x ∧ f0 h h') := by
  have hn := ok.1
  unfold X0_begin
  rw [sX0_isP g, bd_s]
  by_cases c0 : isP σ x
  · rw [if_neg (fun z => (pB0.mp z) c0)]
    obtain ⟨p, hp, rfl⟩ := c0.nI ok
    rw [wp_bd]
    refine (sX0_findValues ok g).mono ?_
    rintro _ h1 ⟨fr, t⟩
    have g1 := g.fr fr.f0
    have key : ∀ N, (fun N r => ∀ k, 1 ≤ k → k ≤ sN σ → sN σ - k < N → r h1 (nI (qB σ p k)) (nI k) = some (nI (qB σ p (sN σ)), h1)) N (zfix (fun (_ : Hp) (_ : Int32) (_ : Int32) => (none : Option (Int32 × Hp))) (X0_begin_b18 (nI p)) N) := by
      refine zfix_ind (σ := Hp → Int32 → Int32 → Option (Int32 × Hp)) _ _ (fun N r => ∀ k, 1 ≤ k → k ≤ sN σ → sN σ - k < N → r h1 (nI (qB σ p k)) (nI k) = some (nI (qB σ p (sN σ)), h1)) (fun k _ _ z => absurd z (Nat.not_lt_zero _)) (fun N r ih k hk1 hk hN => ?_)
      unfold X0_begin_b18
      rw [g1.1]
      by_cases c : sN σ ≤ k
      · rw [if_pos ((nI_leI (by omega) (by omega)).mpr c), show k = sN σ from by omega]
      · have hq : qB σ p k < sN σ := by
          obtain ⟨k', rfl⟩ : ∃ k', k = k' + 1 := ⟨k - 1, by omega⟩
          have := qB_lt σ p k'; omega
        rw [if_neg (fun z => c ((nI_leI (by omega) (by omega)).mp z)), sX0_all h1 hn g1.1, bd_s, sX0_from ok g1 t (by omega) hp, bd_s, sX0_all h1 hn g1.1, bd_s, sX0_from ok g1 t hq hp, bd_s]
        simp only [nm_u]
        rw [nI_1]
        have ih1 := ih (k + 1) (by omega) (by omega) (by omega)
        have hu : qB σ p (k + 1) = if dF σ (qB σ p k) p < dF σ k p then k else qB σ p k := rfl
        rw [hu] at ih1
        by_cases d : dF σ (qB σ p k) p < dF σ k p
        · rw [if_neg (Int64.not_le.mpr d)]
          rw [if_pos d] at ih1; exact ih1
        · rw [if_pos (Int64.not_lt.mp d)]
          rw [if_neg d] at ih1; exact ih1
    have q1 : nI (qB σ p 1) = (0 : Int32) := by
      show nI (if dF σ 0 p < dF σ 0 p then 0 else 0) = 0
      split <;> rfl
    have := key zFU 1 (by omega) (by omega) (by rw [zFU_u]; omega)
    rw [q1] at this
    refine wp.of this ⟨?_, fr.f0⟩
    unfold qBegin
    rw [if_pos c0, nI_clamp (by omega)]
  · rw [if_pos (pB0.mpr c0)]
    refine wp.of rfl ⟨?_, f0.rf h⟩
    unfold qBegin
    rw [if_neg c0]
theorem sX2_begin {σ : Sg} (ok : sOK σ) {h : Hp} (g : gm σ h) (x : Int32) : wp (X2_begin h x) (fun r h' => r = qBegin σ x ∧ f2 h h') := by
  have hn := ok.1
  unfold X2_begin
  rw [sX2_isP g, bd_s]
  by_cases c0 : isP σ x
  · rw [if_neg (fun z => (pB0.mp z) c0)]
    obtain ⟨p, hp, rfl⟩ := c0.nI ok
    rw [wp_bd]
    refine (sX2_solves ok g).mono ?_
    rintro _ h1 ⟨fr, t, _⟩
    have g1 := g.fr fr
    have key : ∀ N, (fun N r => ∀ k, 1 ≤ k → k ≤ sN σ → sN σ - k < N → r h1 (nI (qB σ p k)) (nI k) = some (nI (qB σ p (sN σ)), h1)) N (zfix (fun (_ : Hp) (_ : Int32) (_ : Int32) => (none : Option (Int32 × Hp))) (X2_begin_b18 (nI p)) N) := by
      refine zfix_ind (σ := Hp → Int32 → Int32 → Option (Int32 × Hp)) _ _ (fun N r => ∀ k, 1 ≤ k → k ≤ sN σ → sN σ - k < N → r h1 (nI (qB σ p k)) (nI k) = some (nI (qB σ p (sN σ)), h1)) (fun k _ _ z => absurd z (Nat.not_lt_zero _)) (fun N r ih k hk1 hk hN => ?_)
      unfold X2_begin_b18
      rw [g1.1]
      by_cases c : sN σ ≤ k
      · rw [if_pos ((nI_leI (by omega) (by omega)).mpr c), show k = sN σ from by omega]
      · have hq : qB σ p k < sN σ := by
          obtain ⟨k', rfl⟩ : ∃ k', k = k' + 1 := ⟨k - 1, by omega⟩
          have := qB_lt σ p k'; omega
        rw [if_neg (fun z => c ((nI_leI (by omega) (by omega)).mp z)), sX2_allN h1 hn g1.1, bd_s, sX2_from ok g1 t (by omega) hp, bd_s, sX2_allN h1 hn g1.1, bd_s, sX2_from ok g1 t hq hp, bd_s]
        simp only [nm_u]
        rw [nI_1]
        have ih1 := ih (k + 1) (by omega) (by omega) (by omega)
        have hu : qB σ p (k + 1) = if dF σ (qB σ p k) p < dF σ k p then k else qB σ p k := rfl
        rw [hu] at ih1
        by_cases d : dF σ (qB σ p k) p < dF σ k p
        · rw [if_neg (Int64.not_le.mpr d)]
          rw [if_pos d] at ih1; exact ih1
        · rw [if_pos (Int64.not_lt.mp d)]
          rw [if_neg d] at ih1; exact ih1
    have q1 : nI (qB σ p 1) = (0 : Int32) := by
      show nI (if dF σ 0 p < dF σ 0 p then 0 else 0) = 0
      split <;> rfl
    have := key zFU 1 (by omega) (by omega) (by rw [zFU_u]; omega)
    rw [q1] at this
    refine wp.of this ⟨?_, fr⟩
    unfold qBegin
    rw [if_pos c0, nI_clamp (by omega)]
  · rw [if_pos (pB0.mpr c0)]
    refine wp.of rfl ⟨?_, f2.rf h⟩
    unfold qBegin
    rw [if_neg c0]
