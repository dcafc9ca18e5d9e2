/-! TWO of them: league, points -/
theorem b_pair : ∀ a, a < 4 → ∀ b, b < 4 → a ≠ b → ((1 : Int32) <<< (nI a &&& 31)) ||| ((1 : Int32) <<< (nI b &&& 31)) = nI (2 ^ a + 2 ^ b) := by decide
theorem pair_lt : ∀ n, n < 5 → ∀ a, a < n → ∀ b, b < n → a ≠ b → 2 ^ a + 2 ^ b < 2 ^ n := by decide
theorem pair_bit : ∀ a, a < 4 → ∀ b, b < 4 → a ≠ b → (2 ^ a + 2 ^ b).testBit a = true := by decide
def fpg (σ : Sg) (s : Nat) : Nat → Nat → Nat
  | 0, k => k
  | f + 1, k => if s.testBit (sO σ k) = true then k else fpg σ s f (k + 1)
def fpl (σ : Sg) (s : Nat) : Nat := fpg σ s (sN σ - 1) 0
theorem fpg_b (σ : Sg) (s : Nat) : ∀ f k, (∃ j, k ≤ j ∧ j ≤ k + f ∧ s.testBit (sO σ j) = true) → s.testBit (sO σ (fpg σ s f k)) = true ∧ fpg σ s f k ≤ k + f := by
  intro f
  induction f with
  | zero =>
    rintro k ⟨j, h1, h2, h3⟩
    rw [show j = k from by omega] at h3
    exact ⟨h3, Nat.le_refl _⟩
  | succ f ih =>
    rintro k ⟨j, h1, h2, h3⟩
    unfold fpg
    by_cases c : s.testBit (sO σ k) = true
    · rw [if_pos c]; exact ⟨c, by omega⟩
    · rw [if_neg c]
      have hj : k + 1 ≤ j := by
        rcases Nat.lt_or_ge k j with l | l
        · exact l
        · rw [show j = k from by omega] at h3; exact absurd h3 c
      have := ih (k + 1) ⟨j, hj, by omega, h3⟩
      exact ⟨this.1, by omega⟩
theorem sX0_first {σ : Sg} (ok : sOK σ) {h : Hp} (g : gc σ h) {s : Nat} (hs : s < 16) (hn0 : 0 < sN σ) : X0_firstPlace h (nI s) = some (nI (fpl σ s), h) := by
  have hn := ok.1
  have key : ∀ N, (fun N r => ∀ k, k ≤ sN σ - 1 → sN σ - 1 - k < N → r h (nI k) = some (nI (fpg σ s (sN σ - 1 - k) k), h)) N (zfix (fun (_ : Hp) (_ : Int32) => (none : Option (Int32 × Hp))) (X0_firstPlace_b2 (nI s)) N) := by
    refine zfix_ind (σ := Hp → Int32 → Option (Int32 × Hp)) _ _ (fun N r => ∀ k, k ≤ sN σ - 1 → sN σ - 1 - k < N → r h (nI k) = some (nI (fpg σ s (sN σ - 1 - k) k), h)) (fun k _ z => absurd z (Nat.not_lt_zero _)) (fun N r ih k hk hN => ?_)
    unfold X0_firstPlace_b2
    rw [g.1, show nI (sN σ) - (1 : Int32) = nI (sN σ - 1) from pk_sub (b := 1) (by omega)]
    by_cases c : sN σ - 1 ≤ k
    · rw [if_pos ((nI_leI (by omega) (by omega)).mpr c), show sN σ - 1 - k = 0 from by omega]
      rfl
    · have hw := (ok.2.1 k (by omega)).1
      rw [if_neg (fun z => c ((nI_leI (by omega) (by omega)).mp z)), ck_i (by omega) (by omega), nI_clamp (by omega), g.2.1 k (by omega), sX0_has h hs (by omega), bd_s, show sN σ - 1 - k = sN σ - 1 - (k + 1) + 1 from by omega]
      unfold fpg
      by_cases d : s.testBit (sO σ k) = true
      · rw [if_neg (fun z => (pB0.mp z) d), if_pos d]
      · rw [if_pos (pB0.mpr d), if_neg d]
        simp only [nm_u]
        rw [nI_1]
        exact ih (k + 1) (by omega) (by omega)
  exact key zFU 0 (by omega) (by rw [zFU_u]; omega)
theorem sX2_first {σ : Sg} (ok : sOK σ) {h : Hp} (g : gm σ h) {s : Nat} (hs : s < 16) (he : ∃ j, j < sN σ ∧ s.testBit (sO σ j) = true) : X2_startOf h (nI s) 0 = some (nI (sO σ (fpl σ s)), h) := by
  have hn := ok.1
  have key : ∀ N, (fun N r => ∀ k, k < sN σ → (∃ j, k ≤ j ∧ j < sN σ ∧ s.testBit (sO σ j) = true) → sN σ - k < N → r h (nI k) = some (nI (sO σ (fpg σ s (sN σ - 1 - k) k)), h)) N (zfix (fun (_ : Hp) (_ : Int32) => (none : Option (Int32 × Hp))) (X2_startOf_b2 (nI s) 0) N) := by
    refine zfix_ind (σ := Hp → Int32 → Option (Int32 × Hp)) _ _ (fun N r => ∀ k, k < sN σ → (∃ j, k ≤ j ∧ j < sN σ ∧ s.testBit (sO σ j) = true) → sN σ - k < N → r h (nI k) = some (nI (sO σ (fpg σ s (sN σ - 1 - k) k)), h)) (fun k _ _ z => absurd z (Nat.not_lt_zero _)) (fun N r ih k hk hj hN => ?_)
    have hw := (ok.2.1 k hk).1
    unfold X2_startOf_b2
    rw [g.1, if_neg (fun z => by have := (nI_leI (by omega) (by omega)).mp z; omega), ck_t (nI_ne0 (by omega) (by omega)), Int32.zero_add, pk_rem (by omega) (by omega) (by omega), Nat.mod_eq_of_lt hk, ck_i (by omega) (by omega), nI_clamp (by omega), g.2.1 k hk]
    simp only [nm_u]
    rw [sX2_isIn h hs (by omega), bd_s]
    by_cases d : s.testBit (sO σ k) = true
    · rw [if_neg (fun z => (pB0.mp z) d)]
      cases e : sN σ - 1 - k with
      | zero => rfl
      | succ f => unfold fpg; rw [if_pos d]
    · rw [if_pos (pB0.mpr d), nI_1]
      obtain ⟨j, h1, h2, h3⟩ := hj
      have hj : k + 1 ≤ j := by
        rcases Nat.lt_or_ge k j with l | l
        · exact l
        · rw [show j = k from by omega] at h3; exact absurd h3 d
      rw [ih (k + 1) (by omega) ⟨j, hj, h2, h3⟩ (by omega), show sN σ - 1 - k = sN σ - 1 - (k + 1) + 1 from by omega]
      conv => rhs; unfold fpg
      rw [if_neg d]
  obtain ⟨j, h1, h2⟩ := he
  exact key zFU 0 (by omega) ⟨j, Nat.zero_le _, h1, h2⟩ (by rw [zFU_u]; omega)
def dL (σ : Sg) (a b p : Nat) : Int64 := dV σ (sB σ) (2 ^ a + 2 ^ b) (sO σ (fpl σ (2 ^ a + 2 ^ b))) p
theorem pair_e {σ : Sg} (ok : sOK σ) {a b : Nat} (ha : a < sN σ) (hb : b < sN σ) (hab : a ≠ b) : ∃ j, j < sN σ ∧ (2 ^ a + 2 ^ b).testBit (sO σ j) = true :=
  ⟨sP σ a, (ok.2.2.1 a ha).1, by rw [(ok.2.2.1 a ha).2]; exact pair_bit a (by have := ok.1; omega) b (by have := ok.1; omega) hab⟩
def qL (σ : Sg) (a b : Nat) : Int32 := if dL σ a b a = dL σ a b b then 0 else if dL σ a b a ≤ dL σ a b b then 2 else 1
theorem sX0_better {σ : Sg} (ok : sOK σ) {h : Hp} (g : gc σ h) {a b : Nat} (ha : a < sN σ) (hb : b < sN σ) (hab : a ≠ b) : wp (X0_better h (nI a) (nI b)) (fun r h' => r = qL σ a b ∧ f0 h h') := by
  have hn := ok.1
  have hs := pair_lt _ (by omega) a ha b hb hab
  have hpw := pow16 hn
  obtain ⟨j, j1, j2⟩ := pair_e ok ha hb hab
  have hf := fpg_b σ (2 ^ a + 2 ^ b) (sN σ - 1) 0 ⟨j, Nat.zero_le _, by omega, j2⟩
  unfold X0_better
  rw [wp_bd]
  refine (sX0_findValues ok g).mono ?_
  rintro _ h1 ⟨fr, t⟩
  have g1 := g.fr fr.f0
  simp only [nm_u]
  have v : ∀ p, p < sN σ → X0_valueAt h1 (nI (2 ^ a + 2 ^ b)) (nI (fpl σ (2 ^ a + 2 ^ b))) 0 (nI p) = some (dL σ a b p, h1) := fun p hp => sX0_valueAt ok g1 (m := 0) hs (by unfold fpl; omega) (Nat.zero_le _) hp hf.1 t
  rw [b_pair a (by omega) b (by omega) hab, sX0_first ok g1 (by omega) (by omega), bd_s, v a ha, bd_s, sX0_first ok g1 (by omega) (by omega), bd_s, v b hb, bd_s]
  unfold qL
  by_cases c : dL σ a b a = dL σ a b b
  · rw [if_pos c, if_pos c]; exact wp.of rfl ⟨rfl, fr.f0⟩
  · rw [if_neg c, if_neg c]
    by_cases d : dL σ a b a ≤ dL σ a b b
    · rw [if_pos d, if_pos d]; exact wp.of rfl ⟨rfl, fr.f0⟩
    · rw [if_neg d, if_neg d]; exact wp.of rfl ⟨rfl, fr.f0⟩
theorem sX2_leagueOf {σ : Sg} (ok : sOK σ) {h : Hp} (g : gm σ h) {a b : Nat} (ha : a < sN σ) (hb : b < sN σ) (hab : a ≠ b) : wp (X2_leagueOf h (nI a) (nI b)) (fun r h' => r = qL σ a b ∧ f2 h h') := by
  have hn := ok.1
  have hs := pair_lt _ (by omega) a ha b hb hab
  have hpw := pow16 hn
  obtain ⟨j, j1, j2⟩ := pair_e ok ha hb hab
  have hf := fpg_b σ (2 ^ a + 2 ^ b) (sN σ - 1) 0 ⟨j, Nat.zero_le _, by omega, j2⟩
  unfold X2_leagueOf
  rw [wp_bd]
  refine (sX2_solves ok g).mono ?_
  rintro _ h1 ⟨fr, t, _⟩
  have g1 := g.fr fr
  simp only [nm_u]
  have ho := (ok.2.1 (fpl σ (2 ^ a + 2 ^ b)) (by unfold fpl; omega)).1
  have v : ∀ p, p < sN σ → X2_worthFrom h1 (nI (2 ^ a + 2 ^ b)) 0 (nI p) = some (dL σ a b p, h1) := by
    intro p hp
    unfold X2_worthFrom
    rw [sX2_first ok g1 (by omega) ⟨j, j1, j2⟩, bd_s, show (0 : Int32) = nI 0 from rfl, sX2_st, bd_s, show (4 : Int32) = nI 4 from rfl, pk_mul, nI_add, ck_i (by omega) (by omega), nI_clamp (by omega), (t 0 (Nat.le_refl _) (Nat.zero_le _) _ hs _ ho (Or.inr (Or.inr hf.1))).2.2 p hp]
    rfl
  rw [b_pair a (by omega) b (by omega) hab, v a ha, bd_s, v b hb, bd_s]
  unfold qL
  by_cases c : dL σ a b a = dL σ a b b
  · rw [if_pos c, c, if_pos (Int64.le_refl _), if_pos (Int64.le_refl _)]; exact wp.of rfl ⟨rfl, fr⟩
  · rw [if_neg c]
    by_cases d : dL σ a b a ≤ dL σ a b b
    · rw [if_pos d, if_pos d, if_neg (fun z => c (Int64.le_antisymm d z))]; exact wp.of rfl ⟨rfl, fr⟩
    · rw [if_neg d, if_neg d]; exact wp.of rfl ⟨rfl, fr⟩
/-- points -/
def qPt (σ : Sg) (p : Nat) : Nat → Int32
  | 0 => 0
  | k + 1 => qPt σ p k + (if k = p then 0 else if qL σ p k = 1 then 2 else if qL σ p k = 0 then 1 else 0)
def qPoints (σ : Sg) (x : Int32) : Int32 := if isP σ x then qPt σ x.toNatClampNeg (sN σ) else -1
theorem sX0_points {σ : Sg} (ok : sOK σ) {h : Hp} (g : gc σ h) (x : Int32) : wp (X0_points h x) (fun r h' => r = qPoints σ x ∧ f0 h h') := by
  have hn := ok.1
  unfold X0_points
  rw [sX0_isP g, bd_s]
  by_cases c0 : isP σ x
  · rw [if_neg (fun z => (pB0.mp z) c0)]
    obtain ⟨p, hp, rfl⟩ := c0.nI ok
    have e0 : qPoints σ (nI p) = qPt σ p (sN σ) := by unfold qPoints; rw [if_pos c0, nI_clamp (by omega)]
    rw [e0]
    have key : ∀ N, (fun N r => ∀ k h1, f0 h h1 → k ≤ sN σ → sN σ - k < N → wp (r h1 (qPt σ p k) (nI k)) (fun r h' => r = qPt σ p (sN σ) ∧ f0 h h')) N (zfix (fun (_ : Hp) (_ : Int32) (_ : Int32) => (none : Option (Int32 × Hp))) (X0_points_b14 (nI p)) N) := by
      refine zfix_ind (σ := Hp → Int32 → Int32 → Option (Int32 × Hp)) _ _ (fun N r => ∀ k h1, f0 h h1 → k ≤ sN σ → sN σ - k < N → wp (r h1 (qPt σ p k) (nI k)) (fun r h' => r = qPt σ p (sN σ) ∧ f0 h h')) (fun k _ _ _ z => absurd z (Nat.not_lt_zero _)) (fun N r ih k h1 fr hk hN => ?_)
      have g1 := g.fr fr
      unfold X0_points_b14
      rw [g1.1]
      by_cases c : sN σ ≤ k
      · rw [if_pos ((nI_leI (by omega) (by omega)).mpr c), show k = sN σ from by omega]
        exact wp.of rfl ⟨rfl, fr⟩
      · rw [if_neg (fun z => c ((nI_leI (by omega) (by omega)).mp z))]
        simp only [nm_u]
        rw [nI_1]
        have hu : qPt σ p (k + 1) = qPt σ p k + (if k = p then 0 else if qL σ p k = 1 then 2 else if qL σ p k = 0 then 1 else 0) := rfl
        by_cases d : k = p
        · rw [if_pos (by rw [d])]
          have ih1 := ih (k + 1) h1 fr (by omega) (by omega)
          rw [hu, if_pos d, Int32.add_zero] at ih1
          exact ih1
        · rw [if_neg (fun z => d ((nI_eq (by omega) (by omega)).mp z)), wp_bd]
          refine (sX0_better ok g1 hp (by omega) (fun z => d z.symm)).mono ?_
          rintro x h2 ⟨ex, fr2⟩
          have ih1 := ih (k + 1) h2 (fr.tr fr2) (by omega) (by omega)
          rw [hu, if_neg d] at ih1
          rw [ex]
          by_cases d1 : qL σ p k = 1
          · rw [if_pos d1]
            rw [if_pos d1] at ih1; exact ih1
          · rw [if_neg d1]
            rw [if_neg d1] at ih1
            by_cases d2 : qL σ p k = 0
            · rw [if_pos d2]
              rw [if_pos d2] at ih1; exact ih1
            · rw [if_neg d2]
              rw [if_neg d2] at ih1; exact ih1
    exact key zFU 0 h (f0.rf h) (Nat.zero_le _) (by rw [zFU_u]; omega)
  · rw [if_pos (pB0.mpr c0)]
    refine wp.of rfl ⟨?_, f0.rf h⟩
    unfold qPoints
    rw [if_neg c0]
theorem sX2_points {σ : Sg} (ok : sOK σ) {h : Hp} (g : gm σ h) (x : Int32) : wp (X2_points h x) (fun r h' => r = qPoints σ x ∧ f2 h h') := by
  have hn := ok.1
  unfold X2_points
  rw [sX2_isP g, bd_s]
  by_cases c0 : isP σ x
  · rw [if_neg (fun z => (pB0.mp z) c0)]
    obtain ⟨p, hp, rfl⟩ := c0.nI ok
    have e0 : qPoints σ (nI p) = qPt σ p (sN σ) := by unfold qPoints; rw [if_pos c0, nI_clamp (by omega)]
    rw [e0]
    have key : ∀ N, (fun N r => ∀ k h1, f2 h h1 → k ≤ sN σ → sN σ - k < N → wp (r h1 (qPt σ p k) (nI k)) (fun r h' => r = qPt σ p (sN σ) ∧ f2 h h')) N (zfix (fun (_ : Hp) (_ : Int32) (_ : Int32) => (none : Option (Int32 × Hp))) (X2_points_b14 (nI p)) N) := by
      refine zfix_ind (σ := Hp → Int32 → Int32 → Option (Int32 × Hp)) _ _ (fun N r => ∀ k h1, f2 h h1 → k ≤ sN σ → sN σ - k < N → wp (r h1 (qPt σ p k) (nI k)) (fun r h' => r = qPt σ p (sN σ) ∧ f2 h h')) (fun k _ _ _ z => absurd z (Nat.not_lt_zero _)) (fun N r ih k h1 fr hk hN => ?_)
      have g1 := g.fr fr
      unfold X2_points_b14
      rw [g1.1]
      by_cases c : sN σ ≤ k
      · rw [if_pos ((nI_leI (by omega) (by omega)).mpr c), show k = sN σ from by omega]
        exact wp.of rfl ⟨rfl, fr⟩
      · rw [if_neg (fun z => c ((nI_leI (by omega) (by omega)).mp z))]
        simp only [nm_u]
        rw [nI_1]
        have hu : qPt σ p (k + 1) = qPt σ p k + (if k = p then 0 else if qL σ p k = 1 then 2 else if qL σ p k = 0 then 1 else 0) := rfl
        by_cases d : k = p
        · rw [if_pos (by rw [d])]
          have ih1 := ih (k + 1) h1 fr (by omega) (by omega)
          rw [hu, if_pos d] at ih1
          exact ih1
        · rw [if_neg (fun z => d ((nI_eq (by omega) (by omega)).mp z)), wp_bd]
          refine (sX2_leagueOf ok g1 hp (by omega) (fun z => d z.symm)).mono ?_
          rintro x h2 ⟨ex, fr2⟩
          have ih1 := ih (k + 1) h2 (fr.tr fr2) (by omega) (by omega)
          rw [hu, if_neg d] at ih1
          rw [ex]
          by_cases d1 : qL σ p k = 1
          · rw [if_pos d1]
            rw [if_pos d1] at ih1; exact ih1
          · rw [if_neg d1]
            rw [if_neg d1] at ih1
            by_cases d2 : qL σ p k = 0
            · rw [if_pos d2]
              rw [if_pos d2] at ih1; exact ih1
            · rw [if_neg d2]
              rw [if_neg d2] at ih1; exact ih1
    exact key zFU 0 h (f2.rf h) (Nat.zero_le _) (by rw [zFU_u]; omega)
  · rw [if_pos (pB0.mpr c0)]
    refine wp.of rfl ⟨?_, f2.rf h⟩
    unfold qPoints
    rw [if_neg c0]
/-- league -/
def qLeague (σ : Sg) (x : Int32) : Int32 :=
  if x < 0 then -1 else if isP σ (x / 10) then (if isP σ (x - x / 10 * 10) then (if x / 10 = x - x / 10 * 10 then -1 else qL σ (x / 10).toNatClampNeg (x - x / 10 * 10).toNatClampNeg) else -1) else -1
theorem sX0_league {σ : Sg} (ok : sOK σ) {h : Hp} (g : gc σ h) (x : Int32) : wp (X0_league h x) (fun r h' => r = qLeague σ x ∧ f0 h h') := by
  have hn := ok.1
  have t10 : ¬ (10 : Int32) = 0 := by decide
  unfold X0_league qLeague
  by_cases c : x < 0
  · rw [if_pos c, if_pos c]; exact wp.of rfl ⟨rfl, f0.rf h⟩
  rw [if_neg c, if_neg c, ck_t t10, sX0_isP g, bd_s]
  by_cases c1 : isP σ (x / 10)
  · rw [if_neg (fun z => (pB0.mp z) c1), if_pos c1, ck_t t10, sX0_isP g, bd_s]
    by_cases c2 : isP σ (x - x / 10 * 10)
    · rw [if_neg (fun z => (pB0.mp z) c2), if_pos c2, ck_t t10, ck_t t10]
      by_cases c3 : x / 10 = x - x / 10 * 10
      · rw [if_pos c3, if_pos c3]; exact wp.of rfl ⟨rfl, f0.rf h⟩
      · rw [if_neg c3, if_neg c3, ck_t t10, ck_t t10]
        obtain ⟨a, ha, ea⟩ := c1.nI ok
        obtain ⟨b, hb, eb⟩ := c2.nI ok
        rw [eb, ea] at c3 ⊢
        rw [wp_bd, nI_clamp (by omega), nI_clamp (by omega)]
        refine (sX0_better ok g ha hb (fun z => c3 (by rw [z]))).mono ?_
        rintro y h2 ⟨ey, fr2⟩
        exact wp.of rfl ⟨ey, fr2⟩
    · rw [if_pos (pB0.mpr c2), if_neg c2]; exact wp.of rfl ⟨rfl, f0.rf h⟩
  · rw [if_pos (pB0.mpr c1), if_neg c1]; exact wp.of rfl ⟨rfl, f0.rf h⟩
theorem sX2_league {σ : Sg} (ok : sOK σ) {h : Hp} (g : gm σ h) (x : Int32) : wp (X2_league h x) (fun r h' => r = qLeague σ x ∧ f2 h h') := by
  have hn := ok.1
  have t10 : ¬ (10 : Int32) = 0 := by decide
  unfold X2_league qLeague
  by_cases c : x < 0
  · rw [if_pos c, if_pos c]; exact wp.of rfl ⟨rfl, f2.rf h⟩
  rw [if_neg c, if_neg c, ck_t t10, sX2_isP g, bd_s]
  by_cases c1 : isP σ (x / 10)
  · rw [if_neg (fun z => (pB0.mp z) c1), if_pos c1, ck_t t10, sX2_isP g, bd_s]
    by_cases c2 : isP σ (x - x / 10 * 10)
    · rw [if_neg (fun z => (pB0.mp z) c2), if_pos c2, ck_t t10, ck_t t10]
      by_cases c3 : x / 10 = x - x / 10 * 10
      · rw [if_pos c3, if_pos c3]; exact wp.of rfl ⟨rfl, f2.rf h⟩
      · rw [if_neg c3, if_neg c3, ck_t t10, ck_t t10]
        obtain ⟨a, ha, ea⟩ := c1.nI ok
        obtain ⟨b, hb, eb⟩ := c2.nI ok
        rw [eb, ea] at c3 ⊢
        rw [wp_bd, nI_clamp (by omega), nI_clamp (by omega)]
        refine (sX2_leagueOf ok g ha hb (fun z => c3 (by rw [z]))).mono ?_
        rintro y h2 ⟨ey, fr2⟩
        exact wp.of rfl ⟨ey, fr2⟩
    · rw [if_pos (pB0.mpr c2), if_neg c2]; exact wp.of rfl ⟨rfl, f2.rf h⟩
  · rw [if_pos (pB0.mpr c1), if_neg c1]; exact wp.of rfl ⟨rfl, f2.rf h⟩
