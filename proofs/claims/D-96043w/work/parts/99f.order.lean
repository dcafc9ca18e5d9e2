/-! order -/
/-- r digits of X are read, S are taken -/
def oR (n : Nat) : Nat → Nat → Nat → Option Nat
  | 0, _, X => some X
  | r + 1, S, X => if 1 ≤ X % 10 ∧ X % 10 ≤ n ∧ S.testBit (X % 10 - 1) = false then oR n r (S + 2 ^ (X % 10 - 1)) (X / 10) else none
theorem b_add : ∀ s, s < 16 → ∀ p, p < 4 → s.testBit p = false → s + 2 ^ p < 16 ∧ ∀ q, q < 4 → (s + 2 ^ p).testBit q = (s.testBit q || decide (q = p)) := by decide
theorem dgI {X : Nat} (hX : X < 2 ^ 31) : nI X - nI X / (10 : Int32) * (10 : Int32) - (1 : Int32) = nI (X % 10) - 1 := by
  rw [show (10 : Int32) = nI 10 from rfl, pk_div hX (by omega) (by omega), pk_mul, pk_sub (by omega), show X - X / 10 * 10 = X % 10 from by omega]
theorem dgP {X n : Nat} (hn : n ≤ 4) : (0 ≤ nI (X % 10) - 1 ∧ nI (X % 10) - 1 ≤ nI n - 1) ↔ (1 ≤ X % 10 ∧ X % 10 ≤ n) := by
  rw [nI_isP (by omega)]
  by_cases z : X % 10 = 0
  · rw [z]
    refine ⟨fun ⟨a, ha, e⟩ => ?_, fun w => by omega⟩
    exact absurd e.symm (nI_ni (by omega))
  · obtain ⟨q, hq⟩ : ∃ q, X % 10 = q + 1 := ⟨X % 10 - 1, by omega⟩
    rw [hq, nI_pred]
    refine ⟨fun ⟨a, ha, e⟩ => ?_, fun w => ⟨q, by omega, rfl⟩⟩
    have := (nI_eq (by omega) (by omega)).mp e
    omega
theorem sX2_isPl (h : Hp) {n : Nat} (e : zi h 17 6 = nI n) (x : Int32) : X2_isPlayer h x = some (pB (0 ≤ x ∧ x ≤ nI n - 1), h) := by
  unfold X2_isPlayer
  rw [e, show (0 : Int64) = (0 : Int32).toInt64 from by decide, sX2_wi, bd_s]
theorem lp_o1 {n : Nat} (hn : n ≤ 4) (J : Hp → Int32 → Option (Int32 × Hp)) : ∀ r N h S X, r ≤ n → r < N → S < 16 → X < 2 ^ 31 → zi h 0 3 = nI n → zfix (fun _ _ _ _ => none) (X0_order_b13 J) N h (nI X) (nI S) (nI (n - r)) = (oR n r S X).elim (some (-1, h)) (fun Y => J h (nI Y)) := by
  intro r
  induction r with
  | zero =>
    intro N h S X _ hN hS hX e
    obtain ⟨N, rfl⟩ : ∃ M, N = M + 1 := ⟨N - 1, by omega⟩
    rw [zfix_s, X0_order_b13, e, if_pos (by rw [nI_leI (by omega) (by omega)]; omega)]
    rfl
  | succ r ih =>
    intro N h S X hr hN hS hX e
    obtain ⟨N, rfl⟩ : ∃ M, N = M + 1 := ⟨N - 1, by omega⟩
    rw [zfix_s, X0_order_b13, e, if_neg (by rw [nI_leI (by omega) (by omega)]; omega), ck_t (by decide), nm_u, ck_t (by decide), nm_u, dgI hX, sX0_isPlayer, bd_s, e]
    by_cases c1 : 1 ≤ X % 10 ∧ X % 10 ≤ n
    · rw [if_neg (fun z => (pB0.mp z) ((dgP hn).mpr c1))]
      obtain ⟨q, hq⟩ : ∃ q, X % 10 = q + 1 := ⟨X % 10 - 1, by omega⟩
      rw [hq, nI_pred, sX0_has _ hS (by omega), bd_s]
      unfold oR
      rw [hq, Nat.add_sub_cancel]
      by_cases c2 : S.testBit q = true
      · rw [if_neg (fun z => (pB0.mp z) c2), if_neg (fun z => by rw [c2] at z; exact absurd z.2.2 (by decide))]
        rfl
      · have c3 : S.testBit q = false := by simpa using c2
        rw [if_pos (pB0.mpr c2), if_pos ⟨by omega, by omega, c3⟩, nm_u, nm_u, b_or S hS q (by omega) c3, nI_1, show n - (r + 1) + 1 = n - r from by omega, show (10 : Int32) = nI 10 from rfl, pk_div hX (by omega) (by omega)]
        exact ih N h _ _ (by omega) (by omega) (b_add S hS q (by omega) c3).1 (by omega) e
    · rw [if_pos (pB0.mpr (fun z => c1 ((dgP hn).mp z)))]
      unfold oR
      rw [if_neg (fun z => c1 ⟨z.1, z.2.1⟩)]
      rfl
theorem lp_o2 {n : Nat} (hn : n ≤ 4) (J : Hp → Int32 → Option (Int32 × Hp)) : ∀ r N h S X, r ≤ n → r < N → S < 16 → X < 2 ^ 31 → zi h 17 6 = nI n → ∃ h', zfix (fun _ _ _ _ => none) (X2_order_b12 J) N h (nI S) (nI X) (nI r - 1) = (oR n r S X).elim (some (-1, h')) (fun Y => J h' (nI Y)) ∧ h'.2 = h.2 ∧ (∀ q, q ≠ 25 → zi h' q = zi h q) ∧ (∀ j, r ≤ j → zi h' 25 j = zi h 25 j) ∧ (oR n r S X ≠ none → ∀ j, j < r → zi h' 25 (r - 1 - j) = nI (X / 10 ^ j % 10 - 1)) := by
  intro r
  induction r with
  | zero =>
    intro N h S X _ hN hS hX e
    obtain ⟨N, rfl⟩ : ∃ M, N = M + 1 := ⟨N - 1, by omega⟩
    refine ⟨h, ?_, rfl, fun _ _ => rfl, fun _ _ => rfl, fun _ j hj => by omega⟩
    rw [zfix_s, X2_order_b12, if_pos (by decide)]
    rfl
  | succ r ih =>
    intro N h S X hr hN hS hX e
    obtain ⟨N, rfl⟩ : ∃ M, N = M + 1 := ⟨N - 1, by omega⟩
    rw [zfix_s, X2_order_b12, nI_pred, if_neg (nI_nlt0 (by omega)), ck_t (by decide), nm_u, dgI hX]
    by_cases c1 : 1 ≤ X % 10 ∧ X % 10 ≤ n
    · rw [if_neg (by rw [show (0 : Int32) = nI 0 from rfl, nI_leI (by omega) (by omega)]; intro z; have : X = 0 := by omega
                     rw [this] at c1; omega), sX2_isPl h e, bd_s, if_neg (fun z => (pB0.mp z) ((dgP hn).mpr c1))]
      obtain ⟨q, hq⟩ : ∃ q, X % 10 = q + 1 := ⟨X % 10 - 1, by omega⟩
      rw [hq, nI_pred, sX2_isIn _ hS (by omega), bd_s]
      have oe : oR n (r + 1) S X = if 1 ≤ q + 1 ∧ q + 1 ≤ n ∧ S.testBit q = false then oR n r (S + 2 ^ q) (X / 10) else none := by
        rw [oR, hq, Nat.add_sub_cancel]
      rw [oe]
      by_cases c2 : S.testBit q = true
      · rw [if_neg (fun z => (pB0.mp z) c2), if_neg (fun z => by rw [c2] at z; exact absurd z.2.2 (by decide))]
        exact ⟨h, rfl, rfl, fun _ _ => rfl, fun _ _ => rfl, fun z => absurd rfl z⟩
      · have c3 : S.testBit q = false := by simpa using c2
        obtain ⟨h', e1, e2, e3, e4, e5⟩ := ih N (zsi h 25 r (nI q)) (S + 2 ^ q) (X / 10) (by omega) (by omega) (b_add S hS q (by omega) c3).1 (by omega) e
        rw [if_pos (pB0.mpr c2), if_pos ⟨by omega, by omega, c3⟩, nm_u, ck_i (by omega) (by omega), nm_u, ck_t (by decide), nm_u, nm_u, b_or S hS q (by omega) c3, show (10 : Int32) = nI 10 from rfl, pk_div hX (by omega) (by omega), nI_clamp (by omega), show nI r + (-1 : Int32) = nI r - 1 from (Int32.sub_eq_add_neg (nI r) 1).symm]
        refine ⟨h', e1, e2, fun x hx => ?_, fun j hj => ?_, fun w j hj => ?_⟩
        · rw [e3 x hx]; funext k; exact zi_ne _ _ _ _ (Or.inl hx)
        · rw [e4 j (by omega)]; exact zi_ne _ _ _ _ (Or.inr (by omega))
        · rcases Nat.eq_zero_or_pos j with z | z
          · subst z
            rw [show r + 1 - 1 - 0 = r from by omega, e4 r (Nat.le_refl _), zi_eq, Nat.pow_zero, Nat.div_one, hq]
            rfl
          · obtain ⟨i, rfl⟩ : ∃ i, j = i + 1 := ⟨j - 1, by omega⟩
            rw [show r + 1 - 1 - (i + 1) = r - 1 - i from by omega, e5 w i (by omega), Nat.div_div_eq_div_mul, Nat.pow_succ, Nat.mul_comm]
    · have oe : oR n (r + 1) S X = none := by
        rw [oR, if_neg (fun z => c1 ⟨z.1, z.2.1⟩)]
      rw [oe]
      refine ⟨h, ?_, rfl, fun _ _ => rfl, fun _ _ => rfl, fun z => absurd rfl z⟩
      by_cases c0 : nI X ≤ 0
      · rw [if_pos c0]; rfl
      · rw [if_neg c0, sX2_isPl h e, bd_s, if_pos (pB0.mpr (fun z => c1 ((dgP hn).mp z)))]; rfl
theorem oR_f {n : Nat} (hn : n ≤ 4) : ∀ r S X Y, S < 16 → oR n r S X = some Y → (∀ j, j < r → 1 ≤ X / 10 ^ j % 10 ∧ X / 10 ^ j % 10 ≤ n ∧ S.testBit (X / 10 ^ j % 10 - 1) = false) ∧ (∀ i j, i < j → j < r → X / 10 ^ i % 10 ≠ X / 10 ^ j % 10) ∧ Y = X / 10 ^ r := by
  intro r
  induction r with
  | zero =>
    intro S X Y _ e
    have : X = Y := Option.some.inj e
    exact ⟨fun j hj => by omega, fun i j _ hj => by omega, by rw [this]; simp⟩
  | succ r ih =>
    intro S X Y hS e
    rw [oR] at e
    by_cases c : 1 ≤ X % 10 ∧ X % 10 ≤ n ∧ S.testBit (X % 10 - 1) = false
    · rw [if_pos c] at e
      have ba := b_add S hS (X % 10 - 1) (by omega) c.2.2
      obtain ⟨f1, f2, f3⟩ := ih _ _ _ ba.1 e
      have sh : ∀ i, X / 10 / 10 ^ i = X / 10 ^ (i + 1) := fun i => by rw [Nat.div_div_eq_div_mul, Nat.pow_succ, Nat.mul_comm]
      have f1' : ∀ i, i < r → 1 ≤ X / 10 ^ (i + 1) % 10 ∧ X / 10 ^ (i + 1) % 10 ≤ n ∧ S.testBit (X / 10 ^ (i + 1) % 10 - 1) = false ∧ X / 10 ^ (i + 1) % 10 ≠ X % 10 := fun i hi => by
        have q := f1 i hi
        rw [sh] at q
        rw [ba.2 _ (by omega), Bool.or_eq_false_iff] at q
        have := of_decide_eq_false q.2.2.2
        exact ⟨q.1, q.2.1, q.2.2.1, by omega⟩
      refine ⟨fun j hj => ?_, fun i j hij hj => ?_, by rw [f3, sh]⟩
      · rcases Nat.eq_zero_or_pos j with z | z
        · subst z; rw [Nat.pow_zero, Nat.div_one]; exact c
        · obtain ⟨i, rfl⟩ : ∃ i, j = i + 1 := ⟨j - 1, by omega⟩
          exact ⟨(f1' i (by omega)).1, (f1' i (by omega)).2.1, (f1' i (by omega)).2.2.1⟩
      · obtain ⟨j, rfl⟩ : ∃ k, j = k + 1 := ⟨j - 1, by omega⟩
        rcases Nat.eq_zero_or_pos i with z | z
        · subst z; rw [Nat.pow_zero, Nat.div_one]; exact fun w => (f1' j (by omega)).2.2.2 w.symm
        · obtain ⟨i, rfl⟩ : ∃ k, i = k + 1 := ⟨i - 1, by omega⟩
          rw [← sh, ← sh]; exact f2 i j (by omega) (by omega)
    · rw [if_neg c] at e; cases e
theorem lp_o3 (J : Hp → Option (Int32 × Hp)) : ∀ r N h X, r ≤ 4 → r < N → X < 2 ^ 31 → (∀ j, j < r → 1 ≤ X / 10 ^ j % 10) → ∃ h', zfix (fun _ _ _ => none) (X0_order_b84 J) N h (nI X) (nI r - 1) = J h' ∧ h'.2 = h.2 ∧ (∀ q, q ≠ 2 → zi h' q = zi h q) ∧ (∀ j, r ≤ j → zi h' 2 j = zi h 2 j) ∧ ∀ j, j < r → zi h' 2 (r - 1 - j) = nI (X / 10 ^ j % 10 - 1) := by
  intro r
  induction r with
  | zero =>
    intro N h X _ hN hX _
    obtain ⟨N, rfl⟩ : ∃ M, N = M + 1 := ⟨N - 1, by omega⟩
    refine ⟨h, ?_, rfl, fun _ _ => rfl, fun _ _ => rfl, fun j hj => by omega⟩
    rw [zfix_s, X0_order_b84, if_pos (by decide)]
  | succ r ih =>
    intro N h X hr hN hX f
    obtain ⟨N, rfl⟩ : ∃ M, N = M + 1 := ⟨N - 1, by omega⟩
    have f0 := f 0 (by omega)
    rw [Nat.pow_zero, Nat.div_one] at f0
    obtain ⟨q, hq⟩ : ∃ q, X % 10 = q + 1 := ⟨X % 10 - 1, by omega⟩
    have sh : ∀ i, X / 10 / 10 ^ i = X / 10 ^ (i + 1) := fun i => by rw [Nat.div_div_eq_div_mul, Nat.pow_succ, Nat.mul_comm]
    obtain ⟨h', e1, e2, e3, e4, e5⟩ := ih N (zsi h 2 r (nI q)) (X / 10) (by omega) (by omega) (by omega) (fun j hj => by rw [sh]; exact f (j + 1) (by omega))
    refine ⟨h', ?_, e2, fun x hx => ?_, fun j hj => ?_, fun j hj => ?_⟩
    · rw [zfix_s, X0_order_b84, nI_pred, if_neg (nI_nlt0 (by omega)), ck_t (by decide), nm_u, dgI hX, hq, nI_pred, ck_i (by omega) (by omega), nm_u, ck_t (by decide), nm_u, nm_u, show (10 : Int32) = nI 10 from rfl, pk_div hX (by omega) (by omega), nI_clamp (by omega), show nI r + (-1 : Int32) = nI r - 1 from (Int32.sub_eq_add_neg (nI r) 1).symm]
      exact e1
    · rw [e3 x hx]; funext k; exact zi_ne _ _ _ _ (Or.inl hx)
    · rw [e4 j (by omega)]; exact zi_ne _ _ _ _ (Or.inr (by omega))
    · rcases Nat.eq_zero_or_pos j with z | z
      · subst z
        rw [show r + 1 - 1 - 0 = r from by omega, e4 r (Nat.le_refl _), zi_eq, Nat.pow_zero, Nat.div_one, hq]
        rfl
      · obtain ⟨i, rfl⟩ : ∃ i, j = i + 1 := ⟨j - 1, by omega⟩
        rw [show r + 1 - 1 - (i + 1) = r - 1 - i from by omega, e5 i (by omega), sh]
theorem lp_o4 {n : Nat} (hn : n ≤ 4) (o : Nat → Nat) (ho : ∀ k, k < n → o k < n) (inj : ∀ j k, j < n → k < n → o j = o k → j = k) (J : Hp → Option (Int32 × Hp)) : ∀ r N h, r ≤ n → r < N → zi h 17 6 = nI n → (∀ k, k < n → zi h 25 k = nI (o k)) → ∃ h', zfix (fun _ _ => none) (X2_order_b85 J) N h (nI (n - r)) = J h' ∧ h'.2 = h.2 ∧ (∀ q, q ≠ 22 → q ≠ 23 → zi h' q = zi h q) ∧ (∀ j, zi h' 22 j = if n - r ≤ j ∧ j < n then nI (o j) else zi h 22 j) ∧ (∀ j, n - r ≤ j → j < n → zi h' 23 (o j) = nI j) ∧ ∀ y, (∀ j, n - r ≤ j → j < n → o j ≠ y) → zi h' 23 y = zi h 23 y := by
  intro r
  induction r with
  | zero =>
    intro N h _ hN e6 _
    obtain ⟨N, rfl⟩ : ∃ M, N = M + 1 := ⟨N - 1, by omega⟩
    refine ⟨h, ?_, rfl, fun _ _ _ => rfl, fun j => by rw [if_neg (by omega)], fun j _ _ => by omega, fun _ _ => rfl⟩
    rw [zfix_s, X2_order_b85, e6, if_pos (by rw [nI_leI (by omega) (by omega)]; omega)]
  | succ r ih =>
    intro N h hr hN e6 e25
    obtain ⟨N, rfl⟩ : ∃ M, N = M + 1 := ⟨N - 1, by omega⟩
    obtain ⟨h', e1, e2, e3, e4, e5, e7⟩ := ih N (zsi (zsi h 22 (n - (r + 1)) (nI (o (n - (r + 1))))) 23 (o (n - (r + 1))) (nI (n - (r + 1)))) (by omega) (by omega) e6 e25
    have hk : n - (r + 1) < n := by omega
    have hok := ho _ hk
    refine ⟨h', ?_, e2, fun x h1 h2 => ?_, fun j => ?_, fun j h1 h2 => ?_, fun y hy => ?_⟩
    · rw [zfix_s, X2_order_b85, e6, if_neg (by rw [nI_leI (by omega) (by omega)]; omega), ck_i (by omega) (by omega), nI_clamp (by omega), e25 _ hk, nm_u, ck_i (by omega) (by omega), nm_u, ck_i (by omega) (by omega), show zi (zsi h 22 (n - (r + 1)) (nI (o (n - (r + 1))))) 25 (n - (r + 1)) = nI (o (n - (r + 1))) from e25 _ hk, ck_i (by omega) (by omega), nm_u, nm_u, nI_clamp (by omega), nI_1, show n - (r + 1) + 1 = n - r from by omega]
      exact e1
    · rw [e3 x h1 h2]; funext k; rw [zi_ne _ _ _ _ (Or.inl h2), zi_ne _ _ _ _ (Or.inl h1)]
    · rw [e4, zi_ne _ _ _ _ (Or.inl (by decide)), zi_si]
      by_cases z : n - r ≤ j ∧ j < n
      · rw [if_pos z, if_pos (by omega)]
      · rw [if_neg z]
        by_cases y : j = n - (r + 1)
        · rw [if_pos ⟨rfl, y⟩, if_pos (by omega), y]
        · rw [if_neg (fun w => y w.2), if_neg (by omega)]
    · by_cases z : j = n - (r + 1)
      · subst z
        rw [e7 _ (fun i i1 i2 w => by have := inj i _ i2 hk w; omega), zi_eq]
      · exact e5 j (by omega) h2
    · rw [e7 y (fun j h1 h2 => hy j (by omega) h2), zi_ne _ _ _ _ (Or.inr (fun w => hy _ (Nat.le_refl _) hk w.symm))]
      exact zi_ne _ _ _ _ (Or.inl (by decide))
theorem onto4 {n : Nat} (hn : n ≤ 4) (o : Nat → Nat) (ho : ∀ k, k < n → o k < n) (inj : ∀ j k, j < n → k < n → o j = o k → j = k) : ∀ q, q < n → ∃ k, k < n ∧ o k = q := by
  intro q hq
  apply Classical.byContradiction
  intro w
  have ne : ∀ k, k < n → o k ≠ q := fun k hk e => w ⟨k, hk, e⟩
  have c : n = 0 ∨ n = 1 ∨ n = 2 ∨ n = 3 ∨ n = 4 := by omega
  have d : ∀ j k, j < k → k < n → o j ≠ o k := fun j k h1 h2 e => by have := inj j k (by omega) h2 e; omega
  rcases c with rfl | rfl | rfl | rfl | rfl
  · omega
  · have := ne 0 (by omega); have := ho 0 (by omega); omega
  · have := ne 0 (by omega); have := ho 0 (by omega); have := ne 1 (by omega); have := ho 1 (by omega); have := d 0 1 (by omega) (by omega); omega
  · have := ne 0 (by omega); have := ho 0 (by omega); have := ne 1 (by omega); have := ho 1 (by omega); have := ne 2 (by omega); have := ho 2 (by omega); have := d 0 1 (by omega) (by omega); have := d 0 2 (by omega) (by omega); have := d 1 2 (by omega) (by omega); omega
  · have := ne 0 (by omega); have := ho 0 (by omega); have := ne 1 (by omega); have := ho 1 (by omega); have := ne 2 (by omega); have := ho 2 (by omega); have := ne 3 (by omega); have := ho 3 (by omega); have := d 0 1 (by omega) (by omega); have := d 0 2 (by omega) (by omega); have := d 1 2 (by omega) (by omega); have := d 0 3 (by omega) (by omega); have := d 1 3 (by omega) (by omega); have := d 2 3 (by omega) (by omega); omega
def pl4 (o : Nat → Nat) (q : Nat) : Nat := if o 0 = q then 0 else if o 1 = q then 1 else if o 2 = q then 2 else 3
theorem pl4_k {n : Nat} (hn : n ≤ 4) {o : Nat → Nat} (inj : ∀ j k, j < n → k < n → o j = o k → j = k) {k : Nat} (hk : k < n) : pl4 o (o k) = k := by
  unfold pl4
  have d : ∀ j, j < k → ¬ o j = o k := fun j hj e => by have := inj j k (by omega) hk e; omega
  have c : k = 0 ∨ k = 1 ∨ k = 2 ∨ k = 3 := by omega
  rcases c with rfl | rfl | rfl | rfl
  · rw [if_pos rfl]
  · rw [if_neg (d 0 (by omega)), if_pos rfl]
  · rw [if_neg (d 0 (by omega)), if_neg (d 1 (by omega)), if_pos rfl]
  · rw [if_neg (d 0 (by omega)), if_neg (d 1 (by omega)), if_neg (d 2 (by omega))]
theorem sim_order (i : Nat) (x : Int32) : Sim i (fun h => X0_order h x) (fun h => X2_order h x) := by
  intro h v
  have v' := v
  obtain ⟨n, pa, ord, plc, b, D, m, ba, vP, vO, vB, vD, vC, vT, vBo, vTr, vS, vR, vLC, vLM, vDb, vx⟩ := v'
  have same := v.fQ (Nat.le_succ i) (fQ.mk (fS.rf h) (fS2.rf h))
  have hn := vP.1
  -- only the model's list 25 differs
  have k25 : ∀ h' : Hp, h'.2 = h.2 → (∀ q, q ≠ 25 → zi h' q = zi h q) → Inv (i + 1) h' := by
    intro h' e I
    have hi : ∀ q, 42 ≤ q → zi h' q = zi h q := fun q hq => I q (by omega)
    have I0 : ∀ k, zi h' 0 k = zi h 0 k := fun k => by rw [I 0 (by decide)]
    have I17 : ∀ k, zi h' 17 k = zi h 17 k := fun k => by rw [I 17 (by decide)]
    exact ⟨n, pa, ord, plc, b, D, m, ba, vP.lo e hi (I0 _) (I17 _) (I 18 (by decide)), vO.lo (I 2 (by decide)) (I 22 (by decide)) (I 23 (by decide)), vB.ol (I0 _) (I17 _) (I 3 (by decide)) (I 24 (by decide)) (by rw [show zj h' = zj h from congrArg (fun x => x.1) e]), vD.lo (fun k _ _ => I0 k) (fun k _ _ => I17 k), vC.lo e hi (I0 _) (I0 _) (I17 _) (I17 _) (I 19 (by decide)) (I 20 (by decide)) (I 21 (by decide)), vT.lo (I0 _) (I17 _) (I 26 (by decide)) (I 5 (by decide)), vBo.lo e hi (I0 _) (I17 _) (I 36 (by decide)), vTr.lo (I0 _) (I17 _) (I 14 (by decide)) (I 37 (by decide)), vS.lo e hi (I 38 (by decide)) (I 39 (by decide)), vR.lo e (Nat.le_succ _), vLC.lo e hi, vLM.lo (I17 _) (I 27 (by decide)), vDb, by rw [show zx h' = zx h from congrArg (fun x => x.2.2.2.2.1) e]; exact vx⟩
  by_cases c1 : 0 ≤ x
  · obtain ⟨X, hX, rfl, _⟩ := i_of (Int32.not_lt.mpr c1)
    -- the class, the model
    have f1 := lp_o1 hn (fun (h2 : Hp) (v3 : Int32) => if v3 = 0 then (nm ((zi h2 0 3) - (1 : Int32) : Int32) fun v6 => nm (fun (h7 : Hp)  => bd (X0_beginAnew h7 ) fun _ h9 => some ((1 : Int32), h9)) fun j113_8 => zfix (fun _ _ _ => none) (X0_order_b84 j113_8) zFU h2 (nI X) v6) else (some ((-1 : Int32), h2))) n zFU h 0 X (Nat.le_refl _) (by rw [zFU_u]; omega) (by decide) hX vP.2.1
    rw [Nat.sub_self] at f1
    have f2 := fun (h1 : Hp) (e6 : zi h1 17 6 = nI n) => lp_o2 hn (fun (h2 : Hp) (v3 : Int32) => if v3 = 0 then (nm (fun (h6 : Hp)  => bd (X2_startsAnew h6 ) fun _ h8 => some ((1 : Int32), h8)) fun j128_7 => zfix (fun _ _ => none) (X2_order_b85 j128_7) zFU h2 (0 : Int32)) else (some ((-1 : Int32), h2))) n zFU h1 0 X (Nat.le_refl _) (by rw [zFU_u]; omega) (by decide) hX e6
    have g1 : X0_order h (nI X) = (oR n n 0 X).elim (some (-1, h)) (fun Y => if nI Y = 0 then zfix (fun _ _ _ => none) (X0_order_b84 (fun (h7 : Hp)  => bd (X0_beginAnew h7 ) fun _ h9 => some ((1 : Int32), h9))) zFU h (nI X) (nI n - 1) else some (-1, h)) := by
      unfold X0_order
      rw [if_pos c1, nm_u]
      refine Eq.trans f1 ?_
      rw [vP.2.1]
      rfl
    have g2 : ∀ h1, zi h1 17 6 = nI n → ∃ h', X2_order h1 (nI X) = (oR n n 0 X).elim (some (-1, h')) (fun Y => if nI Y = 0 then zfix (fun _ _ => none) (X2_order_b85 (fun (h6 : Hp)  => bd (X2_startsAnew h6 ) fun _ h8 => some ((1 : Int32), h8))) zFU h' (0 : Int32) else some (-1, h')) ∧ h'.2 = h1.2 ∧ (∀ q, q ≠ 25 → zi h' q = zi h1 q) ∧ (oR n n 0 X ≠ none → ∀ j, j < n → zi h' 25 (n - 1 - j) = nI (X / 10 ^ j % 10 - 1)) := by
      intro h1 e6
      obtain ⟨h', a1, a2, a3, a4, a5⟩ := f2 h1 e6
      refine ⟨h', ?_, a2, a3, a5⟩
      unfold X2_order
      rw [nm_u, nm_u, e6]
      exact a1
    rcases ho : oR n n 0 X with _ | Y
    · obtain ⟨h', a1, a2, a3, a4⟩ := g2 h vP.2.2.1
      rw [ho] at g1 a1
      exact ⟨-1, h, h', g1, a1, k25 h' a2 a3⟩
    · obtain ⟨q1, q2, q3⟩ := oR_f hn n 0 X Y (by decide) ho
      by_cases cY : nI Y = 0
      · -- the new order
        have oD : ∃ o : Nat → Nat, (∀ k, k < n → o k = X / 10 ^ (n - 1 - k) % 10 - 1) ∧ ∀ k, n ≤ k → o k = ord k := ⟨fun k => if k < n then X / 10 ^ (n - 1 - k) % 10 - 1 else ord k, fun k hk => if_pos hk, fun k hk => if_neg (by omega)⟩
        obtain ⟨o, o1, o2⟩ := oD
        have on : ∀ k, k < n → o k < n := fun k hk => by
          rw [o1 k hk]
          have := q1 (n - 1 - k) (by omega)
          omega
        have inj : ∀ j k, j < n → k < n → o j = o k → j = k := by
          intro j k hj hk e
          rw [o1 j hj, o1 k hk] at e
          have r1 := q1 (n - 1 - j) (by omega)
          have r2 := q1 (n - 1 - k) (by omega)
          have e' : X / 10 ^ (n - 1 - j) % 10 = X / 10 ^ (n - 1 - k) % 10 := by omega
          rcases Nat.lt_trichotomy (n - 1 - j) (n - 1 - k) with w | w | w
          · exact absurd e' (q2 _ _ w (by omega))
          · omega
          · exact absurd e'.symm (q2 _ _ w (by omega))
        obtain ⟨h3, a1, a2, a3, a4, a5⟩ := lp_o3 (fun (h7 : Hp)  => bd (X0_beginAnew h7 ) fun _ h9 => some ((1 : Int32), h9)) n zFU h X hn (by rw [zFU_u]; omega) hX (fun j hj => (q1 j hj).1)
        have b3 : zi h3 0 3 = nI n := by rw [a3 0 (by decide)]; exact vP.2.1
        have cl : X0_order h (nI X) = some (1, zsi (zsi (zsi (zsi h3 0 32 0) 0 26 (nI (2 ^ n - 1))) 0 27 0) 0 28 0) := by
          rw [g1, ho]
          show (if nI Y = 0 then _ else _) = _
          rw [if_pos cY, a1]
          show bd (X0_beginAnew h3) _ = _
          rw [sX0_begin0 hn b3, bd_s]
        have e17 : zi (zsi (zsi (zsi (zsi h3 0 32 0) 0 26 (nI (2 ^ n - 1))) 0 27 0) 0 28 0) 17 6 = nI n := by
          show zi h3 17 6 = _
          rw [a3 17 (by decide)]; exact vP.2.2.1
        obtain ⟨h4, c1', c2, c3, c4⟩ := g2 _ e17
        have e25 : ∀ k, k < n → zi h4 25 k = nI (o k) := fun k hk => by
          have := c4 (by rw [ho]; exact fun z => by cases z) (n - 1 - k) (by omega)
          rw [show n - 1 - (n - 1 - k) = k from by omega] at this
          rw [this, o1 k hk]
        have e6 : zi h4 17 6 = nI n := by rw [c3 17 (by decide)]; exact e17
        obtain ⟨h5, d1, d2, d3, d4, d5, _⟩ := lp_o4 hn o on inj (fun (h6 : Hp)  => bd (X2_startsAnew h6 ) fun _ h8 => some ((1 : Int32), h8)) n zFU h4 (Nat.le_refl _) (by rw [zFU_u]; omega) e6 e25
        rw [Nat.sub_self] at d1 d4 d5
        have f6 : zi h5 17 6 = nI n := by rw [d3 17 (by decide) (by decide)]; exact e6
        refine ⟨1, _, zsi (zsi (zsi (zsi h5 17 36 0) 17 33 (nI (2 ^ n - 1))) 17 34 (zi h5 22 0)) 17 35 0, cl, ?_, ?_⟩
        · show X2_order _ (nI X) = _
          rw [c1', ho]
          show (if nI Y = 0 then _ else _) = _
          rw [if_pos cY, show (0 : Int32) = nI 0 from rfl, d1]
          show bd (X2_startsAnew h5) _ = _
          rw [sX2_starts hn f6, bd_s]
          rfl
        · -- all in all
          have E : (zsi (zsi (zsi (zsi h5 17 36 0) 17 33 (nI (2 ^ n - 1))) 17 34 (zi h5 22 0)) 17 35 0).2 = h.2 := d2.trans (c2.trans a2)
          have I4 : ∀ q, q ≠ 22 → q ≠ 23 → q ≠ 25 → q ≠ 0 → q ≠ 2 → zi h5 q = zi h q := fun q n1 n2 n3 n4 n5 => by
            rw [d3 q n1 n2, c3 q n3, ← a3 q n5]
            funext k
            rw [zi_ne _ _ _ _ (Or.inl n4), zi_ne _ _ _ _ (Or.inl n4), zi_ne _ _ _ _ (Or.inl n4), zi_ne _ _ _ _ (Or.inl n4)]
          have I : ∀ q, q ≠ 22 → q ≠ 23 → q ≠ 25 → q ≠ 0 → q ≠ 2 → q ≠ 17 → zi (zsi (zsi (zsi (zsi h5 17 36 0) 17 33 (nI (2 ^ n - 1))) 17 34 (zi h5 22 0)) 17 35 0) q = zi h q := fun q n1 n2 n3 n4 n5 n6 => by
            rw [← I4 q n1 n2 n3 n4 n5]
            funext k
            rw [zi_ne _ _ _ _ (Or.inl n6), zi_ne _ _ _ _ (Or.inl n6), zi_ne _ _ _ _ (Or.inl n6), zi_ne _ _ _ _ (Or.inl n6)]
          have Z0 : ∀ k, zi (zsi (zsi (zsi (zsi h5 17 36 0) 17 33 (nI (2 ^ n - 1))) 17 34 (zi h5 22 0)) 17 35 0) 0 k = zi (zsi (zsi (zsi (zsi h3 0 32 0) 0 26 (nI (2 ^ n - 1))) 0 27 0) 0 28 0) 0 k := fun k => by
            show zi h5 0 k = _
            rw [d3 0 (by decide) (by decide), c3 0 (by decide)]
          have I0 : ∀ k, k ≠ 32 → k ≠ 26 → k ≠ 27 → k ≠ 28 → zi (zsi (zsi (zsi (zsi h5 17 36 0) 17 33 (nI (2 ^ n - 1))) 17 34 (zi h5 22 0)) 17 35 0) 0 k = zi h 0 k := fun k n1 n2 n3 n4 => by
            rw [Z0, zi_ne _ _ _ _ (Or.inr n4), zi_ne _ _ _ _ (Or.inr n3), zi_ne _ _ _ _ (Or.inr n2), zi_ne _ _ _ _ (Or.inr n1), a3 0 (by decide)]
          have I17 : ∀ k, k ≠ 36 → k ≠ 33 → k ≠ 34 → k ≠ 35 → zi (zsi (zsi (zsi (zsi h5 17 36 0) 17 33 (nI (2 ^ n - 1))) 17 34 (zi h5 22 0)) 17 35 0) 17 k = zi h 17 k := fun k n1 n2 n3 n4 => by
            rw [zi_ne _ _ _ _ (Or.inr n4), zi_ne _ _ _ _ (Or.inr n3), zi_ne _ _ _ _ (Or.inr n2), zi_ne _ _ _ _ (Or.inr n1), I4 17 (by decide) (by decide) (by decide) (by decide) (by decide)]
          have hi : ∀ q, 42 ≤ q → zi (zsi (zsi (zsi (zsi h5 17 36 0) 17 33 (nI (2 ^ n - 1))) 17 34 (zi h5 22 0)) 17 35 0) q = zi h q := fun q hq => I q (by omega) (by omega) (by omega) (by omega) (by omega) (by omega)
          have z22 : ∀ k, zi h5 22 k = if k < n then nI (o k) else zi h 22 k := fun k => by
            rw [d4]
            by_cases w : k < n
            · rw [if_pos ⟨by omega, w⟩, if_pos w]
            · rw [if_neg (fun u => w u.2), if_neg w, c3 22 (by decide)]
              show zi h3 22 k = _
              rw [a3 22 (by decide)]
          have z2 : ∀ k, zi h5 2 k = if k < n then nI (o k) else zi h 2 k := fun k => by
            rw [d3 2 (by decide) (by decide), c3 2 (by decide)]
            show zi h3 2 k = _
            by_cases w : k < n
            · rw [if_pos w, o1 k w]
              have := a5 (n - 1 - k) (by omega)
              rw [show n - 1 - (n - 1 - k) = k from by omega] at this
              exact this
            · rw [if_neg w, a4 k (by omega)]
          refine ⟨n, pa, o, pl4 o, b, D, m, ba, vP.lo E hi (I0 _ (by decide) (by decide) (by decide) (by decide)) (I17 _ (by decide) (by decide) (by decide) (by decide)) (I 18 (by decide) (by decide) (by decide) (by decide) (by decide) (by decide)), ⟨fun k hk => ?_, fun k hk => ⟨on k hk, pl4_k hn inj hk⟩, fun p hp => ?_⟩, vB.ol (I0 _ (by decide) (by decide) (by decide) (by decide)) (I17 _ (by decide) (by decide) (by decide) (by decide)) (I 3 (by decide) (by decide) (by decide) (by decide) (by decide) (by decide)) (I 24 (by decide) (by decide) (by decide) (by decide) (by decide) (by decide)) (by rw [show zj _ = zj h from congrArg (fun x => x.1) E]), ?_, vC.lo E hi (I0 _ (by decide) (by decide) (by decide) (by decide)) (I0 _ (by decide) (by decide) (by decide) (by decide)) (I17 _ (by decide) (by decide) (by decide) (by decide)) (I17 _ (by decide) (by decide) (by decide) (by decide)) (I 19 (by decide) (by decide) (by decide) (by decide) (by decide) (by decide)) (I 20 (by decide) (by decide) (by decide) (by decide) (by decide) (by decide)) (I 21 (by decide) (by decide) (by decide) (by decide) (by decide) (by decide)), vT.lo (I0 _ (by decide) (by decide) (by decide) (by decide)) (I17 _ (by decide) (by decide) (by decide) (by decide)) (I 26 (by decide) (by decide) (by decide) (by decide) (by decide) (by decide)) (I 5 (by decide) (by decide) (by decide) (by decide) (by decide) (by decide)), vBo.lo E hi (I0 _ (by decide) (by decide) (by decide) (by decide)) (I17 _ (by decide) (by decide) (by decide) (by decide)) (I 36 (by decide) (by decide) (by decide) (by decide) (by decide) (by decide)), vTr.lo (I0 _ (by decide) (by decide) (by decide) (by decide)) (I17 _ (by decide) (by decide) (by decide) (by decide)) (I 14 (by decide) (by decide) (by decide) (by decide) (by decide) (by decide)) (I 37 (by decide) (by decide) (by decide) (by decide) (by decide) (by decide)), vS.lo E hi (I 38 (by decide) (by decide) (by decide) (by decide) (by decide) (by decide)) (I 39 (by decide) (by decide) (by decide) (by decide) (by decide) (by decide)), vR.lo E (Nat.le_succ _), vLC.lo E hi, vLM.lo (I17 _ (by decide) (by decide) (by decide) (by decide)) (I 27 (by decide) (by decide) (by decide) (by decide) (by decide) (by decide)), vDb, by rw [show zx _ = zx h from congrArg (fun x => x.2.2.2.2.1) E]; exact vx⟩
          · show zi h5 2 k = _ ∧ zi h5 22 k = _ ∧ _
            rw [z2, z22]
            by_cases w : k < n
            · rw [if_pos w, if_pos w]; have := on k w; exact ⟨rfl, rfl, by omega⟩
            · rw [if_neg w, if_neg w, o2 k (by omega)]; exact vO.1 k hk
          · obtain ⟨k, hk, e⟩ := onto4 hn o on inj p hp
            rw [← e, pl4_k hn inj hk]
            exact ⟨hk, rfl, d5 k (by omega) hk⟩
          · refine iD.new hn (fun z => on 0 z) ?_ ?_ ?_ rfl ?_ rfl (Or.inl ⟨?_, rfl⟩)
            · rw [Z0]; rfl
            · rw [Z0]; rfl
            · rw [Z0]; rfl
            · show zi h5 22 0 = _
              rw [z22]
              by_cases w : 0 < n
              · rw [if_pos w]
              · rw [if_neg w, o2 0 (by omega)]; exact (vO.1 0 (by omega)).2.1
            · rw [Z0]; rfl
      · obtain ⟨h', a1, a2, a3, a4⟩ := g2 h vP.2.2.1
        rw [ho] at g1 a1
        exact ⟨-1, h, h', g1.trans (if_neg cY), a1.trans (if_neg cY), k25 h' a2 a3⟩
  · refine ⟨-1, h, h, ?_, ?_, same⟩
    · show X0_order h x = _
      unfold X0_order
      rw [if_neg c1]
    · show X2_order h x = _
      unfold X2_order
      rw [nm_u, nm_u, vP.2.2.1]
      have hx : x < 0 := Int32.not_le.mp c1
      rw [show zFU = 4095 + 1 from rfl, zfix_s, X2_order_b12]
      rcases Nat.eq_zero_or_pos n with z | z
      · rw [z, if_pos (by decide)]
        show (if x = 0 then _ else _) = _
        rw [if_neg (fun e => c1 (by rw [e]; decide))]
      · obtain ⟨k, rfl⟩ : ∃ k, n = k + 1 := ⟨n - 1, by omega⟩
        rw [nI_pred, if_neg (nI_nlt0 (by omega)), ck_t (by decide), nm_u, if_pos (Int32.le_of_lt hx)]
