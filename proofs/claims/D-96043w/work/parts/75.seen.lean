/-! seen, the model -/
theorem qPw_n (b : Nat) : ∀ k, qPw b k = lN (b ^ k) := by
  intro k
  induction k with
  | zero => rfl
  | succ k ih => unfold qPw; rw [ih, lN_mul, Nat.pow_succ]
theorem qSv_n {a n x : Nat} (ha : a ≤ n) (hn : n ≤ 12) (hx : x ≤ 12) : ∃ y, y < 2 ^ 62 ∧ qSv a n x = lN y := by
  refine ⟨x ^ a * (12 - x) ^ (n - a), ?_, ?_⟩
  · have h1 := Nat.pow_le_pow_left hx a
    have h2 := Nat.pow_le_pow_left (show 12 - x ≤ 12 by omega) (n - a)
    have h3 := Nat.mul_le_mul h1 h2
    rw [← Nat.pow_add, show a + (n - a) = n from by omega] at h3
    have h4 := Nat.pow_le_pow_right (show 0 < 12 by decide) hn
    have h5 : 12 ^ 12 = 8916100448256 := by decide
    omega
  · unfold qSv; rw [qPw_n, qPw_n, lN_mul]
theorem lX2_48 (h : Hp) {a n x : Nat} (ha : a ≤ n) (hn : n ≤ 12) (hx : x ≤ 12) (j : Hp → Int64 → Option (Int32 × Hp)) :
    ∀ N, (fun N r => ∀ k, k ≤ n → n - k < N → r h (qPw x (min k a) * qPw (12 - x) (k - a)) (nI k) = j h (qSv a n x)) N (zfix (fun (_ : Hp) (_ : Int64) (_ : Int32) => (none : Option (Int32 × Hp))) (X2_seen_b48 (nI a) (nI n) (nI x) j) N) := by
  refine zfix_ind (σ := Hp → Int64 → Int32 → Option (Int32 × Hp)) _ _ (fun N r => ∀ k, k ≤ n → n - k < N → r h (qPw x (min k a) * qPw (12 - x) (k - a)) (nI k) = j h (qSv a n x)) (fun k _ z => absurd z (Nat.not_lt_zero _)) (fun N r ih k hk hN => ?_)
  unfold X2_seen_b48
  by_cases c : n ≤ k
  · rw [if_pos ((nI_leI (by omega) (by omega)).mpr c), show k = n from by omega, Nat.min_eq_right ha]
    rfl
  · rw [if_neg (fun z => c ((nI_leI (by omega) (by omega)).mp z)), nm_u]
    have ih1 := ih (k + 1) (by omega) (by omega)
    by_cases d : a ≤ k
    · rw [if_pos ((nI_leI (by omega) (by omega)).mpr d)]
      show nm _ _ = _
      rw [nm_u, nm_u, nI_1, show (12 : Int32) = nI 12 from rfl, pk_sub hx, nI_l (by omega)]
      rw [Nat.min_eq_right (by omega), show k + 1 - a = k - a + 1 from by omega] at ih1
      rw [Nat.min_eq_right d, Int64.mul_assoc]
      exact ih1
    · rw [if_neg (fun z => d ((nI_leI (by omega) (by omega)).mp z))]
      show nm _ _ = _
      rw [nm_u, nm_u, nI_1, nI_l (by omega)]
      rw [Nat.min_eq_left (by omega), show k + 1 - a = 0 from by omega] at ih1
      rw [Nat.min_eq_left (by omega), show k - a = 0 from by omega]
      have e : qPw x k * qPw (12 - x) 0 * lN x = qPw x (k + 1) * qPw (12 - x) 0 := by
        show qPw x k * 1 * lN x = qPw x k * lN x * 1
        rw [Int64.mul_one, Int64.mul_one]
      rw [e]
      exact ih1
theorem sX2_seen (h : Hp) (x y : Int32) : X2_seen h x y = some (qSeen x y, h) := by
  unfold X2_seen qSeen
  rw [show (0 : Int64) = (0 : Int32).toInt64 from by decide, show (12 : Int64) = (12 : Int32).toInt64 from by decide, sX2_wi, bd_s]
  by_cases c1 : 0 ≤ y ∧ y ≤ 12
  · rw [if_neg (fun z => (pB0.mp z) c1), if_pos c1, sX2_wi, bd_s]
    obtain ⟨n, hn, rfl⟩ := nI_rg (b := 12) (by omega) c1.1 c1.2
    by_cases c2 : 0 ≤ x ∧ x ≤ nI n
    · rw [if_neg (fun z => (pB0.mp z) c2), if_pos c2]
      obtain ⟨a, ha, rfl⟩ := nI_rg (by omega) c2.1 c2.2
      rw [nI_clamp (by omega), nI_clamp (by omega)]
      have key : ∀ N, (fun N r => ∀ k best most, ((k = 0 ∧ best = nI 0 ∧ most = -1) ∨ ∃ k', k = k' + 1 ∧ best = nI (qSb a n k') ∧ most = qSv a n (qSb a n k')) → k ≤ 13 → 13 - k < N → r h best most (nI k) = some (nI (qSb a n 12), h)) N (zfix (fun (_ : Hp) (_ : Int32) (_ : Int64) (_ : Int32) => (none : Option (Int32 × Hp))) (X2_seen_b35 (nI a) (nI n)) N) := by
        refine zfix_ind (σ := Hp → Int32 → Int64 → Int32 → Option (Int32 × Hp)) _ _ (fun N r => ∀ k best most, ((k = 0 ∧ best = nI 0 ∧ most = -1) ∨ ∃ k', k = k' + 1 ∧ best = nI (qSb a n k') ∧ most = qSv a n (qSb a n k')) → k ≤ 13 → 13 - k < N → r h best most (nI k) = some (nI (qSb a n 12), h)) (fun k _ _ _ _ z => absurd z (Nat.not_lt_zero _)) (fun N r ih k best most st hk hN => ?_)
        unfold X2_seen_b35
        by_cases c : k = 13
        · rw [if_pos (show (12 : Int32) < nI k from (nI_ltI (a := 12) (by omega) (by omega)).mpr (by omega))]
          rcases st with z | ⟨k', z1, z2, z3⟩
          · omega
          · rw [z2, show k' = 12 from by omega]
        · rw [if_neg (fun z => by have := (nI_ltI (by omega) (by omega)).mp (show nI 12 < nI k from z); omega), nm_u]
          have lp := fun jj => lX2_48 h ha hn (x := k) (by omega) jj zFU 0 (Nat.zero_le _) (by rw [zFU_u]; omega)
          have one : qPw k (min 0 a) * qPw (12 - k) (0 - a) = 1 := by
            rw [Nat.zero_min, Nat.zero_sub]
            show (1 : Int64) * 1 = 1
            decide
          have lp2 := fun jj => (show zfix (fun _ _ _ => none) (X2_seen_b48 (nI a) (nI n) (nI k) jj) zFU h (1 : Int64) (0 : Int32) = jj h (qSv a n k) from by have := lp jj; rw [one] at this; exact this)
          rw [lp2]
          rw [nm_u]
          obtain ⟨v, hv, ev⟩ := qSv_n ha hn (show k ≤ 12 by omega)
          rcases st with ⟨z1, z2, z3⟩ | ⟨k', z1, z2, z3⟩
          · have nl : ¬ qSv a n k ≤ most := by
              rw [z3, ev, Int64.le_iff_toInt_le, pk_lT (by omega), show (-1 : Int64).toInt = -1 from by decide]
              omega
            rw [if_neg nl]
            show nm _ _ = _
            rw [nm_u, if_neg nl]
            show nm _ _ = _
            rw [nm_u, nI_1]
            exact ih (k + 1) _ _ (Or.inr ⟨0, by omega, by rw [z1]; rfl, by rw [z1]; rfl⟩) (by omega) (by omega)
          · have hu : qSb a n (k' + 1) = if qSv a n (qSb a n k') < qSv a n (k' + 1) then k' + 1 else qSb a n k' := rfl
            by_cases d : qSv a n (qSb a n k') < qSv a n k
            · have nl : ¬ qSv a n k ≤ most := by rw [z3]; exact Int64.not_le.mpr d
              rw [if_neg nl]
              show nm _ _ = _
              rw [nm_u, if_neg nl]
              show nm _ _ = _
              rw [nm_u, nI_1]
              refine ih (k + 1) _ _ (Or.inr ⟨k, rfl, ?_, ?_⟩) (by omega) (by omega)
              · rw [z1, hu, ← z1, if_pos d]
              · rw [z1, hu, ← z1, if_pos d]
            · have yl : qSv a n k ≤ most := by rw [z3]; exact Int64.not_lt.mp d
              rw [if_pos yl]
              show nm _ _ = _
              rw [nm_u, if_pos yl]
              show nm _ _ = _
              rw [nm_u, nI_1]
              refine ih (k + 1) _ _ (Or.inr ⟨k, rfl, ?_, ?_⟩) (by omega) (by omega)
              · rw [z1, hu, ← z1, if_neg d]; exact z2
              · rw [z1, hu, ← z1, if_neg d]; exact z3
      exact key zFU 0 0 (-1) (Or.inl ⟨rfl, rfl, rfl⟩) (by omega) (by rw [zFU_u]; omega)
    · rw [if_pos (pB0.mpr c2), if_neg c2]
  · rw [if_pos (pB0.mpr c1), if_neg c1]
