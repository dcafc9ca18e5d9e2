/-! mend -/
theorem iC1.mv {h h' : Hp} {n k k' : Nat} (v : iC1 h n k) (o : oldc3 h h') (d1 : zi h' 19 k' = zi h 19 k) (d2 : zi h' 20 k' = zi h 20 k) (d3 : zi h' 21 k' = zi h 21 k) (d4 : zr h' 4 k' = zr h 4 k) : iC1 h' n k' := by
  obtain ⟨a, w, p, x1, x2, x3, x4, x5, x6, x7⟩ := v
  have r := o.2 a x2 x3
  refine ⟨a, w, p, ?_⟩
  rw [d4, r.1, r.2.2.1 (by rw [x4]; decide), d1, d2, d3]
  exact ⟨x1, x2, Nat.lt_of_lt_of_le x3 o.1, x4, x5, x6, x7⟩
/-- the class moves its changes down -/
def mv4 (h h' : Hp) (k : Nat) : Prop := h'.1 = h.1 ∧ h'.2.1 = h.2.1 ∧ h'.2.2.2 = h.2.2.2 ∧ (∀ q, q ≠ 4 → zr h' q = zr h q) ∧ ∀ j, zr h' 4 j = if j + 1 < k then zr h 4 (j + 1) else zr h 4 j
theorem lX0_25 (h : Hp) (jj : Hp → Option (Int32 × Hp)) {Q : Int32 → Hp → Prop} (hj : ∀ h', mv4 h h' 40 → wp (jj h') Q) :
    ∀ N, (fun N r => ∀ k h1, mv4 h h1 k → 1 ≤ k → k ≤ 40 → 40 - k < N → wp (r h1 (nI k)) Q) N (zfix (fun (_ : Hp) (_ : Int32) => (none : Option (Int32 × Hp))) (X0_become_b25 jj) N) := by
  refine zfix_ind (σ := Hp → Int32 → Option (Int32 × Hp)) _ _ (fun N r => ∀ k h1, mv4 h h1 k → 1 ≤ k → k ≤ 40 → 40 - k < N → wp (r h1 (nI k)) Q) (fun k _ _ _ _ z => absurd z (Nat.not_lt_zero _)) (fun N r ih k h1 m hk1 hk hN => ?_)
  unfold X0_become_b25
  by_cases c : k = 40
  · rw [if_pos (show (40 : Int32) ≤ nI k from (nI_leI (a := 40) (by omega) (by omega)).mpr (by omega))]
    rw [c] at m
    exact hj h1 m
  · rw [if_neg (fun z => by have := (nI_leI (by omega) (by omega)).mp (show nI 40 ≤ nI k from z); omega), show nI k - (1 : Int32) = nI (k - 1) from pk_sub (b := 1) (by omega), ck_i (by omega) (by omega), nm_u, ck_i (by omega) (by omega), nm_u, nm_u, nI_clamp (by omega), nI_clamp (by omega), nI_1]
    refine ih (k + 1) _ ⟨m.1, m.2.1, m.2.2.1, fun q hq => ?_, fun j => ?_⟩ (by omega) (by omega) (by omega)
    · rw [← m.2.2.2.1 q hq]; funext b; exact zr_ne _ _ _ _ (Or.inl hq)
    · rw [upd_r, m.2.2.2.2 k, if_neg (show ¬ k + 1 < k from by omega), m.2.2.2.2 j]
      by_cases z : j = k - 1
      · rw [if_pos z, if_pos (by omega), z, show k - 1 + 1 = k from by omega]
      · rw [if_neg z]
        by_cases z2 : j + 1 < k
        · rw [if_pos z2, if_pos (by omega)]
        · rw [if_neg z2, if_neg (by omega)]
/-- the model moves its changes down -/
def mv9 (h h' : Hp) (k : Nat) : Prop := h'.2 = h.2 ∧ (∀ q, q ≠ 19 → q ≠ 20 → q ≠ 21 → zi h' q = zi h q) ∧ ∀ q, q = 19 ∨ q = 20 ∨ q = 21 → ∀ j, zi h' q j = if j + 1 < k then zi h q (j + 1) else zi h q j
theorem lX2_26 (h : Hp) (jj : Hp → Option (Int32 × Hp)) {Q : Int32 → Hp → Prop} (hj : ∀ h', mv9 h h' 40 → wp (jj h') Q) :
    ∀ N, (fun N r => ∀ k h1, mv9 h h1 k → 1 ≤ k → k ≤ 40 → 40 - k < N → wp (r h1 (nI k)) Q) N (zfix (fun (_ : Hp) (_ : Int32) => (none : Option (Int32 × Hp))) (X2_becomes_b26 jj) N) := by
  refine zfix_ind (σ := Hp → Int32 → Option (Int32 × Hp)) _ _ (fun N r => ∀ k h1, mv9 h h1 k → 1 ≤ k → k ≤ 40 → 40 - k < N → wp (r h1 (nI k)) Q) (fun k _ _ _ _ z => absurd z (Nat.not_lt_zero _)) (fun N r ih k h1 m hk1 hk hN => ?_)
  unfold X2_becomes_b26
  by_cases c : k = 40
  · rw [if_pos (show (40 : Int32) ≤ nI k from (nI_leI (a := 40) (by omega) (by omega)).mpr (by omega))]
    rw [c] at m
    exact hj h1 m
  · rw [if_neg (fun z => by have := (nI_leI (by omega) (by omega)).mp (show nI 40 ≤ nI k from z); omega), show nI k - (1 : Int32) = nI (k - 1) from pk_sub (b := 1) (by omega), ck_i (by omega) (by omega), nm_u, ck_i (by omega) (by omega), nm_u, ck_i (by omega) (by omega), nm_u, ck_i (by omega) (by omega), nm_u, ck_i (by omega) (by omega), nm_u, ck_i (by omega) (by omega), nm_u, nm_u, nI_clamp (by omega), nI_clamp (by omega), nI_1]
    have mvd : ∀ q, q = 19 ∨ q = 20 ∨ q = 21 → ∀ j, (if j = k - 1 then zi h1 q k else zi h1 q j) = if j + 1 < k + 1 then zi h q (j + 1) else zi h q j := by
      intro q hq j
      rw [m.2.2 q hq k, if_neg (show ¬ k + 1 < k from by omega), m.2.2 q hq j]
      by_cases z : j = k - 1
      · rw [if_pos z, if_pos (by omega), z, show k - 1 + 1 = k from by omega]
      · rw [if_neg z]
        by_cases z2 : j + 1 < k
        · rw [if_pos z2, if_pos (by omega)]
        · rw [if_neg z2, if_neg (by omega)]
    refine ih (k + 1) _ ⟨m.1, fun q h1' h2' h3' => ?_, fun q hq j => ?_⟩ (by omega) (by omega) (by omega)
    · rw [← m.2.1 q h1' h2' h3']; funext b
      rw [zi_ne _ _ _ _ (Or.inl h3'), zi_ne _ _ _ _ (Or.inl h2'), zi_ne _ _ _ _ (Or.inl h1')]
    · rw [← mvd q hq j]
      rcases hq with rfl | rfl | rfl
      · rw [zi_ne _ _ _ _ (Or.inl (by decide)), zi_ne _ _ _ _ (Or.inl (by decide)), upd_i]
      · rw [zi_ne _ _ _ _ (Or.inl (by decide)), upd_i, zi_ne _ _ _ _ (Or.inl (by decide)), zi_ne _ _ _ _ (Or.inl (by decide))]
      · rw [upd_i, zi_ne _ _ _ _ (Or.inl (by decide)), zi_ne _ _ _ _ (Or.inl (by decide)), zi_ne _ _ _ _ (Or.inl (by decide)), zi_ne _ _ _ _ (Or.inl (by decide))]
/-- the class makes a change: d stand before it, moved down by e places -/
def hCh (h : Hp) (d w p a : Nat) (x y : Int32) : Hp := zsi (zsi (zsr (zsi (zsi (zsi (zsi (zne h 4 0 4) (zx h) 0 (nI w)) (zx h) 1 (nI p)) (zx h) 2 x) (zx h) 3 y) 4 d (some (zx h))) 0 6 (nI (d + 1))) a w y
theorem lX0_64 {h : Hp} {d w p a : Nat} {x y : Int32} (hx : 42 ≤ zx h) (hd : d < 40) (e6 : zi h 0 6 = nI d) (hw : w < 3) (hp : p < 4) (ea : zr h 1 p = some a) (r1 : zc h + 1 ≤ zLC ∧ zs h + 4 ≤ zLS) : (ck (zc h + 1 ≤ zLC ∧ zs h + 4 ≤ zLS) <| nm (zx h) fun a6 => nm (zne h 4 0 4) fun h7 => bd (X4_init h7 a6 (nI w) (nI p) x y) fun _ h8 => ck (0 ≤ (zi h 0 6).toInt ∧ (zi h 0 6).toInt < 40) <| nm (zsr h8 4 (zi h 0 6).toNatClampNeg (some a6)) fun h11 => nm ((zi h11 0 6) + (1 : Int32) : Int32) fun v12 => nm (zsi h11 0 6 v12) fun h13 => bd (X0_setTo h13 (nI w) (nI p) y) fun _ h14 => some (x, h14)) = some (x, hCh h d w p a x y) := by
  rw [ck_t r1, nm_u, nm_u, show X4_init (zne h 4 0 4) (zx h) (nI w) (nI p) x y = some ((), zsi (zsi (zsi (zsi (zne h 4 0 4) (zx h) 0 (nI w)) (zx h) 1 (nI p)) (zx h) 2 x) (zx h) 3 y) from rfl, bd_s, e6, ck_i (by omega) (by omega), nm_u, nI_clamp (by omega)]
  have e6' : zi (zsr (zsi (zsi (zsi (zsi (zne h 4 0 4) (zx h) 0 (nI w)) (zx h) 1 (nI p)) (zx h) 2 x) (zx h) 3 y) 4 d (some (zx h))) 0 6 = nI d := by
    show zi (zsi (zsi (zsi (zsi (zne h 4 0 4) (zx h) 0 (nI w)) (zx h) 1 (nI p)) (zx h) 2 x) (zx h) 3 y) 0 6 = nI d
    rw [zi_ne _ _ _ _ (Or.inl (by omega)), zi_ne _ _ _ _ (Or.inl (by omega)), zi_ne _ _ _ _ (Or.inl (by omega)), zi_ne _ _ _ _ (Or.inl (by omega)), zi_nw _ _ _ _ (by omega)]; exact e6
  have er : zr (zsi (zsr (zsi (zsi (zsi (zsi (zne h 4 0 4) (zx h) 0 (nI w)) (zx h) 1 (nI p)) (zx h) 2 x) (zx h) 3 y) 4 d (some (zx h))) 0 6 (nI (d + 1))) 1 p = some a := by
    show zr (zsr (zsi (zsi (zsi (zsi (zne h 4 0 4) (zx h) 0 (nI w)) (zx h) 1 (nI p)) (zx h) 2 x) (zx h) 3 y) 4 d (some (zx h))) 1 p = some a
    rw [zr_ne _ _ _ _ (Or.inl (by decide))]
    show zr (zne h 4 0 4) 1 p = some a
    rw [zr_nw _ _ _ _ (by omega)]; exact ea
  rw [e6', nI_1, nm_u, nm_u, sX0_setTo hw hp er, bd_s]
  rfl
