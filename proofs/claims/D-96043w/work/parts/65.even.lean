/-! values are small -/
theorem dV_b {σ : Sg} (ok : sOK σ) : ∀ f s w p, s < 16 → w < sN σ → ∃ x, x ≤ 9 * 12 ^ f ∧ dV σ f s w p = lN x := by
  have he : ∀ f s p, s < 16 → ∃ x, x ≤ 9 * 12 ^ f ∧ dE σ f s p = lN x := by
    intro f s p hs
    unfold dE
    by_cases c : s.testBit p = true
    · rw [if_pos c, lN_mul]
      exact ⟨_, Nat.mul_le_mul_right _ (ok.2.2.2.2.2.1 _ (by have := pc_le s hs; omega)), rfl⟩
    · rw [if_neg c, Int64.zero_mul]
      exact ⟨0, Nat.zero_le _, rfl⟩
  intro f
  induction f with
  | zero => intro s w p hs _; exact he 0 s p hs
  | succ f ih =>
    intro s w p hs hw
    unfold dV
    split
    · exact he (f + 1) s p hs
    · unfold dT
      have hx := nxw_lt ok (s := s) hw
      obtain ⟨y, hy, ey⟩ := ih s (nxw σ s w) p hs hx
      have hp : 9 * 12 ^ (f + 1) = 12 * (9 * 12 ^ f) := by rw [Nat.pow_succ]; omega
      rw [hp]
      split
      · rw [ey, lN_mul]
        exact ⟨_, Nat.mul_le_mul_left _ hy, rfl⟩
      · generalize dA σ (dV σ f) f s w = t
        have h12 : sH σ w t (pc s) (sB σ - (f + 1)) ≤ 12 := ok.2.2.2.2.2.2 _ _ _ _ _ (ok.2.2.2.1 _ hw).1
        generalize sH σ w t (pc s) (sB σ - (f + 1)) = c at h12
        obtain ⟨z, hz, ez⟩ := ih (cl s t) (nxw σ (cl s t) w) p (Nat.lt_of_le_of_lt (cl_le s t) hs) (nxw_lt ok hw)
        rw [ey, ez, lN_mul, lN_mul, lN_add]
        refine ⟨_, ?_, rfl⟩
        have a1 := Nat.mul_le_mul_left c hz
        have a2 := Nat.mul_le_mul_left (12 - c) hy
        have a3 : c * (9 * 12 ^ f) + (12 - c) * (9 * 12 ^ f) = 12 * (9 * 12 ^ f) := by rw [← Nat.add_mul]; congr 1; omega
        omega
theorem dF_b {σ : Sg} (ok : sOK σ) {k : Nat} (hk : k < sN σ) (p : Nat) : ∃ x, x ≤ 46438023168 ∧ dF σ k p = lN x := by
  obtain ⟨x, hx, e⟩ := dV_b ok (sB σ) (2 ^ sN σ - 1) (sO σ k) p (by have := all_lt σ; have := pow16 ok.1; omega) (ok.2.1 k hk).1
  refine ⟨x, Nat.le_trans hx ?_, e⟩
  have := Nat.pow_le_pow_right (show 0 < 12 by decide) ok.2.2.2.2.1
  have h9 : 12 ^ 9 = 5159780352 := by decide
  omega
/-! even -/
def ab (x : Int64) : Int64 := if 0 ≤ x then x else -x
def qO (σ : Sg) (p : Nat) : Nat → Int64
  | 0 => lN (sN σ) * dF σ 0 p
  | k + 1 => qO σ p k - dF σ 0 k
theorem ab_l {a b : Nat} (ha : a < 2 ^ 62) (hb : b < 2 ^ 62) : ∃ c, c < 2 ^ 63 ∧ ab (lN a - lN b) = lN c := by
  unfold ab
  rcases Nat.lt_or_ge a b with l | l
  · have e : lN a - lN b = -(lN (b - a)) := by rw [← lN_sub (by omega), Int64.neg_sub]
    refine ⟨b - a, by omega, ?_⟩
    rw [e, if_neg, Int64.neg_neg]
    rw [Int64.le_iff_toInt_le]
    show ¬ (0 : Int64).toInt ≤ (-Int64.ofNat (b - a)).toInt
    rw [Int64.toInt_neg_ofNat_of_le (by omega), show (0 : Int64).toInt = 0 from by decide]
    omega
  · refine ⟨a - b, by omega, ?_⟩
    rw [lN_sub l, if_pos]
    rw [show (0 : Int64) = lN 0 from rfl, pk_lLE (by omega) (by omega)]
    omega
theorem qO_b {σ : Sg} (ok : sOK σ) (hn0 : 0 < sN σ) (p : Nat) : ∀ k, k ≤ 4 → ∃ a b, a ≤ 185752092672 ∧ b ≤ k * 46438023168 ∧ qO σ p k = lN a - lN b := by
  have hn := ok.1
  intro k
  induction k with
  | zero =>
    intro _
    obtain ⟨x, hx, e⟩ := dF_b ok hn0 p
    refine ⟨sN σ * x, 0, ?_, Nat.zero_le _, ?_⟩
    · have := Nat.mul_le_mul hn hx; omega
    · unfold qO; rw [e, lN_mul, lN_sub (Nat.zero_le _), Nat.sub_zero]
  | succ k ih =>
    intro hk
    obtain ⟨a, b, ha, hb, e⟩ := ih (by omega)
    obtain ⟨x, hx, ex⟩ := dF_b ok hn0 k
    refine ⟨a, b + x, ha, by omega, ?_⟩
    unfold qO
    rw [e, ex, ← lN_add, Int64.sub_sub]
theorem qO_nn {σ : Sg} (ok : sOK σ) (hn0 : 0 < sN σ) (p : Nat) : ∃ c, c < 2 ^ 63 ∧ ab (qO σ p (sN σ)) = lN c := by
  have hn := ok.1
  obtain ⟨a, b, ha, hb, e⟩ := qO_b ok hn0 p (sN σ) hn
  rw [e]
  exact ab_l (by omega) (by omega)
theorem ab_c (x : Int64) : (if 0 < x then x else -x) = ab x := by
  unfold ab
  by_cases c : 0 < x
  · rw [if_pos c, if_pos (Int64.le_of_lt c)]
  · rw [if_neg c]
    by_cases d : 0 ≤ x
    · rw [if_pos d, Int64.le_antisymm (Int64.not_lt.mp c) d]; decide
    · rw [if_neg d]
theorem ab_m (x : Int64) : (if (0 : Int64) ≤ x then x else -x) = ab x := rfl
def oE (σ : Sg) (p v : Nat) : Int64 := ab (qO (sS σ p v) p (sN σ))
def qE (σ : Sg) (p : Nat) : Nat → Nat × Int64
  | 0 => (0, oE σ p 0)
  | v + 1 => if oE σ p (v + 1) < (qE σ p v).2 then (v + 1, oE σ p (v + 1)) else qE σ p v
theorem sS0_ok {σ : Sg} (ok : sOK σ) {p v : Nat} (hp : p < sN σ) (hv : v ≤ 12) : sOK (sS σ p v) := by
  have := sS_ok ok (w := 0) (p := p) (v := v) (by omega) hp (by rw [if_pos rfl]; exact hv)
  rw [Nat.mul_zero, Nat.zero_add] at this
  exact this
theorem qE_nn {σ : Sg} (ok : sOK σ) {p : Nat} (hp : p < sN σ) : ∀ v, v ≤ 12 → ¬ (qE σ p v).2 < 0 := by
  have h1 : ∀ v, v ≤ 12 → ¬ oE σ p v < 0 := by
    intro v hv
    obtain ⟨c, hc, e⟩ := qO_nn (sS0_ok ok hp hv) (show 0 < sN σ by omega) p
    unfold oE
    rw [show sN σ = sN (sS σ p v) from rfl, e, show (0 : Int64) = lN 0 from rfl, pk_lLT hc (by omega)]
    omega
  intro v
  induction v with
  | zero => intro hv; exact h1 0 hv
  | succ v ih =>
    intro hv
    unfold qE
    split
    · exact h1 _ hv
    · exact ih (by omega)
def qEven (σ : Sg) (x : Int32) : Int32 := if isP σ x then nI (qE σ x.toNatClampNeg 12).1 else -1
theorem gc.set0 {σ : Sg} (ok : sOK σ) {h : Hp} (g : gc σ h) {p v a : Nat} (hp : p < sN σ) (ea : zr h 1 p = some a) : gc (sS σ p v) (zsi h a 0 (nI v)) := by
  have := gc.set ok g (w := 0) (v := v) (by omega) hp ea
  rw [Nat.mul_zero, Nat.zero_add] at this
  exact this
theorem gm.set0 {σ : Sg} (ok : sOK σ) {h : Hp} (g : gm σ h) {p v : Nat} (hp : p < sN σ) : gm (sS σ p v) (zsi h 18 p (nI v)) := by
  have := gm.set ok g (w := 0) (v := v) (by omega) hp
  rw [Nat.mul_zero, Nat.zero_add] at this
  exact this
theorem lX0_68 {σ : Sg} (ok : sOK σ) {h : Hp} (g : gc σ h) (t : tC σ h 0) (p : Nat) (j : Hp → Int64 → Option (Int32 × Hp)) : ∀ N, (fun N r => ∀ k, k ≤ sN σ → sN σ - k < N → r h (qO σ p k) (nI k) = j h (qO σ p (sN σ))) N (zfix (fun (_ : Hp) (_ : Int64) (_ : Int32) => (none : Option (Int32 × Hp))) (X0_even_b68 j) N) := by
  have hn := ok.1
  refine zfix_ind (σ := Hp → Int64 → Int32 → Option (Int32 × Hp)) _ _ (fun N r => ∀ k, k ≤ sN σ → sN σ - k < N → r h (qO σ p k) (nI k) = j h (qO σ p (sN σ))) (fun k _ z => absurd z (Nat.not_lt_zero _)) (fun N r ih k hk hN => ?_)
  unfold X0_even_b68
  rw [g.1]
  by_cases c : sN σ ≤ k
  · rw [if_pos ((nI_leI (by omega) (by omega)).mpr c), show k = sN σ from by omega]
  · rw [if_neg (fun z => c ((nI_leI (by omega) (by omega)).mp z)), sX0_worthOf ok g t (by omega), bd_s]
    simp only [nm_u]
    rw [nI_1]
    exact ih (k + 1) (by omega) (by omega)
theorem lX2_65 {σ : Sg} (ok : sOK σ) {h : Hp} (g : gm σ h) (t : tM σ h 0) (p : Nat) (j : Hp → Int64 → Option (Int32 × Hp)) : ∀ N, (fun N r => ∀ k, k ≤ sN σ → sN σ - k < N → r h (qO σ p k) (nI k) = j h (qO σ p (sN σ))) N (zfix (fun (_ : Hp) (_ : Int64) (_ : Int32) => (none : Option (Int32 × Hp))) (X2_even_b65 j) N) := by
  have hn := ok.1
  refine zfix_ind (σ := Hp → Int64 → Int32 → Option (Int32 × Hp)) _ _ (fun N r => ∀ k, k ≤ sN σ → sN σ - k < N → r h (qO σ p k) (nI k) = j h (qO σ p (sN σ))) (fun k _ z => absurd z (Nat.not_lt_zero _)) (fun N r ih k hk hN => ?_)
  unfold X2_even_b65
  rw [g.1]
  by_cases c : sN σ ≤ k
  · rw [if_pos ((nI_leI (by omega) (by omega)).mpr c), show k = sN σ from by omega]
  · rw [if_neg (fun z => c ((nI_leI (by omega) (by omega)).mp z)), sX2_allN h hn g.1, bd_s, show X2_worthFrom h (nI (2 ^ sN σ - 1)) (0 : Int32) (nI k) = some (dF σ 0 k, h) from sX2_from ok g t (k := 0) (by omega) (by omega), bd_s]
    simp only [nm_u]
    rw [nI_1]
    exact ih (k + 1) (by omega) (by omega)
theorem sX0_even {σ : Sg} (ok : sOK σ) {h : Hp} (g : gc σ h) (x : Int32) : wp (X0_even h x) (fun r h' => r = qEven σ x ∧ f0 h h') := by
  have hn := ok.1
  unfold X0_even qEven
  rw [sX0_isP g, bd_s]
  by_cases c0 : isP σ x
  · rw [if_neg (fun z => (pB0.mp z) c0), if_pos c0]
    obtain ⟨p, hp, rfl⟩ := c0.nI ok
    obtain ⟨a, e1, e2, e3⟩ := g.2.2.1 p hp
    have v1 := e3 0 (by decide)
    rw [Nat.mul_zero, Nat.zero_add] at v1
    have o := ok.2.2.2.1 p hp
    rw [ck_i (by omega) (by omega), nI_clamp (by omega), e1]
    simp only [nm_u]
    rw [dr_s, v1]
    have key : ∀ N, (fun N r => ∀ k u h2 best least, k ≤ 13 → u ≤ 12 → gc (sS σ p u) h2 → fP (sN σ) h h2 → ((k = 0 ∧ best = 0 ∧ least = -1) ∨ ∃ k', k = k' + 1 ∧ best = nI (qE σ p k').1 ∧ least = (qE σ p k').2) → 13 - k < N → wp (r h2 best least (nI k)) (fun r h' => r = nI (qE σ p 12).1 ∧ f0 h h')) N (zfix (fun (_ : Hp) (_ : Int32) (_ : Int64) (_ : Int32) => (none : Option (Int32 × Hp))) (X0_even_b30 (nI p) (fun (h8 : Hp) (v9 : Int32) => ck (0 ≤ (nI p).toInt ∧ (nI p).toInt < 4) (dr (zr h8 1 p) fun a13 => some (v9, zsi h8 a13 0 (nI (sM σ p)))))) N) := by
      refine zfix_ind (σ := Hp → Int32 → Int64 → Int32 → Option (Int32 × Hp)) _ _ (fun N r => ∀ k u h2 best least, k ≤ 13 → u ≤ 12 → gc (sS σ p u) h2 → fP (sN σ) h h2 → ((k = 0 ∧ best = 0 ∧ least = -1) ∨ ∃ k', k = k' + 1 ∧ best = nI (qE σ p k').1 ∧ least = (qE σ p k').2) → 13 - k < N → wp (r h2 best least (nI k)) (fun r h' => r = nI (qE σ p 12).1 ∧ f0 h h')) (fun k _ _ _ _ _ _ _ _ _ z => absurd z (Nat.not_lt_zero _)) (fun N r ih k u h2 best least hk hu g2 fr2 st hN => ?_)
      have ea : zr h2 1 p = some a := by rw [fr2.rr]; exact e1
      unfold X0_even_b30
      by_cases c : k = 13
      · rw [if_pos (show (12 : Int32) < nI k from (nI_ltI (a := 12) (by omega) (by omega)).mpr (by omega))]
        show wp (ck _ _) _
        rw [ck_i (by omega) (by omega), ea, dr_s]
        have gs := gc.set0 (sS0_ok ok hp hu) g2 (v := sM σ p) hp ea
        rw [sS_S, sS_id] at gs
        rcases st with z | ⟨k', h1, h3, _⟩
        · omega
        · obtain rfl : k' = 12 := by omega
          exact wp.of rfl ⟨h3, (fr2.tr (fP.si ea hp (by omega))).S g gs⟩
      · rw [if_neg (fun z => by have := (nI_ltI (by omega) (by omega)).mp (show nI 12 < nI k from z); omega), ck_i (by omega) (by omega), nI_clamp (by omega), ea]
        simp only [nm_u]
        rw [dr_s, wp_bd]
        have gs := gc.set0 (sS0_ok ok hp hu) g2 (v := k) hp ea
        rw [sS_S] at gs
        have oks := sS0_ok ok (v := k) hp (by omega)
        refine (sX0_findValues oks gs).mono ?_
        rintro _ h3 ⟨fr3, t3⟩
        have g3 := gs.fr fr3.f0
        have f3 : fP (sN σ) h h3 := fr2.tr ((fP.si ea hp (by omega)).tr fr3.f0.fP)
        rw [sX0_worthOf oks g3 t3 hp, bd_s, g3.1, nI_l (by show sN σ < _; omega)]
        have q0 : lN (sN (sS σ p k)) * dF (sS σ p k) 0 p = qO (sS σ p k) p 0 := rfl
        rw [q0]
        have lp := fun jj => lX0_68 oks g3 t3 p jj zFU 0 (Nat.zero_le _) (by rw [zFU_u]; show sN σ - 0 < _; omega)
        rw [show (0 : Int32) = nI 0 from rfl] at *
        rw [lp]
        simp only [ab_c]
        rw [nI_1]
        have hk1 : k + 1 ≤ 13 := by omega
        have hk2 : 13 - (k + 1) < N := by omega
        have hk3 : k ≤ 12 := by omega
        have take := fun st' => ih (k + 1) k h3 (nI k) (oE σ p k) hk1 hk3 g3 f3 st' hk2
        rcases st with ⟨z1, z2, z3⟩ | ⟨k', z1, z2, z3⟩
        · rw [z3, if_pos (by decide)]
          exact take (Or.inr ⟨0, by omega, by rw [z1]; rfl, by rw [z1]; rfl⟩)
        · rw [z3, if_neg (qE_nn ok hp k' (by omega))]
          have hu' : qE σ p (k' + 1) = if oE σ p (k' + 1) < (qE σ p k').2 then (k' + 1, oE σ p (k' + 1)) else qE σ p k' := rfl
          by_cases d : oE σ p k < (qE σ p k').2
          · rw [if_pos (show ab (qO (sS σ p k) p (sN (sS σ p k))) < _ from d)]
            refine take (Or.inr ⟨k, rfl, ?_, ?_⟩)
            · rw [z1, hu', ← z1, if_pos d]
            · rw [z1, hu', ← z1, if_pos d]
          · rw [if_neg (show ¬ ab (qO (sS σ p k) p (sN (sS σ p k))) < _ from d)]
            refine ih (k + 1) k h3 best _ (by omega) (by omega) g3 f3 (Or.inr ⟨k, rfl, ?_, ?_⟩) (by omega)
            · rw [z1, hu', ← z1, if_neg d]; exact z2
            · rw [z1, hu', ← z1, if_neg d]
    have gi : gc (sS σ p (sM σ p)) h := by rw [sS_id]; exact g
    refine (key zFU 0 (sM σ p) h 0 (-1) (by omega) o.1 gi (fP.rf _ h) (Or.inl ⟨rfl, rfl, rfl⟩) (by rw [zFU_u]; omega)).mono ?_
    rintro r h' ⟨er, fr⟩
    exact ⟨er, fr⟩
  · rw [if_pos (pB0.mpr c0), if_neg c0]; exact wp.of rfl ⟨rfl, f0.rf h⟩
