/-! worth, just -/
theorem lN_0z : lN 0 = (0 : Int64) := rfl
theorem lN_nz {x : Nat} (hx : x < 2 ^ 63) (h : ¬ x = 0) : ¬ lN x = (0 : Int64) := fun z => h ((pk_lEQ hx (by omega)).mp (show lN x = lN 0 from z))
theorem com_h {x y : Nat} (hy : 0 < y) (hr : 0 < x % y) : 2 * (y % (x % y)) < y := by
  have h1 : x % y < y := Nat.mod_lt _ hy
  have h2 : y % (x % y) < x % y := Nat.mod_lt _ hr
  have h3 := Nat.div_add_mod y (x % y)
  have h4 : 1 ≤ y / (x % y) := (Nat.one_le_div_iff hr).mpr (Nat.le_of_lt h1)
  have h5 := Nat.mul_le_mul_left (x % y) h4
  omega
theorem gcd_st (x y : Nat) : Nat.gcd x y = Nat.gcd y (x % y) := by
  rw [Nat.gcd_comm x y, Nat.gcd_rec y x, Nat.gcd_comm]
theorem com_b (h : Hp) : ∀ k N x y, x < 2 ^ 63 → y < 2 ^ k → k ≤ 62 → 2 * k + 1 ≤ N → zfix (fun (_ : Hp) (_ : Int64) (_ : Int64) => (none : Option (Int64 × Hp))) X0_common_b6 N h (lN x) (lN y) = some (lN (Nat.gcd x y), h) := by
  intro k
  induction k with
  | zero =>
    intro N x y hx hy _ hN
    obtain ⟨N, rfl⟩ : ∃ M, N = M + 1 := ⟨N - 1, by omega⟩
    rw [zfix_s]
    unfold X0_common_b6
    rw [show y = 0 from by omega, if_pos lN_0z, Nat.gcd_zero_right]
  | succ k ih =>
    intro N x y hx hy hk hN
    obtain ⟨N, rfl⟩ : ∃ M, N = M + 1 + 1 := ⟨N - 2, by omega⟩
    have hp : 2 ^ (k + 1) = 2 * 2 ^ k := by rw [Nat.pow_succ, Nat.mul_comm]
    have h62 : 2 ^ (k + 1) ≤ 2 ^ 62 * 2 := by
      have := Nat.pow_le_pow_right (show 0 < 2 by decide) hk
      omega
    rw [zfix_s]
    unfold X0_common_b6
    by_cases c : y = 0
    · rw [c, if_pos lN_0z, Nat.gcd_zero_right]
    · have c' : ¬ lN y = (0 : Int64) := fun z => c ((pk_lEQ (by omega) (by omega)).mp (show lN y = lN 0 from z))
      rw [if_neg c', ck_t c', nm_u, pk_lRem hx (by omega) (by omega), gcd_st]
      have h1 : x % y < y := Nat.mod_lt _ (by omega)
      show zfix _ X0_common_b6 (N + 1) h (lN y) (lN (x % y)) = _
      rw [zfix_s]
      unfold X0_common_b6
      by_cases d : x % y = 0
      · rw [d, if_pos lN_0z, Nat.gcd_zero_right]
      · have d' : ¬ lN (x % y) = (0 : Int64) := fun z => d ((pk_lEQ (by omega) (by omega)).mp (show lN (x % y) = lN 0 from z))
        rw [if_neg d', ck_t d', nm_u, pk_lRem (by omega) (by omega) (by omega), gcd_st]
        have h2 := com_h (x := x) (y := y) (by omega) (by omega)
        exact ih N (x % y) (y % (x % y)) (by omega) (by omega) (by omega) (by omega)
theorem com_eq : X2_common_b6 = X0_common_b6 := rfl
theorem sX0_common (h : Hp) {x y : Nat} (hx : x < 2 ^ 62) (hy : y < 2 ^ 62) : X0_common h (lN x) (lN y) = some (lN (Nat.gcd x y), h) :=
  com_b h 62 zFU x y (by omega) hy (by omega) (by rw [zFU_u]; omega)
theorem sX2_common (h : Hp) {x y : Nat} (hx : x < 2 ^ 62) (hy : y < 2 ^ 62) : X2_common h (lN x) (lN y) = some (lN (Nat.gcd x y), h) := by
  unfold X2_common
  rw [com_eq]
  exact com_b h 62 zFU x y (by omega) hy (by omega) (by rw [zFU_u]; omega)
def qPart (x u : Nat) (p : Int32) : Int64 := if p = 0 then lN x / lN (Nat.gcd x u) else lN u / lN (Nat.gcd x u)
theorem sX0_part (h : Hp) {x u : Nat} (hx : x < 2 ^ 62) (hu : u < 2 ^ 62) (hu0 : 0 < u) (p : Int32) : X0_part h (lN x) (lN u) p = some (qPart x u p, h) := by
  have hg : Nat.gcd x u ≤ u := Nat.le_of_dvd hu0 (Nat.gcd_dvd_right x u)
  have hg0 : 0 < Nat.gcd x u := Nat.gcd_pos_of_pos_right x hu0
  have hz : ¬ lN (Nat.gcd x u) = (0 : Int64) := fun z => by have := (pk_lEQ (by omega) (by omega)).mp (show lN (Nat.gcd x u) = lN 0 from z); omega
  unfold X0_part qPart
  rw [sX0_common h hx hu, bd_s]
  by_cases c : p = 0
  · rw [if_pos c, ck_t hz, if_pos c]
  · rw [if_neg c, ck_t hz, if_neg c]
theorem p12 : ∀ b, b ≤ 9 → 12 ^ b < 2 ^ 62 ∧ 0 < 12 ^ b := by
  intro b hb
  have h1 := Nat.pow_le_pow_right (show 0 < 12 by decide) hb
  have h9 : 12 ^ 9 = 5159780352 := by decide
  exact ⟨by omega, Nat.pos_of_ne_zero (fun z => by have := Nat.pow_eq_zero.mp z; omega)⟩
theorem sX2_partOf {σ : Sg} (ok : sOK σ) {h : Hp} (g : gm σ h) (pw : pw12 h) {x : Nat} (hx : x < 2 ^ 62) {p : Int32} (hp : p = 0 ∨ p = 1) : X2_partOf h (lN x) p = some (qPart x (12 ^ sB σ) p, h) := by
  have hb9 := ok.2.2.2.2.1
  obtain ⟨hu, hu0⟩ := p12 _ hb9
  have hg : Nat.gcd x (12 ^ sB σ) ≤ 12 ^ sB σ := Nat.le_of_dvd hu0 (Nat.gcd_dvd_right x _)
  have hg0 : 0 < Nat.gcd x (12 ^ sB σ) := Nat.gcd_pos_of_pos_right x hu0
  have hz : ¬ lN (Nat.gcd x (12 ^ sB σ)) = (0 : Int64) := fun z => by have := (pk_lEQ (by omega) (by omega)).mp (show lN _ = lN 0 from z); omega
  unfold X2_partOf qPart
  by_cases c0 : x = 0
  · rw [c0, if_pos lN_0z, Nat.gcd_zero_left]
    rcases hp with rfl | rfl
    · rw [if_pos rfl, pk_lDiv (by omega) hu0 (by omega), Nat.zero_div]; rfl
    · rw [if_neg (by decide), pk_lDiv (by omega) hu0 (by omega), Nat.div_self hu0]; rfl
  · rw [if_neg (lN_nz (by omega) c0), g.2.2.2.2.1, ck_i (by omega) (by omega), nI_clamp (by omega), pw _ (by omega), sX2_common h hx hu, bd_s]
    by_cases c : p = 0
    · rw [if_pos c, ck_t hz, if_pos c]
    · rw [if_neg c, g.2.2.2.2.1, ck_i (by omega) (by omega), ck_t hz, nI_clamp (by omega), pw _ (by omega), if_neg c]
/-- sums over ends -/
theorem bit_2p : ∀ p, p < 4 → (2 ^ p).testBit p = true := by decide
theorem sX0_leftOf {σ : Sg} (ok : sOK σ) {h : Hp} (g : gc σ h) {p : Nat} (hp : p < sN σ) {kind : Nat} (hk : kind ≤ 1) : X0_leftOf h (nI p) (nI kind) = some (sumJ (fun s => zj h 12 s * eK kind p 0 s) (2 ^ sN σ), h) := by
  have hn := ok.1
  have hpw := pow16 hn
  have hal := all_lt σ
  have key : ∀ N, (fun N r => ∀ k, k ≤ 2 ^ sN σ → 2 ^ sN σ - k < N → r h (sumJ (fun s => zj h 12 s * eK kind p 0 s) k) (nI k) = some (sumJ (fun s => zj h 12 s * eK kind p 0 s) (2 ^ sN σ), h)) N (zfix (fun (_ : Hp) (_ : Int64) (_ : Int32) => (none : Option (Int64 × Hp))) (X0_leftOf_b5 (nI p) (nI kind)) N) := by
    refine zfix_ind (σ := Hp → Int64 → Int32 → Option (Int64 × Hp)) _ _ (fun N r => ∀ k, k ≤ 2 ^ sN σ → 2 ^ sN σ - k < N → r h (sumJ (fun s => zj h 12 s * eK kind p 0 s) k) (nI k) = some (sumJ (fun s => zj h 12 s * eK kind p 0 s) (2 ^ sN σ), h)) (fun k _ z => absurd z (Nat.not_lt_zero _)) (fun N r ih k hk' hN => ?_)
    unfold X0_leftOf_b5
    rw [sX0_all h hn g.1, bd_s]
    by_cases c : 2 ^ sN σ ≤ k
    · rw [if_pos ((nI_ltI (by omega) (by omega)).mpr (by omega)), show k = 2 ^ sN σ from by omega]
    · rw [if_neg (fun z => by have := (nI_ltI (by omega) (by omega)).mp z; omega), sX0_has h (by omega) (by omega), bd_s]
      rw [nm_u]
      have ih1 := ih (k + 1) (by omega) (by omega)
      have hu : sumJ (fun s => zj h 12 s * eK kind p 0 s) (k + 1) = sumJ (fun s => zj h 12 s * eK kind p 0 s) k + zj h 12 k * eK kind p 0 k := rfl
      rw [hu] at ih1
      have no : eK kind p 0 k = 0 → nm (nI k + 1) (fun v13 => r h (sumJ (fun s => zj h 12 s * eK kind p 0 s) k) v13) = some (sumJ (fun s => zj h 12 s * eK kind p 0 s) (2 ^ sN σ), h) := by
        intro z
        rw [z, Int64.mul_zero, Int64.add_zero] at ih1
        rw [nm_u, nI_1]; exact ih1
      have yes : eK kind p 0 k = 1 → ck (0 ≤ (nI k).toInt ∧ (nI k).toInt < 16) (nm (sumJ (fun s => zj h 12 s * eK kind p 0 s) k + zj h 12 (nI k).toNatClampNeg) fun v18 => nm (nI k + 1) (fun v13 => r h v18 v13)) = some (sumJ (fun s => zj h 12 s * eK kind p 0 s) (2 ^ sN σ), h) := by
        intro z
        rw [z, Int64.mul_one] at ih1
        rw [ck_i (by omega) (by omega), nI_clamp (by omega), nm_u, nm_u, nI_1]; exact ih1
      by_cases cb : k.testBit p = true
      · rw [if_neg (fun z => (pB0.mp z) cb), nm_u]
        have : kind = 0 ∨ kind = 1 := by omega
        rcases this with rfl | rfl
        · rw [if_pos nI_0]
          refine yes ?_
          unfold eK; rw [if_pos rfl, if_pos cb]
        · rw [if_neg (by decide), b_1p p (by omega)]
          by_cases cs : k = 2 ^ p
          · rw [if_pos (by rw [cs])]
            refine yes ?_
            unfold eK; rw [if_neg (by decide), if_pos rfl, if_pos cs]
          · rw [if_neg (fun z => cs ((nI_eq (by omega) (by have := p16 p (by omega); omega)).mp z))]
            refine no ?_
            unfold eK; rw [if_neg (by decide), if_pos rfl, if_neg cs]
      · rw [if_pos (pB0.mpr cb)]
        refine no ?_
        have : kind = 0 ∨ kind = 1 := by omega
        rcases this with rfl | rfl
        · unfold eK; rw [if_pos rfl, if_neg cb]
        · unfold eK; rw [if_neg (by decide), if_pos rfl, if_neg (fun z => cb (by rw [z]; exact bit_2p p (by omega)))]
  exact key zFU 0 (Nat.zero_le _) (by rw [zFU_u]; omega)
theorem sumJ_pick {f : Nat → Int64} {j : Nat} : ∀ n, j < n → sumJ (fun s => f s * (if s = j then 1 else 0)) n = f j := by
  intro n hj
  have u := sumJ_u (f := fun _ => (0 : Int64)) (g := fun s => f s * (if s = j then 1 else 0)) j n hj (fun i _ hi => by
    show f i * (if i = j then 1 else 0) = 0
    rw [if_neg hi, Int64.mul_zero])
  rw [u, sumJ_0 n (fun _ _ => rfl), if_pos rfl, Int64.mul_one, Int64.zero_add, Int64.sub_zero]
theorem eK_c {kind asked : Nat} (hk : kind < 3) : eK kind asked = fun _ => eK kind asked 0 := by
  funext m s
  unfold eK
  have : kind = 0 ∨ kind = 1 ∨ kind = 2 := by omega
  rcases this with rfl | rfl | rfl <;> rfl
theorem eK_b (kind asked : Nat) (hk : kind < 3) (s : Nat) : ∃ x, x ≤ 1 ∧ eK kind asked 0 s = lN x := by
  unfold eK
  have : kind = 0 ∨ kind = 1 ∨ kind = 2 := by omega
  rcases this with rfl | rfl | rfl
  · rw [if_pos rfl]; split
    · exact ⟨1, Nat.le_refl _, rfl⟩
    · exact ⟨0, by omega, rfl⟩
  · rw [if_neg (by decide), if_pos rfl]; split
    · exact ⟨1, Nat.le_refl _, rfl⟩
    · exact ⟨0, by omega, rfl⟩
  · rw [if_neg (by decide), if_neg (by decide), if_pos rfl]; split
    · exact ⟨1, Nat.le_refl _, rfl⟩
    · exact ⟨0, by omega, rfl⟩
/-- the numbers asked for, as naturals -/
theorem dU_n {σ : Sg} (ok : sOK σ) (hn0 : 0 < sN σ) {c : Int64} {e : Nat → Int64} {c' : Nat} (hc : c = lN c') (hc1 : c' ≤ 1) (he : ∀ s, ∃ x, x ≤ 1 ∧ e s = lN x) : ∃ x, x < 2 ^ 62 ∧ dU σ c e (sB σ) (2 ^ sN σ - 1) (sO σ 0) = lN x := by
  obtain ⟨x, hx, ex⟩ := dU_b ok hc hc1 he (sB σ) (2 ^ sN σ - 1) (sO σ 0) (ok.2.1 0 hn0).1
  refine ⟨x, ?_, ex⟩
  have hb9 := ok.2.2.2.2.1
  have h1 := Nat.pow_le_pow_right (show 0 < 12 by decide) hb9
  have h9 : 12 ^ 9 = 5159780352 := by decide
  have h2 : (sB σ + 1) * 12 ^ sB σ ≤ 10 * 5159780352 := by rw [← h9]; exact Nat.mul_le_mul (by omega) h1
  omega
theorem lN_nat {x : Nat} (h : x < 2 ^ 63) : (lN x).toNatClampNeg = x := Int64.toNatClampNeg_ofNat_of_lt h
def vWorth (σ : Sg) (p k : Nat) : Int64 := if k = 0 then dF σ 0 p else dU σ 0 (eK (k - 1) p 0) (sB σ) (2 ^ sN σ - 1) (sO σ 0)
theorem vWorth_n {σ : Sg} (ok : sOK σ) {p k : Nat} (hp : p < sN σ) (hk : k ≤ 2) : ∃ x, x < 2 ^ 62 ∧ vWorth σ p k = lN x := by
  unfold vWorth
  split
  · obtain ⟨x, hx, e⟩ := dF_b ok (k := 0) (by omega) p
    exact ⟨x, by omega, e⟩
  · exact dU_n ok (by omega) (c' := 0) rfl (by omega) (eK_b _ _ (by omega))
def qWorth (σ : Sg) (x y z : Int32) : Int64 := if isP σ x then (if 0 ≤ y ∧ y ≤ 2 then (if 0 ≤ z ∧ z ≤ 1 then qPart (vWorth σ x.toNatClampNeg y.toNatClampNeg).toNatClampNeg (12 ^ sB σ) z else -9223372036854775808) else -9223372036854775808) else -9223372036854775808
theorem z01 {z : Int32} (h : 0 ≤ z ∧ z ≤ 1) : z = 0 ∨ z = 1 := by
  obtain ⟨a, ha, e⟩ := nI_rg (b := 1) (by omega) h.1 h.2
  have : a = 0 ∨ a = 1 := by omega
  rcases this with rfl | rfl
  · exact Or.inl e
  · exact Or.inr e
theorem sX0_worth {σ : Sg} (ok : sOK σ) {h : Hp} (g : gc σ h) (x y z : Int32) : wp (X0_worth h x y z) (fun r h' => r = qWorth σ x y z ∧ f0 h h') := by
  have hn := ok.1
  have hb9 := ok.2.2.2.2.1
  obtain ⟨hu, hu0⟩ := p12 _ hb9
  unfold X0_worth qWorth
  rw [sX0_isP g, bd_s]
  by_cases c0 : isP σ x
  · rw [if_neg (fun z => (pB0.mp z) c0), if_pos c0, sX0_in, bd_s]
    obtain ⟨p, hp, rfl⟩ := c0.nI ok
    by_cases c1 : 0 ≤ y ∧ y ≤ 2
    · rw [if_neg (fun z => (pB0.mp z) c1), if_pos c1, sX0_in, bd_s]
      obtain ⟨k, hk, rfl⟩ := nI_rg (b := 2) (by omega) c1.1 c1.2
      by_cases c2 : 0 ≤ z ∧ z ≤ 1
      · rw [if_neg (fun z => (pB0.mp z) c2), if_pos c2, wp_bd, nI_clamp (by omega), nI_clamp (by omega)]
        obtain ⟨v, hv, ev⟩ := vWorth_n ok hp hk
        refine (sX0_findEnds ok g (by omega) 0 (eK (k - 1) p 0)).mono ?_
        rintro _ h1 ⟨fr, t, su⟩
        have g1 := g.fr fr
        rw [Int64.zero_mul, Int64.zero_add] at su
        have fin : ∀ w, w = vWorth σ p k → wp (ck (0 ≤ (zi h1 0 4).toInt ∧ (zi h1 0 4).toInt < 10) (bd (X0_part h1 w (zj h1 10 (zi h1 0 4).toNatClampNeg) z) fun r17 h16 => some (r17, h16))) (fun r h' => r = qPart (vWorth σ p k).toNatClampNeg (12 ^ sB σ) z ∧ f0 h h') := by
          intro w ew
          rw [g1.2.2.2.1, ck_i (by omega) (by omega), nI_clamp (by omega), g1.2.2.2.2.2.1 _ (by omega), ew, ev, sX0_part h1 hv hu hu0, bd_s, lN_nat (by omega)]
          exact wp.of rfl ⟨rfl, fr⟩
        rw [nm_u]
        by_cases ck0 : k = 0
        · rw [if_pos (by rw [ck0]; rfl), sX0_worthOf ok g1 t hp, bd_s]
          refine fin _ ?_
          unfold vWorth; rw [if_pos ck0]
        · rw [if_neg (nI_n0 (by omega) ck0), nm_u]
          by_cases ck2 : k = 2
          · rw [if_pos (by rw [ck2]; rfl)]
            show wp (bd (X0_leftOf h1 (nI p) (nI 1)) _) _
            rw [sX0_leftOf ok g1 hp (kind := 1) (by omega), bd_s]
            refine fin _ ?_
            unfold vWorth
            rw [if_neg ck0, ← su, ck2]
          · rw [if_neg (nI_n2 (by omega) ck2)]
            show wp (bd (X0_leftOf h1 (nI p) (nI 0)) _) _
            rw [sX0_leftOf ok g1 hp (kind := 0) (by omega), bd_s]
            refine fin _ ?_
            unfold vWorth
            rw [if_neg ck0, ← su, show k = 1 from by omega]
      · rw [if_pos (pB0.mpr c2), if_neg c2]; exact wp.of rfl ⟨rfl, f0.rf h⟩
    · rw [if_pos (pB0.mpr c1), if_neg c1]; exact wp.of rfl ⟨rfl, f0.rf h⟩
  · rw [if_pos (pB0.mpr c0), if_neg c0]; exact wp.of rfl ⟨rfl, f0.rf h⟩
theorem sX2_worth {σ : Sg} (ok : sOK σ) {h : Hp} (g : gm σ h) (x y z : Int32) : wp (X2_worth h x y z) (fun r h' => r = qWorth σ x y z ∧ f2 h h') := by
  have hn := ok.1
  have hb9 := ok.2.2.2.2.1
  unfold X2_worth qWorth
  rw [sX2_isP g, bd_s]
  by_cases c0 : isP σ x
  · rw [if_neg (fun z => (pB0.mp z) c0), if_pos c0, show (0 : Int64) = (0 : Int32).toInt64 from by decide, show (2 : Int64) = (2 : Int32).toInt64 from by decide, sX2_wi, bd_s]
    obtain ⟨p, hp, rfl⟩ := c0.nI ok
    by_cases c1 : 0 ≤ y ∧ y ≤ 2
    · rw [if_neg (fun z => (pB0.mp z) c1), if_pos c1, show (1 : Int64) = (1 : Int32).toInt64 from by decide, sX2_wi, bd_s]
      obtain ⟨k, hk, rfl⟩ := nI_rg (b := 2) (by omega) c1.1 c1.2
      by_cases c2 : 0 ≤ z ∧ z ≤ 1
      · rw [if_neg (fun z => (pB0.mp z) c2), if_pos c2, nm_u, nI_clamp (by omega), nI_clamp (by omega)]
        obtain ⟨v, hv, ev⟩ := vWorth_n ok hp hk
        have fin : ∀ w h1, f2 h h1 → pw12 h1 → w = vWorth σ p k → wp (bd (X2_partOf h1 w z) fun r14 h13 => some (r14, h13)) (fun r h' => r = qPart (vWorth σ p k).toNatClampNeg (12 ^ sB σ) z ∧ f2 h h') := by
          intro w h1 fr pw ew
          rw [ew, ev, sX2_partOf ok (g.fr fr) pw hv (z01 c2), bd_s, lN_nat (by omega)]
          exact wp.of rfl ⟨rfl, fr⟩
        by_cases ck0 : k = 0
        · rw [if_pos (by rw [ck0]; rfl), wp_bd]
          refine (sX2_worthOf ok g hp).mono ?_
          rintro w h1 ⟨ew, fr, _, pw⟩
          refine fin w h1 fr pw ?_
          rw [ew]; unfold vWorth; rw [if_pos ck0]
        · rw [if_neg (nI_n0 (by omega) ck0), wp_bd, show nI k - (1 : Int32) = nI (k - 1) from pk_sub (b := 1) (by omega)]
          refine (sX2_valueOf ok g (kind := k - 1) (asked := p) (by omega) (by omega) (fun _ => by omega)).mono ?_
          rintro w h1 ⟨ew, fr, pw⟩
          refine fin w h1 fr pw ?_
          rw [ew]
          unfold qV vWorth
          rw [if_neg (by omega), if_neg ck0, eK_c (by omega), dQ_0]
      · rw [if_pos (pB0.mpr c2), if_neg c2]; exact wp.of rfl ⟨rfl, f2.rf h⟩
    · rw [if_pos (pB0.mpr c1), if_neg c1]; exact wp.of rfl ⟨rfl, f2.rf h⟩
  · rw [if_pos (pB0.mpr c0), if_neg c0]; exact wp.of rfl ⟨rfl, f2.rf h⟩
