/-! players -/
/-- the model's effect of a player -/
def Md (g : Hp) (n : Nat) (x y : Int32) : Hp := zsi (zsi (zsi (zsi (zsi (zsi (zsi (zsi (zsi (zsi g 18 n x) 18 (4 + n) y) 18 (8 + n) 0) 22 n (nI n)) 23 n (nI n)) 17 6 (nI (n + 1))) 17 36 0) 17 33 (nI (2 ^ (n + 1) - 1))) 17 34 (if n = 0 then nI n else zi g 22 0)) 17 35 0
theorem zi_neq (h : Hp) (t n w a b : Nat) : zi (zne h t n w) a b = if a = zx h then 0 else zi h a b := by
  by_cases z : a = zx h
  · rw [if_pos z, z]; exact zi_nn _ _ _ _ _
  · rw [if_neg z]; exact zi_nw _ _ _ _ z b
theorem Md_z (g : Hp) {n : Nat} {x y : Int32} {q : Nat} (h1 : q ≠ 17) (h2 : q ≠ 18) (h3 : q ≠ 22) (h4 : q ≠ 23) : zi (Md g n x y) q = zi g q := by
  funext k
  unfold Md
  rw [zi_ne _ _ _ _ (Or.inl h1), zi_ne _ _ _ _ (Or.inl h1), zi_ne _ _ _ _ (Or.inl h1), zi_ne _ _ _ _ (Or.inl h1), zi_ne _ _ _ _ (Or.inl h1), zi_ne _ _ _ _ (Or.inl h4), zi_ne _ _ _ _ (Or.inl h3), zi_ne _ _ _ _ (Or.inl h2), zi_ne _ _ _ _ (Or.inl h2), zi_ne _ _ _ _ (Or.inl h2)]
theorem hPl_z (g : Hp) {n : Nat} {x y : Int32} {q : Nat} (h1 : q ≠ 0) (h2 : q ≠ 2) (h3 : q ≠ zx g) : zi (hPl g n x y) q = zi g q := by
  funext k
  unfold hPl nPl
  rw [zi_ne _ _ _ _ (Or.inl h1), zi_ne _ _ _ _ (Or.inl h1), zi_ne _ _ _ _ (Or.inl h1), zi_ne _ _ _ _ (Or.inl h1), zi_ne _ _ _ _ (Or.inl h1), zi_ne _ _ _ _ (Or.inl h2), zi_sr, zi_ne _ _ _ _ (Or.inl h3), zi_ne _ _ _ _ (Or.inl h3), zi_nw _ _ _ _ h3]
theorem hPl_c {G g : Hp} {n : Nat} {x y : Int32} {q : Nat} (e : zi G q = zi g q) (ex : zx G = zx g) : zi (hPl G n x y) q = zi (hPl g n x y) q := by
  funext k
  simp only [hPl, nPl, zi_si, zi_sr, zi_neq, e, ex]
theorem Md_c {G g : Hp} {n : Nat} {x y : Int32} {q : Nat} (e : zi G q = zi g q) (e2 : zi G 22 0 = zi g 22 0) : zi (Md G n x y) q = zi (Md g n x y) q := by
  funext k
  simp only [Md, zi_si, e, e2]
theorem hp_ext {a b : Hp} (h1 : ∀ q, zi a q = zi b q) (h2 : a.2 = b.2) : a = b := by
  obtain ⟨a1, a2⟩ := a
  obtain ⟨b1, b2⟩ := b
  have e1 : a1 = b1 := funext h1
  have e2 : a2 = b2 := h2
  rw [e1, e2]
theorem hPl_Md {g : Hp} (vx : 42 ≤ zx g) (n n' : Nat) (x y x' y' : Int32) : hPl (Md g n x y) n' x' y' = Md (hPl g n' x' y') n x y := by
  refine hp_ext (fun q => ?_) rfl
  by_cases c : q = 17 ∨ q = 18 ∨ q = 22 ∨ q = 23
  · rw [hPl_z (Md g n x y) (by omega) (by omega) (show q ≠ zx g by omega)]
    exact (Md_c (hPl_z g (by omega) (by omega) (by omega)) (by rw [hPl_z g (by omega) (by omega) (show 22 ≠ zx g by omega)])).symm
  · rw [hPl_c (G := Md g n x y) (g := g) (Md_z g (by omega) (by omega) (by omega) (by omega)) rfl, Md_z (hPl g n' x' y') (by omega) (by omega) (by omega) (by omega)]
theorem hPl2_Md {h : Hp} (vx : 42 ≤ zx h) (n : Nat) (x y : Int32) : hPl2 h n x y = Md (hPl h n x y) n x y := by
  unfold hPl2 Md
  rw [hPl_z h (by omega) (by omega) (show 22 ≠ zx h by omega)]
/-- t players one after the other -/
def sqA (xs ys : Nat → Int32) : Nat → Nat → Hp → Hp
  | 0, _, h => h
  | t + 1, n, h => sqA xs ys t (n + 1) (hPl h n (xs n) (ys n))
def sqM (xs ys : Nat → Int32) : Nat → Nat → Hp → Hp
  | 0, _, h => h
  | t + 1, n, h => sqM xs ys t (n + 1) (Md h n (xs n) (ys n))
theorem sqA_Md (xs ys : Nat → Int32) : ∀ t n' g n x y, 42 ≤ zx g → sqA xs ys t n' (Md g n x y) = Md (sqA xs ys t n' g) n x y := by
  intro t
  induction t with
  | zero => intro n' g n x y _; rfl
  | succ t ih =>
    intro n' g n x y vx
    show sqA xs ys t (n' + 1) (hPl (Md g n x y) n' (xs n') (ys n')) = Md (sqA xs ys t (n' + 1) (hPl g n' (xs n') (ys n'))) n x y
    rw [hPl_Md vx]
    exact ih _ _ _ _ _ (show 42 ≤ zx g + 1 by omega)
theorem sqM_ga (xs ys : Nat → Int32) : ∀ t n g a b, sqM xs ys t n (zga g a b) = zga (sqM xs ys t n g) a b := by
  intro t
  induction t with
  | zero => intro n g a b; rfl
  | succ t ih => intro n g a b; exact ih (n + 1) (Md g n (xs n) (ys n)) a b
theorem sqM_cs (xs ys : Nat → Int32) : ∀ t n g, zc (sqM xs ys t n g) = zc g ∧ zs (sqM xs ys t n g) = zs g := by
  intro t
  induction t with
  | zero => intro n g; exact ⟨rfl, rfl⟩
  | succ t ih => intro n g; exact ih (n + 1) (Md g n (xs n) (ys n))
theorem sqA_cs (xs ys : Nat → Int32) : ∀ t n g, zc (sqA xs ys t n g) = zc g + t ∧ zs (sqA xs ys t n g) = zs g + 3 * t := by
  intro t
  induction t with
  | zero => intro n g; exact ⟨rfl, rfl⟩
  | succ t ih =>
    intro n g
    obtain ⟨a, b⟩ := ih (n + 1) (hPl g n (xs n) (ys n))
    refine ⟨?_, ?_⟩
    · show zc (sqA xs ys t (n + 1) (hPl g n (xs n) (ys n))) = _
      rw [a]; show zc g + 1 + t = _; omega
    · show zs (sqA xs ys t (n + 1) (hPl g n (xs n) (ys n))) = _
      rw [b]; show zs g + 3 + 3 * t = _; omega
theorem Inv.gaR {j i : Nat} {h : Hp} (v : Inv j h) {k w : Nat} (hR : iR (zga h k w) i) : Inv i (zga h k w) := by
  obtain ⟨n, pa, ord, plc, b, D, m, ba, vP, vO, vB, vD, vC, vT, vBo, vTr, vS, vR, vLC, vLM, vDb, vx⟩ := v
  exact ⟨n, pa, ord, plc, b, D, m, ba, vP, vO, vB, vD, vC, vT, vBo, vTr, vS, hR, vLC, vLM, vDb, vx⟩
abbrev vp (x y : Int32) : Prop := (0 ≤ x ∧ x ≤ nI 12) ∧ (0 ≤ y ∧ y ≤ nI 5)
theorem Inv.seq (xs ys : Nat → Int32) : ∀ t n h i, n + t ≤ 4 → Inv i h → zi h 0 3 = nI n → (∀ j, n ≤ j → j < n + t → vp (xs j) (ys j)) → Inv (i + t) (sqM xs ys t n (sqA xs ys t n h)) := by
  intro t
  induction t with
  | zero => intro n h i _ v _ _; exact v
  | succ t ih =>
    intro n h i hn v e f
    obtain ⟨n', pa, ord, plc, b, D, m, ba, vP, vO, vB, vD, vC, vT, vBo, vTr, vS, vR, vLC, vLM, vDb, vx⟩ := v
    have en : n' = n := by
      have := vP.2.1
      rw [e] at this
      have hn' := vP.1
      exact ((nI_eq (by omega) (by omega)).mp this).symm
    subst en
    obtain ⟨c1, c2⟩ := f n' (Nat.le_refl _) (by omega)
    obtain ⟨p, hp, ep⟩ := nI_rg (by omega) c1.1 c1.2
    obtain ⟨q, hq, eq⟩ := nI_rg (by omega) c2.1 c2.2
    show Inv (i + (t + 1)) (sqM xs ys t (n' + 1) (Md (sqA xs ys t (n' + 1) (hPl h n' (xs n') (ys n'))) n' (xs n') (ys n')))
    rw [← sqA_Md xs ys t (n' + 1) (hPl h n' (xs n') (ys n')) n' (xs n') (ys n') (show 42 ≤ zx h + 1 by omega), ← hPl2_Md vx, show i + (t + 1) = i + 1 + t from by omega, ep, eq]
    refine ih (n' + 1) _ (i + 1) (by omega) (Inv.player (by omega) vP vO vB vC vT vBo vTr vS vR vLC vLM vDb vx hp hq) rfl (fun j h1 h2 => f j (by omega) (by omega))
theorem nI_out {m l : Nat} (hl : l ≤ 60) (h1 : l ≤ m) (h2 : m < 2 ^ 31 + 100) : ¬ (0 ≤ (nI m).toInt ∧ (nI m).toInt < (l : Int)) := by
  intro w
  rcases Nat.lt_or_ge m (2 ^ 31) with c | c
  · rw [nI_toInt c] at w; omega
  · have e : (nI m).toInt = (m : Int) - 4294967296 := by
      show (Int32.ofNat m).toInt = _
      rw [Int32.toInt_ofNat']
      show Int.bmod (m : Int) 4294967296 = _
      rw [Int.bmod_def]
      split <;> omega
    rw [e] at w; omega
theorem lst (C : Nat → Prop) (m : Nat) : ¬ C m → ∃ t, t ≤ m ∧ (∀ j, j < t → C j) ∧ ¬ C t := by
  induction m using Nat.strongRecOn with
  | _ m ih =>
    intro u
    by_cases e : ∀ j, j < m → C j
    · exact ⟨m, Nat.le_refl _, e, u⟩
    · have : ∃ j, j < m ∧ ¬ C j := Classical.byContradiction fun w => e (fun j hj => Classical.byContradiction fun u => w ⟨j, hj, u⟩)
      obtain ⟨j, hj, u⟩ := this
      obtain ⟨t, h1, h2, h3⟩ := ih j hj u
      exact ⟨t, by omega, h2, h3⟩
/-- one more is taken up at k -/
def pC (c : Nat → Int32) (z n p l k : Nat) : Prop := k < z ∧ n + k < 4 ∧ p + 2 * k + 1 < l ∧ vp (c (p + 2 * k)) (c (p + 2 * k + 1))
theorem i3264 (x : Int32) : x.toInt64.toInt32 = x := by simp
theorem X23a {h : Hp} {a ra l : Nat} (ht : zt h a = 23) (hr : zr h a 0 = some ra) (hn : zn h ra = l) (hl : l ≤ 60) {i : Nat} (hi : i < l) (hf : iFt 0 (zi h ra i)) : X23_at h a (nI i) = some ((zi h ra i).toInt64, h) ∧ X23_atTi h a (nI i) = none := by
  refine ⟨?_, ?_⟩
  · rw [← V22_at_23 ht]; exact sR_at (s := 0) ht (by omega) hr hn hl hi hf
  · rw [← V22_atTi_23 ht]; exact sR_atN (s := 0) ht (by omega) hr hn ⟨by rw [nI_toInt (by omega)]; omega, by rw [nI_toInt (by omega)]; omega⟩
theorem X23o {h : Hp} {a ra l : Nat} (ht : zt h a = 23) (hr : zr h a 0 = some ra) (hn : zn h ra = l) (hl : l ≤ 60) {m : Nat} (h1 : l ≤ m) (h2 : m < 2 ^ 31 + 100) (hrm : zc h + 8000 ≤ zLC ∧ zs h + 90000 ≤ zLS) : X23_atTi h a (nI m) = some ((), zga h 3 222) := by
  rw [← V22_atTi_23 ht]; exact sR_atT (s := 0) ht (by omega) hr hn hl (nI_out hl h1 h2) hrm
theorem lp_pc {c : Nat → Int32} {z n p l a ra : Nat} (hz : z ≤ 4) (hp : p < 2 ^ 31) (hl : l ≤ 60) (ha : 42 ≤ a) (hra : 42 ≤ ra) (hft : ∀ i, i < l → iFt 0 (c i)) {xs ys : Nat → Int32} (hxs : ∀ k, xs (n + k) = c (p + 2 * k)) (hys : ∀ k, ys (n + k) = c (p + 2 * k + 1)) : ∀ r k N h, k + r ≤ 4 → n + k ≤ 4 → (∀ j, k ≤ j → j < k + r → pC c z n p l j) → ¬ pC c z n p l (k + r) → r < N → zi h 0 3 = nI (n + k) → a < zx h → ra < zx h → zt h a = 23 → zr h a 0 = some ra → zn h ra = l → (∀ i, i < l → zi h ra i = c i) → zc h + 8000 + r ≤ zLC ∧ zs h + 90000 + 3 * r ≤ zLS → ∃ w1 w2, w1 ≤ 3 ∧ w2 ≤ 222 ∧ zfix (fun _ _ _ => none) (X0_players_b35 (nI p) (nI z) (some a)) N h (nI k) (nI k) = some (nI (k + r), zga (sqA xs ys r (n + k) h) w1 w2) := by
  intro r
  induction r with
  | zero =>
    intro k N h hk hnk _ hC hN e3 a1 a2 a3 a4 a5 a6 hrm
    have hC' : ¬ pC c z n p l k := hC
    obtain ⟨N, rfl⟩ : ∃ M, N = M + 1 := ⟨N - 1, by omega⟩
    rw [zfix_s, X0_players_b35]
    by_cases c1 : z ≤ k
    · rw [if_pos (by rw [nI_leI (by omega) (by omega)]; exact c1)]
      exact ⟨0, 0, by omega, by omega, rfl⟩
    · rw [if_neg (by rw [nI_leI (by omega) (by omega)]; exact c1), e3]
      by_cases c2 : 4 ≤ n + k
      · rw [if_pos (by rw [show (4 : Int32) = nI 4 from rfl, nI_leI (by omega) (by omega)]; exact c2)]
        exact ⟨0, 0, by omega, by omega, rfl⟩
      · rw [if_neg (by rw [show (4 : Int32) = nI 4 from rfl, nI_leI (by omega) (by omega)]; exact c2), oc_1, show (2 : Int32) = nI 2 from rfl, pk_mul, nI_add, nI_1]
        by_cases c3 : p + 2 * k < l
        · have x1 := X23a a3 a4 a5 hl c3 (by rw [a6 _ c3]; exact hft _ c3)
          rw [x1.2, tc_n, x1.1, bd_s, nm_u]
          by_cases c4 : p + 2 * k + 1 < l
          · have x2 := X23a a3 a4 a5 hl c4 (by rw [a6 _ c4]; exact hft _ c4)
            rw [x2.2, tc_n, x2.1, bd_s, nm_u, i3264, i3264, sX0_pSo, bd_s, a6 _ c3, a6 _ c4, if_pos (pB0.mpr (fun w => hC' ⟨by omega, by omega, c4, w⟩))]
            exact ⟨0, 0, by omega, by omega, rfl⟩
          · rw [X23o a3 a4 a5 hl (by omega) (by omega) (by omega)]
            exact ⟨3, 222, by omega, by omega, rfl⟩
        · rw [X23o a3 a4 a5 hl (by omega) (by omega) (by omega)]
          exact ⟨3, 222, by omega, by omega, rfl⟩
  | succ r ih =>
    intro k N h hk hnk hC hE hN e3 a1 a2 a3 a4 a5 a6 hrm
    obtain ⟨N, rfl⟩ : ∃ M, N = M + 1 := ⟨N - 1, by omega⟩
    obtain ⟨c1, c2, c4, c5⟩ := hC k (Nat.le_refl _) (by omega)
    have c3 : p + 2 * k < l := by omega
    have x1 := X23a a3 a4 a5 hl c3 (by rw [a6 _ c3]; exact hft _ c3)
    have x2 := X23a a3 a4 a5 hl c4 (by rw [a6 _ c4]; exact hft _ c4)
    have ne1 : a ≠ zx h := by omega
    have ne2 : ra ≠ zx h := by omega
    obtain ⟨w1, w2, w3, w4, e⟩ := ih (k + 1) N (hPl h (n + k) (c (p + 2 * k)) (c (p + 2 * k + 1))) (by omega) (by omega) (fun j h1 h2 => hC j (by omega) (by omega)) (by rw [show k + 1 + r = k + (r + 1) from by omega]; exact hE) (by omega) rfl (show a < zx h + 1 by omega) (show ra < zx h + 1 by omega) ((zt_nw h 3 0 3 ne1).trans a3) (by
      show zr (zsr (nPl h (c (p + 2 * k)) (c (p + 2 * k + 1))) 1 (n + k) (some (zx h))) a 0 = _
      rw [zr_ne _ _ _ _ (Or.inl (by omega))]
      exact (zr_nw h 3 0 3 ne1 0).trans a4) ((zn_nw h 3 0 3 ne2).trans a5) (fun i hi => by rw [hPl_z h (by omega) (by omega) ne2]; exact a6 i hi) (show zc h + 1 + 8000 + r ≤ zLC ∧ zs h + 3 + 90000 + 3 * r ≤ zLS by omega)
    refine ⟨w1, w2, w3, w4, ?_⟩
    rw [zfix_s, X0_players_b35, if_neg (by rw [nI_leI (by omega) (by omega)]; omega), e3, if_neg (by rw [show (4 : Int32) = nI 4 from rfl, nI_leI (by omega) (by omega)]; omega), oc_1, show (2 : Int32) = nI 2 from rfl, pk_mul, nI_add, nI_1, x1.2, tc_n, x1.1, bd_s, nm_u, x2.2, tc_n, x2.1, bd_s, nm_u, i3264, i3264, sX0_pSo, bd_s, a6 _ c3, a6 _ c4, if_neg (fun w => (pB0.mp w) c5), sX0_add c2 (by omega) e3 (by omega), bd_s, nm_u, nm_u, nI_1]
    refine e.trans ?_
    rw [show k + 1 + r = k + (r + 1) from by omega]
    show some (nI (k + (r + 1)), zga (sqA xs ys r (n + (k + 1)) _) w1 w2) = some (_, zga (sqA xs ys r (n + k + 1) (hPl h (n + k) (xs (n + k)) (ys (n + k)))) w1 w2)
    rw [hxs k, hys k]
    rfl
theorem lp_pm {c : Nat → Int32} {z n p l d : Nat} (hz : z ≤ 4) (hp : p < 2 ^ 31) (hl : l ≤ 60) (hd : d ≤ 5) {xs ys : Nat → Int32} (hxs : ∀ k, xs (n + k) = c (p + 2 * k)) (hys : ∀ k, ys (n + k) = c (p + 2 * k + 1)) : ∀ r k N g, k + r ≤ 4 → n + k ≤ 4 → (∀ j, k ≤ j → j < k + r → pC c z n p l j) → ¬ pC c z n p l (k + r) → r + 1 < N → zi g 17 6 = nI (n + k) → zi g 39 d = nI l → (∀ i, i < l → zj g 40 (60 * d + i) = (c i).toInt64) → zfix (fun _ _ _ => none) (X2_players_b69 (nI d) (nI p) (nI z)) N g (nI k) 1 = some (nI (k + r), sqM xs ys r (n + k) g) := by
  intro r
  have stop : ∀ N g k, zfix (fun _ _ _ => none) (X2_players_b69 (nI d) (nI p) (nI z)) (N + 1) g (nI k) 0 = some (nI k, g) := by
    intro N g k
    rw [zfix_s, X2_players_b69, if_pos rfl]
  have ck5 : ∀ {α : Type} (k : Option α), ck (0 ≤ (nI d).toInt ∧ (nI d).toInt < 6) k = k := fun k => ck_i (by omega) (by omega)
  have sub : ∀ k, k ≤ 4 → (nI l - (2 : Int32) - nI (2 * k)).toInt = (l : Int) - 2 - 2 * k := by
    intro k hk
    have t1 := nI_toInt (n := l) (by omega)
    have t2 := nI_toInt (n := 2 * k) (by omega)
    have t3 : (2 : Int32).toInt = 2 := by decide
    have u1 := i_sub (a := nI l) (b := 2) (by omega) (by omega)
    have u2 := i_sub (a := nI l - 2) (b := nI (2 * k)) (by omega) (by omega)
    omega
  have tp := nI_toInt hp
  induction r with
  | zero =>
    intro k N g hk hnk _ hC hN e6 e39 e40
    have hC' : ¬ pC c z n p l k := hC
    obtain ⟨N, rfl⟩ : ∃ M, N = M + 1 + 1 := ⟨N - 2, by omega⟩
    rw [zfix_s, X2_players_b69, if_neg (by decide)]
    by_cases c1 : z ≤ k
    · rw [if_pos (by rw [nI_leI (by omega) (by omega)]; exact c1)]
      rfl
    · rw [if_neg (by rw [nI_leI (by omega) (by omega)]; exact c1), ck5, nm_u, nm_u, nI_clamp (show d < 2 ^ 31 by omega), e39, e6, show (2 : Int32) * nI k = nI (2 * k) from pk_mul 2 k]
      by_cases c2 : nI l - (2 : Int32) - nI (2 * k) < nI p
      · rw [if_pos c2]
        exact stop N g k
      · rw [if_neg c2]
        rw [Int32.lt_iff_toInt_lt, sub k (by omega), tp] at c2
        by_cases c3 : 4 ≤ n + k
        · rw [if_pos (by rw [show (4 : Int32) = nI 4 from rfl, nI_leI (by omega) (by omega)]; exact c3)]
          exact stop N g k
        · rw [if_neg (by rw [show (4 : Int32) = nI 4 from rfl, nI_leI (by omega) (by omega)]; exact c3)]
          show nm _ _ = _
          rw [nm_u, nm_u, nm_u, if_neg (by decide), show (60 : Int32) * nI d = nI (60 * d) from pk_mul 60 d, nI_add, nI_add, nI_1, ck_i (by omega) (by omega), ck_i (by omega) (by omega), nI_clamp (show 60 * d + p + 2 * k < 2 ^ 31 by omega), nI_clamp (show 60 * d + p + 2 * k + 1 < 2 ^ 31 by omega), show 60 * d + p + 2 * k = 60 * d + (p + 2 * k) from by omega, show 60 * d + (p + 2 * k) + 1 = 60 * d + (p + 2 * k + 1) from by omega, e40 _ (by omega), e40 _ (by omega), sX2_one, bd_s, if_pos (pB0.mpr (fun w => hC' ⟨by omega, by omega, by omega, w⟩))]
          exact stop N g k
  | succ r ih =>
    intro k N g hk hnk hC hE hN e6 e39 e40
    obtain ⟨N, rfl⟩ : ∃ M, N = M + 1 := ⟨N - 1, by omega⟩
    obtain ⟨c1, c2, c4, c5⟩ := hC k (Nat.le_refl _) (by omega)
    rw [zfix_s, X2_players_b69, if_neg (by decide), if_neg (by rw [nI_leI (by omega) (by omega)]; omega), ck5, nm_u, nm_u, nI_clamp (show d < 2 ^ 31 by omega), e39, e6, show (2 : Int32) * nI k = nI (2 * k) from pk_mul 2 k, if_neg (by rw [Int32.lt_iff_toInt_lt, sub k (by omega), tp]; omega), if_neg (by rw [show (4 : Int32) = nI 4 from rfl, nI_leI (by omega) (by omega)]; omega)]
    show nm _ _ = _
    rw [nm_u, nm_u, nm_u, if_neg (by decide), show (60 : Int32) * nI d = nI (60 * d) from pk_mul 60 d, nI_add, nI_add, nI_1, ck_i (by omega) (by omega), ck_i (by omega) (by omega), nI_clamp (show 60 * d + p + 2 * k < 2 ^ 31 by omega), nI_clamp (show 60 * d + p + 2 * k + 1 < 2 ^ 31 by omega), show 60 * d + p + 2 * k = 60 * d + (p + 2 * k) from by omega, show 60 * d + (p + 2 * k) + 1 = 60 * d + (p + 2 * k + 1) from by omega, e40 _ (by omega), e40 _ (by omega), sX2_one, bd_s, if_neg (fun w => (pB0.mp w) c5)]
    show nm _ _ = _
    rw [nm_u, if_neg (by decide), ck_i (by omega) (by omega), ck_i (by omega) (by omega), e40 _ (by omega), e40 _ (by omega), i3264, i3264, sX2_adds (h0 := g) c2 e6, bd_s, nm_u, nI_1]
    refine (ih (k + 1) N (Md g (n + k) (c (p + 2 * k)) (c (p + 2 * k + 1))) (by omega) (by omega) (fun j h1 h2 => hC j (by omega) (by omega)) (by rw [show k + 1 + r = k + (r + 1) from by omega]; exact hE) (by omega) rfl (by rw [Md_z g (by decide) (by decide) (by decide) (by decide)]; exact e39) e40).trans ?_
    rw [show k + 1 + r = k + (r + 1) from by omega]
    show some (nI (k + (r + 1)), sqM xs ys r (n + (k + 1)) _) = some (_, sqM xs ys r (n + k + 1) (Md g (n + k) (xs (n + k)) (ys (n + k))))
    rw [hxs k, hys k]
    rfl
theorem zcs_b {h : Hp} {m : Nat} {ba : Nat → Nat} (vb : iBo h m ba) {k : Nat} (hk : k < m) : zcs 23 h (some (ba k)) = false := by
  obtain ⟨q1, q2, q3, q4, j, q5, q6, q7⟩ := vb.2.2.2 k hk
  show zsub 23 (zt h (ba k)) = false
  rw [q6]
  rcases c8 q5 with rfl | rfl | rfl | rfl | rfl | rfl | rfl | rfl <;> decide
theorem sim_players (i : Nat) (hi : i < 64) (x y w : Int32) : Sim i (fun h => X0_players h x y w) (fun h => X2_players h x y w) := by
  intro h v
  have v' := v
  obtain ⟨n, pa, ord, plc, b, D, m, ba, vP, vO, vB, vD, vC, vT, vBo, vTr, vS, vR, vLC, vLM, vDb, vx⟩ := v'
  have same := v.fQ (Nat.le_succ i) (fQ.mk (fS.rf h) (fS2.rf h))
  have hrm := v.rm hi
  have hrm2 := vR.room hi (c := 8100) (s := 95000) (by omega) (by omega)
  have hm := vBo.1
  have hn := vP.1
  by_cases c1 : 0 ≤ x ∧ x ≤ nI 5
  · obtain ⟨d, hd, rfl⟩ := nI_rg (by omega) c1.1 c1.2
    by_cases c2 : 1 ≤ w ∧ w ≤ 4
    · obtain ⟨z, hz1, hz, rfl⟩ := nI_rgL (a := 1) (b := 4) (by omega) (by omega) c2.1 c2.2
      obtain ⟨ra, s1, s2⟩ := id vS
      have sd := s1 d (by omega)
      have f1 : X0_players h (nI d) y (nI z) = if zcs 23 h (zr h 16 d) = true then (zfix (fun _ _ _ => none) (X0_players_b35 y (nI z) (zr h 16 d)) zFU h (0 : Int32) (0 : Int32)) else some ((-12 : Int32), zga h 3 1210) := by
        unfold X0_players
        rw [sX0_isSh, bd_s, if_neg (fun z => (pB0.mp z) c1), sX0_in, bd_s, if_neg (fun z => (pB0.mp z) c2), ck_i (by omega) (by omega), nI_clamp (by omega), nm_u, ck_t (show zc h + 3 ≤ zLC ∧ zs h + 1210 ≤ zLS by omega), nm_u]
      have f2 : ∀ h', X2_players h' (nI d) y (nI z) = if zi h' 38 d < 0 then zfix (fun _ _ _ => none) (X2_players_b69 (nI d) y (nI z)) zFU h' (0 : Int32) (if zi h' 38 d = 50 ∧ ¬ y < 0 then 1 else 0) else if zi h' 38 d = 50 then zfix (fun _ _ _ => none) (X2_players_b69 (nI d) y (nI z)) zFU h' (0 : Int32) (if zi h' 38 d = 50 ∧ ¬ y < 0 then 1 else 0) else some (-12, h') := by
        intro h'
        unfold X2_players
        have ck5 : ∀ {α : Type} (k : Option α), ck (0 ≤ (nI d).toInt ∧ (nI d).toInt < 6) k = k := fun k => ck_i (by omega) (by omega)
        rw [sX2_isSh, bd_s, if_neg (fun z => (pB0.mp z) c1), show (1 : Int64) = (1 : Int32).toInt64 from by decide, show (4 : Int64) = (4 : Int32).toInt64 from by decide, sX2_wi, bd_s, if_neg (fun z => (pB0.mp z) c2), ck5, nm_u]
        simp only [ck5, nI_clamp (show d < 2 ^ 31 by omega)]
        have J : (nm (fun (h11 : Hp) (v12 : Int32) => zfix (fun _ _ _ => none) (X2_players_b69 (nI d) y (nI z)) zFU h11 (0 : Int32) v12) fun j67_13 => nm (fun (h50 : Hp)  => j67_13 h50 (0 : Int32)) fun j66_51 => if (zi h' 38 d) = (50 : Int32) then (if y < 0 then (j66_51 h' ) else (j67_13 h' (1 : Int32))) else (j66_51 h' )) = zfix (fun _ _ _ => none) (X2_players_b69 (nI d) y (nI z)) zFU h' (0 : Int32) (if zi h' 38 d = 50 ∧ ¬ y < 0 then 1 else 0) := by
          rw [nm_u, nm_u]
          by_cases e1 : zi h' 38 d = 50
          · rw [if_pos e1]
            by_cases e2 : y < 0
            · rw [if_pos e2, if_neg (fun z => z.2 e2)]
            · rw [if_neg e2, if_pos ⟨e1, e2⟩]
          · rw [if_neg e1, if_neg (fun z => e1 z.1)]
        rw [J]
      have stop : ∀ g (yy : Int32), zfix (fun _ _ _ => none) (X2_players_b69 (nI d) yy (nI z)) zFU g 0 0 = some (0, g) := by
        intro g yy
        rw [show zFU = 4095 + 1 from rfl, zfix_s, X2_players_b69, if_pos rfl]
      have z0 : ¬ nI z ≤ (0 : Int32) := by rw [show (0 : Int32) = nI 0 from rfl, nI_leI (by omega) (by omega)]; omega
      rcases id sd with ⟨e1, e2⟩ | ⟨k, hk, e1, e2⟩ | ⟨a, s, l, e1, b2, b3, b4, b5, b6, b7, b8, b9, b10, b11, e2, e3, b14⟩
      · have hm2 : ∀ g, zi g 38 d = -1 → X2_players g (nI d) y (nI z) = some (0, g) := fun g eg => by
          rw [f2, eg, if_pos (by decide), if_neg (fun z => absurd z.1 (by decide))]
          exact stop g y
        by_cases c4 : (4 : Int32) ≤ zi h 0 3
        · refine ⟨0, h, h, ?_, hm2 h e2, same⟩
          show X0_players h (nI d) y (nI z) = _
          rw [f1, e1, if_pos (show zcs 23 h none = true from rfl), show zFU = 4095 + 1 from rfl, zfix_s, X0_players_b35, if_neg z0, if_pos c4]
        · refine ⟨0, zga h 1 8, zga h 1 8, ?_, hm2 _ e2, v.ga (by omega) (by omega)⟩
          show X0_players h (nI d) y (nI z) = _
          rw [f1, e1, if_pos (show zcs 23 h none = true from rfl), show zFU = 4095 + 1 from rfl, zfix_s, X0_players_b35, if_neg z0, if_neg c4, oc_0, ck_t (by omega), nm_u]
      · refine ⟨-12, zga h 3 1210, zga h 3 1210, ?_, ?_, v.ga (by omega) (by omega)⟩
        · show X0_players h (nI d) y (nI z) = _
          rw [f1, e1, zcs_b vBo hk, if_neg (by decide)]
        · show X2_players _ (nI d) y (nI z) = _
          rw [f2, show zi (zga h 3 1210) 38 d = nI k from e2, if_neg (nI_nlt0 (by omega)), if_neg (fun w => by have := (nI_eq (by omega) (by omega)).mp (show nI k = nI 50 from w); omega)]
      · by_cases hs : s = 0
        · subst hs
          have e38 : zi h 38 d = 50 := e2
          have hz23 : zcs 23 h (some a) = true := by
            show zsub 23 (zt h a) = true
            rw [b5]; decide
          by_cases cy : y < 0
          · have hm2 : ∀ g, zi g 38 d = 50 → X2_players g (nI d) y (nI z) = some (0, g) := fun g eg => by
              rw [f2, eg, if_neg (by decide), if_pos rfl, if_neg (fun z => z.2 cy)]
              exact stop g y
            by_cases c4 : (4 : Int32) ≤ zi h 0 3
            · refine ⟨0, h, h, ?_, hm2 h e38, same⟩
              show X0_players h (nI d) y (nI z) = _
              rw [f1, e1, if_pos hz23, show zFU = 4095 + 1 from rfl, zfix_s, X0_players_b35, if_neg z0, if_pos c4]
            · refine ⟨0, zga h 3 222, zga h 3 222, ?_, hm2 _ e38, v.ga (by omega) (by omega)⟩
              show X0_players h (nI d) y (nI z) = _
              have t : X23_atTi h a y = some ((), zga h 3 222) := by
                rw [← V22_atTi_23 b5]
                exact sR_atT (s := 0) b5 (by omega) b6 b10 b11 (fun u => by have := (i_lt0 y).mp cy; omega) hrm
              rw [f1, e1, if_pos hz23, show zFU = 4095 + 1 from rfl, zfix_s, X0_players_b35, if_neg z0, if_neg c4, oc_1, show y + (2 : Int32) * 0 = y from by simp, t]
              rfl
          · obtain ⟨p, hp, rfl, _⟩ := i_of cy
            have hC4 : ¬ pC (zi h (ra d)) z n p l z := fun u => by have := u.1; omega
            obtain ⟨t, t1, t2, t3⟩ := lst (pC (zi h (ra d)) z n p l) z hC4
            have hxs : ∀ k, (fun j => zi h (ra d) (p + 2 * (j - n))) (n + k) = zi h (ra d) (p + 2 * k) := fun k => by
              dsimp only; rw [show n + k - n = k from by omega]
            have hys : ∀ k, (fun j => zi h (ra d) (p + 2 * (j - n) + 1)) (n + k) = zi h (ra d) (p + 2 * k + 1) := fun k => by
              dsimp only; rw [show n + k - n = k from by omega]
            have tn : n + t ≤ 4 := by
              rcases Nat.eq_zero_or_pos t with u | u
              · omega
              · have := (t2 (t - 1) (by omega)).2.1; omega
            have a3' : zt h a = 23 := b5
            obtain ⟨w1, w2, w3, w4, q⟩ := lp_pc (c := zi h (ra d)) (z := z) (n := n) (p := p) (l := l) (a := a) (ra := ra d) (xs := fun j => zi h (ra d) (p + 2 * (j - n))) (ys := fun j => zi h (ra d) (p + 2 * (j - n) + 1)) hz hp b11 b2 b7 (fun i hi => (b14 i hi).2) hxs hys t 0 zFU h (by omega) (by omega) (fun j _ h2 => t2 j (by omega)) (by rw [Nat.zero_add]; exact t3) (by rw [zFU_u]; omega) vP.2.1 b3 b8 a3' b6 b10 (fun _ _ => rfl) (by omega)
            rw [Nat.zero_add, Nat.add_zero] at q
            -- the model, from the class's heap
            have keep : ∀ (xs ys : Nat → Int32) t n' g, 42 ≤ zx g → (∀ q, q < 42 → q ≠ 0 → q ≠ 2 → zi (sqA xs ys t n' g) q = zi g q) ∧ zj (sqA xs ys t n' g) 40 = zj g 40 := by
              intro xs ys t
              induction t with
              | zero => intro n' g _; exact ⟨fun _ _ _ _ => rfl, rfl⟩
              | succ t ih =>
                intro n' g hg
                obtain ⟨k1, k2⟩ := ih (n' + 1) (hPl g n' (xs n') (ys n')) (show 42 ≤ zx g + 1 by omega)
                refine ⟨fun q h1 h2 h3 => (k1 q h1 h2 h3).trans (hPl_z g h2 h3 (by omega)), k2.trans ?_⟩
                funext e
                exact zj_nw g 3 0 3 (show 40 ≠ zx g by omega) e
            obtain ⟨k1, k2⟩ := keep (fun j => zi h (ra d) (p + 2 * (j - n))) (fun j => zi h (ra d) (p + 2 * (j - n) + 1)) t n h vx
            have M := lp_pm (c := zi h (ra d)) (z := z) (n := n) (p := p) (l := l) (d := d) (xs := fun j => zi h (ra d) (p + 2 * (j - n))) (ys := fun j => zi h (ra d) (p + 2 * (j - n) + 1)) hz hp b11 hd hxs hys t 0 zFU (zga (sqA (fun j => zi h (ra d) (p + 2 * (j - n))) (fun j => zi h (ra d) (p + 2 * (j - n) + 1)) t n h) w1 w2) (by omega) (by omega) (fun j _ h2 => t2 j (by omega)) (by rw [Nat.zero_add]; exact t3) (by rw [zFU_u]; omega) ((congrFun (k1 17 (by omega) (by omega) (by omega)) 6).trans vP.2.2.1) ((congrFun (k1 39 (by omega) (by omega) (by omega)) d).trans e3) (fun i hi => (congrFun k2 (60 * d + i)).trans (b14 i hi).1.symm)
            rw [Nat.zero_add, Nat.add_zero, sqM_ga] at M
            have cl : X0_players h (nI d) (nI p) (nI z) = some (nI t, zga (sqA (fun j => zi h (ra d) (p + 2 * (j - n))) (fun j => zi h (ra d) (p + 2 * (j - n) + 1)) t n h) w1 w2) := by
              rw [f1, e1, if_pos hz23]
              exact q
            have g38 : zi (zga (sqA (fun j => zi h (ra d) (p + 2 * (j - n))) (fun j => zi h (ra d) (p + 2 * (j - n) + 1)) t n h) w1 w2) 38 d = 50 := (congrFun (k1 38 (by omega) (by omega) (by omega)) d).trans e38
            have mo : X2_players (zga (sqA (fun j => zi h (ra d) (p + 2 * (j - n))) (fun j => zi h (ra d) (p + 2 * (j - n) + 1)) t n h) w1 w2) (nI d) (nI p) (nI z) = some (nI t, zga (sqM (fun j => zi h (ra d) (p + 2 * (j - n))) (fun j => zi h (ra d) (p + 2 * (j - n) + 1)) t n (sqA (fun j => zi h (ra d) (p + 2 * (j - n))) (fun j => zi h (ra d) (p + 2 * (j - n) + 1)) t n h)) w1 w2) := by
              rw [f2, g38, if_neg (by decide), if_pos rfl, if_pos ⟨rfl, cy⟩]
              exact M
            refine ⟨nI t, _, _, cl, mo, ?_⟩
            · refine (Inv.seq _ _ t n h i tn v vP.2.1 (fun j h1 h2 => ?_)).gaR ?_
              · have := (t2 (j - n) (by omega)).2.2.2
                exact this
              · have A := sqA_cs (fun j => zi h (ra d) (p + 2 * (j - n))) (fun j => zi h (ra d) (p + 2 * (j - n) + 1)) t n h
                have B := sqM_cs (fun j => zi h (ra d) (p + 2 * (j - n))) (fun j => zi h (ra d) (p + 2 * (j - n) + 1)) t n (sqA (fun j => zi h (ra d) (p + 2 * (j - n))) (fun j => zi h (ra d) (p + 2 * (j - n) + 1)) t n h)
                have r1 := vR.1
                have r2 := vR.2
                refine ⟨?_, ?_⟩
                · show zc (sqM _ _ t n _) + w1 ≤ _
                  rw [B.1, A.1]; omega
                · show zs (sqM _ _ t n _) + w2 ≤ _
                  rw [B.2, A.2]; omega
        · refine ⟨-12, zga h 3 1210, zga h 3 1210, ?_, ?_, v.ga (by omega) (by omega)⟩
          · show X0_players h (nI d) y (nI z) = _
            rw [f1, e1, if_neg]
            rw [show zcs 23 h (some a) = _ from zcs_row (s := 0) (by omega) b4 b5]
            intro u
            exact hs (of_decide_eq_true u).symm
          · show X2_players _ (nI d) y (nI z) = _
            rw [f2, show zi (zga h 3 1210) 38 d = nI (50 + s) from e2, if_neg (nI_nlt0 (by omega)), if_neg (fun w => by have := (nI_eq (by omega) (by omega)).mp (show nI (50 + s) = nI 50 from w); omega)]
    · refine ⟨-1, h, h, ?_, ?_, same⟩
      · show X0_players h (nI d) y w = _
        unfold X0_players
        rw [sX0_isSh, bd_s, if_neg (fun z => (pB0.mp z) c1), sX0_in, bd_s, if_pos (pB0.mpr c2)]
      · show X2_players h (nI d) y w = _
        unfold X2_players
        rw [sX2_isSh, bd_s, if_neg (fun z => (pB0.mp z) c1), show (1 : Int64) = (1 : Int32).toInt64 from by decide, show (4 : Int64) = (4 : Int32).toInt64 from by decide, sX2_wi, bd_s, if_pos (pB0.mpr c2)]
  · refine ⟨-1, h, h, ?_, ?_, same⟩
    · show X0_players h x y w = _
      unfold X0_players
      rw [sX0_isSh, bd_s, if_pos (pB0.mpr c1)]
    · show X2_players h x y w = _
      unfold X2_players
      rw [sX2_isSh, bd_s, if_pos (pB0.mpr c1)]
