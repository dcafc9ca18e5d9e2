/-! drawn: all fights -/
def qDl (σ : Sg) (p : Nat) : Nat → Int32 → Int32 → Int32
  | 0, _, l => l
  | f + 1, z, l => qDl σ p f (qDf σ (sB σ) z (2 ^ sN σ - 1) 0).1 (l + (if (qDf σ (sB σ) z (2 ^ sN σ - 1) 0).2.testBit p then 1 else 0))
def qDrawn (σ : Sg) (x y w : Int32) : Int32 := if 1 ≤ y ∧ y ≤ 30 then (if isP σ w then qDl σ w.toNatClampNeg y.toNatClampNeg x 0 else -1) else -1
theorem sX0_drawn {σ : Sg} (ok : sOK σ) {h : Hp} (g : gc σ h) (x y w : Int32) : wp (X0_drawn h x y w) (fun r h' => r = qDrawn σ x y w ∧ f0 h h') := by
  have hn := ok.1
  have hb9 := ok.2.2.2.2.1
  have hpw := pow16 hn
  have hal := all_lt σ
  unfold X0_drawn qDrawn
  rw [sX0_in, bd_s]
  by_cases c1 : 1 ≤ y ∧ y ≤ 30
  · rw [if_neg (fun z => (pB0.mp z) c1), if_pos c1, sX0_isP g, bd_s]
    by_cases c0 : isP σ w
    · rw [if_neg (fun z => (pB0.mp z) c0), if_pos c0, wp_bd]
      obtain ⟨p, hp, rfl⟩ := c0.nI ok
      obtain ⟨K, hK1, hK, rfl⟩ := nI_rgL (a := 1) (b := 30) (by omega) (by omega) c1.1 c1.2
      rw [nI_clamp (by omega), nI_clamp (by omega)]
      refine (sX0_findValues ok g).mono ?_
      rintro _ h1 ⟨fr, t⟩
      have key : ∀ N, (fun N r => ∀ k z l h2, gc σ h2 → tC σ h2 0 → f0 h h2 → qDl σ p (K - k) z l = qDl σ p K x 0 → k ≤ K → K - k < N → wp (r h2 z l (nI k)) (fun r h' => r = qDl σ p K x 0 ∧ f0 h h')) N (zfix (fun (_ : Hp) (_ : Int32) (_ : Int32) (_ : Int32) => (none : Option (Int32 × Hp))) (X0_drawn_b33 (nI K) (nI p)) N) := by
        refine zfix_ind (σ := Hp → Int32 → Int32 → Int32 → Option (Int32 × Hp)) _ _ (fun N r => ∀ k z l h2, gc σ h2 → tC σ h2 0 → f0 h h2 → qDl σ p (K - k) z l = qDl σ p K x 0 → k ≤ K → K - k < N → wp (r h2 z l (nI k)) (fun r h' => r = qDl σ p K x 0 ∧ f0 h h')) (fun k _ _ _ _ _ _ _ _ z => absurd z (Nat.not_lt_zero _)) (fun N r ih k z l h2 g2 t2 f2 eq hk hN => ?_)
        unfold X0_drawn_b33
        by_cases c : K ≤ k
        · rw [if_pos ((nI_leI (by omega) (by omega)).mpr c)]
          rw [show K - k = 0 from by omega] at eq
          exact wp.of rfl ⟨eq, f2⟩
        · rw [if_neg (fun z => c ((nI_leI (by omega) (by omega)).mp z)), sX0_all h2 hn g2.1, bd_s, nm_u, nm_u, nm_u, nm_u]
          have g3 : gc σ (zsi (zsi (zsi h2 0 19 (nI (2 ^ sN σ - 1))) 0 20 0) 0 21 0) := ((g2.sD (by omega)).sD (by omega)).sD (by omega)
          refine lX0_57 ok _ h zFU (sB σ) z (2 ^ sN σ - 1) 0 0 _ g3 ((t2.s0).s0).s0 (f2.tr ((f0.s19 (by omega)).tr ((f0.s19 (by omega)).tr (f0.s19 (by omega))))) ?_ ?_ (zi_eq _ _ _ _) hal (by omega) (allb ok (by omega)) (by omega) (fun h' a1 a2 a3 a4 => ?_) (by rw [zFU_u]; omega)
          · rw [zi_ne _ _ _ _ (Or.inr (by decide)), zi_ne _ _ _ _ (Or.inr (by decide)), zi_eq]
          · rw [zi_ne _ _ _ _ (Or.inr (by decide)), zi_eq]; rfl
          · show wp (nm _ _) _
            have hle := qDf_lt (σ := σ) (sB σ) z (2 ^ sN σ - 1) 0
            rw [nm_u, nm_u, a4, b_bit _ (by omega) p (by omega), nI_1]
            refine ih (k + 1) _ _ h' a1 a2 a3 ?_ (by omega) (by omega)
            rw [← eq, show K - k = K - (k + 1) + 1 from by omega]
            rfl
      exact key zFU 0 x 0 h1 (g.fr fr.f0) t fr.f0 rfl (Nat.zero_le _) (by rw [zFU_u]; omega)
    · rw [if_pos (pB0.mpr c0), if_neg c0]; exact wp.of rfl ⟨rfl, f0.rf h⟩
  · rw [if_pos (pB0.mpr c1), if_neg c1]; exact wp.of rfl ⟨rfl, f0.rf h⟩
theorem lX2_58 {σ : Sg} (ok : sOK σ) {h : Hp} (g : gm σ h) (t : tM σ h 0) (j : Hp → Int32 → Int32 → Option (Int32 × Hp)) :
    ∀ N, (fun N r => ∀ f z s pl m, s < 2 ^ sN σ → pl < sN σ → s.testBit (sO σ pl) = true → f + m = sB σ → f < N → r h z (nI s) (nI (sO σ pl)) (nI m) = j h (qDf σ f z s pl).1 (nI (qDf σ f z s pl).2)) N (zfix (fun (_ : Hp) (_ : Int32) (_ : Int32) (_ : Int32) (_ : Int32) => (none : Option (Int32 × Hp))) (X2_drawn_b58 j) N) := by
  have hn := ok.1
  have hb9 := ok.2.2.2.2.1
  have hpw := pow16 hn
  refine zfix_ind (σ := Hp → Int32 → Int32 → Int32 → Int32 → Option (Int32 × Hp)) _ _ (fun N r => ∀ f z s pl m, s < 2 ^ sN σ → pl < sN σ → s.testBit (sO σ pl) = true → f + m = sB σ → f < N → r h z (nI s) (nI (sO σ pl)) (nI m) = j h (qDf σ f z s pl).1 (nI (qDf σ f z s pl).2)) (fun f _ _ _ _ _ _ _ _ z => absurd z (Nat.not_lt_zero _)) (fun N r ih f z s pl m hs hp hb hf hN => ?_)
  unfold X2_drawn_b58
  rw [sX2_isOver h (by omega) (by omega) (by omega) g.2.2.2.2.1, bd_s]
  by_cases co : isOv σ s m
  · rw [if_neg (fun z => (pB0.mp z) co)]
    have eq : qDf σ f z s pl = (z, s) := by
      cases f with
      | zero => rfl
      | succ f => unfold qDf; rw [if_pos (by rcases co with z | z <;> omega)]
    rw [eq]
  · rw [if_pos (pB0.mpr co)]
    have co' : ¬ (sB σ ≤ m ∨ pc s ≤ 1) := co
    obtain ⟨f, rfl⟩ : ∃ f', f = f' + 1 := ⟨f - 1, by omega⟩
    have hw := (ok.2.1 pl hp).1
    have hA := dG_aim ok hs hw hb co
    have et := t m (Nat.zero_le _) (by omega) s hs _ hw (Or.inr (Or.inr hb))
    have hG2 : dG2 σ m s (sO σ pl) = dG σ (f + 1) s (sO σ pl) := by unfold dG2; rw [if_neg co, show sB σ - m = f + 1 from by omega]
    have k1 := et.1
    have k2 := et.2.1
    have hKd : dK σ m s (sO σ pl) = if dG σ (f + 1) s (sO σ pl) = 9 then 0 else sH σ (sO σ pl) (dG σ (f + 1) s (sO σ pl)) (pc s) m := by unfold dK; rw [hG2]
    rw [hG2] at k1
    rw [show sB σ - m = f + 1 from by omega] at hA
    have h9b : dG σ (f + 1) s (sO σ pl) < 2 ^ 31 := by rcases hA with z | z <;> omega
    have go : ∀ z' s', s' < 2 ^ sN σ → s'.testBit (sO σ pl) = true → qDf σ (f + 1) z s pl = qDf σ f z' s' (nxp σ s' pl) → (bd (X2_nextOf h (nI (sO σ pl)) (nI s')) fun r48 h47 => nm (nI m + (1 : Int32)) fun v49 => r h47 z' (nI s') r48 v49) = j h (qDf σ (f + 1) z s pl).1 (nI (qDf σ (f + 1) z s pl).2) := by
      intro z' s' hs' hb' eq
      rw [sX2_next ok g (by omega) hw hb', bd_s, nm_u, nI_1, ← nxw_pl ok hp, eq]
      exact ih f z' s' (nxp σ s' pl) (m + 1) hs' (nxp_lt hp) (nxp_bit hp hb') (by omega) (by omega)
    rw [sX2_st, bd_s, ck_i (by omega) (by omega), nI_clamp (by omega), k1, k2, nm_u]
    by_cases c9 : dG σ (f + 1) s (sO σ pl) = 9
    · rw [if_pos (by rw [c9]; rfl)]
      refine go z s hs hb ?_
      conv => lhs; unfold qDf
      rw [if_neg (by omega), if_pos c9]
    · have ht := hA.resolve_left c9
      have em : sB σ - (f + 1) = m := by omega
      rw [if_neg (nI_n9 h9b c9), nm_u, ck_t (by decide), ck_i (by omega) (by omega), nm_u, hKd, if_neg c9]
      by_cases ch : nI (sH σ (sO σ pl) (dG σ (f + 1) s (sO σ pl)) (pc s) m) ≤ uM (uZ z)
      · rw [if_pos (by exact ch)]
        refine go (uZ z) s hs hb ?_
        conv => lhs; unfold qDf
        rw [if_neg (by omega), if_neg c9, em, if_pos ch]
      · rw [if_neg (by exact ch), ck_i (by omega) (by omega), b_cl s (by omega) _ (by omega)]
        refine go (uZ z) _ (Nat.lt_of_le_of_lt (cl_le _ _) hs) (cl_keep ok hs hw hb ht.1 ht.2.1) ?_
        conv => lhs; unfold qDf
        rw [if_neg (by omega), if_neg c9, em, if_neg ch]
theorem sX2_drawn {σ : Sg} (ok : sOK σ) {h : Hp} (g : gm σ h) (x y w : Int32) : wp (X2_drawn h x y w) (fun r h' => r = qDrawn σ x y w ∧ f2 h h') := by
  have hn := ok.1
  have hb9 := ok.2.2.2.2.1
  have hpw := pow16 hn
  have hal := all_lt σ
  unfold X2_drawn qDrawn
  rw [show (1 : Int64) = (1 : Int32).toInt64 from by decide, show (30 : Int64) = (30 : Int32).toInt64 from by decide, sX2_wi, bd_s]
  by_cases c1 : 1 ≤ y ∧ y ≤ 30
  · rw [if_neg (fun z => (pB0.mp z) c1), if_pos c1, sX2_isP g, bd_s]
    by_cases c0 : isP σ w
    · rw [if_neg (fun z => (pB0.mp z) c0), if_pos c0, wp_bd]
      obtain ⟨p, hp, rfl⟩ := c0.nI ok
      obtain ⟨K, hK1, hK, rfl⟩ := nI_rgL (a := 1) (b := 30) (by omega) (by omega) c1.1 c1.2
      rw [nI_clamp (by omega), nI_clamp (by omega)]
      refine (sX2_solves ok g).mono ?_
      rintro _ h1 ⟨fr, t, _⟩
      have g1 := g.fr fr
      have key : ∀ N, (fun N r => ∀ k z l, qDl σ p (K - k) z l = qDl σ p K x 0 → k ≤ K → K - k < N → r h1 z l (nI k) = some (qDl σ p K x 0, h1)) N (zfix (fun (_ : Hp) (_ : Int32) (_ : Int32) (_ : Int32) => (none : Option (Int32 × Hp))) (X2_drawn_b35 (nI K) (nI p)) N) := by
        refine zfix_ind (σ := Hp → Int32 → Int32 → Int32 → Option (Int32 × Hp)) _ _ (fun N r => ∀ k z l, qDl σ p (K - k) z l = qDl σ p K x 0 → k ≤ K → K - k < N → r h1 z l (nI k) = some (qDl σ p K x 0, h1)) (fun k _ _ _ _ z => absurd z (Nat.not_lt_zero _)) (fun N r ih k z l eq hk hN => ?_)
        unfold X2_drawn_b35
        by_cases c : K ≤ k
        · rw [if_pos ((nI_leI (by omega) (by omega)).mpr c)]
          rw [show K - k = 0 from by omega] at eq
          rw [← eq]; rfl
        · rw [if_neg (fun z => c ((nI_leI (by omega) (by omega)).mp z)), sX2_allN h1 hn g1.1, bd_s, ck_t (by decide), show (0 : Int32).toNatClampNeg = 0 from rfl, g1.2.1 0 (by omega), nm_u, nm_u]
          have lp := fun jj => (show zfix (fun _ _ _ _ _ => none) (X2_drawn_b58 jj) zFU h1 z (nI (2 ^ sN σ - 1)) (nI (sO σ 0)) (0 : Int32) = _ from lX2_58 ok g1 t jj zFU (sB σ) z (2 ^ sN σ - 1) 0 0 hal (by omega) (allb ok (by omega)) (by omega) (by rw [zFU_u]; omega))
          rw [lp]
          have hle := qDf_lt (σ := σ) (sB σ) z (2 ^ sN σ - 1) 0
          rw [sX2_isIn h1 (by omega) (by omega), bd_s, nm_u]
          have ih1 := ih (k + 1) (qDf σ (sB σ) z (2 ^ sN σ - 1) 0).1 (l + (if (qDf σ (sB σ) z (2 ^ sN σ - 1) 0).2.testBit p then 1 else 0)) (by rw [← eq, show K - k = K - (k + 1) + 1 from by omega]; rfl) (by omega) (by omega)
          by_cases cb : (qDf σ (sB σ) z (2 ^ sN σ - 1) 0).2.testBit p = true
          · rw [if_neg (fun z => (pB0.mp z) cb)]
            rw [if_pos cb] at ih1
            show nm _ _ = _
            rw [nm_u, nm_u, nI_1]; exact ih1
          · rw [if_pos (pB0.mpr cb)]
            rw [if_neg cb] at ih1
            show nm _ _ = _
            rw [nm_u, nm_u, nI_1]; exact ih1
      exact wp.of (key zFU 0 x 0 rfl (Nat.zero_le _) (by rw [zFU_u]; omega)) ⟨rfl, fr⟩
    · rw [if_pos (pB0.mpr c0), if_neg c0]; exact wp.of rfl ⟨rfl, f2.rf h⟩
  · rw [if_pos (pB0.mpr c1), if_neg c1]; exact wp.of rfl ⟨rfl, f2.rf h⟩
/-! seen -/
def qPw (b : Nat) : Nat → Int64
  | 0 => 1
  | k + 1 => qPw b k * lN b
theorem sX0_power (h : Hp) {b n : Nat} (hb : b < 100) (hn : n < 100) : X0_power h (nI b) (nI n) = some (qPw b n, h) := by
  have key : ∀ N, (fun N r => ∀ k, k ≤ n → n - k < N → r h (qPw b k) (nI k) = some (qPw b n, h)) N (zfix (fun (_ : Hp) (_ : Int64) (_ : Int32) => (none : Option (Int64 × Hp))) (X0_power_b5 (nI b) (nI n)) N) := by
    refine zfix_ind (σ := Hp → Int64 → Int32 → Option (Int64 × Hp)) _ _ (fun N r => ∀ k, k ≤ n → n - k < N → r h (qPw b k) (nI k) = some (qPw b n, h)) (fun k _ z => absurd z (Nat.not_lt_zero _)) (fun N r ih k hk hN => ?_)
    unfold X0_power_b5
    by_cases c : n ≤ k
    · rw [if_pos ((nI_leI (by omega) (by omega)).mpr c), show k = n from by omega]
    · rw [if_neg (fun z => c ((nI_leI (by omega) (by omega)).mp z)), nm_u, nm_u, nI_1, nI_l (by omega)]
      exact ih (k + 1) (by omega) (by omega)
  exact key zFU 0 (Nat.zero_le _) (by rw [zFU_u]; omega)
def qSv (a n x : Nat) : Int64 := qPw x a * qPw (12 - x) (n - a)
def qSb (a n : Nat) : Nat → Nat
  | 0 => 0
  | x + 1 => if qSv a n (qSb a n x) < qSv a n (x + 1) then x + 1 else qSb a n x
theorem qSb_le (a n : Nat) : ∀ x, qSb a n x ≤ x := by
  intro x
  induction x with
  | zero => exact Nat.le_refl _
  | succ x ih => unfold qSb; split
                 · exact Nat.le_refl _
                 · omega
def qSeen (x y : Int32) : Int32 := if 0 ≤ y ∧ y ≤ 12 then (if 0 ≤ x ∧ x ≤ y then nI (qSb x.toNatClampNeg y.toNatClampNeg 12) else -1) else -1
theorem sX0_seen (h : Hp) (x y : Int32) : X0_seen h x y = some (qSeen x y, h) := by
  unfold X0_seen qSeen
  rw [sX0_in, bd_s]
  by_cases c1 : 0 ≤ y ∧ y ≤ 12
  · rw [if_neg (fun z => (pB0.mp z) c1), if_pos c1, sX0_in, bd_s]
    obtain ⟨n, hn, rfl⟩ := nI_rg (b := 12) (by omega) c1.1 c1.2
    by_cases c2 : 0 ≤ x ∧ x ≤ nI n
    · rw [if_neg (fun z => (pB0.mp z) c2), if_pos c2]
      obtain ⟨a, ha, rfl⟩ := nI_rg (by omega) c2.1 c2.2
      rw [nI_clamp (by omega), nI_clamp (by omega)]
      have key : ∀ N, (fun N r => ∀ k, k ≤ 12 → 12 - k < N → r h (nI (qSb a n k)) (nI (k + 1)) = some (nI (qSb a n 12), h)) N (zfix (fun (_ : Hp) (_ : Int32) (_ : Int32) => (none : Option (Int32 × Hp))) (X0_seen_b26 (nI a) (nI n)) N) := by
        refine zfix_ind (σ := Hp → Int32 → Int32 → Option (Int32 × Hp)) _ _ (fun N r => ∀ k, k ≤ 12 → 12 - k < N → r h (nI (qSb a n k)) (nI (k + 1)) = some (nI (qSb a n 12), h)) (fun k _ z => absurd z (Nat.not_lt_zero _)) (fun N r ih k hk hN => ?_)
        have hq := qSb_le a n k
        unfold X0_seen_b26
        by_cases c : k = 12
        · rw [if_pos (show (12 : Int32) < nI (k + 1) from (nI_ltI (a := 12) (by omega) (by omega)).mpr (by omega)), c]
        · rw [if_neg (fun z => by have := (nI_ltI (by omega) (by omega)).mp (show nI 12 < nI (k + 1) from z); omega), show (12 : Int32) = nI 12 from rfl, pk_sub (by omega), pk_sub (by omega), pk_sub (by omega), sX0_power h (by omega) (by omega), bd_s, sX0_power h (by omega) (by omega), bd_s, sX0_power h (by omega) (by omega), bd_s, sX0_power h (by omega) (by omega), bd_s, nm_u]
          have ih1 := ih (k + 1) (by omega) (by omega)
          have hu : qSb a n (k + 1) = if qSv a n (qSb a n k) < qSv a n (k + 1) then k + 1 else qSb a n k := rfl
          rw [hu] at ih1
          by_cases d : qSv a n (qSb a n k) < qSv a n (k + 1)
          · rw [if_neg (by exact Int64.not_le.mpr d)]
            show nm _ _ = _
            rw [nm_u, nI_1]
            rw [if_pos d] at ih1; exact ih1
          · rw [if_pos (by exact Int64.not_lt.mp d)]
            show nm _ _ = _
            rw [nm_u, nI_1]
            rw [if_neg d] at ih1; exact ih1
      exact key zFU 0 (by omega) (by rw [zFU_u]; omega)
    · rw [if_pos (pB0.mpr c2), if_neg c2]
  · rw [if_pos (pB0.mpr c1), if_neg c1]
