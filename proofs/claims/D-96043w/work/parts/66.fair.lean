/-! even (the model), fair, aims -/
theorem sX2_even {σ : Sg} (ok : sOK σ) {h : Hp} (g : gm σ h) (x : Int32) : wp (X2_even h x) (fun r h' => r = qEven σ x ∧ f2 h h') := by
  have hn := ok.1
  unfold X2_even qEven
  rw [sX2_isP g, bd_s]
  by_cases c0 : isP σ x
  · rw [if_neg (fun z => (pB0.mp z) c0), if_pos c0]
    obtain ⟨p, hp, rfl⟩ := c0.nI ok
    have v1 := g.2.2.2.1 p hp 0 (by decide)
    rw [Nat.mul_zero, Nat.zero_add] at v1
    have o := ok.2.2.2.1 p hp
    rw [ck_i (by omega) (by omega), nI_clamp (by omega), v1]
    simp only [nm_u]
    have key : ∀ N, (fun N r => ∀ k u h2 best least, k ≤ 13 → u ≤ 12 → gm (sS σ p u) h2 → fP2 (sN σ) h h2 → ((k = 0 ∧ best = -1 ∧ least = 0) ∨ ∃ k', k = k' + 1 ∧ best = nI (qE σ p k').1 ∧ least = (qE σ p k').2) → 13 - k < N → wp (r h2 best least (nI k)) (fun r h' => r = nI (qE σ p 12).1 ∧ f2 h h')) N (zfix (fun (_ : Hp) (_ : Int32) (_ : Int64) (_ : Int32) => (none : Option (Int32 × Hp))) (X2_even_b25 (nI p) (fun (h6 : Hp) (v7 : Int32) => ck (0 ≤ (nI p).toInt ∧ (nI p).toInt < 12) (some (v7, zsi h6 18 p (nI (sM σ p)))))) N) := by
      refine zfix_ind (σ := Hp → Int32 → Int64 → Int32 → Option (Int32 × Hp)) _ _ (fun N r => ∀ k u h2 best least, k ≤ 13 → u ≤ 12 → gm (sS σ p u) h2 → fP2 (sN σ) h h2 → ((k = 0 ∧ best = -1 ∧ least = 0) ∨ ∃ k', k = k' + 1 ∧ best = nI (qE σ p k').1 ∧ least = (qE σ p k').2) → 13 - k < N → wp (r h2 best least (nI k)) (fun r h' => r = nI (qE σ p 12).1 ∧ f2 h h')) (fun k _ _ _ _ _ _ _ _ _ z => absurd z (Nat.not_lt_zero _)) (fun N r ih k u h2 best least hk hu g2 fr2 st hN => ?_)
      unfold X2_even_b25
      by_cases c : k = 13
      · rw [if_pos (show (12 : Int32) < nI k from (nI_ltI (a := 12) (by omega) (by omega)).mpr (by omega))]
        show wp (ck _ _) _
        rw [ck_i (by omega) (by omega)]
        have gs := gm.set0 (sS0_ok ok hp hu) g2 (v := sM σ p) hp
        rw [sS_S, sS_id] at gs
        rcases st with z | ⟨k', h1, h3, _⟩
        · omega
        · obtain rfl : k' = 12 := by omega
          have fs := fP2.si (n := sN σ) (h := h2) (w := 0) (v := nI (sM σ p)) hp (by omega)
          rw [Nat.mul_zero, Nat.zero_add] at fs
          exact wp.of rfl ⟨h3, (fr2.tr fs).S g gs⟩
      · rw [if_neg (fun z => by have := (nI_ltI (by omega) (by omega)).mp (show nI 12 < nI k from z); omega), ck_i (by omega) (by omega), nI_clamp (by omega)]
        simp only [nm_u]
        rw [wp_bd]
        have gs := gm.set0 (sS0_ok ok hp hu) g2 (v := k) hp
        rw [sS_S] at gs
        have oks := sS0_ok ok (v := k) hp (by omega)
        refine (sX2_solves oks gs).mono ?_
        rintro _ h3 ⟨fr3, t3, _⟩
        have g3 := gs.fr fr3
        have fs := fP2.si (n := sN σ) (h := h2) (w := 0) (v := nI k) hp (by omega)
        rw [Nat.mul_zero, Nat.zero_add] at fs
        have f3 : fP2 (sN σ) h h3 := fr2.tr (fs.tr fr3.fP2)
        rw [sX2_allN h3 hn g3.1, bd_s, show X2_worthFrom h3 (nI (2 ^ sN σ - 1)) (0 : Int32) (nI p) = some (dF (sS σ p k) 0 p, h3) from sX2_from oks g3 t3 (k := 0) (show 0 < sN σ by omega) hp, bd_s, g3.1, nI_l (by show sN σ < _; omega)]
        have q0 : lN (sN (sS σ p k)) * dF (sS σ p k) 0 p = qO (sS σ p k) p 0 := rfl
        rw [q0]
        have lp := fun jj => lX2_65 oks g3 t3 p jj zFU 0 (Nat.zero_le _) (by rw [zFU_u]; show sN σ - 0 < _; omega)
        have lp2 := fun jj => (show zfix (fun _ _ _ => none) (X2_even_b65 jj) zFU h3 (qO (sS σ p k) p 0) (0 : Int32) = _ from lp jj)
        rw [lp2]
        have hk1 : k + 1 ≤ 13 := by omega
        have hk2 : 13 - (k + 1) < N := by omega
        have hk3 : k ≤ 12 := by omega
        have take := fun st' => ih (k + 1) k h3 (nI k) (oE σ p k) hk1 hk3 g3 f3 st' hk2
        have body : ∀ y, y = oE σ p k → wp (if best < 0 then r h3 (nI k) y (nI k + 1) else if least ≤ y then r h3 best least (nI k + 1) else r h3 (nI k) y (nI k + 1)) (fun r h' => r = nI (qE σ p 12).1 ∧ f2 h h') := by
          intro y ey
          rw [ey, nI_1]
          rcases st with ⟨z1, z2, z3⟩ | ⟨k', z1, z2, z3⟩
          · rw [z2, if_pos (by decide)]
            exact take (Or.inr ⟨0, by omega, by rw [z1]; rfl, by rw [z1]; rfl⟩)
          · have hq : (qE σ p k').1 ≤ 12 := by
              have : ∀ v, (qE σ p v).1 ≤ v := by
                intro v
                induction v with
                | zero => exact Nat.le_refl _
                | succ v ih => unfold qE; split
                               · exact Nat.le_refl _
                               · omega
              have := this k'; omega
            rw [z2, if_neg (nI_pos (by omega)), z3]
            have hu' : qE σ p (k' + 1) = if oE σ p (k' + 1) < (qE σ p k').2 then (k' + 1, oE σ p (k' + 1)) else qE σ p k' := rfl
            by_cases d : oE σ p k < (qE σ p k').2
            · rw [if_neg (Int64.not_le.mpr d)]
              refine take (Or.inr ⟨k, rfl, ?_, ?_⟩)
              · rw [z1, hu', ← z1, if_pos d]
              · rw [z1, hu', ← z1, if_pos d]
            · rw [if_pos (Int64.not_lt.mp d)]
              refine ih (k + 1) k h3 _ _ hk1 hk3 g3 f3 (Or.inr ⟨k, rfl, ?_, ?_⟩) hk2
              · rw [z1, hu', ← z1, if_neg d]
              · rw [z1, hu', ← z1, if_neg d]
        by_cases d0 : (0 : Int64) ≤ qO (sS σ p k) p (sN (sS σ p k))
        · rw [if_pos d0]
          refine body _ ?_
          show _ = ab _
          unfold ab
          rw [show sN σ = sN (sS σ p k) from rfl, if_pos d0]
        · rw [if_neg d0]
          refine body _ ?_
          show _ = ab _
          unfold ab
          rw [show sN σ = sN (sS σ p k) from rfl, if_neg d0]
    have gi : gm (sS σ p (sM σ p)) h := by rw [sS_id]; exact g
    exact key zFU 0 (sM σ p) h (-1) 0 (by omega) o.1 gi (fP2.rf _ h) (Or.inl ⟨rfl, rfl, rfl⟩) (by rw [zFU_u]; omega)
  · rw [if_pos (pB0.mpr c0), if_neg c0]; exact wp.of rfl ⟨rfl, f2.rf h⟩
/-- the least and the most, if place k begins -/
def qLo (σ : Sg) (k : Nat) : Nat → Int64
  | 0 => dF σ k 0
  | j + 1 => if dF σ k (j + 1) < qLo σ k j then dF σ k (j + 1) else qLo σ k j
def qHi (σ : Sg) (k : Nat) : Nat → Int64
  | 0 => dF σ k 0
  | j + 1 => if qHi σ k j < dF σ k (j + 1) then dF σ k (j + 1) else qHi σ k j
def qAp (σ : Sg) (k : Nat) : Int64 := qHi σ k (sN σ - 1) - qLo σ k (sN σ - 1)
def qFr (σ : Sg) : Nat → Nat
  | 0 => 0
  | k + 1 => if qAp σ (k + 1) < qAp σ (qFr σ k) then k + 1 else qFr σ k
theorem qFr_le (σ : Sg) : ∀ k, qFr σ k ≤ k := by
  intro k
  induction k with
  | zero => exact Nat.le_refl _
  | succ k ih => unfold qFr; split
                 · exact Nat.le_refl _
                 · omega
def qFair (σ : Sg) : Int32 := if sN σ = 0 then -5 else nI (qFr σ (sN σ - 1))
theorem sX0_apart {σ : Sg} (ok : sOK σ) {h : Hp} (g : gc σ h) (t : tC σ h 0) {k : Nat} (hk : k < sN σ) : X0_apart h (nI k) = some (qAp σ k, h) := by
  have hn := ok.1
  unfold X0_apart
  rw [nm_u]
  have key : ∀ N, (fun N r => ∀ j mo le, ((j = 0 ∧ mo = 0 ∧ le = 9223372036854775807) ∨ ∃ j', j = j' + 1 ∧ mo = qHi σ k j' ∧ le = qLo σ k j') → j ≤ sN σ → sN σ - j < N → r h mo le (nI j) = some (qAp σ k, h)) N (zfix (fun (_ : Hp) (_ : Int64) (_ : Int64) (_ : Int32) => (none : Option (Int64 × Hp))) (X0_apart_b10 (nI k) (fun (h1 : Hp) (v2 : Int64) (v3 : Int64) => some (v2 - v3, h1))) N) := by
    refine zfix_ind (σ := Hp → Int64 → Int64 → Int32 → Option (Int64 × Hp)) _ _ (fun N r => ∀ j mo le, ((j = 0 ∧ mo = 0 ∧ le = 9223372036854775807) ∨ ∃ j', j = j' + 1 ∧ mo = qHi σ k j' ∧ le = qLo σ k j') → j ≤ sN σ → sN σ - j < N → r h mo le (nI j) = some (qAp σ k, h)) (fun j _ _ _ _ z => absurd z (Nat.not_lt_zero _)) (fun N r ih j mo le st hj hN => ?_)
    unfold X0_apart_b10
    rw [g.1]
    by_cases c : sN σ ≤ j
    · rw [if_pos ((nI_leI (by omega) (by omega)).mpr c)]
      rcases st with z | ⟨j', z1, z2, z3⟩
      · omega
      · rw [z2, z3, show j' = sN σ - 1 from by omega]; rfl
    · rw [if_neg (fun z => c ((nI_leI (by omega) (by omega)).mp z)), sX0_all h hn g.1, bd_s, sX0_from ok g t hk (by omega), bd_s]
      simp only [nm_u]
      rw [nI_1]
      refine ih (j + 1) _ _ ?_ (by omega) (by omega)
      obtain ⟨x, hx, ex⟩ := dF_b ok hk j
      rcases st with ⟨z1, z2, z3⟩ | ⟨j', z1, z2, z3⟩
      · refine Or.inr ⟨0, by omega, ?_, ?_⟩
        · rw [z2, z1]
          rw [z1] at ex
          rw [if_neg (by rw [ex, show (0 : Int64) = lN 0 from rfl, pk_lLT (by omega) (by omega)]; omega)]
          rfl
        · rw [z3, z1]
          rw [z1] at ex
          rw [if_pos (by rw [ex, show (9223372036854775807 : Int64) = lN 9223372036854775807 from rfl, pk_lLT (by omega) (by omega)]; omega)]
          rfl
      · refine Or.inr ⟨j, rfl, ?_, ?_⟩
        · rw [z2, z1]
          show _ = (if qHi σ k j' < dF σ k (j' + 1) then _ else _)
          by_cases d : dF σ k (j' + 1) < qHi σ k j'
          · rw [if_pos d, if_neg (fun z => Int64.lt_irrefl (Int64.lt_trans d z))]
          · rw [if_neg d]
            by_cases d2 : qHi σ k j' < dF σ k (j' + 1)
            · rw [if_pos d2]
            · rw [if_neg d2]; exact Int64.le_antisymm (Int64.not_lt.mp d2) (Int64.not_lt.mp d)
        · rw [z3, z1]
          rfl
  exact key zFU 0 0 9223372036854775807 (Or.inl ⟨rfl, rfl, rfl⟩) (Nat.zero_le _) (by rw [zFU_u]; omega)
theorem sX0_fair {σ : Sg} (ok : sOK σ) {h : Hp} (g : gc σ h) : wp (X0_fair h) (fun r h' => r = qFair σ ∧ f0 h h') := by
  have hn := ok.1
  unfold X0_fair qFair
  rw [g.1]
  by_cases c0 : sN σ = 0
  · rw [if_pos (by rw [c0]; rfl), if_pos c0]; exact wp.of rfl ⟨rfl, f0.rf h⟩
  · rw [if_neg (nI_n0 (by omega) c0), if_neg c0, wp_bd]
    refine (sX0_findValues ok g).mono ?_
    rintro _ h1 ⟨fr, t⟩
    have g1 := g.fr fr.f0
    have key : ∀ N, (fun N r => ∀ k, k < sN σ → sN σ - k < N → r h1 (nI (qFr σ k)) (nI (k + 1)) = some (nI (qFr σ (sN σ - 1)), h1)) N (zfix (fun (_ : Hp) (_ : Int32) (_ : Int32) => (none : Option (Int32 × Hp))) X0_fair_b18 N) := by
      refine zfix_ind (σ := Hp → Int32 → Int32 → Option (Int32 × Hp)) _ _ (fun N r => ∀ k, k < sN σ → sN σ - k < N → r h1 (nI (qFr σ k)) (nI (k + 1)) = some (nI (qFr σ (sN σ - 1)), h1)) (fun k _ z => absurd z (Nat.not_lt_zero _)) (fun N r ih k hk hN => ?_)
      have hq := qFr_le σ k
      unfold X0_fair_b18
      rw [g1.1]
      by_cases c : sN σ ≤ k + 1
      · rw [if_pos ((nI_leI (by omega) (by omega)).mpr c), show sN σ - 1 = k from by omega]
      · rw [if_neg (fun z => c ((nI_leI (by omega) (by omega)).mp z)), sX0_apart ok g1 t (by omega), bd_s, sX0_apart ok g1 t (by omega), bd_s]
        simp only [nm_u]
        rw [nI_1]
        have ih1 := ih (k + 1) (by omega) (by omega)
        have hu : qFr σ (k + 1) = if qAp σ (k + 1) < qAp σ (qFr σ k) then k + 1 else qFr σ k := rfl
        rw [hu] at ih1
        by_cases d : qAp σ (k + 1) < qAp σ (qFr σ k)
        · rw [if_neg (Int64.not_le.mpr d)]
          rw [if_pos d] at ih1; exact ih1
        · rw [if_pos (Int64.not_lt.mp d)]
          rw [if_neg d] at ih1; exact ih1
    exact wp.of (key zFU 0 (by omega) (by rw [zFU_u]; omega)) ⟨rfl, fr.f0⟩
theorem lX2_f50 {σ : Sg} (ok : sOK σ) {h : Hp} (g : gm σ h) (t : tM σ h 0) {k : Nat} (hk : k < sN σ) (jj : Hp → Int64 → Int64 → Option (Int32 × Hp)) : ∀ N, (fun N r => ∀ j, j < sN σ → sN σ - j < N → r h (qLo σ k j) (qHi σ k j) (nI (j + 1)) = jj h (qLo σ k (sN σ - 1)) (qHi σ k (sN σ - 1))) N (zfix (fun (_ : Hp) (_ : Int64) (_ : Int64) (_ : Int32) => (none : Option (Int32 × Hp))) (X2_fair_b50 (nI k) jj) N) := by
  have hn := ok.1
  refine zfix_ind (σ := Hp → Int64 → Int64 → Int32 → Option (Int32 × Hp)) _ _ (fun N r => ∀ j, j < sN σ → sN σ - j < N → r h (qLo σ k j) (qHi σ k j) (nI (j + 1)) = jj h (qLo σ k (sN σ - 1)) (qHi σ k (sN σ - 1))) (fun j _ z => absurd z (Nat.not_lt_zero _)) (fun N r ih j hj hN => ?_)
  unfold X2_fair_b50
  rw [g.1]
  by_cases c : sN σ ≤ j + 1
  · rw [if_pos ((nI_leI (by omega) (by omega)).mpr c), show sN σ - 1 = j from by omega]
  · rw [if_neg (fun z => c ((nI_leI (by omega) (by omega)).mp z)), sX2_allN h hn g.1, bd_s, sX2_from ok g t hk (by omega), bd_s]
    simp only [nm_u]
    rw [nI_1]
    have ih1 := ih (j + 1) (by omega) (by omega)
    have h1 : qLo σ k (j + 1) = if dF σ k (j + 1) < qLo σ k j then dF σ k (j + 1) else qLo σ k j := rfl
    have h2 : qHi σ k (j + 1) = if qHi σ k j < dF σ k (j + 1) then dF σ k (j + 1) else qHi σ k j := rfl
    rw [h1, h2] at ih1
    by_cases d : dF σ k (j + 1) < qLo σ k j
    · rw [if_neg (Int64.not_le.mpr d)]
      rw [if_pos d] at ih1
      by_cases d2 : qHi σ k j < dF σ k (j + 1)
      · rw [if_neg (Int64.not_le.mpr d2)]; rw [if_pos d2] at ih1; exact ih1
      · rw [if_pos (Int64.not_lt.mp d2)]; rw [if_neg d2] at ih1; exact ih1
    · rw [if_pos (Int64.not_lt.mp d)]
      rw [if_neg d] at ih1
      by_cases d2 : qHi σ k j < dF σ k (j + 1)
      · rw [if_neg (Int64.not_le.mpr d2)]; rw [if_pos d2] at ih1; exact ih1
      · rw [if_pos (Int64.not_lt.mp d2)]; rw [if_neg d2] at ih1; exact ih1
theorem sX2_fair {σ : Sg} (ok : sOK σ) {h : Hp} (g : gm σ h) : wp (X2_fair h) (fun r h' => r = qFair σ ∧ f2 h h') := by
  have hn := ok.1
  unfold X2_fair qFair
  rw [g.1]
  by_cases c0 : sN σ = 0
  · rw [if_pos (by rw [c0]; rfl), if_pos c0]; exact wp.of rfl ⟨rfl, f2.rf h⟩
  · rw [if_neg (nI_n0 (by omega) c0), if_neg c0, wp_bd]
    refine (sX2_solves ok g).mono ?_
    rintro _ h1 ⟨fr, t, _⟩
    have g1 := g.fr fr
    have key : ∀ N, (fun N r => ∀ k best least, ((k = 0 ∧ best = -1) ∨ ∃ k', k = k' + 1 ∧ best = nI (qFr σ k') ∧ least = qAp σ (qFr σ k')) → k ≤ sN σ → sN σ - k < N → r h1 best least (nI k) = some (nI (qFr σ (sN σ - 1)), h1)) N (zfix (fun (_ : Hp) (_ : Int32) (_ : Int64) (_ : Int32) => (none : Option (Int32 × Hp))) X2_fair_b21 N) := by
      refine zfix_ind (σ := Hp → Int32 → Int64 → Int32 → Option (Int32 × Hp)) _ _ (fun N r => ∀ k best least, ((k = 0 ∧ best = -1) ∨ ∃ k', k = k' + 1 ∧ best = nI (qFr σ k') ∧ least = qAp σ (qFr σ k')) → k ≤ sN σ → sN σ - k < N → r h1 best least (nI k) = some (nI (qFr σ (sN σ - 1)), h1)) (fun k _ _ _ _ z => absurd z (Nat.not_lt_zero _)) (fun N r ih k best least st hk hN => ?_)
      unfold X2_fair_b21
      rw [g1.1]
      by_cases c : sN σ ≤ k
      · rw [if_pos ((nI_leI (by omega) (by omega)).mpr c)]
        rcases st with z | ⟨k', z1, z2, z3⟩
        · omega
        · rw [z2, show k' = sN σ - 1 from by omega]
      · rw [if_neg (fun z => c ((nI_leI (by omega) (by omega)).mp z)), sX2_allN h1 hn g1.1, bd_s, show X2_worthFrom h1 (nI (2 ^ sN σ - 1)) (nI k) (0 : Int32) = some (dF σ k 0, h1) from sX2_from ok g1 t (p := 0) (by omega) (by omega), bd_s]
        simp only [nm_u]
        have lp := fun jj => (show zfix (fun _ _ _ _ => none) (X2_fair_b50 (nI k) jj) zFU h1 (dF σ k 0) (dF σ k 0) (1 : Int32) = _ from lX2_f50 ok g1 t (k := k) (by omega) jj zFU 0 (by omega) (by rw [zFU_u]; omega))
        rw [lp, nI_1]
        have ap : qHi σ k (sN σ - 1) - qLo σ k (sN σ - 1) = qAp σ k := rfl
        rw [ap]
        have take := ih (k + 1) (nI k) (qAp σ k)
        rcases st with ⟨z1, z2⟩ | ⟨k', z1, z2, z3⟩
        · rw [z2, if_pos (by decide)]
          exact take (Or.inr ⟨0, by omega, by rw [z1]; rfl, by rw [z1]; rfl⟩) (by omega) (by omega)
        · have hq := qFr_le σ k'
          have hu : qFr σ (k' + 1) = if qAp σ (k' + 1) < qAp σ (qFr σ k') then k' + 1 else qFr σ k' := rfl
          rw [z2, if_neg (nI_pos (by omega)), z3]
          by_cases d : qAp σ (k' + 1) < qAp σ (qFr σ k')
          · rw [if_neg (by rw [z1]; exact Int64.not_le.mpr d)]
            exact take (Or.inr ⟨k, rfl, by rw [z1, hu, if_pos d], by rw [z1, hu, if_pos d]⟩) (by omega) (by omega)
          · rw [if_pos (by rw [z1]; exact Int64.not_lt.mp d)]
            exact ih (k + 1) _ _ (Or.inr ⟨k, rfl, by rw [z1, hu, if_neg d], by rw [z1, hu, if_neg d]⟩) (by omega) (by omega)
    exact wp.of (key zFU 0 (-1) 0 (Or.inl ⟨rfl, rfl⟩) (Nat.zero_le _) (by rw [zFU_u]; omega)) ⟨rfl, fr⟩
/-! aims -/
theorem sX0_placeOf {σ : Sg} (ok : sOK σ) {h : Hp} (g : gc σ h) {p : Nat} (hp : p < sN σ) : X0_placeOf h (nI p) = some (nI (sP σ p), h) := by
  have hn := ok.1
  have o := ok.2.2.1 p hp
  have key : ∀ N, (fun N r => ∀ k, k ≤ sP σ p → sP σ p - k < N → r h (nI k) = some (nI (sP σ p), h)) N (zfix (fun (_ : Hp) (_ : Int32) => (none : Option (Int32 × Hp))) (X0_placeOf_b2 (nI p)) N) := by
    refine zfix_ind (σ := Hp → Int32 → Option (Int32 × Hp)) _ _ (fun N r => ∀ k, k ≤ sP σ p → sP σ p - k < N → r h (nI k) = some (nI (sP σ p), h)) (fun k _ z => absurd z (Nat.not_lt_zero _)) (fun N r ih k hk hN => ?_)
    have hw := ok.2.1 k (by omega)
    unfold X0_placeOf_b2
    rw [ck_i (by omega) (by omega), nI_clamp (by omega), g.2.1 k (by omega)]
    by_cases c : sO σ k = p
    · rw [if_pos (by rw [c])]
      rw [c] at hw
      rw [hw.2]
    · rw [if_neg (fun z => c ((nI_eq (by omega) (by omega)).mp z))]
      simp only [nm_u]
      rw [nI_1]
      have : k ≠ sP σ p := fun z => c (by rw [z]; exact o.2)
      exact ih (k + 1) (by omega) (by omega)
  exact key zFU 0 (Nat.zero_le _) (by rw [zFU_u]; omega)
def qAims (σ : Sg) (x y z : Int32) : Int32 :=
  if isP σ x then (if 0 ≤ y ∧ y ≤ nI (2 ^ sN σ - 1) then (if y.toNatClampNeg.testBit x.toNatClampNeg = true then (if 0 ≤ z ∧ z ≤ nI (sB σ) - 1 then (if dG2 σ z.toNatClampNeg y.toNatClampNeg x.toNatClampNeg = 9 then -2 else nI (dG2 σ z.toNatClampNeg y.toNatClampNeg x.toNatClampNeg)) else -1) else -1) else -1) else -1
theorem dG2_aim {σ : Sg} (ok : sOK σ) {m s w : Nat} (hs : s < 2 ^ sN σ) (hw : w < sN σ) (hb : s.testBit w = true) (hm : m ≤ sB σ) : isAim σ s w (dG2 σ m s w) := by
  unfold dG2
  split
  · exact Or.inl rfl
  · rw [show sB σ - m = sB σ - (m + 1) + 1 from by omega]
    exact dA_aim ok _ _ hs hw hb (by omega)
theorem sX0_aims {σ : Sg} (ok : sOK σ) {h : Hp} (g : gc σ h) (x y z : Int32) : wp (X0_aims h x y z) (fun r h' => r = qAims σ x y z ∧ f0 h h') := by
  have hn := ok.1
  have hb9 := ok.2.2.2.2.1
  have hpw := pow16 hn
  have hal := all_lt σ
  unfold X0_aims qAims
  rw [sX0_isP g, bd_s]
  by_cases c0 : isP σ x
  · rw [if_neg (fun z => (pB0.mp z) c0), if_pos c0]
    obtain ⟨p, hp, rfl⟩ := c0.nI ok
    rw [show X0_isSet h y = some (pB (0 ≤ y ∧ y ≤ nI (2 ^ sN σ - 1)), h) from by unfold X0_isSet; rw [sX0_all h hn g.1, bd_s, sX0_in, bd_s], bd_s]
    by_cases c1 : 0 ≤ y ∧ y ≤ nI (2 ^ sN σ - 1)
    · rw [if_neg (fun z => (pB0.mp z) c1), if_pos c1]
      obtain ⟨s, hs, rfl⟩ := nI_rg (by omega) c1.1 c1.2
      rw [sX0_has h (by omega) (by omega), bd_s, nI_clamp (by omega), nI_clamp (by omega)]
      by_cases c2 : s.testBit p = true
      · rw [if_neg (fun z => (pB0.mp z) c2), if_pos c2, sX0_in, bd_s, g.2.2.2.1]
        by_cases c3 : 0 ≤ z ∧ z ≤ nI (sB σ) - 1
        · rw [if_neg (fun z => (pB0.mp z) c3), if_pos c3]
          obtain ⟨m, hm, rfl⟩ := (nI_isP (by omega)).mp c3
          rw [sX0_isOver h (by omega) (by omega) (by omega) g.2.2.2.1, bd_s, nI_clamp (by omega)]
          by_cases c4 : sB σ ≤ m ∨ pc s ≤ 1
          · rw [if_neg (fun z => (pB0.mp z) c4)]
            refine wp.of rfl ⟨?_, f0.rf h⟩
            unfold dG2
            rw [if_pos c4, if_pos rfl]
          · rw [if_pos (pB0.mpr c4), wp_bd]
            refine (sX0_findValues ok g).mono ?_
            rintro _ h1 ⟨fr, t⟩
            have g1 := g.fr fr.f0
            have o := ok.2.2.1 p hp
            have e := t m (Nat.zero_le _) (by omega) s (by omega) (by omega) (sP σ p) o.1 (by rw [o.2]; exact c2)
            have e1 := e.1
            rw [o.2] at e1
            have hG : dG2 σ m s p = dG σ (sB σ - m) s p := by unfold dG2; rw [if_neg c4]
            have hA := dG2_aim ok (show s < 2 ^ sN σ by omega) hp c2 (show m ≤ sB σ by omega)
            rw [sX0_placeOf ok g1 hp, bd_s, sX0_at, bd_s, ck_i (by omega) (by omega), nI_clamp (by omega), e1, ← hG]
            simp only [nm_u]
            by_cases c9 : dG2 σ m s p = 9
            · rw [if_pos (by rw [c9]; rfl), if_pos c9]; exact wp.of rfl ⟨rfl, fr.f0⟩
            · rw [if_neg (nI_n9 (by rcases hA with z | z <;> omega) c9), if_neg c9]; exact wp.of rfl ⟨rfl, fr.f0⟩
        · rw [if_pos (pB0.mpr c3), if_neg c3]; exact wp.of rfl ⟨rfl, f0.rf h⟩
      · rw [if_pos (pB0.mpr c2), if_neg c2]; exact wp.of rfl ⟨rfl, f0.rf h⟩
    · rw [if_pos (pB0.mpr c1), if_neg c1]; exact wp.of rfl ⟨rfl, f0.rf h⟩
  · rw [if_pos (pB0.mpr c0), if_neg c0]; exact wp.of rfl ⟨rfl, f0.rf h⟩
theorem sX2_aims {σ : Sg} (ok : sOK σ) {h : Hp} (g : gm σ h) (x y z : Int32) : wp (X2_aims h x y z) (fun r h' => r = qAims σ x y z ∧ f2 h h') := by
  have hn := ok.1
  have hb9 := ok.2.2.2.2.1
  have hpw := pow16 hn
  have hal := all_lt σ
  unfold X2_aims qAims
  rw [sX2_isP g, bd_s]
  by_cases c0 : isP σ x
  · rw [if_neg (fun z => (pB0.mp z) c0), if_pos c0]
    obtain ⟨p, hp, rfl⟩ := c0.nI ok
    rw [sX2_allN h hn g.1, bd_s, show (0 : Int64) = (0 : Int32).toInt64 from by decide, sX2_wi, bd_s]
    by_cases c1 : 0 ≤ y ∧ y ≤ nI (2 ^ sN σ - 1)
    · rw [if_neg (fun z => (pB0.mp z) c1), if_pos c1]
      obtain ⟨s, hs, rfl⟩ := nI_rg (by omega) c1.1 c1.2
      rw [sX2_isIn h (by omega) (by omega), bd_s, nI_clamp (by omega), nI_clamp (by omega)]
      by_cases c2 : s.testBit p = true
      · rw [if_neg (fun z => (pB0.mp z) c2), if_pos c2, sX2_wi, bd_s, g.2.2.2.2.1]
        by_cases c3 : 0 ≤ z ∧ z ≤ nI (sB σ) - 1
        · rw [if_neg (fun z => (pB0.mp z) c3), if_pos c3]
          obtain ⟨m, hm, rfl⟩ := (nI_isP (by omega)).mp c3
          rw [wp_bd, nI_clamp (by omega)]
          refine (sX2_solves ok g).mono ?_
          rintro _ h1 ⟨fr, t, _⟩
          have e := t m (Nat.zero_le _) (by omega) s (by omega) p hp (Or.inr (Or.inr c2))
          have hA := dG2_aim ok (show s < 2 ^ sN σ by omega) hp c2 (show m ≤ sB σ by omega)
          rw [sX2_st, bd_s, ck_i (by omega) (by omega), nI_clamp (by omega), e.1]
          simp only [nm_u]
          by_cases c9 : dG2 σ m s p = 9
          · rw [if_pos (by rw [c9]; rfl), if_pos c9]; exact wp.of rfl ⟨rfl, fr⟩
          · rw [if_neg (nI_n9 (by rcases hA with z | z <;> omega) c9), if_neg c9]; exact wp.of rfl ⟨rfl, fr⟩
        · rw [if_pos (pB0.mpr c3), if_neg c3]; exact wp.of rfl ⟨rfl, f2.rf h⟩
      · rw [if_pos (pB0.mpr c2), if_neg c2]; exact wp.of rfl ⟨rfl, f2.rf h⟩
    · rw [if_pos (pB0.mpr c1), if_neg c1]; exact wp.of rfl ⟨rfl, f2.rf h⟩
  · rw [if_pos (pB0.mpr c0), if_neg c0]; exact wp.of rfl ⟨rfl, f2.rf h⟩
