/-! would, rest, settle -/
def qWould (σ : Sg) (x : Int32) : Int32 := if isP σ x then nI (qW σ x.toNatClampNeg 6).1 else -1
theorem sX0_would {σ : Sg} (ok : sOK σ) {h : Hp} (g : gc σ h) (x : Int32) : wp (X0_would h x) (fun r h' => r = qWould σ x ∧ f0 h h') := by
  unfold X0_would qWould
  rw [sX0_isP g, bd_s]
  by_cases c0 : isP σ x
  · rw [if_neg (fun z => (pB0.mp z) c0), if_pos c0]
    obtain ⟨p, hp, rfl⟩ := c0.nI ok
    rw [wp_bd, nI_clamp (by have := ok.1; omega)]
    refine (sX0_wouldOf ok g hp).mono ?_
    rintro r h1 ⟨er, fr, g1⟩
    exact wp.of rfl ⟨er, fr.S g g1⟩
  · rw [if_pos (pB0.mpr c0), if_neg c0]; exact wp.of rfl ⟨rfl, f0.rf h⟩
theorem sX2_would {σ : Sg} (ok : sOK σ) {h : Hp} (g : gm σ h) (x : Int32) : wp (X2_would h x) (fun r h' => r = qWould σ x ∧ f2 h h') := by
  unfold X2_would qWould
  rw [sX2_isP g, bd_s]
  by_cases c0 : isP σ x
  · rw [if_neg (fun z => (pB0.mp z) c0), if_pos c0]
    obtain ⟨p, hp, rfl⟩ := c0.nI ok
    rw [wp_bd, nI_clamp (by have := ok.1; omega)]
    refine (sX2_wouldOf ok g hp).mono ?_
    rintro r h1 ⟨er, fr, g1⟩
    exact wp.of rfl ⟨er, fr.S g g1⟩
  · rw [if_pos (pB0.mpr c0), if_neg c0]; exact wp.of rfl ⟨rfl, f2.rf h⟩
/-- the first who would have another way; n: nobody -/
def qRg (σ : Sg) : Nat → Nat → Nat
  | 0, k => k
  | f + 1, k => if (qW σ k 6).1 = sM σ (4 + k) then qRg σ f (k + 1) else k
def qR (σ : Sg) : Nat := qRg σ (sN σ) 0
theorem qRg_le (σ : Sg) : ∀ f k, qRg σ f k ≤ k + f := by
  intro f
  induction f with
  | zero => intro k; exact Nat.le_refl _
  | succ f ih => intro k; unfold qRg; split
                 · have := ih (k + 1); omega
                 · omega
theorem qR_le (σ : Sg) : qR σ ≤ sN σ := by have := qRg_le σ (sN σ) 0; unfold qR; omega
theorem sX0_restless {σ : Sg} (ok : sOK σ) {h : Hp} (g : gc σ h) : wp (X0_restless h) (fun r h' => r = (if qR σ = sN σ then -1 else nI (qR σ)) ∧ f0 h h') := by
  have hn := ok.1
  have key : ∀ N, (fun N r => ∀ k h1, f0 h h1 → k ≤ sN σ → sN σ - k < N → wp (r h1 (nI k)) (fun r h' => r = (if qRg σ (sN σ - k) k = sN σ then -1 else nI (qRg σ (sN σ - k) k)) ∧ f0 h h')) N (zfix (fun (_ : Hp) (_ : Int32) => (none : Option (Int32 × Hp))) X0_restless_b2 N) := by
    refine zfix_ind (σ := Hp → Int32 → Option (Int32 × Hp)) _ _ (fun N r => ∀ k h1, f0 h h1 → k ≤ sN σ → sN σ - k < N → wp (r h1 (nI k)) (fun r h' => r = (if qRg σ (sN σ - k) k = sN σ then -1 else nI (qRg σ (sN σ - k) k)) ∧ f0 h h')) (fun k _ _ _ z => absurd z (Nat.not_lt_zero _)) (fun N r ih k h1 fr hk hN => ?_)
    have g1 := g.fr fr
    unfold X0_restless_b2
    rw [g1.1]
    by_cases c : sN σ ≤ k
    · rw [if_pos ((nI_leI (by omega) (by omega)).mpr c), show sN σ - k = 0 from by omega]
      refine wp.of rfl ⟨?_, fr⟩
      unfold qRg
      rw [if_pos (by omega)]
    · rw [if_neg (fun z => c ((nI_leI (by omega) (by omega)).mp z)), wp_bd]
      refine (sX0_wouldOf ok g1 (p := k) (by omega)).mono ?_
      rintro x h2 ⟨ex, fr2, g2⟩
      have f2 := fr.tr (fr2.S g1 g2)
      obtain ⟨a, e1, _, e3⟩ := g2.2.2.1 k (by omega)
      have v1 := e3 1 (by decide)
      rw [Nat.mul_one] at v1
      have o := ok.2.2.2.1 k (by omega)
      have w5 := qW_le ok (p := k) (by omega) 6 (Nat.le_refl _)
      rw [ck_i (by omega) (by omega), nI_clamp (by omega), e1]
      simp only [nm_u]
      rw [dr_s, v1, ex, show sN σ - k = sN σ - (k + 1) + 1 from by omega, nI_1]
      unfold qRg
      by_cases d : (qW σ k 6).1 = sM σ (4 + k)
      · rw [if_pos (by rw [d]), if_pos d]
        exact ih (k + 1) h2 f2 (by omega) (by omega)
      · rw [if_neg (fun z => d ((nI_eq (by omega) (by omega)).mp z)), if_neg d, if_neg (by omega)]
        exact wp.of rfl ⟨rfl, f2⟩
  exact key zFU 0 h (f0.rf h) (Nat.zero_le _) (by rw [zFU_u]; omega)
theorem sX2_rest {σ : Sg} (ok : sOK σ) {h : Hp} (g : gm σ h) : wp (X2_rest h) (fun r h' => r = (if qR σ = sN σ then -2 else nI (qR σ)) ∧ f2 h h') := by
  have hn := ok.1
  have key : ∀ N, (fun N r => ∀ k h1, f2 h h1 → k ≤ sN σ → sN σ - k < N → wp (r h1 (nI k)) (fun r h' => r = (if qRg σ (sN σ - k) k = sN σ then -2 else nI (qRg σ (sN σ - k) k)) ∧ f2 h h')) N (zfix (fun (_ : Hp) (_ : Int32) => (none : Option (Int32 × Hp))) X2_rest_b2 N) := by
    refine zfix_ind (σ := Hp → Int32 → Option (Int32 × Hp)) _ _ (fun N r => ∀ k h1, f2 h h1 → k ≤ sN σ → sN σ - k < N → wp (r h1 (nI k)) (fun r h' => r = (if qRg σ (sN σ - k) k = sN σ then -2 else nI (qRg σ (sN σ - k) k)) ∧ f2 h h')) (fun k _ _ _ z => absurd z (Nat.not_lt_zero _)) (fun N r ih k h1 fr hk hN => ?_)
    have g1 := g.fr fr
    unfold X2_rest_b2
    rw [g1.1]
    by_cases c : sN σ ≤ k
    · rw [if_pos ((nI_leI (by omega) (by omega)).mpr c), show sN σ - k = 0 from by omega]
      refine wp.of rfl ⟨?_, fr⟩
      unfold qRg
      rw [if_pos (by omega)]
    · rw [if_neg (fun z => c ((nI_leI (by omega) (by omega)).mp z)), wp_bd]
      refine (sX2_wouldOf ok g1 (p := k) (by omega)).mono ?_
      rintro x h2 ⟨ex, fr2, g2⟩
      have f2 := fr.tr (fr2.S g1 g2)
      have v1 := g2.2.2.2.1 k (by omega) 1 (by decide)
      rw [Nat.mul_one] at v1
      have o := ok.2.2.2.1 k (by omega)
      have w5 := qW_le ok (p := k) (by omega) 6 (Nat.le_refl _)
      rw [show (4 : Int32) = nI 4 from rfl, nI_add, ck_i (by omega) (by omega), nI_clamp (by omega), v1, ex, show sN σ - k = sN σ - (k + 1) + 1 from by omega]
      simp only [nm_u]
      rw [nI_1]
      unfold qRg
      by_cases d : (qW σ k 6).1 = sM σ (4 + k)
      · rw [if_pos (by rw [d]), if_pos d]
        exact ih (k + 1) h2 f2 (by omega) (by omega)
      · rw [if_neg (fun z => d ((nI_eq (by omega) (by omega)).mp z)), if_neg d, if_neg (by omega)]
        exact wp.of rfl ⟨rfl, f2⟩
  exact key zFU 0 h (f2.rf h) (Nat.zero_le _) (by rw [zFU_u]; omega)
def qRest (σ : Sg) : Int32 := if qR σ = sN σ then -2 else nI (qR σ)
theorem sX0_rest {σ : Sg} (ok : sOK σ) {h : Hp} (g : gc σ h) : wp (X0_rest h) (fun r h' => r = qRest σ ∧ f0 h h') := by
  have hn := ok.1
  have hq := qR_le σ
  unfold X0_rest qRest
  rw [wp_bd]
  refine (sX0_restless ok g).mono ?_
  rintro r h1 ⟨er, fr⟩
  rw [er]
  by_cases c : qR σ = sN σ
  · rw [if_pos c, if_pos c, if_neg (by decide)]; exact wp.of rfl ⟨rfl, fr⟩
  · rw [if_neg c, if_neg c, if_pos (nI_pos' (by omega))]; exact wp.of rfl ⟨rfl, fr⟩
/-- settling -/
def qSt : Nat → Sg → Nat → Sg × Nat
  | 0, σ, j => (σ, j)
  | f + 1, σ, j => if qR σ = sN σ then (σ, j) else qSt f (sS σ (4 + qR σ) (qW σ (qR σ) 6).1) (j + 1)
def qSettle (σ : Sg) (x : Int32) : Int32 :=
  if x = -1 ∨ isP σ x then (if qR (qSt 8 σ 0).1 = sN (qSt 8 σ 0).1 then (if x = -1 then nI (qSt 8 σ 0).2 else nI (sM (qSt 8 σ 0).1 (4 + x.toNatClampNeg))) else -2) else -1
theorem qSt_ok : ∀ f {σ : Sg} (_ : sOK σ) j, sOK (qSt f σ j).1 ∧ sN (qSt f σ j).1 = sN σ ∧ (∀ i, (∀ p, p < sN σ → i ≠ 4 + p) → sM (qSt f σ j).1 i = sM σ i) ∧ (qSt f σ j).2 ≤ j + f := by
  intro f
  induction f with
  | zero => intro σ ok j; exact ⟨ok, rfl, fun _ _ => rfl, Nat.le_refl _⟩
  | succ f ih =>
    intro σ ok j
    unfold qSt
    by_cases c : qR σ = sN σ
    · rw [if_pos c]; exact ⟨ok, rfl, fun _ _ => rfl, by show j ≤ _; omega⟩
    · rw [if_neg c]
      have hq : qR σ < sN σ := by have := qR_le σ; omega
      have oks := sS_ok ok (w := 1) (v := (qW σ (qR σ) 6).1) (by omega) hq (by rw [if_neg (by decide), if_pos rfl]; exact qW_le ok hq 6 (Nat.le_refl _))
      rw [Nat.mul_one] at oks
      have := ih oks (j + 1)
      refine ⟨this.1, this.2.1, fun i hi => ?_, by have := this.2.2.2; omega⟩
      rw [this.2.2.1 i hi, sM_S, if_neg (hi _ hq)]
/-- settings that differ in ways alone -/
theorem sg_ways {σ τ : Sg} (h1 : sN τ = sN σ) (hr : τ.2.1 = σ.2.1 ∧ τ.2.2.1 = σ.2.2.1 ∧ τ.2.2.2.2 = σ.2.2.2.2) (hm : ∀ i, sM τ i = sM σ i) : τ = σ := by
  obtain ⟨a, b, c, d, e⟩ := σ
  obtain ⟨a', b', c', d', e'⟩ := τ
  obtain ⟨h2, h3, h4⟩ := hr
  have h5 : d' = d := funext hm
  simp only at h2 h3 h4
  have h1 : a' = a := h1
  rw [h1, h2, h3, h4, h5]
theorem qSt_rest : ∀ f (σ : Sg) j, (qSt f σ j).1.2.1 = σ.2.1 ∧ (qSt f σ j).1.2.2.1 = σ.2.2.1 ∧ (qSt f σ j).1.2.2.2.2 = σ.2.2.2.2 := by
  intro f
  induction f with
  | zero => intro σ j; exact ⟨rfl, rfl, rfl⟩
  | succ f ih =>
    intro σ j
    unfold qSt
    split
    · exact ⟨rfl, rfl, rfl⟩
    · exact ih _ _
