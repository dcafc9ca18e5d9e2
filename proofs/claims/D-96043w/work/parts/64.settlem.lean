/-! settle, the model -/
theorem lX2_108 {σ : Sg} (ok : sOK σ) {hs : Hp} (gs : gm σ hs) (hw : ∀ i, i < sN σ → zi hs 35 i = nI (sM σ (4 + i))) {Q : Int32 → Hp → Prop} (jj : Hp → Option (Int32 × Hp)) (hj : ∀ h', f2 hs h' → wp (jj h') Q) :
    ∀ N, (fun N r => ∀ k τ h, nearly σ τ k → gm τ h → fP2 (sN σ) hs h → k ≤ sN σ → sN σ - k < N → wp (r h (nI k)) Q) N (zfix (fun (_ : Hp) (_ : Int32) => (none : Option (Int32 × Hp))) (X2_settle_b108 jj) N) := by
  have hn := ok.1
  refine zfix_ind (σ := Hp → Int32 → Option (Int32 × Hp)) _ _ (fun N r => ∀ k τ h, nearly σ τ k → gm τ h → fP2 (sN σ) hs h → k ≤ sN σ → sN σ - k < N → wp (r h (nI k)) Q) (fun k _ _ _ _ _ _ z => absurd z (Nat.not_lt_zero _)) (fun N r ih k τ h nr g fr hk hN => ?_)
  unfold X2_settle_b108
  rw [g.1, nr.2.1]
  by_cases c : sN σ ≤ k
  · rw [if_pos ((nI_leI (by omega) (by omega)).mpr c)]
    rw [show k = sN σ from by omega] at nr
    rw [nr.eq] at g
    exact hj h (fr.S gs g)
  · rw [if_neg (fun z => c ((nI_leI (by omega) (by omega)).mp z)), ck_i (by omega) (by omega), nI_clamp (by omega)]
    simp only [nm_u]
    rw [fr.2.1 35 k (by decide) (by decide) (by decide) (by omega) (by omega), hw k (by omega), show (4 : Int32) = nI 4 from rfl, nI_add, ck_i (by omega) (by omega), nI_clamp (by omega), nI_1]
    have g2 := gm.set nr.1 g (w := 1) (p := k) (v := sM σ (4 + k)) (by omega) (by rw [nr.2.1]; omega)
    rw [Nat.mul_one] at g2
    exact ih (k + 1) _ _ (nr.set ok (by omega)) g2 (fr.tr (fP2.si (w := 1) (p := k) (by omega) (by omega))) (by omega) (by omega)
theorem lX2_52 {σ : Sg} (ok : sOK σ) {hs : Hp} {Q : Int32 → Hp → Prop} (jj : Hp → Int32 → Int32 → Option (Int32 × Hp)) (hj : ∀ h', gm (qSt 8 σ 0).1 h' → fP2 (sN σ) hs h' → wp (jj h' (nI (qSt 8 σ 0).2) (if qR (qSt 8 σ 0).1 = sN (qSt 8 σ 0).1 then -2 else nI (qR (qSt 8 σ 0).1))) Q) :
    ∀ N, (fun N r => ∀ f τ j h, sOK τ → sN τ = sN σ → gm τ h → fP2 (sN σ) hs h → qSt f τ j = qSt 8 σ 0 → f + j = 8 → f < N → wp (r h (nI j) (if qR τ = sN τ then -2 else nI (qR τ))) Q) N (zfix (fun (_ : Hp) (_ : Int32) (_ : Int32) => (none : Option (Int32 × Hp))) (X2_settle_b52 jj) N) := by
  have hn := ok.1
  refine zfix_ind (σ := Hp → Int32 → Int32 → Option (Int32 × Hp)) _ _ (fun N r => ∀ f τ j h, sOK τ → sN τ = sN σ → gm τ h → fP2 (sN σ) hs h → qSt f τ j = qSt 8 σ 0 → f + j = 8 → f < N → wp (r h (nI j) (if qR τ = sN τ then -2 else nI (qR τ))) Q) (fun f _ _ _ _ _ _ _ _ _ z => absurd z (Nat.not_lt_zero _)) (fun N r ih f τ j h okt en g fr eq hf hN => ?_)
  have hq := qR_le τ
  unfold X2_settle_b52
  by_cases c : qR τ = sN τ
  · rw [if_pos c, if_pos (by decide)]
    have e : qSt f τ j = (τ, j) := by
      cases f with
      | zero => rfl
      | succ f => unfold qSt; rw [if_pos c]
    rw [e] at eq
    have := hj h (by rw [← eq]; exact g) fr
    rw [← eq, if_pos c] at this
    exact this
  · rw [if_neg c, if_neg (nI_pos (by omega))]
    cases f with
    | zero =>
      rw [if_pos (show (8 : Int32) ≤ nI j from (nI_leI (a := 8) (by omega) (by omega)).mpr (by omega))]
      have e : qSt 0 τ j = (τ, j) := rfl
      rw [e] at eq
      have := hj h (by rw [← eq]; exact g) fr
      rw [← eq, if_neg c] at this
      exact this
    | succ f =>
      rw [if_neg (fun z => by have := (nI_leI (by omega) (by omega)).mp (show nI 8 ≤ nI j from z); omega), wp_bd]
      refine (sX2_wouldOf okt g (p := qR τ) (by omega)).mono ?_
      rintro x h1 ⟨ex, fr1, g1⟩
      have oks := sS_ok okt (w := 1) (p := qR τ) (v := (qW τ (qR τ) 6).1) (by omega) (by omega) (by rw [if_neg (by decide), if_pos rfl]; exact qW_le okt (by omega) 6 (Nat.le_refl _))
      have g2 := gm.set okt g1 (w := 1) (p := qR τ) (v := (qW τ (qR τ) 6).1) (by omega) (by omega)
      rw [Nat.mul_one] at oks g2
      rw [show (4 : Int32) = nI 4 from rfl, nI_add, ck_i (by omega) (by omega), nI_clamp (by omega), ex]
      simp only [nm_u]
      rw [wp_bd, nI_1]
      refine (sX2_rest oks g2).mono ?_
      rintro y h2 ⟨ey, fr2⟩
      rw [ey]
      rw [en] at fr1
      refine ih f _ (j + 1) h2 oks en (g2.fr fr2) (fr.tr (fr1.tr ((fP2.si (w := 1) (p := qR τ) (by omega) (by omega)).tr fr2.fP2))) ?_ (by omega) (by omega)
      rw [← eq]
      conv => rhs; unfold qSt
      rw [if_neg c]
theorem sX2_settle {σ : Sg} (ok : sOK σ) {h : Hp} (g : gm σ h) (x : Int32) : wp (X2_settle h x) (fun r h' => r = qSettle σ x ∧ fS2 h h') := by
  have hn := ok.1
  have hE := qSt_ok 8 ok 0
  have hE2 := qSt_near ok
  unfold X2_settle
  by_cases cx : x = -1 ∨ isP σ x
  · have fin : ∀ hs, gm σ hs → fS2 h hs → (∀ i, i < sN σ → zi hs 35 i = nI (sM σ (4 + i))) → wp (bd (X2_rest hs ) fun r6 h5 => nm (fun (h7 : Hp) (v8 : Int32) (v9 : Int32) => nm (fun (h11 : Hp) (v12 : Int32) => nm (fun (h14 : Hp)  => if v9 < 0 then (some (v12, h14)) else (some ((-2 : Int32), h14))) fun j139_15 => zfix (fun _ _ => none) (X2_settle_b108 j139_15) zFU h11 (0 : Int32)) fun j103_13 => if x = (-1 : Int32) then (j103_13 h7 v8) else (ck (0 ≤ ((4 : Int32) + x).toInt ∧ ((4 : Int32) + x).toInt < 12) <| j103_13 h7 (zi h7 18 ((4 : Int32) + x).toNatClampNeg))) fun j86_10 => zfix (fun _ _ _ => none) (X2_settle_b52 j86_10) zFU h5 (0 : Int32) r6) (fun r h' => r = qSettle σ x ∧ fS2 h h') := by
      intro hs gs fs hw
      rw [wp_bd]
      refine (sX2_rest ok gs).mono ?_
      rintro r h1 ⟨er, fr1⟩
      rw [er]
      simp only [nm_u]
      refine lX2_52 ok (hs := hs) _ (fun h' g' fr' => ?_) zFU 8 σ 0 h1 ok rfl (gs.fr fr1) fr1.fP2 rfl rfl (by rw [zFU_u]; omega)
      have hq := qR_le (qSt 8 σ 0).1
      rw [hE.2.1] at hq
      have put : ∀ w, w = (if x = -1 then nI (qSt 8 σ 0).2 else nI (sM (qSt 8 σ 0).1 (4 + x.toNatClampNeg))) → wp (zfix (fun _ _ => none) (X2_settle_b108 (fun (h14 : Hp)  => if (if qR (qSt 8 σ 0).1 = sN (qSt 8 σ 0).1 then (-2 : Int32) else nI (qR (qSt 8 σ 0).1)) < 0 then (some (w, h14)) else (some ((-2 : Int32), h14)))) zFU h' (0 : Int32)) (fun r h' => r = qSettle σ x ∧ fS2 h h') := by
        intro w ew
        refine lX2_108 ok gs hw _ (fun h2 f2 => ?_) zFU 0 _ h' hE2 g' fr' (Nat.zero_le _) (by rw [zFU_u]; omega)
        unfold qSettle
        rw [if_pos cx]
        by_cases c : qR (qSt 8 σ 0).1 = sN (qSt 8 σ 0).1
        · rw [if_pos c, if_pos (by decide), if_pos c, ← ew]
          exact wp.of rfl ⟨rfl, fs.tr f2.fS2⟩
        · rw [if_neg c, if_neg (nI_pos (by omega)), if_neg c]
          exact wp.of rfl ⟨rfl, fs.tr f2.fS2⟩
      by_cases c1 : x = -1
      · rw [if_pos c1]
        exact put _ (by rw [if_pos c1])
      · obtain ⟨p, hp, rfl⟩ := (cx.resolve_left c1).nI ok
        have v1 := g'.2.2.2.1 p (by rw [hE.2.1]; exact hp) 1 (by decide)
        rw [Nat.mul_one] at v1
        rw [if_neg c1, show (4 : Int32) = nI 4 from rfl, nI_add, ck_i (by omega) (by omega), nI_clamp (by omega), v1]
        exact put _ (by rw [if_neg c1, nI_clamp (by omega)])
    have key : ∀ N, (fun N r => ∀ k h1, gm σ h1 → fS2 h h1 → (∀ i, i < k → zi h1 35 i = nI (sM σ (4 + i))) → k ≤ sN σ → sN σ - k < N → wp (r h1 (nI k)) (fun r h' => r = qSettle σ x ∧ fS2 h h')) N (zfix (fun (_ : Hp) (_ : Int32) => (none : Option (Int32 × Hp))) (X2_settle_b17 (fun (h3 : Hp)  => bd (X2_rest h3 ) fun r6 h5 => nm (fun (h7 : Hp) (v8 : Int32) (v9 : Int32) => nm (fun (h11 : Hp) (v12 : Int32) => nm (fun (h14 : Hp)  => if v9 < 0 then (some (v12, h14)) else (some ((-2 : Int32), h14))) fun j139_15 => zfix (fun _ _ => none) (X2_settle_b108 j139_15) zFU h11 (0 : Int32)) fun j103_13 => if x = (-1 : Int32) then (j103_13 h7 v8) else (ck (0 ≤ ((4 : Int32) + x).toInt ∧ ((4 : Int32) + x).toInt < 12) <| j103_13 h7 (zi h7 18 ((4 : Int32) + x).toNatClampNeg))) fun j86_10 => zfix (fun _ _ _ => none) (X2_settle_b52 j86_10) zFU h5 (0 : Int32) r6)) N) := by
      refine zfix_ind (σ := Hp → Int32 → Option (Int32 × Hp)) _ _ (fun N r => ∀ k h1, gm σ h1 → fS2 h h1 → (∀ i, i < k → zi h1 35 i = nI (sM σ (4 + i))) → k ≤ sN σ → sN σ - k < N → wp (r h1 (nI k)) (fun r h' => r = qSettle σ x ∧ fS2 h h')) (fun k _ _ _ _ _ z => absurd z (Nat.not_lt_zero _)) (fun N r ih k h1 g1 fs kn hk hN => ?_)
      unfold X2_settle_b17
      rw [g1.1]
      by_cases c : sN σ ≤ k
      · rw [if_pos ((nI_leI (by omega) (by omega)).mpr c)]
        exact fin h1 g1 fs (fun i hi => kn i (by omega))
      · have v1 := g1.2.2.2.1 k (by omega) 1 (by decide)
        rw [Nat.mul_one] at v1
        rw [if_neg (fun z => c ((nI_leI (by omega) (by omega)).mp z)), show (4 : Int32) = nI 4 from rfl, nI_add, ck_i (by omega) (by omega), nI_clamp (by omega), v1]
        simp only [nm_u]
        rw [ck_i (by omega) (by omega), nI_clamp (by omega), nI_1]
        refine ih (k + 1) _ g1.s35 (fs.tr fS2.s35) (fun i hi => ?_) (by omega) (by omega)
        rcases Nat.lt_or_ge i k with l | l
        · rw [zi_ne _ _ _ _ (Or.inr (by omega))]; exact kn i l
        · rw [show i = k from by omega, zi_eq]
    have main := key zFU 0 h g (fS2.rf h) (fun i hi => absurd hi (Nat.not_lt_zero _)) (Nat.zero_le _) (by rw [zFU_u]; omega)
    rw [nm_u]
    by_cases c1 : x = -1
    · rw [if_pos c1]; exact main
    · have c2 := cx.resolve_left c1
      rw [if_neg c1, sX2_isP g, bd_s, if_neg (fun z => (pB0.mp z) c2)]
      exact main
  · have c1 : ¬ x = -1 := fun z => cx (Or.inl z)
    have c2 : ¬ isP σ x := fun z => cx (Or.inr z)
    rw [nm_u, if_neg c1, sX2_isP g, bd_s, if_pos (pB0.mpr c2)]
    refine wp.of rfl ⟨?_, fS2.rf h⟩
    unfold qSettle
    rw [if_neg cx]
