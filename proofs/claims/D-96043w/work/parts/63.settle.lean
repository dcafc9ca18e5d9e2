/-! settle -/
theorem fL.lo {h : Hp} {q k : Nat} {v : Int32} (hq : q < 42) : fL h (zsi h q k v) :=
  ⟨rfl, Nat.le_refl _, fun q' h1 _ _ => ⟨rfl, fun _ => ⟨zi_ne _ _ _ _ (Or.inl (by omega)), rfl⟩⟩⟩
theorem gc.s13 {σ : Sg} {h : Hp} (g : gc σ h) {k : Nat} {v : Int32} : gc σ (zsi h 13 k v) := by
  refine ⟨(zi_ne _ _ _ _ (Or.inl (by omega))).trans g.1, fun k hk => (zi_ne _ _ _ _ (Or.inl (by omega))).trans (g.2.1 k hk), fun q hq => ?_, (zi_ne _ _ _ _ (Or.inl (by omega))).trans g.2.2.2.1, fun m hm => (zi_ne _ _ _ _ (Or.inl (by omega))).trans (g.2.2.2.2.1 m hm), g.2.2.2.2.2.1, g.2.2.2.2.2.2.1.fr (fL.lo (by omega)), g.2.2.2.2.2.2.2⟩
  obtain ⟨b, f1, f2, f3⟩ := g.2.2.1 q hq
  exact ⟨b, f1, f2, fun w hw => (zi_ne _ _ _ _ (Or.inl (by omega))).trans (f3 w hw)⟩
theorem gm.s35 {σ : Sg} {h : Hp} (g : gm σ h) {k : Nat} {v : Int32} : gm σ (zsi h 35 k v) :=
  ⟨(zi_ne _ _ _ _ (Or.inl (by omega))).trans g.1, fun k hk => (zi_ne _ _ _ _ (Or.inl (by omega))).trans (g.2.1 k hk), fun k hk => (zi_ne _ _ _ _ (Or.inl (by omega))).trans (g.2.2.1 k hk), fun q hq w' hw' => (zi_ne _ _ _ _ (Or.inl (by omega))).trans (g.2.2.2.1 q hq w' hw'), (zi_ne _ _ _ _ (Or.inl (by omega))).trans g.2.2.2.2.1, fun m hm => (zi_ne _ _ _ _ (Or.inl (by omega))).trans (g.2.2.2.2.2.1 m hm), g.2.2.2.2.2.2.fr ⟨zi_ne _ _ _ _ (Or.inl (by omega)), fun k => zi_ne _ _ _ _ (Or.inl (by omega))⟩⟩
theorem fS.rf (h : Hp) : fS h h := ⟨rfl, fun _ _ _ _ _ _ => rfl, fun _ _ _ _ _ _ => rfl⟩
theorem fS.tr {h h' h2 : Hp} (a : fS h h') (b : fS h' h2) : fS h h2 := ⟨b.1.trans a.1, fun q k h1 h2 h3 h4 => (b.2.1 q k h1 h2 h3 h4).trans (a.2.1 q k h1 h2 h3 h4), fun q k h1 h2 h3 h4 => (b.2.2 q k h1 h2 h3 h4).trans (a.2.2 q k h1 h2 h3 h4)⟩
theorem fS.s13 {h : Hp} {k : Nat} {v : Int32} : fS h (zsi h 13 k v) := ⟨rfl, fun _ _ _ _ h3 _ => zi_ne _ _ _ _ (Or.inl h3), fun _ _ _ _ _ _ => rfl⟩
theorem fS2.rf (h : Hp) : fS2 h h := ⟨rfl, fun _ _ _ _ _ _ _ => rfl, fun _ _ _ _ _ _ _ => rfl⟩
theorem fS2.tr {h h' h2 : Hp} (a : fS2 h h') (b : fS2 h' h2) : fS2 h h2 := ⟨b.1.trans a.1, fun q k h1 h2 h3 h4 h5 => (b.2.1 q k h1 h2 h3 h4 h5).trans (a.2.1 q k h1 h2 h3 h4 h5), fun q k h1 h2 h3 h4 h5 => (b.2.2 q k h1 h2 h3 h4 h5).trans (a.2.2 q k h1 h2 h3 h4 h5)⟩
theorem fS2.s35 {h : Hp} {k : Nat} {v : Int32} : fS2 h (zsi h 35 k v) := ⟨rfl, fun _ _ _ _ _ h4 _ => zi_ne _ _ _ _ (Or.inl h4), fun _ _ _ _ _ _ _ => rfl⟩
/-- τ is σ but for the ways of those from k on -/
def nearly (σ τ : Sg) (k : Nat) : Prop := sOK τ ∧ sN τ = sN σ ∧ (τ.2.1 = σ.2.1 ∧ τ.2.2.1 = σ.2.2.1 ∧ τ.2.2.2.2 = σ.2.2.2.2) ∧ (∀ i, (∀ p, p < sN σ → i ≠ 4 + p) → sM τ i = sM σ i) ∧ ∀ p, p < k → p < sN σ → sM τ (4 + p) = sM σ (4 + p)
theorem nearly.eq {σ τ : Sg} (a : nearly σ τ (sN σ)) : τ = σ := by
  refine sg_ways a.2.1 a.2.2.1 (fun i => ?_)
  by_cases c : ∀ p, p < sN σ → i ≠ 4 + p
  · exact a.2.2.2.1 i c
  · obtain ⟨p, hp, e⟩ : ∃ p, p < sN σ ∧ i = 4 + p := by
      apply Classical.byContradiction
      intro z
      exact c (fun p hp e => z ⟨p, hp, e⟩)
    rw [e]; exact a.2.2.2.2 p hp hp
theorem nearly.set {σ τ : Sg} (ok : sOK σ) {k : Nat} (a : nearly σ τ k) (hk : k < sN σ) : nearly σ (sS τ (4 + k) (sM σ (4 + k))) (k + 1) := by
  have oks := sS_ok a.1 (w := 1) (p := k) (v := sM σ (4 + k)) (by omega) (by rw [a.2.1]; exact hk) (by rw [if_neg (by decide), if_pos rfl]; exact (ok.2.2.2.1 k hk).2.1)
  rw [Nat.mul_one] at oks
  refine ⟨oks, a.2.1, a.2.2.1, fun i hi => ?_, fun p hp hp2 => ?_⟩
  · rw [sM_S, if_neg (hi k hk)]; exact a.2.2.2.1 i hi
  · rw [sM_S]
    by_cases c : p = k
    · rw [c, if_pos rfl]
    · rw [if_neg (by omega)]; exact a.2.2.2.2 p (by omega) hp2
theorem qSt_near {σ : Sg} (ok : sOK σ) : nearly σ (qSt 8 σ 0).1 0 := ⟨(qSt_ok 8 ok 0).1, (qSt_ok 8 ok 0).2.1, qSt_rest 8 σ 0, (qSt_ok 8 ok 0).2.2.1, fun p hp => absurd hp (Nat.not_lt_zero _)⟩
/-- ways are put back -/
theorem lX0_119 {σ : Sg} (ok : sOK σ) {hs : Hp} (gs : gc σ hs) (hw : ∀ i, i < sN σ → zi hs 13 i = nI (sM σ (4 + i))) (v : Int32) :
    ∀ N, (fun N r => ∀ k τ h, nearly σ τ k → gc τ h → fP (sN σ) hs h → k ≤ sN σ → sN σ - k < N → wp (r h (nI k)) (fun r h' => r = v ∧ f0 hs h')) N (zfix (fun (_ : Hp) (_ : Int32) => (none : Option (Int32 × Hp))) (X0_settle_b119 v) N) := by
  have hn := ok.1
  refine zfix_ind (σ := Hp → Int32 → Option (Int32 × Hp)) _ _ (fun N r => ∀ k τ h, nearly σ τ k → gc τ h → fP (sN σ) hs h → k ≤ sN σ → sN σ - k < N → wp (r h (nI k)) (fun r h' => r = v ∧ f0 hs h')) (fun k _ _ _ _ _ _ z => absurd z (Nat.not_lt_zero _)) (fun N r ih k τ h nr g fr hk hN => ?_)
  unfold X0_settle_b119
  rw [g.1, nr.2.1]
  by_cases c : sN σ ≤ k
  · rw [if_pos ((nI_leI (by omega) (by omega)).mpr c)]
    rw [show k = sN σ from by omega] at nr
    rw [nr.eq] at g
    exact wp.of rfl ⟨rfl, fr.S gs g⟩
  · rw [if_neg (fun z => c ((nI_leI (by omega) (by omega)).mp z)), ck_i (by omega) (by omega), nI_clamp (by omega)]
    obtain ⟨a, e1, _, _⟩ := g.2.2.1 k (by rw [nr.2.1]; omega)
    simp only [nm_u]
    rw [ck_i (by omega) (by omega), e1, dr_s, fr.2.1 13 k (by decide) (by decide) (by omega) (by
      rintro ⟨_, p, hp, e⟩
      obtain ⟨b, f1, f2, _⟩ := gs.2.2.1 p hp
      rw [f1] at e
      have := Option.some.inj e
      omega), hw k (by omega), nI_1]
    have g2 := gc.set nr.1 g (w := 1) (p := k) (v := sM σ (4 + k)) (by omega) (by rw [nr.2.1]; omega) e1
    rw [Nat.mul_one] at g2
    exact ih (k + 1) _ _ (nr.set ok (by omega)) g2 (fr.tr (fP.si e1 (by omega) (by omega))) (by omega) (by omega)
theorem lX0_53 {σ : Sg} (ok : sOK σ) {hs : Hp} {Q : Int32 → Hp → Prop} (jj : Hp → Int32 → Int32 → Option (Int32 × Hp)) (hj : ∀ h', gc (qSt 8 σ 0).1 h' → fP (sN σ) hs h' → wp (jj h' (nI (qSt 8 σ 0).2) (if qR (qSt 8 σ 0).1 = sN (qSt 8 σ 0).1 then -1 else nI (qR (qSt 8 σ 0).1))) Q) :
    ∀ N, (fun N r => ∀ f τ j h, sOK τ → sN τ = sN σ → gc τ h → fP (sN σ) hs h → qSt f τ j = qSt 8 σ 0 → f + j = 8 → f < N → wp (r h (nI j) (if qR τ = sN τ then -1 else nI (qR τ))) Q) N (zfix (fun (_ : Hp) (_ : Int32) (_ : Int32) => (none : Option (Int32 × Hp))) (X0_settle_b53 jj) N) := by
  have hn := ok.1
  refine zfix_ind (σ := Hp → Int32 → Int32 → Option (Int32 × Hp)) _ _ (fun N r => ∀ f τ j h, sOK τ → sN τ = sN σ → gc τ h → fP (sN σ) hs h → qSt f τ j = qSt 8 σ 0 → f + j = 8 → f < N → wp (r h (nI j) (if qR τ = sN τ then -1 else nI (qR τ))) Q) (fun f _ _ _ _ _ _ _ _ _ z => absurd z (Nat.not_lt_zero _)) (fun N r ih f τ j h okt en g fr eq hf hN => ?_)
  have hq := qR_le τ
  unfold X0_settle_b53
  by_cases c : qR τ = sN τ
  · rw [if_pos c, if_pos (by decide)]
    have e : qSt f τ j = (τ, j) := by
      cases f with
      | zero => rfl
      | succ f => unfold qSt; rw [if_pos c]
    rw [e] at eq
    have := hj h (by rw [← eq]; exact g) fr
    rw [← eq, if_pos c] at this
    exact this
  · rw [if_neg c, if_neg (nI_pos (by omega))]
    cases f with
    | zero =>
      rw [if_pos (show (8 : Int32) ≤ nI j from (nI_leI (a := 8) (by omega) (by omega)).mpr (by omega))]
      have e : qSt 0 τ j = (τ, j) := rfl
      rw [e] at eq
      have := hj h (by rw [← eq]; exact g) fr
      rw [← eq, if_neg c] at this
      exact this
    | succ f =>
      rw [if_neg (fun z => by have := (nI_leI (by omega) (by omega)).mp (show nI 8 ≤ nI j from z); omega), ck_i (by omega) (by omega), nI_clamp (by omega)]
      obtain ⟨a, e1, _, _⟩ := g.2.2.1 (qR τ) (by omega)
      simp only [nm_u]
      rw [e1, wp_bd]
      refine (sX0_wouldOf okt g (p := qR τ) (by omega)).mono ?_
      rintro x h1 ⟨ex, fr1, g1⟩
      have e1' : zr h1 1 (qR τ) = some a := by rw [fr1.rr]; exact e1
      have oks := sS_ok okt (w := 1) (p := qR τ) (v := (qW τ (qR τ) 6).1) (by omega) (by omega) (by rw [if_neg (by decide), if_pos rfl]; exact qW_le okt (by omega) 6 (Nat.le_refl _))
      have g2 := gc.set okt g1 (w := 1) (p := qR τ) (v := (qW τ (qR τ) 6).1) (by omega) (by omega) e1'
      rw [Nat.mul_one] at oks g2
      rw [dr_s, ex, wp_bd, nI_1]
      refine (sX0_restless oks g2).mono ?_
      rintro y h2 ⟨ey, fr2⟩
      rw [ey]
      rw [en] at fr1
      refine ih f _ (j + 1) h2 oks en (g2.fr fr2) (fr.tr (fr1.tr ((fP.si e1' (by omega) (by omega)).tr fr2.fP))) ?_ (by omega) (by omega)
      rw [← eq]
      conv => rhs; unfold qSt
      rw [if_neg c]
theorem sX0_settle {σ : Sg} (ok : sOK σ) {h : Hp} (g : gc σ h) (x : Int32) : wp (X0_settle h x) (fun r h' => r = qSettle σ x ∧ fS h h') := by
  have hn := ok.1
  have hE := qSt_ok 8 ok 0
  have hE2 := qSt_near ok
  unfold X0_settle
  by_cases cx : x = -1 ∨ isP σ x
  · have main : wp (zfix (fun _ _ => none) (X0_settle_b17 (fun (h3 : Hp) => bd (X0_restless h3 ) fun r6 h5 => nm (fun (h7 : Hp) (v8 : Int32) (v9 : Int32) => nm (fun (h11 : Hp) (v12 : Int32) => zfix (fun _ _ => none) (X0_settle_b119 v12) zFU h11 (0 : Int32)) fun j114_13 => if v9 < 0 then (if 0 ≤ x then (ck (0 ≤ x.toInt ∧ x.toInt < 4) <| nm (zr h7 1 x.toNatClampNeg) fun o29 => dr o29 fun a30 => j114_13 h7 (zi h7 a30 1)) else (j114_13 h7 v8)) else (j114_13 h7 (-2 : Int32))) fun j88_10 => zfix (fun _ _ _ => none) (X0_settle_b53 j88_10) zFU h5 (0 : Int32) r6)) zFU h (0 : Int32)) (fun r h' => r = qSettle σ x ∧ fS h h') := by
      have fin : ∀ hs, gc σ hs → fS h hs → (∀ i, i < sN σ → zi hs 13 i = nI (sM σ (4 + i))) → wp ((fun (h3 : Hp) => bd (X0_restless h3 ) fun r6 h5 => nm (fun (h7 : Hp) (v8 : Int32) (v9 : Int32) => nm (fun (h11 : Hp) (v12 : Int32) => zfix (fun _ _ => none) (X0_settle_b119 v12) zFU h11 (0 : Int32)) fun j114_13 => if v9 < 0 then (if 0 ≤ x then (ck (0 ≤ x.toInt ∧ x.toInt < 4) <| nm (zr h7 1 x.toNatClampNeg) fun o29 => dr o29 fun a30 => j114_13 h7 (zi h7 a30 1)) else (j114_13 h7 v8)) else (j114_13 h7 (-2 : Int32))) fun j88_10 => zfix (fun _ _ _ => none) (X0_settle_b53 j88_10) zFU h5 (0 : Int32) r6) hs) (fun r h' => r = qSettle σ x ∧ fS h h') := by
        intro hs gs fs hw
        show wp (bd (X0_restless hs) _) _
        rw [wp_bd]
        refine (sX0_restless ok gs).mono ?_
        rintro r h1 ⟨er, fr1⟩
        rw [er]
        simp only [nm_u]
        refine lX0_53 ok (hs := hs) _ (fun h' g' fr' => ?_) zFU 8 σ 0 h1 ok rfl (gs.fr fr1) fr1.fP rfl rfl (by rw [zFU_u]; omega)
        have put : ∀ v, v = qSettle σ x → wp (zfix (fun _ _ => none) (X0_settle_b119 v) zFU h' (0 : Int32)) (fun r h' => r = qSettle σ x ∧ fS h h') := by
          intro v ev
          refine (lX0_119 ok gs hw v zFU 0 _ h' hE2 g' fr' (Nat.zero_le _) (by rw [zFU_u]; omega)).mono ?_
          rintro r h2 ⟨er, f2⟩
          exact ⟨by rw [er, ev], fs.tr f2.fS⟩
        by_cases c : qR (qSt 8 σ 0).1 = sN (qSt 8 σ 0).1
        · rw [if_pos c, if_pos (by decide)]
          by_cases c1 : x = -1
          · rw [if_neg (by rw [c1]; decide)]
            refine put _ ?_
            unfold qSettle
            rw [if_pos cx, if_pos c, if_pos c1]
          · obtain ⟨p, hp, rfl⟩ := (cx.resolve_left c1).nI ok
            rw [if_pos (nI_pos' (by omega)), ck_i (by omega) (by omega), nI_clamp (by omega)]
            obtain ⟨a, e1, _, e3⟩ := g'.2.2.1 p (by rw [hE.2.1]; exact hp)
            have v1 := e3 1 (by decide)
            rw [Nat.mul_one] at v1
            rw [e1, dr_s, v1]
            refine put _ ?_
            unfold qSettle
            rw [if_pos cx, if_pos c, if_neg c1, nI_clamp (by omega)]
        · have hq := qR_le (qSt 8 σ 0).1
          rw [hE.2.1] at hq
          rw [if_neg c, if_neg (nI_pos (by omega))]
          refine put _ ?_
          unfold qSettle
          rw [if_pos cx, if_neg c]
      have key : ∀ N, (fun N r => ∀ k h1, gc σ h1 → fS h h1 → (∀ i, i < k → zi h1 13 i = nI (sM σ (4 + i))) → k ≤ sN σ → sN σ - k < N → wp (r h1 (nI k)) (fun r h' => r = qSettle σ x ∧ fS h h')) N (zfix (fun (_ : Hp) (_ : Int32) => (none : Option (Int32 × Hp))) (X0_settle_b17 (fun (h3 : Hp) => bd (X0_restless h3 ) fun r6 h5 => nm (fun (h7 : Hp) (v8 : Int32) (v9 : Int32) => nm (fun (h11 : Hp) (v12 : Int32) => zfix (fun _ _ => none) (X0_settle_b119 v12) zFU h11 (0 : Int32)) fun j114_13 => if v9 < 0 then (if 0 ≤ x then (ck (0 ≤ x.toInt ∧ x.toInt < 4) <| nm (zr h7 1 x.toNatClampNeg) fun o29 => dr o29 fun a30 => j114_13 h7 (zi h7 a30 1)) else (j114_13 h7 v8)) else (j114_13 h7 (-2 : Int32))) fun j88_10 => zfix (fun _ _ _ => none) (X0_settle_b53 j88_10) zFU h5 (0 : Int32) r6)) N) := by
        refine zfix_ind (σ := Hp → Int32 → Option (Int32 × Hp)) _ _ (fun N r => ∀ k h1, gc σ h1 → fS h h1 → (∀ i, i < k → zi h1 13 i = nI (sM σ (4 + i))) → k ≤ sN σ → sN σ - k < N → wp (r h1 (nI k)) (fun r h' => r = qSettle σ x ∧ fS h h')) (fun k _ _ _ _ _ z => absurd z (Nat.not_lt_zero _)) (fun N r ih k h1 g1 fs kn hk hN => ?_)
        unfold X0_settle_b17
        rw [g1.1]
        by_cases c : sN σ ≤ k
        · rw [if_pos ((nI_leI (by omega) (by omega)).mpr c)]
          exact fin h1 g1 fs (fun i hi => kn i (by omega))
        · obtain ⟨a, e1, _, e3⟩ := g1.2.2.1 k (by omega)
          have v1 := e3 1 (by decide)
          rw [Nat.mul_one] at v1
          rw [if_neg (fun z => c ((nI_leI (by omega) (by omega)).mp z)), ck_i (by omega) (by omega), nI_clamp (by omega), e1]
          simp only [nm_u]
          rw [dr_s, v1, ck_i (by omega) (by omega), nI_1]
          refine ih (k + 1) _ g1.s13 (fs.tr fS.s13) (fun i hi => ?_) (by omega) (by omega)
          rcases Nat.lt_or_ge i k with l | l
          · rw [zi_ne _ _ _ _ (Or.inr (by omega))]; exact kn i l
          · rw [show i = k from by omega, zi_eq]
      exact key zFU 0 h g (fS.rf h) (fun i hi => absurd hi (Nat.not_lt_zero _)) (Nat.zero_le _) (by rw [zFU_u]; omega)
    rw [nm_u]
    by_cases c1 : x = -1
    · rw [if_pos c1]; exact main
    · have c2 := cx.resolve_left c1
      rw [if_neg c1, sX0_isP g, bd_s, if_neg (fun z => (pB0.mp z) c2)]
      exact main
  · have c1 : ¬ x = -1 := fun z => cx (Or.inl z)
    have c2 : ¬ isP σ x := fun z => cx (Or.inr z)
    rw [nm_u, if_neg c1, sX0_isP g, bd_s, if_pos (pB0.mpr c2)]
    refine wp.of rfl ⟨?_, fS.rf h⟩
    unfold qSettle
    rw [if_neg cx]
