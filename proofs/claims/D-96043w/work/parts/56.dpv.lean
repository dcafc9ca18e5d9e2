/-! THE CLASS: the best aim, the aim, all values -/
theorem sX0_bestAim {σ : Sg} (ok : sOK σ) {h : Hp} (g : gc σ h) {s pl m : Nat} (hs : s < 2 ^ sN σ) (hp : pl < sN σ) (hm : m < sB σ) (hb : s.testBit (sO σ pl) = true) (tb : tC σ h (m + 1)) : wp (X0_bestAim h (nI s) (nI pl) (nI m)) (fun r h' => r = nI (dX σ (dV σ (sB σ - (m + 1))) (sB σ - (m + 1)) s (sO σ pl) (sN σ)).1 ∧ f7 h h') := by
  have hn := ok.1
  have hb9 := ok.2.2.2.2.1
  have h16 : s < 16 := Nat.lt_of_lt_of_le hs (pow16 hn)
  have hw := (ok.2.1 pl hp).1
  have key : ∀ j, (fun j r => ∀ k h1, f7 h h1 → k ≤ sN σ → sN σ - k < j → wp (r h1 (nI (dX σ (dV σ (sB σ - (m + 1))) (sB σ - (m + 1)) s (sO σ pl) k).1) (dX σ (dV σ (sB σ - (m + 1))) (sB σ - (m + 1)) s (sO σ pl) k).2 (nI k)) (fun r h' => r = nI (dX σ (dV σ (sB σ - (m + 1))) (sB σ - (m + 1)) s (sO σ pl) (sN σ)).1 ∧ f7 h h')) j (zfix (fun (_ : Hp) (_ : Int32) (_ : Int64) (_ : Int32) => (none : Option (Int32 × Hp))) (X0_bestAim_b28 (nI s) (nI pl) (nI m) (nI (sO σ pl))) j) := by
    refine zfix_ind (σ := Hp → Int32 → Int64 → Int32 → Option (Int32 × Hp)) _ _ (fun j r => ∀ k h1, f7 h h1 → k ≤ sN σ → sN σ - k < j → wp (r h1 (nI (dX σ (dV σ (sB σ - (m + 1))) (sB σ - (m + 1)) s (sO σ pl) k).1) (dX σ (dV σ (sB σ - (m + 1))) (sB σ - (m + 1)) s (sO σ pl) k).2 (nI k)) (fun r h' => r = nI (dX σ (dV σ (sB σ - (m + 1))) (sB σ - (m + 1)) s (sO σ pl) (sN σ)).1 ∧ f7 h h')) (fun k _ _ _ z => absurd z (Nat.not_lt_zero _)) (fun j r ih k h1 fr hk hj => ?_)
    have g1 := g.fr fr.f0
    have t1 := tb.f7 fr
    unfold X0_bestAim_b28
    rw [g1.1]
    by_cases c : sN σ ≤ k
    · rw [if_pos ((nI_leI (by omega) (by omega)).mpr c), show k = sN σ from by omega]
      exact wp.of rfl ⟨rfl, fr⟩
    · rw [if_neg (fun z => c ((nI_leI (by omega) (by omega)).mp z))]
      simp only [nm_u]
      have hu : dX σ (dV σ (sB σ - (m + 1))) (sB σ - (m + 1)) s (sO σ pl) (k + 1) = if k ≠ sO σ pl ∧ s.testBit k = true ∧ (dX σ (dV σ (sB σ - (m + 1))) (sB σ - (m + 1)) s (sO σ pl) k).2 < dT σ (dV σ (sB σ - (m + 1))) (sB σ - (m + 1)) s (sO σ pl) k (sO σ pl) then (k, dT σ (dV σ (sB σ - (m + 1))) (sB σ - (m + 1)) s (sO σ pl) k (sO σ pl)) else dX σ (dV σ (sB σ - (m + 1))) (sB σ - (m + 1)) s (sO σ pl) k := rfl
      rw [nI_1]
      by_cases cw : k = sO σ pl
      · rw [if_pos (by rw [cw])]
        have ih1 := ih (k + 1) h1 fr (by omega) (by omega)
        rw [hu, if_neg (fun z => z.1 cw)] at ih1
        exact ih1
      · rw [if_neg (fun z => cw ((nI_eq (by omega) (by omega)).mp z)), sX0_has h1 h16 (by omega), bd_s]
        by_cases cb : s.testBit k = true
        · rw [if_neg (fun z => (pB0.mp z) cb), wp_bd]
          refine (sX0_throwing ok g1 hs hp hm hw hb (Or.inr ⟨by omega, cw, cb⟩) t1).mono ?_
          rintro x h2 ⟨ex, fr2⟩
          have ih1 := ih (k + 1) h2 (fr.tr fr2) (by omega) (by omega)
          rw [hu] at ih1
          rw [ex]
          by_cases cc : (dX σ (dV σ (sB σ - (m + 1))) (sB σ - (m + 1)) s (sO σ pl) k).2 < dT σ (dV σ (sB σ - (m + 1))) (sB σ - (m + 1)) s (sO σ pl) k (sO σ pl)
          · rw [if_pos cc]
            rw [if_pos ⟨cw, cb, cc⟩] at ih1
            exact ih1
          · rw [if_neg cc]
            rw [if_neg (fun z => cc z.2.2)] at ih1
            exact ih1
        · rw [if_pos (pB0.mpr cb)]
          have ih1 := ih (k + 1) h1 fr (by omega) (by omega)
          rw [hu, if_neg (fun z => cb z.2.1)] at ih1
          exact ih1
  unfold X0_bestAim
  rw [ck_i (by omega) (by omega), nI_clamp (by omega), g.2.1 _ hp]
  simp only [nm_u]
  rw [wp_bd]
  refine (sX0_throwing ok g hs hp hm hw hb (Or.inl rfl) tb).mono ?_
  rintro x h1 ⟨ex, fr⟩
  rw [ex]
  exact key zFU 0 h1 fr (by omega) (by rw [zFU_u]; omega)
theorem sX0_aimOf {σ : Sg} (ok : sOK σ) {h : Hp} (g : gc σ h) {s pl m : Nat} (hs : s < 2 ^ sN σ) (hp : pl < sN σ) (hm : m < sB σ) (hb : s.testBit (sO σ pl) = true) (h2 : 1 < pc s) (tb : tC σ h (m + 1)) : wp (X0_aimOf h (nI s) (nI pl) (nI m)) (fun r h' => r = nI (dG σ (sB σ - m) s (sO σ pl)) ∧ f7 h h') := by
  have hn := ok.1
  have hb9 := ok.2.2.2.2.1
  have h16 : s < 16 := Nat.lt_of_lt_of_le hs (pow16 hn)
  have hw := (ok.2.1 pl hp).1
  obtain ⟨a, e1, _, e2⟩ := g.2.2.1 _ hw
  have v1 := e2 1 (by decide)
  have v2 := e2 2 (by decide)
  rw [Nat.mul_one] at v1
  rw [show 4 * 2 + sO σ pl = 8 + sO σ pl from by omega] at v2
  have o := ok.2.2.2.1 _ hw
  have hG : dG σ (sB σ - m) s (sO σ pl) = dA σ (dV σ (sB σ - (m + 1))) (sB σ - (m + 1)) s (sO σ pl) := by
    rw [show sB σ - m = sB σ - (m + 1) + 1 from by omega]; rfl
  rw [hG]
  unfold X0_aimOf dA
  rw [ck_i (by omega) (by omega), nI_clamp (by omega), g.2.1 _ hp]
  simp only [nm_u]
  rw [ck_i (by omega) (by omega), nI_clamp (by omega), e1, dr_s, v1]
  by_cases c0 : sM σ (4 + sO σ pl) = 0
  · rw [if_pos (by rw [c0]; rfl), if_pos c0, show (1 : Int32) = (if true then (1 : Int32) else -1) from rfl, sX0_byHits ok g h16 hw true, bd_s]
    exact wp.of rfl ⟨rfl, f7.rf h⟩
  rw [if_neg (nI_n0 (by omega) c0), if_neg c0]
  by_cases c1 : sM σ (4 + sO σ pl) = 1
  · rw [if_pos (by rw [c1]; rfl), if_pos c1, show (-1 : Int32) = (if false then (1 : Int32) else -1) from rfl, sX0_byHits ok g h16 hw false, bd_s]
    exact wp.of rfl ⟨rfl, f7.rf h⟩
  rw [if_neg (nI_n1 (by omega) c1), if_neg c1]
  by_cases c3 : sM σ (4 + sO σ pl) = 3
  · have hne : nxp σ s pl ≠ pl := by
      have := nxw_ne ok hs hw hb h2
      intro z
      apply this
      rw [← nxw_pl ok hp, z]
    rw [if_pos (by rw [c3]; rfl), if_pos c3, sX0_next ok g h16 hp, bd_s, if_neg (fun z => hne ((nI_eq (by have := nxp_lt (s := s) hp; omega) (by omega)).mp z)), sX0_next ok g h16 hp, bd_s, ck_i (by have := nxp_lt (s := s) hp; omega) (by omega), nI_clamp (by have := nxp_lt (s := s) hp; omega), g.2.1 _ (nxp_lt hp), nxw_pl ok hp]
    exact wp.of rfl ⟨rfl, f7.rf h⟩
  rw [if_neg (nI_n3 (by omega) c3), if_neg c3]
  by_cases c4 : sM σ (4 + sO σ pl) = 4
  · rw [if_pos (by rw [c4]; rfl), if_pos c4, ck_i (by omega) (by omega), dr_s, v2]
    by_cases d : sM σ (8 + sO σ pl) = sO σ pl
    · rw [if_pos (by rw [d]), if_neg (fun z => z.1 d)]
      exact wp.of rfl ⟨rfl, f7.rf h⟩
    · rw [if_neg (fun z => d ((nI_eq (by omega) (by omega)).mp z)), ck_i (by omega) (by omega), dr_s, v2, sX0_has h h16 (by omega), bd_s]
      by_cases d2 : s.testBit (sM σ (8 + sO σ pl)) = true
      · rw [if_neg (fun z => (pB0.mp z) d2), if_pos ⟨d, d2⟩, ck_i (by omega) (by omega), e1, dr_s, v2]
        exact wp.of rfl ⟨rfl, f7.rf h⟩
      · rw [if_pos (pB0.mpr d2), if_neg (fun z => d2 z.2)]
        exact wp.of rfl ⟨rfl, f7.rf h⟩
  rw [if_neg (nI_n4 (by omega) c4), if_neg c4]
  by_cases c5 : sM σ (4 + sO σ pl) = 5
  · rw [if_pos (by rw [c5]; rfl), if_pos c5, wp_bd]
    refine (sX0_bestAim ok g hs hp hm hb tb).mono ?_
    rintro x h1 ⟨ex, fr⟩
    exact wp.of rfl ⟨ex, fr⟩
  · rw [if_neg (nI_n5 (by omega) c5), if_neg c5]
    exact wp.of rfl ⟨rfl, f7.rf h⟩
theorem b_byte : ∀ t, t < 128 → vp_nar .byte ((nI t).toInt8.toInt32) = nI t := by
  intro t ht
  rw [pk_vb]
  have : ∀ t, t < 128 → (nI t).toInt8.toInt32 = nI t := by decide
  exact this t ht
/-- what the class writes as it looks for values -/
def fV (h h' : Hp) : Prop := h'.2.2 = h.2.2 ∧ (∀ q k, q ≠ 7 → q ≠ 9 → zi h' q k = zi h q k) ∧ ∀ q k, q ≠ 8 → zj h' q k = zj h q k
theorem fV.rf (h : Hp) : fV h h := ⟨rfl, fun _ _ _ _ => rfl, fun _ _ _ => rfl⟩
theorem fV.tr {h h' h2 : Hp} (a : fV h h') (b : fV h' h2) : fV h h2 := ⟨b.1.trans a.1, fun q k h1 h2 => (b.2.1 q k h1 h2).trans (a.2.1 q k h1 h2), fun q k h1 => (b.2.2 q k h1).trans (a.2.2 q k h1)⟩
theorem fV.f0 {h h' : Hp} (a : fV h h') : f0 h h' := ⟨a.1, fun q k h1 h2 _ => a.2.1 q k h1 h2, fun q k h1 _ _ _ => a.2.2 q k h1⟩
theorem f7.fV {h h' : Hp} (a : f7 h h') : fV h h' := ⟨congrArg (fun x => x.2) a.1, fun q k h1 _ => a.2 q k h1, fun q k _ => by rw [a.zj]⟩
theorem fV.si {h : Hp} {k : Nat} {v : Int32} : fV h (zsi h 9 k v) := ⟨rfl, fun _ _ _ h2 => zi_ne _ _ _ _ (Or.inl h2), fun _ _ _ => rfl⟩
theorem fV.sj {h : Hp} {k : Nat} {v : Int64} : fV h (zsj h 8 k v) := ⟨rfl, fun _ _ _ _ => rfl, fun _ _ h2 => zj_ne _ _ _ _ (Or.inl h2)⟩
/-- nothing but the state (s, pl, m) has changed in the tables -/
def kC (s pl m : Nat) (h h' : Hp) : Prop := ∀ s' pl' m', pl' < 4 → m' < 10 → (s' ≠ s ∨ pl' ≠ pl ∨ m' ≠ m) → zi h' 9 (40 * s' + 10 * pl' + m') = zi h 9 (40 * s' + 10 * pl' + m') ∧ ∀ p, p < 4 → zj h' 8 (4 * (40 * s' + 10 * pl' + m') + p) = zj h 8 (4 * (40 * s' + 10 * pl' + m') + p)
theorem kC.tr {s pl m : Nat} {h h' h2 : Hp} (a : kC s pl m h h') (b : kC s pl m h' h2) : kC s pl m h h2 := fun s' pl' m' h1 h3 h4 => ⟨(b s' pl' m' h1 h3 h4).1.trans (a s' pl' m' h1 h3 h4).1, fun p hp => ((b s' pl' m' h1 h3 h4).2 p hp).trans ((a s' pl' m' h1 h3 h4).2 p hp)⟩
theorem f7.kC {s pl m : Nat} {h h' : Hp} (a : f7 h h') : kC s pl m h h' := fun _ _ _ _ _ _ => ⟨a.2 9 _ (by decide), fun _ _ => by rw [a.zj]⟩
theorem kC.si {s pl m : Nat} {h : Hp} {v : Int32} (hp : pl < 4) (hm : m < 10) : kC s pl m h (zsi h 9 (40 * s + 10 * pl + m) v) := fun s' pl' m' h1 h3 h4 => ⟨zi_ne _ _ _ _ (Or.inr (by omega)), fun _ _ => rfl⟩
theorem kC.sj {s pl m p : Nat} {h : Hp} {v : Int64} (hp : pl < 4) (hm : m < 10) (hq : p < 4) : kC s pl m h (zsj h 8 (4 * (40 * s + 10 * pl + m) + p) v) := fun s' pl' m' h1 h3 h4 => ⟨rfl, fun _ _ => zj_ne _ _ _ _ (Or.inr (by omega))⟩
theorem eC.k {σ : Sg} {h h' : Hp} {s pl m s' pl' m' : Nat} (hn : sN σ ≤ 4) (e : eC σ h s' pl' m') (k : kC s pl m h h') (h1 : pl' < 4) (h2 : m' < 10) (h3 : s' ≠ s ∨ pl' ≠ pl ∨ m' ≠ m) : eC σ h' s' pl' m' := by
  have := k s' pl' m' h1 h2 h3
  exact ⟨this.1.trans e.1, fun p hp => (this.2 p (by omega)).trans (e.2 p hp)⟩
theorem tC.k {σ : Sg} (ok : sOK σ) {h h' : Hp} {s pl m : Nat} (t : tC σ h (m + 1)) (k : kC s pl m h h') : tC σ h' (m + 1) := fun m' h1 h2 s' h3 h4 pl' h5 h6 => (t m' h1 h2 s' h3 h4 pl' h5 h6).k ok.1 k (by have := ok.1; omega) (by have := ok.2.2.2.2.1; omega) (by omega)
/-- one state: the loop over players -/
theorem lX0_85 {σ : Sg} (ok : sOK σ) {s pl m : Nat} (hs : s < 2 ^ sN σ) (hp : pl < sN σ) (hm : m < sB σ) (hb : s.testBit (sO σ pl) = true) (h2 : 1 < pc s) {Q : Unit → Hp → Prop} (j : Hp → Option (Unit × Hp)) (h0 : Hp) (hj : ∀ h', fV h0 h' → kC s pl m h0 h' → eC σ h' s pl m → gc σ h' → wp (j h') Q) :
    ∀ N, (fun N r => ∀ k h, gc σ h → tC σ h (m + 1) → fV h0 h → kC s pl m h0 h → zi h 9 (40 * s + 10 * pl + m) = nI (dG σ (sB σ - m) s (sO σ pl)) → (∀ p, p < k → zj h 8 (4 * (40 * s + 10 * pl + m) + p) = dV σ (sB σ - m) s (sO σ pl) p) → k ≤ sN σ → sN σ - k < N → wp (r h (nI k)) Q) N (zfix (fun (_ : Hp) (_ : Int32) => (none : Option (Unit × Hp))) (X0_findValues_b85 (nI m) (nI s) (nI pl) j (nI (dG σ (sB σ - m) s (sO σ pl)))) N) := by
  have hn := ok.1
  have hb9 := ok.2.2.2.2.1
  have h16 : s < 16 := Nat.lt_of_lt_of_le hs (pow16 hn)
  have hw := (ok.2.1 pl hp).1
  have hG : dG σ (sB σ - m) s (sO σ pl) = dA σ (dV σ (sB σ - (m + 1))) (sB σ - (m + 1)) s (sO σ pl) := by
    rw [show sB σ - m = sB σ - (m + 1) + 1 from by omega]; rfl
  have hA := dA_aim ok (dV σ (sB σ - (m + 1))) (sB σ - (m + 1)) hs hw hb h2
  have hV : ∀ p, dV σ (sB σ - m) s (sO σ pl) p = dT σ (dV σ (sB σ - (m + 1))) (sB σ - (m + 1)) s (sO σ pl) (dA σ (dV σ (sB σ - (m + 1))) (sB σ - (m + 1)) s (sO σ pl)) p := by
    intro p
    rw [show sB σ - m = sB σ - (m + 1) + 1 from by omega]
    show (if pc s ≤ 1 then _ else _) = _
    rw [if_neg (by omega)]
  refine zfix_ind (σ := Hp → Int32 → Option (Unit × Hp)) _ _ (fun N r => ∀ k h, gc σ h → tC σ h (m + 1) → fV h0 h → kC s pl m h0 h → zi h 9 (40 * s + 10 * pl + m) = nI (dG σ (sB σ - m) s (sO σ pl)) → (∀ p, p < k → zj h 8 (4 * (40 * s + 10 * pl + m) + p) = dV σ (sB σ - m) s (sO σ pl) p) → k ≤ sN σ → sN σ - k < N → wp (r h (nI k)) Q) (fun k _ _ _ _ _ _ _ _ z => absurd z (Nat.not_lt_zero _)) (fun N r ih k h g t fr kc ea ep hk hN => ?_)
  unfold X0_findValues_b85
  rw [g.1]
  by_cases c : sN σ ≤ k
  · rw [if_pos ((nI_leI (by omega) (by omega)).mpr c)]
    exact hj h fr kc ⟨ea, fun p hp' => ep p (by omega)⟩ g
  · rw [if_neg (fun z => c ((nI_leI (by omega) (by omega)).mp z)), sX0_at, bd_s, wp_bd, hG]
    refine (sX0_throwing ok g hs hp hm (by omega) hb hA t).mono ?_
    rintro x h1 ⟨ex, fr1⟩
    simp only [nm_u]
    rw [show (4 : Int32) = nI 4 from rfl, pk_mul, nI_add, ck_i (by omega) (by omega), nI_clamp (by omega), nI_1]
    have k1 : kC s pl m h (zsj h1 8 (4 * (40 * s + 10 * pl + m) + k) x) := kC.tr fr1.kC (kC.sj (by omega) (by omega) (by omega))
    refine ih (k + 1) _ ((g.fr fr1.f0).fr (f0.sj (Or.inl rfl))) (tC.k ok t k1) (fr.tr (fr1.fV.tr fV.sj)) (kc.tr k1) ?_ ?_ (by omega) (by omega)
    · show zi h1 9 _ = _
      rw [fr1.2 9 _ (by decide)]; exact ea
    · intro p hp'
      rcases Nat.lt_or_ge p k with l | l
      · rw [zj_ne _ _ _ _ (Or.inr (by omega)), fr1.zj]; exact ep p l
      · rw [show p = k from by omega, zj_eq, ex, hV]
/-- one set: the loop over places -/
theorem lX0_35 {σ : Sg} (ok : sOK σ) {s m : Nat} (hs : s < 2 ^ sN σ) (hm : m < sB σ) (h2 : 1 < pc s) {Q : Unit → Hp → Prop} (j : Hp → Option (Unit × Hp)) (h0 : Hp) (hj : ∀ h', fV h0 h' → gc σ h' → tC σ h' (m + 1) → (∀ s' pl', s' < 2 ^ sN σ → s' ≠ s → pl' < sN σ → eC σ h0 s' pl' m → eC σ h' s' pl' m) → (∀ pl', pl' < sN σ → s.testBit (sO σ pl') = true → eC σ h' s pl' m) → wp (j h') Q) :
    ∀ N, (fun N r => ∀ k h, gc σ h → tC σ h (m + 1) → fV h0 h → (∀ s' pl', s' < 2 ^ sN σ → s' ≠ s → pl' < sN σ → eC σ h0 s' pl' m → eC σ h s' pl' m) → (∀ pl', pl' < k → s.testBit (sO σ pl') = true → eC σ h s pl' m) → k ≤ sN σ → sN σ - k < N → wp (r h (nI k)) Q) N (zfix (fun (_ : Hp) (_ : Int32) => (none : Option (Unit × Hp))) (X0_findValues_b35 (nI m) (nI s) j) N) := by
  have hn := ok.1
  have hb9 := ok.2.2.2.2.1
  have h16 : s < 16 := Nat.lt_of_lt_of_le hs (pow16 hn)
  refine zfix_ind (σ := Hp → Int32 → Option (Unit × Hp)) _ _ (fun N r => ∀ k h, gc σ h → tC σ h (m + 1) → fV h0 h → (∀ s' pl', s' < 2 ^ sN σ → s' ≠ s → pl' < sN σ → eC σ h0 s' pl' m → eC σ h s' pl' m) → (∀ pl', pl' < k → s.testBit (sO σ pl') = true → eC σ h s pl' m) → k ≤ sN σ → sN σ - k < N → wp (r h (nI k)) Q) (fun k _ _ _ _ _ _ _ z => absurd z (Nat.not_lt_zero _)) (fun N r ih k h g t fr ko kn hk hN => ?_)
  unfold X0_findValues_b35
  rw [g.1]
  by_cases c : sN σ ≤ k
  · rw [if_pos ((nI_leI (by omega) (by omega)).mpr c)]
    exact hj h fr g t ko (fun pl' h1 h3 => kn pl' (by omega) h3)
  · have hw := (ok.2.1 k (by omega)).1
    rw [if_neg (fun z => c ((nI_leI (by omega) (by omega)).mp z)), ck_i (by omega) (by omega), nI_clamp (by omega), g.2.1 k (by omega), sX0_has h h16 (by omega), bd_s]
    simp only [nm_u]
    rw [nI_1]
    by_cases cb : s.testBit (sO σ k) = true
    · rw [if_neg (fun z => (pB0.mp z) cb), wp_bd]
      refine (sX0_aimOf ok g hs (by omega) hm cb h2 t).mono ?_
      rintro x h1 ⟨ex, fr1⟩
      have hG9 : dG σ (sB σ - m) s (sO σ k) < 128 := by
        have hG : dG σ (sB σ - m) s (sO σ k) = dA σ (dV σ (sB σ - (m + 1))) (sB σ - (m + 1)) s (sO σ k) := by
          rw [show sB σ - m = sB σ - (m + 1) + 1 from by omega]; rfl
        rw [hG]
        rcases dA_aim ok (dV σ (sB σ - (m + 1))) (sB σ - (m + 1)) hs hw cb h2 with z | z <;> omega
      rw [sX0_at, bd_s, ck_i (by omega) (by omega), nI_clamp (by omega), ex, b_byte _ hG9]
      have k1 : kC s k m h (zsi h1 9 (40 * s + 10 * k + m) (nI (dG σ (sB σ - m) s (sO σ k)))) := kC.tr fr1.kC (kC.si (by omega) (by omega))
      refine lX0_85 ok hs (by omega) hm cb h2 _ h (fun h' a1 a2 a3 a4 => ?_) zFU 0 _ ((g.fr fr1.f0).fr (f0.si (Or.inr (Or.inl rfl)))) (tC.k ok t k1) (fr1.fV.tr fV.si) k1 (zi_eq _ _ _ _) (fun p hp => absurd hp (Nat.not_lt_zero _)) (Nat.zero_le _) (by rw [zFU_u]; omega)
      refine ih (k + 1) h' a4 (tC.k ok t a2) (fr.tr a1) (fun s' pl' b1 b2 b3 b4 => (ko s' pl' b1 b2 b3 b4).k hn a2 (by omega) (by omega) (Or.inl b2)) (fun pl' b1 b2 => ?_) (by omega) (by omega)
      rcases Nat.lt_or_ge pl' k with l | l
      · exact (kn pl' l b2).k hn a2 (by omega) (by omega) (by omega)
      · rw [show pl' = k from by omega]; exact a3
    · rw [if_pos (pB0.mpr cb)]
      refine ih (k + 1) h g t fr ko (fun pl' b1 b2 => ?_) (by omega) (by omega)
      rcases Nat.lt_or_ge pl' k with l | l
      · exact kn pl' l b2
      · rw [show pl' = k from by omega] at b2; exact absurd b2 cb
/-- one number of throws: the loop over sets -/
theorem lX0_13 {σ : Sg} (ok : sOK σ) {m : Nat} (hm : m < sB σ) {Q : Unit → Hp → Prop} (j : Hp → Option (Unit × Hp)) (h0 : Hp) (hj : ∀ h', fV h0 h' → gc σ h' → tC σ h' m → wp (j h') Q) :
    ∀ N, (fun N r => ∀ k h, gc σ h → tC σ h (m + 1) → fV h0 h → (∀ s', s' < k → 1 < pc s' → ∀ pl', pl' < sN σ → s'.testBit (sO σ pl') = true → eC σ h s' pl' m) → k ≤ 2 ^ sN σ → 2 ^ sN σ - k < N → wp (r h (nI k)) Q) N (zfix (fun (_ : Hp) (_ : Int32) => (none : Option (Unit × Hp))) (X0_findValues_b13 (nI m) j) N) := by
  have hn := ok.1
  have hb9 := ok.2.2.2.2.1
  have hpw := pow16 hn
  have hpos : 0 < 2 ^ sN σ := Nat.pos_of_ne_zero (by intro z; have := Nat.pow_eq_zero.mp z; omega)
  refine zfix_ind (σ := Hp → Int32 → Option (Unit × Hp)) _ _ (fun N r => ∀ k h, gc σ h → tC σ h (m + 1) → fV h0 h → (∀ s', s' < k → 1 < pc s' → ∀ pl', pl' < sN σ → s'.testBit (sO σ pl') = true → eC σ h s' pl' m) → k ≤ 2 ^ sN σ → 2 ^ sN σ - k < N → wp (r h (nI k)) Q) (fun k _ _ _ _ _ _ z => absurd z (Nat.not_lt_zero _)) (fun N r ih k h g t fr kn hk hN => ?_)
  unfold X0_findValues_b13
  rw [sX0_all h hn g.1, bd_s]
  by_cases c : 2 ^ sN σ ≤ k
  · rw [if_pos ((nI_ltI (by omega) (by omega)).mpr (by omega))]
    refine hj h fr g (fun m' h1 h2 s h3 h4 pl h5 h6 => ?_)
    rcases Nat.lt_or_ge m m' with l | l
    · exact t m' l h2 s h3 h4 pl h5 h6
    · rw [show m' = m from by omega]; exact kn s (by omega) h4 pl h5 h6
  · rw [if_neg (fun z => by have := (nI_ltI (by omega) (by omega)).mp z; omega), sX0_isOver h (by omega) (by omega) (by omega) g.2.2.2.1, bd_s]
    simp only [nm_u]
    rw [nI_1]
    by_cases co : sB σ ≤ m ∨ pc k ≤ 1
    · rw [if_neg (fun z => (pB0.mp z) co)]
      refine ih (k + 1) h g t fr (fun s' b1 b2 => ?_) (by omega) (by omega)
      rcases Nat.lt_or_ge s' k with l | l
      · exact kn s' l b2
      · rw [show s' = k from by omega] at b2; omega
    · rw [if_pos (pB0.mpr co)]
      refine lX0_35 ok (by omega) hm (by omega) _ h (fun h' a1 a2 a3 a4 a5 => ?_) zFU 0 h g t (fV.rf h) (fun _ _ _ _ _ z => z) (fun pl' z => absurd z (Nat.not_lt_zero _)) (Nat.zero_le _) (by rw [zFU_u]; omega)
      refine ih (k + 1) h' a2 a3 (fr.tr a1) (fun s' b1 b2 pl' b3 b4 => ?_) (by omega) (by omega)
      rcases Nat.lt_or_ge s' k with l | l
      · exact a4 s' pl' (by omega) (by omega) b3 (kn s' l b2 pl' b3 b4)
      · rw [show s' = k from by omega] at b4 ⊢; exact a5 pl' b3 b4
theorem nI_dn {k : Nat} : nI k + (-1 : Int32) = nI k - 1 := by
  rw [Int32.sub_eq_add_neg]
/-- all values -/
theorem sX0_findValues {σ : Sg} (ok : sOK σ) {h : Hp} (g : gc σ h) : wp (X0_findValues h) (fun _ h' => fV h h' ∧ tC σ h' 0) := by
  have hb9 := ok.2.2.2.2.1
  have key : ∀ N, (fun N r => ∀ k h1, gc σ h1 → tC σ h1 k → fV h h1 → k ≤ sB σ → k < N → wp (r h1 (nI k - 1)) (fun _ h' => fV h h' ∧ tC σ h' 0)) N (zfix (fun (_ : Hp) (_ : Int32) => (none : Option (Unit × Hp))) X0_findValues_b7 N) := by
    refine zfix_ind (σ := Hp → Int32 → Option (Unit × Hp)) _ _ (fun N r => ∀ k h1, gc σ h1 → tC σ h1 k → fV h h1 → k ≤ sB σ → k < N → wp (r h1 (nI k - 1)) (fun _ h' => fV h h' ∧ tC σ h' 0)) (fun k _ _ _ _ _ z => absurd z (Nat.not_lt_zero _)) (fun N r ih k h1 g1 t fr hk hN => ?_)
    unfold X0_findValues_b7
    cases k with
    | zero =>
      rw [if_pos (by decide)]
      exact wp.of rfl ⟨fr, t⟩
    | succ k =>
      rw [nI_pred, if_neg (nI_pos (by omega))]
      simp only [nm_u]
      rw [nI_dn]
      refine lX0_13 ok (by omega) _ h1 (fun h' a1 a2 a3 => ?_) zFU 0 h1 g1 t (fV.rf h1) (fun s' z => absurd z (Nat.not_lt_zero _)) (Nat.zero_le _) (by have := pow16 ok.1; rw [zFU_u]; omega)
      exact ih k h' a2 a3 (fr.tr a1) (by omega) (by omega)
  unfold X0_findValues
  simp only [nm_u]
  rw [g.2.2.2.1]
  exact key zFU (sB σ) h g (fun m h1 h2 => absurd h2 (by omega)) (fV.rf h) (Nat.le_refl _) (by rw [zFU_u]; omega)
