/-! THE MODEL: one state, all states -/
theorem sX2_plainAim {σ : Sg} (ok : sOK σ) {h : Hp} (g : gm σ h) {s w : Nat} (hs : s < 2 ^ sN σ) (hw : w < sN σ) (hb : s.testBit w = true) : X2_plainAim h (nI w) (nI s) = some (nI (if sM σ (4 + w) = 5 then 9 else dA σ (fun _ _ _ => 0) 0 s w), h) := by
  have hn := ok.1
  have hpw := pow16 hn
  have h16 : s < 16 := by omega
  have v1 := g.2.2.2.1 w hw 1 (by decide)
  have v2 := g.2.2.2.1 w hw 2 (by decide)
  rw [Nat.mul_one] at v1
  rw [show 4 * 2 + w = 8 + w from by omega] at v2
  have o := ok.2.2.2.1 w hw
  unfold X2_plainAim dA
  rw [show (4 : Int32) = nI 4 from rfl, nI_add, ck_i (by omega) (by omega), nI_clamp (by omega), v1]
  simp only [nm_u]
  by_cases c0 : sM σ (4 + w) = 0
  · rw [if_pos (by rw [c0]; rfl), if_neg (by omega), if_pos c0, show (1 : Int32) = (if true then (1 : Int32) else 0) from rfl, sX2_byHits ok g h16 hw true, bd_s]
  rw [if_neg (nI_n0 (by omega) c0), if_neg c0]
  by_cases c1 : sM σ (4 + w) = 1
  · rw [if_pos (by rw [c1]; rfl), if_neg (by omega), if_pos c1, show (0 : Int32) = (if false then (1 : Int32) else 0) from rfl, sX2_byHits ok g h16 hw false, bd_s]
  rw [if_neg (nI_n1 (by omega) c1), if_neg c1]
  by_cases c3 : sM σ (4 + w) = 3
  · rw [if_pos (by rw [c3]; rfl), if_neg (by omega), if_pos c3, sX2_next ok g h16 hw hb, bd_s]
  rw [if_neg (nI_n3 (by omega) c3), if_neg c3]
  by_cases c4 : sM σ (4 + w) = 4
  · rw [if_pos (by rw [c4]), if_neg (show ¬ sM σ (4 + w) = 5 from by omega), if_pos c4, show (8 : Int32) = nI 8 from rfl, nI_add, ck_i (by omega) (by omega), nI_clamp (by omega), v2, g.1]
    by_cases d0 : sN σ ≤ sM σ (8 + w)
    · rw [if_pos ((nI_leI (by omega) (by omega)).mpr d0), if_neg (fun z => by have := b_out _ (by omega) s hs _ (by omega) z.2; omega)]
      rfl
    rw [if_neg (fun z => d0 ((nI_leI (by omega) (by omega)).mp z))]
    by_cases d : sM σ (8 + w) = w
    · rw [if_pos (by rw [d]), if_neg (fun z => z.1 d)]
      rfl
    rw [if_neg (fun z => d ((nI_eq (by omega) (by omega)).mp z)), sX2_isIn h h16 (by omega), bd_s]
    by_cases d2 : s.testBit (sM σ (8 + w)) = true
    · rw [if_neg (fun z => (pB0.mp z) d2), if_pos ⟨d, d2⟩]
    · rw [if_pos (pB0.mpr d2), if_neg (fun z => d2 z.2)]
      rfl
  rw [if_neg (fun z => c4 ((nI_eq (by omega) (by omega)).mp z)), if_neg c4]
  by_cases c5 : sM σ (4 + w) = 5
  · rw [if_pos c5]; rfl
  · rw [if_neg c5, if_neg c5]; rfl
/-- nothing but the state (s, w, m) has changed in the tables -/
def kM (s w m : Nat) (h h' : Hp) : Prop := ∀ s' w' m', s' < 16 → w' < 4 → (s' ≠ s ∨ w' ≠ w ∨ m' ≠ m) → zi h' 31 ((m' * 16 + s') * 4 + w') = zi h 31 ((m' * 16 + s') * 4 + w') ∧ zi h' 32 ((m' * 16 + s') * 4 + w') = zi h 32 ((m' * 16 + s') * 4 + w') ∧ ∀ p, p < 4 → zj h' 30 (4 * ((m' * 16 + s') * 4 + w') + p) = zj h 30 (4 * ((m' * 16 + s') * 4 + w') + p)
theorem kM.tr {s w m : Nat} {h h' h2 : Hp} (a : kM s w m h h') (b : kM s w m h' h2) : kM s w m h h2 := fun s' w' m' h1 h3 h4 => ⟨(b s' w' m' h1 h3 h4).1.trans (a s' w' m' h1 h3 h4).1, (b s' w' m' h1 h3 h4).2.1.trans (a s' w' m' h1 h3 h4).2.1, fun p hp => ((b s' w' m' h1 h3 h4).2.2 p hp).trans ((a s' w' m' h1 h3 h4).2.2 p hp)⟩
theorem fN.kM {s w m : Nat} {h h' : Hp} (a : fN h h') : kM s w m h h' := fun _ _ _ _ _ _ => ⟨a.2.1 31 _ (by decide) (by omega), a.2.1 32 _ (by decide) (by omega), fun _ _ => a.2.2 30 _ (by decide)⟩
theorem kM.s31 {s w m : Nat} {h : Hp} {v : Int32} (hs : s < 16) (hw : w < 4) : kM s w m h (zsi h 31 ((m * 16 + s) * 4 + w) v) := fun s' w' m' h1 h3 h4 => ⟨zi_ne _ _ _ _ (Or.inr (by omega)), zi_ne _ _ _ _ (Or.inl (by decide)), fun _ _ => rfl⟩
theorem kM.s32 {s w m : Nat} {h : Hp} {v : Int32} (hs : s < 16) (hw : w < 4) : kM s w m h (zsi h 32 ((m * 16 + s) * 4 + w) v) := fun s' w' m' h1 h3 h4 => ⟨zi_ne _ _ _ _ (Or.inl (by decide)), zi_ne _ _ _ _ (Or.inr (by omega)), fun _ _ => rfl⟩
theorem kM.s30 {s w m p : Nat} {h : Hp} {v : Int64} (hs : s < 16) (hw : w < 4) (hp : p < 4) : kM s w m h (zsj h 30 (4 * ((m * 16 + s) * 4 + w) + p) v) := fun s' w' m' h1 h3 h4 => ⟨rfl, rfl, fun _ _ => zj_ne _ _ _ _ (Or.inr (by omega))⟩
theorem eM.k {σ : Sg} {h h' : Hp} {s w m s' w' m' : Nat} (hn : sN σ ≤ 4) (e : eM σ h s' w' m') (k : kM s w m h h') (h1 : s' < 16) (h2 : w' < 4) (h3 : s' ≠ s ∨ w' ≠ w ∨ m' ≠ m) : eM σ h' s' w' m' := by
  have := k s' w' m' h1 h2 h3
  exact ⟨this.1.trans e.1, this.2.1.trans e.2.1, fun p hp => (this.2.2 p (by omega)).trans (e.2.2 p hp)⟩
theorem tM.k {σ : Sg} (ok : sOK σ) {h h' : Hp} {s w m : Nat} (t : tM σ h (m + 1)) (k : kM s w m h h') : tM σ h' (m + 1) := fun m' h1 h2 s' h3 w' h4 h5 => (t m' h1 h2 s' h3 w' h4 h5).k ok.1 k (by have := pow16 ok.1; omega) (by have := ok.1; omega) (by omega)
/-- the model's powers of twelve -/
def pw12 (h : Hp) : Prop := ∀ k, k < 10 → zj h 29 k = lN (12 ^ k)
/-- the end of a state: aim, hits, worth are written -/
theorem lX2_set {σ : Sg} (ok : sOK σ) {s w m t : Nat} (hs : s < 2 ^ sN σ) (hw : w < sN σ) (hb : s.testBit w = true) (hm : m < sB σ) (h2 : 1 < pc s) (ht : t = dG σ (sB σ - m) s w) (h0 : Hp) (g0 : gm σ h0) (t0 : tM σ h0 (m + 1)) :
    wp (ck (0 ≤ (nI ((m * 16 + s) * 4 + w)).toInt ∧ (nI ((m * 16 + s) * 4 + w)).toInt < 640) <| nm (zsi h0 31 (nI ((m * 16 + s) * 4 + w)).toNatClampNeg (nI t)) fun h10 => bd (X2_hitsAt h10 (nI m) (nI s) (nI w) (nI t)) fun r12 h11 => ck (0 ≤ (nI ((m * 16 + s) * 4 + w)).toInt ∧ (nI ((m * 16 + s) * 4 + w)).toInt < 640) <| nm (zsi h11 32 (nI ((m * 16 + s) * 4 + w)).toNatClampNeg r12) fun h14 => ck (0 ≤ (nI ((m * 16 + s) * 4 + w)).toInt ∧ (nI ((m * 16 + s) * 4 + w)).toInt < 640) <| bd (X2_worthBy h14 (nI m) (nI s) (nI w) (nI t) (zi h14 32 (nI ((m * 16 + s) * 4 + w)).toNatClampNeg)) fun _ h16 => zfix (fun _ _ => none) (X2_settles_b190 (nI ((m * 16 + s) * 4 + w))) zFU h16 (0 : Int32)) (fun _ h' => f2 h0 h' ∧ kM s w m h0 h' ∧ eM σ h' s w m ∧ (pw12 h0 → pw12 h')) := by
  have hn := ok.1
  have hb9 := ok.2.2.2.2.1
  have hpw := pow16 hn
  have hG : dG σ (sB σ - m) s w = dA σ (dV σ (sB σ - (m + 1))) (sB σ - (m + 1)) s w := by
    rw [show sB σ - m = sB σ - (m + 1) + 1 from by omega]; rfl
  have hA : isAim σ s w t := by rw [ht, hG]; exact dA_aim ok _ _ hs hw hb h2
  have hV : ∀ p, dV σ (sB σ - m) s w p = dT σ (dV σ (sB σ - (m + 1))) (sB σ - (m + 1)) s w t p := by
    intro p
    rw [ht, hG, show sB σ - m = sB σ - (m + 1) + 1 from by omega]
    show (if pc s ≤ 1 then _ else _) = _
    rw [if_neg (by omega)]
  have hG2 : dG2 σ m s w = t := by unfold dG2; rw [if_neg (by omega), ht]
  have hKd : dK σ m s w = if t = 9 then 0 else sH σ w t (pc s) m := by unfold dK; rw [hG2]
  have hK12 : dK σ m s w ≤ 12 := by
    rw [hKd]; split
    · omega
    · exact ok.2.2.2.2.2.2 _ _ _ _ _ (ok.2.2.2.1 _ hw).1
  rw [ck_i (by omega) (by omega), nI_clamp (by omega)]
  simp only [nm_u]
  rw [wp_bd]
  refine (sX2_hitsAt ok (g0.fr (f2.si (Or.inl rfl))) (by omega) hw hA (by omega)).mono ?_
  rintro r h1 ⟨er, fr1⟩
  rw [ck_i (by omega) (by omega), ck_i (by omega) (by omega), zi_eq, er, ← hKd, wp_bd]
  have fa : f2 h0 (zsi h1 32 ((m * 16 + s) * 4 + w) (nI (dK σ m s w))) := (f2.si (Or.inl rfl)).tr (fr1.fN.f2.tr (f2.si (Or.inr rfl)))
  have ka : kM s w m h0 (zsi h1 32 ((m * 16 + s) * 4 + w) (nI (dK σ m s w))) := (kM.s31 (by omega) (by omega)).tr (fr1.fN.kM.tr (kM.s32 (by omega) (by omega)))
  refine (sX2_worthBy ok (g0.fr fa) hs hw hb hm hA hK12 (tM.k ok t0 ka)).mono ?_
  rintro _ h3 ⟨fr3, ev⟩
  have e31 : zi h3 31 ((m * 16 + s) * 4 + w) = nI t := by
    rw [fr3.2.1 31 _ (by decide) (by omega), zi_ne _ _ _ _ (Or.inl (by decide)), fr1.2 31 _ (by decide) (by omega), zi_eq]
  have e32 : zi h3 32 ((m * 16 + s) * 4 + w) = nI (dK σ m s w) := by
    rw [fr3.2.1 32 _ (by decide) (by omega), zi_eq]
  have ev2 : ∀ p, p < sN σ → zj h3 33 p = dV σ (sB σ - m) s w p := by
    intro p hp
    rw [ev p hp, hV p, hKd]
    unfold dT
    by_cases h9 : t = 9
    · rw [if_pos h9, if_pos h9, if_pos h9]
      rw [show lN 0 = 0 from rfl, Int64.zero_mul, Int64.zero_add]
    · rw [if_neg h9, if_neg h9, if_neg h9, show sB σ - (sB σ - (m + 1) + 1) = m from by omega]
  have f3 : f2 h0 h3 := fa.tr fr3.f2
  have k3 : kM s w m h0 h3 := ka.tr fr3.kM
  have p3 : pw12 h0 → pw12 h3 := fun z k hk => by
    rw [fr3.2.2 29 _ (by decide)]
    show zj h1 29 k = _
    rw [fr1.zj]
    exact z k hk
  have key : ∀ N, (fun N r => ∀ k h4, f2 h3 h4 → kM s w m h3 h4 → zi h4 31 ((m * 16 + s) * 4 + w) = nI t → zi h4 32 ((m * 16 + s) * 4 + w) = nI (dK σ m s w) → zj h4 33 = zj h3 33 → (pw12 h3 → pw12 h4) → (∀ p, p < k → zj h4 30 (4 * ((m * 16 + s) * 4 + w) + p) = dV σ (sB σ - m) s w p) → k ≤ sN σ → sN σ - k < N → wp (r h4 (nI k)) (fun _ h' => f2 h0 h' ∧ kM s w m h0 h' ∧ eM σ h' s w m ∧ (pw12 h0 → pw12 h'))) N (zfix (fun (_ : Hp) (_ : Int32) => (none : Option (Unit × Hp))) (X2_settles_b190 (nI ((m * 16 + s) * 4 + w))) N) := by
    refine zfix_ind (σ := Hp → Int32 → Option (Unit × Hp)) _ _ (fun N r => ∀ k h4, f2 h3 h4 → kM s w m h3 h4 → zi h4 31 ((m * 16 + s) * 4 + w) = nI t → zi h4 32 ((m * 16 + s) * 4 + w) = nI (dK σ m s w) → zj h4 33 = zj h3 33 → (pw12 h3 → pw12 h4) → (∀ p, p < k → zj h4 30 (4 * ((m * 16 + s) * 4 + w) + p) = dV σ (sB σ - m) s w p) → k ≤ sN σ → sN σ - k < N → wp (r h4 (nI k)) (fun _ h' => f2 h0 h' ∧ kM s w m h0 h' ∧ eM σ h' s w m ∧ (pw12 h0 → pw12 h'))) (fun k _ _ _ _ _ _ _ _ _ z => absurd z (Nat.not_lt_zero _)) (fun N r ih k h4 b1 b2 b3 b4 b5 b6 b7 hk hN => ?_)
    unfold X2_settles_b190
    rw [((g0.fr f3).fr b1).1]
    by_cases cc : sN σ ≤ k
    · rw [if_pos ((nI_leI (by omega) (by omega)).mpr cc)]
      exact wp.of rfl ⟨f3.tr b1, k3.tr b2, ⟨by rw [b3, hG2], b4, fun p hp => b7 p (by omega)⟩, fun z => b6 (p3 z)⟩
    · rw [if_neg (fun z => cc ((nI_leI (by omega) (by omega)).mp z)), ck_i (by omega) (by omega), nI_clamp (by omega), b5, ev2 k (by omega)]
      simp only [nm_u]
      rw [show (4 : Int32) = nI 4 from rfl, pk_mul, nI_add, ck_i (by omega) (by omega), nI_clamp (by omega), nI_1]
      refine ih (k + 1) _ (b1.tr (f2.sj (Or.inr (Or.inl rfl)))) (b2.tr (kM.s30 (by omega) (by omega) (by omega))) b3 b4 ?_ ?_ (fun p hp => ?_) (by omega) (by omega)
      · rw [← b5]; funext x; exact zj_ne _ _ _ _ (Or.inl (by decide))
      · exact fun z x hx => (zj_ne _ _ _ _ (Or.inl (by decide))).trans (b6 z x hx)
      · rcases Nat.lt_or_ge p k with l | l
        · rw [zj_ne _ _ _ _ (Or.inr (by omega))]; exact b7 p l
        · rw [show p = k from by omega, zj_eq]
  exact key zFU 0 h3 (f2.rf h3) (fun _ _ _ _ _ _ => ⟨rfl, rfl, fun _ _ => rfl⟩) e31 e32 rfl (fun z => z) (fun p z => absurd z (Nat.not_lt_zero _)) (Nat.zero_le _) (by rw [zFU_u]; omega)
/-- the loop over aims -/
theorem lX2_49 {σ : Sg} (ok : sOK σ) {h : Hp} (g : gm σ h) {s w m : Nat} (hs : s < 2 ^ sN σ) (hw : w < sN σ) (hb : s.testBit w = true) (hm : m < sB σ) (tb : tM σ h (m + 1)) {Q : Unit → Hp → Prop} (j : Hp → Int32 → Option (Unit × Hp)) (hj : ∀ h', fN h h' → wp (j h' (nI (dX σ (dV σ (sB σ - (m + 1))) (sB σ - (m + 1)) s w (sN σ)).1)) Q) :
    ∀ N, (fun N r => ∀ k h4, fN h h4 → k ≤ sN σ → sN σ - k < N → wp (r h4 (nI (dX σ (dV σ (sB σ - (m + 1))) (sB σ - (m + 1)) s w k).1) (dX σ (dV σ (sB σ - (m + 1))) (sB σ - (m + 1)) s w k).2 (nI k)) Q) N (zfix (fun (_ : Hp) (_ : Int32) (_ : Int64) (_ : Int32) => (none : Option (Unit × Hp))) (X2_settles_b49 (nI m) (nI s) (nI w) j) N) := by
  have hn := ok.1
  have hb9 := ok.2.2.2.2.1
  have hpw := pow16 hn
  refine zfix_ind (σ := Hp → Int32 → Int64 → Int32 → Option (Unit × Hp)) _ _ (fun N r => ∀ k h4, fN h h4 → k ≤ sN σ → sN σ - k < N → wp (r h4 (nI (dX σ (dV σ (sB σ - (m + 1))) (sB σ - (m + 1)) s w k).1) (dX σ (dV σ (sB σ - (m + 1))) (sB σ - (m + 1)) s w k).2 (nI k)) Q) (fun k _ _ _ z => absurd z (Nat.not_lt_zero _)) (fun N r ih k h4 fr hk hN => ?_)
  have g4 := g.fr fr.f2
  have t4 := tb.fN fr
  unfold X2_settles_b49
  rw [g4.1]
  by_cases c : sN σ ≤ k
  · rw [if_pos ((nI_leI (by omega) (by omega)).mpr c), show k = sN σ from by omega]
    exact hj h4 fr
  · rw [if_neg (fun z => c ((nI_leI (by omega) (by omega)).mp z))]
    simp only [nm_u]
    have hu : dX σ (dV σ (sB σ - (m + 1))) (sB σ - (m + 1)) s w (k + 1) = if k ≠ w ∧ s.testBit k = true ∧ (dX σ (dV σ (sB σ - (m + 1))) (sB σ - (m + 1)) s w k).2 < dT σ (dV σ (sB σ - (m + 1))) (sB σ - (m + 1)) s w k w then (k, dT σ (dV σ (sB σ - (m + 1))) (sB σ - (m + 1)) s w k w) else dX σ (dV σ (sB σ - (m + 1))) (sB σ - (m + 1)) s w k := rfl
    rw [nI_1]
    by_cases cw : k = w
    · rw [if_pos (by rw [cw])]
      have ih1 := ih (k + 1) h4 fr (by omega) (by omega)
      rw [hu, if_neg (fun z => z.1 cw)] at ih1
      exact ih1
    · rw [if_neg (fun z => cw ((nI_eq (by omega) (by omega)).mp z)), sX2_isIn h4 (by omega) (by omega), bd_s]
      by_cases cb : s.testBit k = true
      · have hA : isAim σ s w k := Or.inr ⟨by omega, cw, cb⟩
        have h9 : ¬ k = 9 := by omega
        have h12 : sH σ w k (pc s) m ≤ 12 := ok.2.2.2.2.2.2 _ _ _ _ _ (ok.2.2.2.1 _ hw).1
        rw [if_neg (fun z => (pB0.mp z) cb), wp_bd]
        refine (sX2_hitsAt ok g4 (by omega) hw hA (by omega)).mono ?_
        rintro x h5 ⟨ex, fr5⟩
        rw [ex, if_neg h9, wp_bd]
        refine (sX2_worthBy ok (g4.fr fr5.fN.f2) hs hw hb hm hA h12 (t4.fN fr5.fN)).mono ?_
        rintro _ h6 ⟨fr6, ev⟩
        have ev2 : zj h6 33 w = dT σ (dV σ (sB σ - (m + 1))) (sB σ - (m + 1)) s w k w := by
          rw [ev w hw]
          unfold dT
          rw [if_neg h9, if_neg h9, show sB σ - (sB σ - (m + 1) + 1) = m from by omega]
        have ih1 := ih (k + 1) h6 (fr.tr (fr5.fN.tr fr6)) (by omega) (by omega)
        rw [hu] at ih1
        rw [ck_i (by omega) (by omega), nI_clamp (by omega), ev2]
        by_cases cc : (dX σ (dV σ (sB σ - (m + 1))) (sB σ - (m + 1)) s w k).2 < dT σ (dV σ (sB σ - (m + 1))) (sB σ - (m + 1)) s w k w
        · rw [if_neg (Int64.not_le.mpr cc), ck_i (by omega) (by omega), if_neg (Int64.not_le.mpr cc), ck_i (by omega) (by omega)]
          rw [if_pos ⟨cw, cb, cc⟩] at ih1
          exact ih1
        · rw [if_pos (Int64.not_lt.mp cc), ck_i (by omega) (by omega), if_pos (Int64.not_lt.mp cc)]
          rw [if_neg (fun z => cc z.2.2)] at ih1
          exact ih1
      · rw [if_pos (pB0.mpr cb)]
        have ih1 := ih (k + 1) h4 fr (by omega) (by omega)
        rw [hu, if_neg (fun z => cb z.2.1)] at ih1
        exact ih1
/-- one state -/
theorem sX2_settles {σ : Sg} (ok : sOK σ) {h : Hp} (g : gm σ h) {s w m : Nat} (hs : s < 2 ^ sN σ) (hw : w < sN σ) (hb : s.testBit w = true) (hm : m < sB σ) (h2 : 1 < pc s) (tb : tM σ h (m + 1)) : wp (X2_settles h (nI m) (nI s) (nI w)) (fun _ h' => f2 h h' ∧ kM s w m h h' ∧ eM σ h' s w m ∧ (pw12 h → pw12 h')) := by
  have hn := ok.1
  have hb9 := ok.2.2.2.2.1
  have hpw := pow16 hn
  have v1 := g.2.2.2.1 w hw 1 (by decide)
  rw [Nat.mul_one] at v1
  have o := ok.2.2.2.1 w hw
  have hG : dG σ (sB σ - m) s w = dA σ (dV σ (sB σ - (m + 1))) (sB σ - (m + 1)) s w := by
    rw [show sB σ - m = sB σ - (m + 1) + 1 from by omega]; rfl
  have fin : ∀ h', fN h h' → ∀ t, t = dG σ (sB σ - m) s w → _ := fun h' fr t ht => (lX2_set ok hs hw hb hm h2 ht h' (g.fr fr.f2) (tb.fN fr)).mono (Q' := fun _ h' => f2 h h' ∧ kM s w m h h' ∧ eM σ h' s w m ∧ (pw12 h → pw12 h')) (fun _ h2 a => ⟨fr.f2.tr a.1, fr.kM.tr a.2.1, a.2.2.1, fun z => a.2.2.2 (fun k hk => (fr.2.2 29 k (by decide)).trans (z k hk))⟩)
  unfold X2_settles
  rw [sX2_st, bd_s, sX2_plainAim ok g hs hw hb, bd_s, show (4 : Int32) = nI 4 from rfl, nI_add, ck_i (by omega) (by omega), nI_clamp (n := 4 + w) (by omega), v1]
  rw [nm_u]
  by_cases c5 : sM σ (4 + w) = 5
  · rw [if_pos (by rw [c5]; rfl), wp_bd]
    have wb0 := sX2_worthBy ok g (t := 9) (c := 0) hs hw hb hm (Or.inl rfl) (by omega) tb
    refine (show wp (X2_worthBy h (nI m) (nI s) (nI w) (9 : Int32) (0 : Int32)) _ from wb0).mono ?_
    rintro _ h1 ⟨fr1, ev1⟩
    rw [ck_i (by omega) (by omega), nI_clamp (by omega)]
    rw [nm_u]
    have start : zj h1 33 w = (dX σ (dV σ (sB σ - (m + 1))) (sB σ - (m + 1)) s w 0).2 := by
      rw [ev1 w hw, if_pos rfl]
      show _ = dT σ (dV σ (sB σ - (m + 1))) (sB σ - (m + 1)) s w 9 w
      unfold dT
      rw [if_pos rfl, show lN 0 = 0 from rfl, Int64.zero_mul, Int64.zero_add]
    rw [start, if_pos c5]
    refine lX2_49 ok g hs hw hb hm tb _ (fun h' fr => fin h' fr _ ?_) zFU 0 h1 fr1 (Nat.zero_le _) (by rw [zFU_u]; omega)
    rw [hG]
    unfold dA
    rw [if_neg (by omega), if_neg (by omega), if_neg (by omega), if_neg (by omega), if_pos c5]
  · rw [if_neg (nI_n5 (by omega) c5), if_neg c5]
    refine fin h (fN.rf h) _ ?_
    rw [hG]
    unfold dA
    rw [if_neg c5]
    simp only [c5, if_false]
/-- a state at the end -/
theorem sX2_ends1 {σ : Sg} (ok : sOK σ) {h : Hp} (g : gm σ h) {s w m : Nat} (hs : s < 2 ^ sN σ) (hw : w < sN σ) (hm : m ≤ sB σ) (ho : sB σ ≤ m ∨ pc s ≤ 1) (pw : pw12 h) : wp (X2_ends1 h (nI m) (nI s) (nI w)) (fun _ h' => f2 h h' ∧ kM s w m h h' ∧ eM σ h' s w m ∧ pw12 h') := by
  have hn := ok.1
  have hb9 := ok.2.2.2.2.1
  have hpw := pow16 hn
  have h1 := pc_le s (by omega)
  have hG2 : dG2 σ m s w = 9 := by unfold dG2; rw [if_pos ho]
  have hKd : dK σ m s w = 0 := by unfold dK; rw [if_pos hG2]
  have key : ∀ N, (fun N r => ∀ k h4, f2 h h4 → kM s w m h h4 → zi h4 31 ((m * 16 + s) * 4 + w) = nI 9 → zi h4 32 ((m * 16 + s) * 4 + w) = nI 0 → pw12 h4 → (∀ p, p < k → zj h4 30 (4 * ((m * 16 + s) * 4 + w) + p) = dV σ (sB σ - m) s w p) → k ≤ sN σ → sN σ - k < N → wp (r h4 (nI k)) (fun _ h' => f2 h h' ∧ kM s w m h h' ∧ eM σ h' s w m ∧ pw12 h')) N (zfix (fun (_ : Hp) (_ : Int32) => (none : Option (Unit × Hp))) (X2_ends1_b28 (nI m) (nI s) (nI ((m * 16 + s) * 4 + w))) N) := by
    refine zfix_ind (σ := Hp → Int32 → Option (Unit × Hp)) _ _ (fun N r => ∀ k h4, f2 h h4 → kM s w m h h4 → zi h4 31 ((m * 16 + s) * 4 + w) = nI 9 → zi h4 32 ((m * 16 + s) * 4 + w) = nI 0 → pw12 h4 → (∀ p, p < k → zj h4 30 (4 * ((m * 16 + s) * 4 + w) + p) = dV σ (sB σ - m) s w p) → k ≤ sN σ → sN σ - k < N → wp (r h4 (nI k)) (fun _ h' => f2 h h' ∧ kM s w m h h' ∧ eM σ h' s w m ∧ pw12 h')) (fun k _ _ _ _ _ _ _ _ z => absurd z (Nat.not_lt_zero _)) (fun N r ih k h4 b1 b2 b3 b4 b5 b6 hk hN => ?_)
    have g4 := g.fr b1
    unfold X2_ends1_b28
    rw [g4.1]
    by_cases cc : sN σ ≤ k
    · rw [if_pos ((nI_leI (by omega) (by omega)).mpr cc)]
      exact wp.of rfl ⟨b1, b2, ⟨by rw [b3, hG2], by rw [b4, hKd], fun p hp => b6 p (by omega)⟩, b5⟩
    · rw [if_neg (fun z => cc ((nI_leI (by omega) (by omega)).mp z)), sX2_isIn h4 (by omega) (by omega), bd_s]
      simp only [nm_u]
      have stp : ∀ v, v = dV σ (sB σ - m) s w k → wp (ck (0 ≤ (((4 : Int32) * nI ((m * 16 + s) * 4 + w)) + nI k).toInt ∧ (((4 : Int32) * nI ((m * 16 + s) * 4 + w)) + nI k).toInt < 2560) (r (zsj h4 30 (((4 : Int32) * nI ((m * 16 + s) * 4 + w)) + nI k).toNatClampNeg v) (nI k + 1))) (fun _ h' => f2 h h' ∧ kM s w m h h' ∧ eM σ h' s w m ∧ pw12 h') := by
        intro v ev
        rw [show (4 : Int32) = nI 4 from rfl, pk_mul, nI_add, ck_i (by omega) (by omega), nI_clamp (by omega), nI_1]
        refine ih (k + 1) _ (b1.tr (f2.sj (Or.inr (Or.inl rfl)))) (b2.tr (kM.s30 (by omega) (by omega) (by omega))) b3 b4 (fun x hx => (zj_ne _ _ _ _ (Or.inl (by decide))).trans (b5 x hx)) (fun p hp => ?_) (by omega) (by omega)
        rcases Nat.lt_or_ge p k with l | l
        · rw [zj_ne _ _ _ _ (Or.inr (by omega))]; exact b6 p l
        · rw [show p = k from by omega, zj_eq, ev]
      by_cases cb : s.testBit k = true
      · rw [if_neg (fun z => (pB0.mp z) cb), sX2_bitsOf h4 (by omega), bd_s, ck_i (by omega) (by omega), g4.2.2.2.2.1, pk_sub hm, ck_i (by omega) (by omega), nI_clamp (by omega), nI_clamp (by omega), g4.2.2.2.2.2.1 _ (by omega), b5 _ (by omega), nI_l (by have := ok.2.2.2.2.2.1 (pc s) (by omega); omega)]
        refine stp _ ?_
        rw [dV_over ho]
        unfold dE
        rw [if_pos cb]
      · rw [if_pos (pB0.mpr cb)]
        refine stp _ ?_
        rw [dV_over ho]
        unfold dE
        rw [if_neg cb, Int64.zero_mul]
  unfold X2_ends1
  rw [sX2_st, bd_s, ck_i (by omega) (by omega), nI_clamp (by omega)]
  simp only [nm_u]
  rw [ck_i (by omega) (by omega)]
  exact key zFU 0 _ ((f2.si (Or.inl rfl)).tr (f2.si (Or.inr rfl))) ((kM.s31 (by omega) (by omega)).tr (kM.s32 (by omega) (by omega))) ((zi_ne _ _ _ _ (Or.inl (by decide))).trans (zi_eq _ _ _ _)) (zi_eq _ _ _ _) pw (fun p z => absurd z (Nat.not_lt_zero _)) (Nat.zero_le _) (by rw [zFU_u]; omega)
/-- one set: the loop over whose turn it is -/
theorem lX2_60 {σ : Sg} (ok : sOK σ) {s m : Nat} (hs : s < 2 ^ sN σ) (hm : m ≤ sB σ) {Q : Unit → Hp → Prop} (j : Hp → Option (Unit × Hp)) (h0 : Hp) (hj : ∀ h', f2 h0 h' → gm σ h' → pw12 h' → tM σ h' (m + 1) → (∀ s' w', s' < 2 ^ sN σ → s' ≠ s → w' < sN σ → eM σ h0 s' w' m → eM σ h' s' w' m) → (∀ w', w' < sN σ → (sB σ ≤ m ∨ pc s ≤ 1 ∨ s.testBit w' = true) → eM σ h' s w' m) → wp (j h') Q) :
    ∀ N, (fun N r => ∀ k h, gm σ h → pw12 h → tM σ h (m + 1) → f2 h0 h → (∀ s' w', s' < 2 ^ sN σ → s' ≠ s → w' < sN σ → eM σ h0 s' w' m → eM σ h s' w' m) → (∀ w', w' < k → (sB σ ≤ m ∨ pc s ≤ 1 ∨ s.testBit w' = true) → eM σ h s w' m) → k ≤ sN σ → sN σ - k < N → wp (r h (nI k)) Q) N (zfix (fun (_ : Hp) (_ : Int32) => (none : Option (Unit × Hp))) (X2_solves_b60 (nI m) (nI s) j) N) := by
  have hn := ok.1
  have hb9 := ok.2.2.2.2.1
  have hpw := pow16 hn
  refine zfix_ind (σ := Hp → Int32 → Option (Unit × Hp)) _ _ (fun N r => ∀ k h, gm σ h → pw12 h → tM σ h (m + 1) → f2 h0 h → (∀ s' w', s' < 2 ^ sN σ → s' ≠ s → w' < sN σ → eM σ h0 s' w' m → eM σ h s' w' m) → (∀ w', w' < k → (sB σ ≤ m ∨ pc s ≤ 1 ∨ s.testBit w' = true) → eM σ h s w' m) → k ≤ sN σ → sN σ - k < N → wp (r h (nI k)) Q) (fun k _ _ _ _ _ _ _ _ z => absurd z (Nat.not_lt_zero _)) (fun N r ih k h g pw t fr ko kn hk hN => ?_)
  unfold X2_solves_b60
  rw [g.1]
  by_cases c : sN σ ≤ k
  · rw [if_pos ((nI_leI (by omega) (by omega)).mpr c)]
    exact hj h fr g pw t ko (fun w' h1 h3 => kn w' (by omega) h3)
  · rw [if_neg (fun z => c ((nI_leI (by omega) (by omega)).mp z)), sX2_isOver h (by omega) (by omega) (by omega) g.2.2.2.2.1, bd_s]
    simp only [nm_u]
    rw [nI_1]
    have stp : ∀ h', f2 h h' → kM s k m h h' → eM σ h' s k m → pw12 h' → wp (r h' (nI (k + 1))) Q := by
      intro h' a1 a2 a3 a4
      refine ih (k + 1) h' (g.fr a1) a4 (tM.k ok t a2) (fr.tr a1) (fun s' w' b1 b2 b3 b4 => (ko s' w' b1 b2 b3 b4).k hn a2 (by omega) (by omega) (Or.inl b2)) (fun w' b1 b2 => ?_) (by omega) (by omega)
      rcases Nat.lt_or_ge w' k with l | l
      · exact (kn w' l b2).k hn a2 (by omega) (by omega) (by omega)
      · rw [show w' = k from by omega]; exact a3
    by_cases co : sB σ ≤ m ∨ pc s ≤ 1
    · rw [if_neg (fun z => (pB0.mp z) co), wp_bd]
      refine (sX2_ends1 ok g hs (by omega) hm co pw).mono ?_
      rintro _ h' ⟨a1, a2, a3, a4⟩
      exact stp h' a1 a2 a3 a4
    · rw [if_pos (pB0.mpr co), sX2_isIn h (by omega) (by omega), bd_s]
      by_cases cb : s.testBit k = true
      · rw [if_neg (fun z => (pB0.mp z) cb), wp_bd]
        refine (sX2_settles ok g hs (by omega) cb (by omega) (by omega) t).mono ?_
        rintro _ h' ⟨a1, a2, a3, a4⟩
        exact stp h' a1 a2 a3 (a4 pw)
      · rw [if_pos (pB0.mpr cb)]
        refine ih (k + 1) h g pw t fr ko (fun w' b1 b2 => ?_) (by omega) (by omega)
        rcases Nat.lt_or_ge w' k with l | l
        · exact kn w' l b2
        · rw [show w' = k from by omega] at b2
          rcases b2 with z | z | z
          · exact absurd (Or.inl z) co
          · exact absurd (Or.inr z) co
          · exact absurd z cb
/-- one number of throws: the loop over sets -/
theorem lX2_50 {σ : Sg} (ok : sOK σ) {m : Nat} (hm : m ≤ sB σ) {Q : Unit → Hp → Prop} (j : Hp → Option (Unit × Hp)) (h0 : Hp) (hj : ∀ h', f2 h0 h' → gm σ h' → pw12 h' → tM σ h' m → wp (j h') Q) :
    ∀ N, (fun N r => ∀ k h, gm σ h → pw12 h → tM σ h (m + 1) → f2 h0 h → (∀ s', s' < k → ∀ w', w' < sN σ → (sB σ ≤ m ∨ pc s' ≤ 1 ∨ s'.testBit w' = true) → eM σ h s' w' m) → k ≤ 2 ^ sN σ → 2 ^ sN σ - k < N → wp (r h (nI k)) Q) N (zfix (fun (_ : Hp) (_ : Int32) => (none : Option (Unit × Hp))) (X2_solves_b50 (nI m) j) N) := by
  have hn := ok.1
  have hb9 := ok.2.2.2.2.1
  have hpw := pow16 hn
  have hpos : 0 < 2 ^ sN σ := Nat.pos_of_ne_zero (by intro z; have := Nat.pow_eq_zero.mp z; omega)
  refine zfix_ind (σ := Hp → Int32 → Option (Unit × Hp)) _ _ (fun N r => ∀ k h, gm σ h → pw12 h → tM σ h (m + 1) → f2 h0 h → (∀ s', s' < k → ∀ w', w' < sN σ → (sB σ ≤ m ∨ pc s' ≤ 1 ∨ s'.testBit w' = true) → eM σ h s' w' m) → k ≤ 2 ^ sN σ → 2 ^ sN σ - k < N → wp (r h (nI k)) Q) (fun k _ _ _ _ _ _ _ z => absurd z (Nat.not_lt_zero _)) (fun N r ih k h g pw t fr kn hk hN => ?_)
  unfold X2_solves_b50
  rw [sX2_allN h hn g.1, bd_s]
  by_cases c : 2 ^ sN σ ≤ k
  · rw [if_pos ((nI_ltI (by omega) (by omega)).mpr (by omega))]
    refine hj h fr g pw (fun m' h1 h2 s h3 w h4 h5 => ?_)
    rcases Nat.lt_or_ge m m' with l | l
    · exact t m' l h2 s h3 w h4 h5
    · rw [show m' = m from by omega] at h5 ⊢; exact kn s (by omega) w h4 h5
  · rw [if_neg (fun z => by have := (nI_ltI (by omega) (by omega)).mp z; omega)]
    simp only [nm_u]
    rw [nI_1]
    refine lX2_60 ok (by omega) hm _ h (fun h' a1 a2 a3 a4 a5 a6 => ?_) zFU 0 h g pw t (f2.rf h) (fun _ _ _ _ _ z => z) (fun w' z => absurd z (Nat.not_lt_zero _)) (Nat.zero_le _) (by rw [zFU_u]; omega)
    refine ih (k + 1) h' a2 a3 a4 (fr.tr a1) (fun s' b1 w' b3 b4 => ?_) (by omega) (by omega)
    rcases Nat.lt_or_ge s' k with l | l
    · exact a5 s' w' (by omega) (by omega) b3 (kn s' l w' b3 b4)
    · rw [show s' = k from by omega] at b4 ⊢; exact a6 w' b3 b4
/-- all states -/
theorem sX2_solves {σ : Sg} (ok : sOK σ) {h : Hp} (g : gm σ h) : wp (X2_solves h) (fun _ h' => f2 h h' ∧ tM σ h' 0 ∧ pw12 h') := by
  have hb9 := ok.2.2.2.2.1
  have key : ∀ N, (fun N r => ∀ k h1, gm σ h1 → pw12 h1 → tM σ h1 k → f2 h h1 → k ≤ sB σ + 1 → k < N → wp (r h1 (nI k - 1)) (fun _ h' => f2 h h' ∧ tM σ h' 0 ∧ pw12 h')) N (zfix (fun (_ : Hp) (_ : Int32) => (none : Option (Unit × Hp))) X2_solves_b44 N) := by
    refine zfix_ind (σ := Hp → Int32 → Option (Unit × Hp)) _ _ (fun N r => ∀ k h1, gm σ h1 → pw12 h1 → tM σ h1 k → f2 h h1 → k ≤ sB σ + 1 → k < N → wp (r h1 (nI k - 1)) (fun _ h' => f2 h h' ∧ tM σ h' 0 ∧ pw12 h')) (fun k _ _ _ _ _ _ z => absurd z (Nat.not_lt_zero _)) (fun N r ih k h1 g1 pw t fr hk hN => ?_)
    unfold X2_solves_b44
    cases k with
    | zero =>
      rw [if_pos (by decide)]
      exact wp.of rfl ⟨fr, t, pw⟩
    | succ k =>
      rw [nI_pred, if_neg (nI_pos (by omega))]
      simp only [nm_u]
      rw [nI_dn]
      refine lX2_50 ok (by omega) _ h1 (fun h' a1 a2 a3 a4 => ?_) zFU 0 h1 g1 pw t (f2.rf h1) (fun s' z => absurd z (Nat.not_lt_zero _)) (Nat.zero_le _) (by have := pow16 ok.1; rw [zFU_u]; omega)
      exact ih k h' a2 a3 a4 (fr.tr a1) (by omega) (by omega)
  have key9 : ∀ N, (fun N r => ∀ k h1, f2 h h1 → (∀ i, i < k → zj h1 29 i = lN (12 ^ i)) → 1 ≤ k → k ≤ 10 → 10 - k < N → wp (r h1 (nI k)) (fun _ h' => f2 h h' ∧ tM σ h' 0 ∧ pw12 h')) N (zfix (fun (_ : Hp) (_ : Int32) => (none : Option (Unit × Hp))) (X2_solves_b9 (fun (h3 : Hp)  => nm (zi h3 17 9 : Int32) fun v5 => zfix (fun _ _ => none) (X2_solves_b44) zFU h3 v5)) N) := by
    refine zfix_ind (σ := Hp → Int32 → Option (Unit × Hp)) _ _ (fun N r => ∀ k h1, f2 h h1 → (∀ i, i < k → zj h1 29 i = lN (12 ^ i)) → 1 ≤ k → k ≤ 10 → 10 - k < N → wp (r h1 (nI k)) (fun _ h' => f2 h h' ∧ tM σ h' 0 ∧ pw12 h')) (fun k _ _ _ _ _ z => absurd z (Nat.not_lt_zero _)) (fun N r ih k h1 fr kn hk1 hk hN => ?_)
    unfold X2_solves_b9
    by_cases c : k = 10
    · rw [if_pos (show (9 : Int32) < nI k from (nI_ltI (a := 9) (by omega) (by omega)).mpr (by omega))]
      simp only [nm_u]
      rw [(g.fr fr).2.2.2.2.1]
      have := key zFU (sB σ + 1) h1 (g.fr fr) (fun i hi => kn i (by omega)) (fun m a1 a2 => absurd a2 (by omega)) fr (Nat.le_refl _) (by rw [zFU_u]; omega)
      rw [nI_pred] at this
      exact this
    · rw [if_neg (fun z => by have := (nI_ltI (by omega) (by omega)).mp (show nI 9 < nI k from z); omega), show (1 : Int32) = nI 1 from rfl, pk_sub hk1, ck_i (by omega) (by omega), nI_clamp (by omega), kn _ (by omega)]
      simp only [nm_u]
      rw [ck_i (by omega) (by omega), nI_clamp (by omega), nI_add]
      refine ih (k + 1) _ (fr.tr (f2.sj (Or.inl rfl))) (fun i hi => ?_) (by omega) (by omega) (by omega)
      rcases Nat.lt_or_ge i k with l | l
      · rw [zj_ne _ _ _ _ (Or.inr (by omega))]; exact kn i l
      · rw [show i = k from by omega, zj_eq, show (12 : Int64) = lN 12 from rfl, lN_mul]
        obtain ⟨k', rfl⟩ : ∃ k', k = k' + 1 := ⟨k - 1, by omega⟩
        rw [Nat.add_sub_cancel, Nat.pow_succ, Nat.mul_comm]
  unfold X2_solves
  rw [ck_t (by decide)]
  rw [nm_u, nm_u]
  refine key9 zFU 1 _ (f2.sj (Or.inl rfl)) (fun i hi => ?_) (by omega) (by omega) (by rw [zFU_u]; omega)
  rw [show i = 0 from by omega]
  exact zj_eq _ _ _ _
