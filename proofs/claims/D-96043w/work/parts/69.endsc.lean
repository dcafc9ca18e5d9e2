/-! the class's ends -/
theorem Ph_7 {σ : Sg} {c : Int64} {e : Nat → Int64} {h h' : Hp} (a : f7 h h') (t : Nat) : Ph σ c e h' t = Ph σ c e h t := by unfold Ph; rw [a.zj]
theorem pA.f7 {σ : Sg} {h h' : Hp} (p : pA σ h) (a : f7 h h') : pA σ h' := fun i hi z => p i hi (by rw [a.zj] at z; exact z)
theorem pA.d {σ : Sg} {h : Hp} (a : pA σ h) {s k m : Nat} (hs : s < 16) (hk : k < 4) (hm : m < 10) (z : zj h 11 (40 * s + 10 * k + m) ≠ 0) : s < 2 ^ sN σ ∧ k < sN σ ∧ m < sB σ ∧ 1 < pc s ∧ s.testBit (sO σ k) = true := by
  have pr := a (40 * s + 10 * k + m) (by omega) z
  rw [show (40 * s + 10 * k + m) % 10 = m from by omega, show (40 * s + 10 * k + m) / 40 = s from by omega, show (40 * s + 10 * k + m) / 10 % 4 = k from by omega] at pr
  exact pr
theorem Ph_d {σ : Sg} {c : Int64} {e : Nat → Int64} {h : Hp} {t t' : Nat} (hh : ∀ s k m, s < 16 → k < 4 → m < 10 → zj h 11 (40 * s + 10 * k + m) ≠ 0 → ((m * 16 + s) * 4 + k < t ↔ (m * 16 + s) * 4 + k < t')) : Ph σ c e h t = Ph σ c e h t' := by
  refine Ph_c (fun i hi z => ?_)
  obtain ⟨s', k', m', h1, h2, h3, h4, h5, h6, h7⟩ := ix_dec i hi
  rw [h5, h6, h7]
  exact hh s' k' m' h1 h2 h3 (by rw [← h4]; exact z)
theorem Ph_end {σ : Sg} {c : Int64} {e : Nat → Int64} {h : Hp} (a : pA σ h) {t : Nat} (ht : sB σ * 64 ≤ t) : Ph σ c e h t = c * zj h 0 17 + sumJ (fun s => zj h 12 s * e s) (2 ^ sN σ) := by
  unfold Ph
  rw [sumJ_0 640 (fun i hi => ?_), Int64.add_zero]
  show zj h 11 i * wt σ c e t i = 0
  by_cases z : zj h 11 i = 0
  · rw [z, Int64.zero_mul]
  · obtain ⟨s', k', m', h1, h2, h3, h4, h5, h6, h7⟩ := ix_dec i hi
    have pr := a.d h1 h2 h3 (by rw [← h4]; exact z)
    unfold wt
    rw [h5, h6, h7, if_pos, Int64.mul_zero]
    clear h4 h5 h6 h7 z hi
    omega
theorem Ph_0 {σ : Sg} {c : Int64} {e : Nat → Int64} {h : Hp} (z1 : zj h 0 17 = 0) (z2 : ∀ i, i < 640 → zj h 11 i = 0) (z3 : ∀ i, i < 2 ^ sN σ → zj h 12 i = 0) (t : Nat) : Ph σ c e h t = 0 := by
  unfold Ph
  rw [z1, sumJ_0 (2 ^ sN σ) (fun i hi => by rw [z3 i hi, Int64.zero_mul]), sumJ_0 640 (fun i hi => by rw [z2 i hi, Int64.zero_mul]), Int64.mul_zero]
  decide
theorem lX0_87 {σ : Sg} (ok : sOK σ) (c : Int64) (e : Nat → Int64) {K : Int64} {s m : Nat} (hs : s < 2 ^ sN σ) (hm : m < sB σ) {Q : Unit → Hp → Prop} (j : Hp → Option (Unit × Hp)) (h0 : Hp) (hj : ∀ h', gc σ h' → tC σ h' 0 → fE h0 h' → pA σ h' → Ph σ c e h' ((m * 16 + s) * 4 + sN σ) = K → wp (j h') Q) :
    ∀ N, (fun N r => ∀ k h, gc σ h → tC σ h 0 → fE h0 h → pA σ h → Ph σ c e h ((m * 16 + s) * 4 + k) = K → k ≤ sN σ → sN σ - k < N → wp (r h (nI k)) Q) N (zfix (fun (_ : Hp) (_ : Int32) => (none : Option (Unit × Hp))) (X0_findEnds_b87 (nI m) (nI s) j) N) := by
  have hn := ok.1
  have hb9 := ok.2.2.2.2.1
  have hpw := pow16 hn
  refine zfix_ind (σ := Hp → Int32 → Option (Unit × Hp)) _ _ (fun N r => ∀ k h, gc σ h → tC σ h 0 → fE h0 h → pA σ h → Ph σ c e h ((m * 16 + s) * 4 + k) = K → k ≤ sN σ → sN σ - k < N → wp (r h (nI k)) Q) (fun k _ _ _ _ _ _ _ z => absurd z (Nat.not_lt_zero _)) (fun N r ih k h g t fr a ph hk hN => ?_)
  unfold X0_findEnds_b87
  rw [g.1]
  by_cases cc : sN σ ≤ k
  · rw [if_pos ((nI_leI (by omega) (by omega)).mpr cc)]
    rw [show k = sN σ from by omega] at ph
    exact hj h g t fr a ph
  · rw [if_neg (fun z => cc ((nI_leI (by omega) (by omega)).mp z)), sX0_at, bd_s, ck_i (by omega) (by omega), nI_clamp (by omega)]
    simp only [nm_u]
    rw [nI_1]
    by_cases cz : zj h 11 (40 * s + 10 * k + m) = 0
    · rw [if_pos cz]
      refine ih (k + 1) h g t fr a ?_ (by omega) (by omega)
      rw [← ph]
      refine Ph_d (fun s' k' m' h1 h2 h3 z => ?_)
      have : ¬ (s' = s ∧ k' = k ∧ m' = m) := by
        rintro ⟨rfl, rfl, rfl⟩
        exact z cz
      omega
    · obtain ⟨_, hkn, _, h2, hb⟩ := a.d (by omega) (by omega) (by omega) cz
      have hw := (ok.2.1 k hkn).1
      have et := t m (Nat.zero_le _) hm s hs h2 k hkn hb
      have hG : dG σ (sB σ - m) s (sO σ k) = dA σ (dV σ (sB σ - (m + 1))) (sB σ - (m + 1)) s (sO σ k) := by
        rw [show sB σ - m = sB σ - (m + 1) + 1 from by omega]; rfl
      have hA : isAim σ s (sO σ k) (dG σ (sB σ - m) s (sO σ k)) := by rw [hG]; exact dA_aim ok _ _ hs hw hb h2
      have h12 := dh_le ok (f := sB σ - m) (s := s) hw
      have hl : dl σ (sB σ - m) s (sO σ k) < 2 ^ sN σ := Nat.lt_of_le_of_lt (dl_le σ _ s _) hs
      have hlb : (dl σ (sB σ - m) s (sO σ k)).testBit (sO σ k) = true := by
        unfold dl
        split
        · exact hb
        · rename_i h9
          have ht2 := hA.resolve_left h9
          rw [cl_bit s (by omega) _ (by omega) _ (by omega), hb]
          simp only [Bool.true_and, decide_eq_true_eq]
          exact fun z => ht2.2.1 z.symm
      have drop := Ph_drop (σ := σ) (c := c) (e := e) (h := h) (s := s) (k := k) (m := m) (by omega) (by omega) (by omega)
      rw [ph] at drop
      have hU : dU σ c e (sB σ - m) s (sO σ k) = c * lN (12 ^ (sB σ - m)) + (lN (dh σ (sB σ - m) s (sO σ k)) * dU σ c e (sB σ - (m + 1)) (dl σ (sB σ - m) s (sO σ k)) (nxw σ (dl σ (sB σ - m) s (sO σ k)) (sO σ k)) + lN (12 - dh σ (sB σ - m) s (sO σ k)) * dU σ c e (sB σ - (m + 1)) s (nxw σ s (sO σ k))) := by
        rw [show sB σ - m = sB σ - (m + 1) + 1 from by omega]
        conv => lhs; unfold dU
        rw [if_neg (by omega)]
      rw [if_neg cz, g.2.2.2.1, pk_sub (by omega), ck_i (by omega) (by omega), nI_clamp (by omega), g.2.2.2.2.2.1 _ (by omega), sX0_at, bd_s, ck_i (by omega) (by omega)]
      have fr1 : fE h (zsj h 0 17 (zj h 0 17 + zj h 11 (40 * s + 10 * k + m) * lN (12 ^ (sB σ - m)))) := fE.sj (Or.inr (Or.inr ⟨rfl, rfl⟩))
      have ph1 : Ph σ c e (zsj h 0 17 (zj h 0 17 + zj h 11 (40 * s + 10 * k + m) * lN (12 ^ (sB σ - m)))) ((m * 16 + s) * 4 + k + 1) = Ph σ c e h ((m * 16 + s) * 4 + k + 1) + c * (zj h 11 (40 * s + 10 * k + m) * lN (12 ^ (sB σ - m))) := by
        unfold Ph
        have e1 : (fun s' => zj (zsj h 0 17 (zj h 0 17 + zj h 11 (40 * s + 10 * k + m) * lN (12 ^ (sB σ - m)))) 12 s' * e s') = (fun s' => zj h 12 s' * e s') := by
          funext i; rw [zj_ne _ _ _ _ (Or.inl (by decide))]
        have e3 : (fun i => zj (zsj h 0 17 (zj h 0 17 + zj h 11 (40 * s + 10 * k + m) * lN (12 ^ (sB σ - m)))) 11 i * wt σ c e ((m * 16 + s) * 4 + k + 1) i) = (fun i => zj h 11 i * wt σ c e ((m * 16 + s) * 4 + k + 1) i) := by
          funext i; rw [zj_ne _ _ _ _ (Or.inl (by decide))]
        rw [e1, e3, zj_eq]
        generalize sumJ (fun i => zj h 11 i * wt σ c e ((m * 16 + s) * 4 + k + 1) i) 640 = A
        generalize sumJ (fun i => zj h 12 i * e i) (2 ^ sN σ) = B
        generalize zj h 11 (40 * s + 10 * k + m) = C
        generalize lN (12 ^ (sB σ - m)) = D
        grind
      have a1 : pA σ (zsj h 0 17 (zj h 0 17 + zj h 11 (40 * s + 10 * k + m) * lN (12 ^ (sB σ - m)))) := fun i hi z => a i hi (by rw [zj_ne _ _ _ _ (Or.inl (by decide))] at z; exact z)
      have body : ∀ h1, fE h h1 → pA σ h1 → Ph σ c e h1 ((m * 16 + s) * 4 + k + 1) = Ph σ c e h ((m * 16 + s) * 4 + k + 1) + c * (zj h 11 (40 * s + 10 * k + m) * lN (12 ^ (sB σ - m))) → ∀ x y, x = nI (dl σ (sB σ - m) s (sO σ k)) → y = nI (dh σ (sB σ - m) s (sO σ k)) → wp (bd (X0_nextPlace h1 x (nI k)) fun r54 h53 => bd (X0_reach h53 x r54 (nI m + 1) (y.toInt64 * zj h 11 (40 * s + 10 * k + m))) fun _ h55 => bd (X0_nextPlace h55 (nI s) (nI k)) fun r58 h57 => bd (X0_reach h57 (nI s) r58 (nI m + 1) ((((12 : Int32) - y).toInt64) * zj h 11 (40 * s + 10 * k + m))) fun _ h59 => r h59 (nI (k + 1))) Q := by
        intro h1 f1 a1 p1 x y ex ey
        have g1 := g.fr f1.f0
        rw [ex, ey, sX0_next ok g1 (by omega) hkn, bd_s, nI_1, wp_bd]
        have n1 := nxp_lt (σ := σ) (s := dl σ (sB σ - m) s (sO σ k)) hkn
        have n2 := nxp_lt (σ := σ) (s := s) hkn
        refine (sX0_reach ok g1 c e (t := (m * 16 + s) * 4 + k + 1) hl n1 (by omega) (nxp_bit hkn hlb) a1 (by omega) _).mono ?_
        rintro _ h2 ⟨f2, a2, p2⟩
        have g2 := g1.fr f2.f0
        rw [sX0_next ok g2 (by omega) hkn, bd_s, wp_bd]
        refine (sX0_reach ok g2 c e (t := (m * 16 + s) * 4 + k + 1) hs n2 (by omega) (nxp_bit hkn hb) a2 (by omega) _).mono ?_
        rintro _ h3 ⟨f3, a3, p3⟩
        have fa := f1.tr (f2.tr f3)
        refine ih (k + 1) h3 (g2.fr f3.f0) (fa.tC t) (fr.tr fa) a3 ?_ (by omega) (by omega)
        rw [← Nat.add_assoc, p3, p2, p1, drop, hU, nI_l (by omega), show (12 : Int32) = nI 12 from rfl, pk_sub h12, nI_l (by omega), nxw_pl ok hkn, nxw_pl ok hkn]
        generalize dU σ c e (sB σ - (m + 1)) (dl σ (sB σ - m) s (sO σ k)) (nxw σ (dl σ (sB σ - m) s (sO σ k)) (sO σ k)) = A
        generalize dU σ c e (sB σ - (m + 1)) s (nxw σ s (sO σ k)) = B
        generalize zj h 11 (40 * s + 10 * k + m) = C
        generalize lN (12 ^ (sB σ - m)) = D
        generalize lN (dh σ (sB σ - m) s (sO σ k)) = E
        generalize lN (12 - dh σ (sB σ - m) s (sO σ k)) = F
        grind
      rw [zi_sj, nI_clamp (by omega), et.1]
      have h9b : dG σ (sB σ - m) s (sO σ k) < 2 ^ 31 := by rcases hA with z | z <;> omega
      by_cases c9 : dG σ (sB σ - m) s (sO σ k) = 9
      · rw [if_pos (by rw [c9]; rfl), if_pos (by rw [c9]; rfl)]
        refine body _ fr1 a1 ph1 _ _ ?_ ?_
        · unfold dl; rw [if_pos c9]
        · unfold dh; rw [if_pos c9]; rfl
      · have ht2 := hA.resolve_left c9
        rw [if_neg (nI_n9 h9b c9), ck_i (by omega) (by omega), nI_clamp (by omega), g.2.1 k hkn, wp_bd]
        refine (gc.hits ok (g.fr fr1.f0) hw ht2.1 (by omega) (by omega)).mono ?_
        rintro x h2 ⟨ex, f7'⟩
        rw [if_neg (nI_n9 h9b c9), b_cl s (by omega) _ (by omega)]
        refine body h2 (fr1.tr f7'.fE) (a1.f7 f7') (by rw [Ph_7 f7']; exact ph1) _ _ ?_ ?_
        · unfold dl; rw [if_neg c9]
        · unfold dh; rw [if_neg c9, ex, show sB σ - (sB σ - m) = m from by omega]
theorem lX0_77 {σ : Sg} (ok : sOK σ) (c : Int64) (e : Nat → Int64) {K : Int64} {m : Nat} (hm : m < sB σ) {Q : Unit → Hp → Prop} (j : Hp → Option (Unit × Hp)) (h0 : Hp) (hj : ∀ h', gc σ h' → tC σ h' 0 → fE h0 h' → pA σ h' → Ph σ c e h' ((m + 1) * 64) = K → wp (j h') Q) :
    ∀ N, (fun N r => ∀ k h, gc σ h → tC σ h 0 → fE h0 h → pA σ h → Ph σ c e h ((m * 16 + k) * 4) = K → k ≤ 2 ^ sN σ → 2 ^ sN σ - k < N → wp (r h (nI k)) Q) N (zfix (fun (_ : Hp) (_ : Int32) => (none : Option (Unit × Hp))) (X0_findEnds_b77 (nI m) j) N) := by
  have hn := ok.1
  have hb9 := ok.2.2.2.2.1
  have hpw := pow16 hn
  have hal := all_lt σ
  refine zfix_ind (σ := Hp → Int32 → Option (Unit × Hp)) _ _ (fun N r => ∀ k h, gc σ h → tC σ h 0 → fE h0 h → pA σ h → Ph σ c e h ((m * 16 + k) * 4) = K → k ≤ 2 ^ sN σ → 2 ^ sN σ - k < N → wp (r h (nI k)) Q) (fun k _ _ _ _ _ _ _ z => absurd z (Nat.not_lt_zero _)) (fun N r ih k h g t fr a ph hk hN => ?_)
  unfold X0_findEnds_b77
  rw [sX0_all h hn g.1, bd_s]
  by_cases cc : 2 ^ sN σ ≤ k
  · rw [if_pos ((nI_ltI (by omega) (by omega)).mpr (by omega))]
    refine hj h g t fr a ?_
    rw [← ph]
    refine Ph_d (fun s' k' m' h1 h2 h3 z => ?_)
    have pr := a.d h1 h2 h3 z
    omega
  · rw [if_neg (fun z => by have := (nI_ltI (by omega) (by omega)).mp z; omega)]
    simp only [nm_u]
    rw [nI_1]
    refine lX0_87 ok c e (K := K) (s := k) (by omega) hm _ h0 (fun h' b1 b2 b3 b4 b5 => ?_) zFU 0 h g t fr a ph (Nat.zero_le _) (by rw [zFU_u]; omega)
    refine ih (k + 1) h' b1 b2 b3 b4 ?_ (by omega) (by omega)
    rw [← b5]
    refine Ph_d (fun s' k' m' h1 h2 h3 z => ?_)
    have pr := b4.d h1 h2 h3 z
    omega
theorem lX0_67 {σ : Sg} (ok : sOK σ) (c : Int64) (e : Nat → Int64) (K : Int64) (h1 : Hp) :
    ∀ N, (fun N r => ∀ m h4, gc σ h4 → tC σ h4 0 → fE h1 h4 → pA σ h4 → Ph σ c e h4 (m * 64) = K → m ≤ sB σ → sB σ - m < N → wp (r h4 (nI m)) (fun _ h' => fE h1 h' ∧ tC σ h' 0 ∧ c * zj h' 0 17 + sumJ (fun s => zj h' 12 s * e s) (2 ^ sN σ) = K)) N (zfix (fun (_ : Hp) (_ : Int32) => (none : Option (Unit × Hp))) X0_findEnds_b67 N) := by
  have hn := ok.1
  have hb9 := ok.2.2.2.2.1
  have hpw := pow16 hn
  refine zfix_ind (σ := Hp → Int32 → Option (Unit × Hp)) _ _ (fun N r => ∀ m h4, gc σ h4 → tC σ h4 0 → fE h1 h4 → pA σ h4 → Ph σ c e h4 (m * 64) = K → m ≤ sB σ → sB σ - m < N → wp (r h4 (nI m)) (fun _ h' => fE h1 h' ∧ tC σ h' 0 ∧ c * zj h' 0 17 + sumJ (fun s => zj h' 12 s * e s) (2 ^ sN σ) = K)) (fun m _ _ _ _ _ _ _ z => absurd z (Nat.not_lt_zero _)) (fun N r ih m h4 g4 t4 f4 a4 p4 hm hN => ?_)
  unfold X0_findEnds_b67
  rw [g4.2.2.2.1]
  by_cases cc : sB σ ≤ m
  · rw [if_pos ((nI_leI (by omega) (by omega)).mpr cc)]
    refine wp.of rfl ⟨f4, t4, ?_⟩
    rw [← p4, Ph_end a4 (by omega)]
  · rw [if_neg (fun z => cc ((nI_leI (by omega) (by omega)).mp z))]
    rw [nm_u]
    refine lX0_77 ok c e (K := K) (m := m) (by omega) _ h1 (fun h' b1 b2 b3 b4 b5 => ?_) zFU 0 h4 g4 t4 f4 a4 ?_ (Nat.zero_le _) (by rw [zFU_u]; omega)
    · show wp (nm _ _) _
      rw [nm_u, nI_1]
      exact ih (m + 1) h' b1 b2 b3 b4 b5 (by omega) (by omega)
    · have e0 : (m * 16 + 0) * 4 = m * 64 := by omega
      rw [e0]; exact p4
theorem lX0_last {σ : Sg} (ok : sOK σ) (hn0 : 0 < sN σ) (c : Int64) (e : Nat → Int64) (h1 h2 : Hp) (g2 : gc σ h2) (t2 : tC σ h2 0) (fr2 : fE h1 h2) (a2 : pA σ h2) (p2 : Ph σ c e h2 0 = 0) : wp (bd (X0_everybody h2 ) fun r9 h8 => bd (X0_reach h8 r9 (0 : Int32) (0 : Int32) (1 : Int64)) fun _ h10 => zfix (fun _ _ => none) (X0_findEnds_b67) zFU h10 (0 : Int32)) (fun _ h' => fE h1 h' ∧ tC σ h' 0 ∧ c * zj h' 0 17 + sumJ (fun s => zj h' 12 s * e s) (2 ^ sN σ) = dU σ c e (sB σ) (2 ^ sN σ - 1) (sO σ 0)) := by
  have hn := ok.1
  have hb9 := ok.2.2.2.2.1
  have hpw := pow16 hn
  have hal := all_lt σ
  rw [sX0_all h2 hn g2.1, bd_s, wp_bd]
  have rc := sX0_reach ok g2 c e (s := 2 ^ sN σ - 1) (pl := 0) (m := 0) (t := 0) hal hn0 (Nat.zero_le _) (allb ok hn0) a2 (Nat.zero_le _) 1
  rw [p2, Int64.zero_add, Int64.one_mul, Nat.sub_zero] at rc
  refine wp.mono rc ?_
  rintro _ h3 ⟨f3, a3, p3⟩
  refine lX0_67 ok c e _ h1 zFU 0 h3 (g2.fr f3.f0) (f3.tC t2) (fr2.tr f3) a3 ?_ (Nat.zero_le _) (by rw [zFU_u]; omega)
  rw [Nat.zero_mul]; exact p3
theorem lX0_e35 {σ : Sg} (ok : sOK σ) (hn0 : 0 < sN σ) (c : Int64) (e : Nat → Int64) (h1 : Hp) (g1 : gc σ h1) (t1 : tC σ h1 0) :
    ∀ N, (fun N r => ∀ k h2, fE h1 h2 → zj h2 0 17 = 0 → (∀ i, i < 640 → zj h2 11 i = 0) → (∀ i, i < k → zj h2 12 i = 0) → k ≤ 16 → 16 - k < N → wp (r h2 (nI k)) (fun _ h' => fE h1 h' ∧ tC σ h' 0 ∧ c * zj h' 0 17 + sumJ (fun s => zj h' 12 s * e s) (2 ^ sN σ) = dU σ c e (sB σ) (2 ^ sN σ - 1) (sO σ 0))) N (zfix (fun (_ : Hp) (_ : Int32) => (none : Option (Unit × Hp))) (X0_findEnds_b35 (fun (h6 : Hp)  => bd (X0_everybody h6 ) fun r9 h8 => bd (X0_reach h8 r9 (0 : Int32) (0 : Int32) (1 : Int64)) fun _ h10 => zfix (fun _ _ => none) (X0_findEnds_b67) zFU h10 (0 : Int32))) N) := by
  have hpw := pow16 ok.1
  refine zfix_ind (σ := Hp → Int32 → Option (Unit × Hp)) _ _ (fun N r => ∀ k h2, fE h1 h2 → zj h2 0 17 = 0 → (∀ i, i < 640 → zj h2 11 i = 0) → (∀ i, i < k → zj h2 12 i = 0) → k ≤ 16 → 16 - k < N → wp (r h2 (nI k)) (fun _ h' => fE h1 h' ∧ tC σ h' 0 ∧ c * zj h' 0 17 + sumJ (fun s => zj h' 12 s * e s) (2 ^ sN σ) = dU σ c e (sB σ) (2 ^ sN σ - 1) (sO σ 0))) (fun k _ _ _ _ _ _ z => absurd z (Nat.not_lt_zero _)) (fun N r ih k h2 fr2 z1 z2 z3 hk hN => ?_)
  unfold X0_findEnds_b35
  by_cases cc : k = 16
  · rw [if_pos (show (16 : Int32) ≤ nI k from (nI_leI (a := 16) (by omega) (by omega)).mpr (by omega))]
    exact lX0_last ok hn0 c e h1 h2 (g1.fr fr2.f0) (fr2.tC t1) fr2 (fun i hi z => absurd (z2 i hi) z) (Ph_0 z1 z2 (fun i hi => z3 i (by omega)) 0)
  · rw [if_neg (fun z => by have := (nI_leI (by omega) (by omega)).mp (show nI 16 ≤ nI k from z); omega), ck_i (by omega) (by omega), nI_clamp (by omega), nm_u, nm_u, nI_1]
    refine ih (k + 1) _ (fr2.tr (fE.sj (Or.inr (Or.inl rfl)))) ((zj_ne _ _ _ _ (Or.inl (by decide))).trans z1) (fun i hi => (zj_ne _ _ _ _ (Or.inl (by decide))).trans (z2 i hi)) (fun i hi => ?_) (by omega) (by omega)
    rcases Nat.lt_or_ge i k with l | l
    · rw [zj_ne _ _ _ _ (Or.inr (by omega))]; exact z3 i l
    · rw [show i = k from by omega, zj_eq]
theorem lX0_e11 {σ : Sg} (ok : sOK σ) (hn0 : 0 < sN σ) (c : Int64) (e : Nat → Int64) (h1 : Hp) (g1 : gc σ h1) (t1 : tC σ h1 0) :
    ∀ N, (fun N r => ∀ k h2, fE h1 h2 → zj h2 0 17 = 0 → (∀ i, i < k → zj h2 11 i = 0) → k ≤ 640 → 640 - k < N → wp (r h2 (nI k)) (fun _ h' => fE h1 h' ∧ tC σ h' 0 ∧ c * zj h' 0 17 + sumJ (fun s => zj h' 12 s * e s) (2 ^ sN σ) = dU σ c e (sB σ) (2 ^ sN σ - 1) (sO σ 0))) N (zfix (fun (_ : Hp) (_ : Int32) => (none : Option (Unit × Hp))) (X0_findEnds_b11 (fun (h4 : Hp)  => nm (fun (h6 : Hp)  => bd (X0_everybody h6 ) fun r9 h8 => bd (X0_reach h8 r9 (0 : Int32) (0 : Int32) (1 : Int64)) fun _ h10 => zfix (fun _ _ => none) (X0_findEnds_b67) zFU h10 (0 : Int32)) fun j54_7 => zfix (fun _ _ => none) (X0_findEnds_b35 j54_7) zFU h4 (0 : Int32))) N) := by
  refine zfix_ind (σ := Hp → Int32 → Option (Unit × Hp)) _ _ (fun N r => ∀ k h2, fE h1 h2 → zj h2 0 17 = 0 → (∀ i, i < k → zj h2 11 i = 0) → k ≤ 640 → 640 - k < N → wp (r h2 (nI k)) (fun _ h' => fE h1 h' ∧ tC σ h' 0 ∧ c * zj h' 0 17 + sumJ (fun s => zj h' 12 s * e s) (2 ^ sN σ) = dU σ c e (sB σ) (2 ^ sN σ - 1) (sO σ 0))) (fun k _ _ _ _ _ z => absurd z (Nat.not_lt_zero _)) (fun N r ih k h2 fr2 z1 z2 hk hN => ?_)
  unfold X0_findEnds_b11
  by_cases cc : k = 640
  · rw [if_pos ((nI_leI (a := 640) (by omega) (by omega)).mpr (by omega))]
    show wp (nm _ _) _
    rw [nm_u]
    exact lX0_e35 ok hn0 c e h1 g1 t1 zFU 0 h2 fr2 z1 (fun i hi => z2 i (by omega)) (fun i hi => absurd hi (Nat.not_lt_zero _)) (Nat.zero_le _) (by rw [zFU_u]; omega)
  · rw [if_neg (fun z => by have := (nI_leI (by omega) (by omega)).mp z; omega), ck_i (by omega) (by omega), nI_clamp (by omega), nm_u, nm_u, nI_1]
    refine ih (k + 1) _ (fr2.tr (fE.sj (Or.inl rfl))) ((zj_ne _ _ _ _ (Or.inl (by decide))).trans z1) (fun i hi => ?_) (by omega) (by omega)
    rcases Nat.lt_or_ge i k with l | l
    · rw [zj_ne _ _ _ _ (Or.inr (by omega))]; exact z2 i l
    · rw [show i = k from by omega, zj_eq]
theorem sX0_findEnds {σ : Sg} (ok : sOK σ) {h : Hp} (g : gc σ h) (hn0 : 0 < sN σ) (c : Int64) (e : Nat → Int64) : wp (X0_findEnds h) (fun _ h' => f0 h h' ∧ tC σ h' 0 ∧ c * zj h' 0 17 + sumJ (fun s => zj h' 12 s * e s) (2 ^ sN σ) = dU σ c e (sB σ) (2 ^ sN σ - 1) (sO σ 0)) := by
  unfold X0_findEnds
  rw [wp_bd]
  refine (sX0_findValues ok g).mono ?_
  rintro _ h1 ⟨fr1, t1⟩
  rw [nm_u, nm_u]
  refine wp.mono (lX0_e11 ok hn0 c e h1 (g.fr fr1.f0) t1 zFU 0 _ (fE.sj (Or.inr (Or.inr ⟨rfl, rfl⟩))) (zj_eq _ _ _ _) (fun i hi => absurd hi (Nat.not_lt_zero _)) (Nat.zero_le _) (by rw [zFU_u]; omega)) ?_
  rintro _ h2 ⟨a1, a2, a3⟩
  exact ⟨fr1.f0.tr a1.f0, a2, a3⟩
