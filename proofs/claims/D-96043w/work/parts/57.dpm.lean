/-! THE MODEL works out what all is worth -/
def f28 (h h' : Hp) : Prop := h'.2 = h.2 ∧ ∀ q k, q ≠ 28 → ¬ (q = 17 ∧ 16 ≤ k ∧ k ≤ 20) → zi h' q k = zi h q k
def fN (h h' : Hp) : Prop := h'.2.2 = h.2.2 ∧ (∀ q k, q ≠ 28 → ¬ (q = 17 ∧ 16 ≤ k ∧ k ≤ 20) → zi h' q k = zi h q k) ∧ ∀ q k, q ≠ 33 → zj h' q k = zj h q k
/-- what the model writes as it works things out -/
def f2 (h h' : Hp) : Prop := h'.2.2 = h.2.2 ∧ (∀ q k, q ≠ 28 → q ≠ 31 → q ≠ 32 → ¬ (q = 17 ∧ (16 ≤ k ∧ k ≤ 20 ∨ k = 29 ∨ k = 30)) → zi h' q k = zi h q k) ∧ ∀ q k, q ≠ 29 → q ≠ 30 → q ≠ 33 → q ≠ 34 → q ≠ 17 → zj h' q k = zj h q k
theorem f28.rf (h : Hp) : f28 h h := ⟨rfl, fun _ _ _ _ => rfl⟩
theorem f28.tr {h h' h2 : Hp} (a : f28 h h') (b : f28 h' h2) : f28 h h2 := ⟨b.1.trans a.1, fun q k h1 h3 => (b.2 q k h1 h3).trans (a.2 q k h1 h3)⟩
theorem fN.rf (h : Hp) : fN h h := ⟨rfl, fun _ _ _ _ => rfl, fun _ _ _ => rfl⟩
theorem fN.tr {h h' h2 : Hp} (a : fN h h') (b : fN h' h2) : fN h h2 := ⟨b.1.trans a.1, fun q k h1 h3 => (b.2.1 q k h1 h3).trans (a.2.1 q k h1 h3), fun q k h1 => (b.2.2 q k h1).trans (a.2.2 q k h1)⟩
theorem f28.zj {h h' : Hp} (a : f28 h h') : zj h' = zj h := congrArg (fun x => x.1) a.1
theorem f28.fN {h h' : Hp} (a : f28 h h') : fN h h' := ⟨congrArg (fun x => x.2) a.1, a.2, fun q k _ => by rw [a.zj]⟩
theorem fN.sj {h : Hp} {k : Nat} {v : Int64} : fN h (zsj h 33 k v) := ⟨rfl, fun _ _ _ _ => rfl, fun _ _ h2 => zj_ne _ _ _ _ (Or.inl h2)⟩
theorem f2.rf (h : Hp) : f2 h h := ⟨rfl, fun _ _ _ _ _ _ => rfl, fun _ _ _ _ _ _ _ => rfl⟩
theorem f2.tr {h h' h2 : Hp} (a : f2 h h') (b : f2 h' h2) : f2 h h2 := ⟨b.1.trans a.1, fun q k h1 h2 h3 h4 => (b.2.1 q k h1 h2 h3 h4).trans (a.2.1 q k h1 h2 h3 h4), fun q k h1 h2 h3 h4 h5 => (b.2.2 q k h1 h2 h3 h4 h5).trans (a.2.2 q k h1 h2 h3 h4 h5)⟩
theorem fN.f2 {h h' : Hp} (a : fN h h') : f2 h h' := ⟨a.1, fun q k h1 _ _ h4 => a.2.1 q k h1 (fun z => h4 ⟨z.1, Or.inl z.2⟩), fun q k _ _ h3 _ _ => a.2.2 q k h3⟩
theorem f2.si {h : Hp} {q k : Nat} {v : Int32} (hq : q = 31 ∨ q = 32) : f2 h (zsi h q k v) := ⟨rfl, fun _ _ _ h2 h3 _ => zi_ne _ _ _ _ (Or.inl (by omega)), fun _ _ _ _ _ _ _ => rfl⟩
theorem f2.sj {h : Hp} {q k : Nat} {v : Int64} (hq : q = 29 ∨ q = 30 ∨ q = 33 ∨ q = 34) : f2 h (zsj h q k v) := ⟨rfl, fun _ _ _ _ _ _ => rfl, fun _ _ h1 h2 h3 h4 _ => zj_ne _ _ _ _ (Or.inl (by omega))⟩
def fM (h h' : Hp) : Prop := zi h' 17 15 = zi h 17 15 ∧ ∀ k, zi h' 27 k = zi h 27 k
theorem fM.rf (h : Hp) : fM h h := ⟨rfl, fun _ => rfl⟩
theorem fM.tr {h h' h2 : Hp} (a : fM h h') (b : fM h' h2) : fM h h2 := ⟨b.1.trans a.1, fun k => (b.2 k).trans (a.2 k)⟩
theorem f2.M {h h' : Hp} (a : f2 h h') : fM h h' := ⟨a.2.1 17 15 (by decide) (by decide) (by decide) (by omega), fun k => a.2.1 27 k (by decide) (by decide) (by decide) (by omega)⟩
def LM (h : Hp) (D : Nat → Nat → Nat → Nat → Nat → Nat) : Prop := ∀ h', fM h h' → ∀ w t m k c, w < 4 → t < 4 → m < 5 → k < 10 → zi h' 18 w = nI c → c ≤ 12 → wp (X2_hitsOf h' (nI w) (nI t) (nI m) (nI k)) (fun r h2 => r = nI (D c w t m k) ∧ f28 h' h2)
theorem LM.fr {h h' : Hp} {D : Nat → Nat → Nat → Nat → Nat → Nat} (l : LM h D) (a : fM h h') : LM h' D := fun h2 b => l h2 (a.tr b)
/-- what the model reads -/
def gm (σ : Sg) (h : Hp) : Prop :=
  zi h 17 6 = nI (sN σ) ∧ (∀ k, k < sN σ → zi h 22 k = nI (sO σ k)) ∧ (∀ p, p < sN σ → zi h 23 p = nI (sP σ p)) ∧
  (∀ p, p < sN σ → ∀ w, w < 3 → zi h 18 (4 * w + p) = nI (sM σ (4 * w + p))) ∧
  zi h 17 9 = nI (sB σ) ∧ (∀ m, m < 5 → zi h 24 m = nI (sZ σ m)) ∧ LM h (sD σ)
theorem gm.fr {σ : Sg} {h h' : Hp} (g : gm σ h) (a : f2 h h') : gm σ h' :=
  ⟨(a.2.1 17 6 (by decide) (by decide) (by decide) (by omega)).trans g.1, fun k hk => (a.2.1 22 k (by decide) (by decide) (by decide) (by omega)).trans (g.2.1 k hk), fun k hk => (a.2.1 23 k (by decide) (by decide) (by decide) (by omega)).trans (g.2.2.1 k hk), fun p hp w hw => (a.2.1 18 _ (by decide) (by decide) (by decide) (by omega)).trans (g.2.2.2.1 p hp w hw), (a.2.1 17 9 (by decide) (by decide) (by decide) (by omega)).trans g.2.2.2.2.1, fun m hm => (a.2.1 24 m (by decide) (by decide) (by decide) (by omega)).trans (g.2.2.2.2.2.1 m hm), g.2.2.2.2.2.2.fr a.M⟩
theorem gm.hits {σ : Sg} (ok : sOK σ) {h : Hp} (g : gm σ h) {w t m k : Nat} (hw : w < sN σ) (ht : t < sN σ) (hm : m < 5) (hk : k < 10) : wp (X2_hitsOf h (nI w) (nI t) (nI m) (nI k)) (fun r h2 => r = nI (sH σ w t m k) ∧ f28 h h2) := by
  have hn := ok.1
  have h4 := g.2.2.2.1 w hw 0 (by decide)
  rw [Nat.mul_zero, Nat.zero_add] at h4
  exact g.2.2.2.2.2.2 h (fM.rf h) w t m k _ (by omega) (by omega) hm hk h4 (ok.2.2.2.1 w hw).1
theorem sX2_next {σ : Sg} (ok : sOK σ) {h : Hp} (g : gm σ h) {s w : Nat} (hs : s < 16) (hw : w < sN σ) (hb : s.testBit w = true) : X2_nextOf h (nI w) (nI s) = some (nI (nxw σ s w), h) := by
  have hn := ok.1
  have hp := ok.2.2.1 w hw
  have key : ∀ m, (fun m r => ∀ k f, k < sN σ → sN σ - k ≤ m → sN σ - k ≤ f → r h (nI (k + 1)) = some (nI (sO σ (nxg σ s (sP σ w) f ((sP σ w + k) % sN σ))), h)) m (zfix (fun (_ : Hp) (_ : Int32) => (none : Option (Int32 × Hp))) (X2_nextOf_b2 (nI w) (nI s)) m) := by
    refine zfix_ind (σ := Hp → Int32 → Option (Int32 × Hp)) _ _ (fun m r => ∀ k f, k < sN σ → sN σ - k ≤ m → sN σ - k ≤ f → r h (nI (k + 1)) = some (nI (sO σ (nxg σ s (sP σ w) f ((sP σ w + k) % sN σ))), h)) (fun i f hi hm _ => by omega) (fun m r ih k f hk hm hf => ?_)
    obtain ⟨f, rfl⟩ : ∃ f', f = f' + 1 := ⟨f - 1, by omega⟩
    have e : ((sP σ w + k) % sN σ + 1) % sN σ = (sP σ w + (k + 1)) % sN σ := by rw [Nat.mod_add_mod]; congr 1
    have hk' : (sP σ w + (k + 1)) % sN σ < sN σ := Nat.mod_lt _ (by omega)
    unfold X2_nextOf_b2 nxg
    rw [g.1, if_neg (fun z => by have := (nI_ltI (by omega) (by omega)).mp z; omega), ck_i (by omega) (by omega), ck_t (nI_ne0 (by omega) (by omega)), nI_clamp (by omega), g.2.2.1 w hw, nI_add, pk_rem (by omega) (by omega) (by omega), ck_i (by omega) (by omega), nI_clamp (by omega), g.2.1 _ hk', e]
    simp only [nm_u]
    rw [sX2_isIn h hs (by have := (ok.2.1 _ hk').1; omega), bd_s]
    by_cases d : s.testBit (sO σ ((sP σ w + (k + 1)) % sN σ)) = true
    · rw [if_neg (fun z => (pB0.mp z) d), if_pos (Or.inr d)]
    · have c : ¬ (sP σ w + (k + 1)) % sN σ = sP σ w := fun z => d (by rw [z, hp.2]; exact hb)
      rw [if_pos (pB0.mpr d), if_neg (fun z => z.elim c d), nI_1]
      have hi1 : k + 1 < sN σ := by
        rcases Nat.lt_or_ge (k + 1) (sN σ) with l | l
        · exact l
        · exfalso; apply c
          rw [show k + 1 = sN σ from by omega, Nat.add_mod_right, Nat.mod_eq_of_lt hp.1]
      exact ih (k + 1) f hi1 (by omega) (by omega)
  have := key zFU 0 4 (by omega) (by rw [zFU_u]; omega) (by omega)
  rw [show sP σ w + 0 = sP σ w from rfl, Nat.mod_eq_of_lt hp.1] at this
  exact this
/-- the model's tables at one state -/
def dG2 (σ : Sg) (m s w : Nat) : Nat := if sB σ ≤ m ∨ pc s ≤ 1 then 9 else dG σ (sB σ - m) s w
def dK (σ : Sg) (m s w : Nat) : Nat := if dG2 σ m s w = 9 then 0 else sH σ w (dG2 σ m s w) (pc s) m
def eV (σ : Sg) (h : Hp) (s w m : Nat) : Prop := ∀ p, p < sN σ → zj h 30 (4 * ((m * 16 + s) * 4 + w) + p) = dV σ (sB σ - m) s w p
def eM (σ : Sg) (h : Hp) (s w m : Nat) : Prop := zi h 31 ((m * 16 + s) * 4 + w) = nI (dG2 σ m s w) ∧ zi h 32 ((m * 16 + s) * 4 + w) = nI (dK σ m s w) ∧ eV σ h s w m
def tM (σ : Sg) (h : Hp) (lo : Nat) : Prop := ∀ m, lo ≤ m → m ≤ sB σ → ∀ s, s < 2 ^ sN σ → ∀ w, w < sN σ → (sB σ ≤ m ∨ pc s ≤ 1 ∨ s.testBit w = true) → eM σ h s w m
theorem tM.fN {σ : Sg} {h h' : Hp} {lo : Nat} (t : tM σ h lo) (a : fN h h') : tM σ h' lo := fun m h1 h2 s h3 w h4 h5 => by
  have := t m h1 h2 s h3 w h4 h5
  exact ⟨(a.2.1 31 _ (by decide) (by omega)).trans this.1, (a.2.1 32 _ (by decide) (by omega)).trans this.2.1, fun p hp => (a.2.2 30 _ (by decide)).trans (this.2.2 p hp)⟩
theorem sX2_hitsAt {σ : Sg} (ok : sOK σ) {h : Hp} (g : gm σ h) {s w t m : Nat} (hs : s < 16) (hw : w < sN σ) (ht : isAim σ s w t) (hm : m < 10) : wp (X2_hitsAt h (nI m) (nI s) (nI w) (nI t)) (fun r h' => r = nI (if t = 9 then 0 else sH σ w t (pc s) m) ∧ f28 h h') := by
  have hn := ok.1
  have h1 := pc_le s hs
  unfold X2_hitsAt
  rcases ht with ht | ht
  · rw [if_pos (by rw [ht]; rfl)]
    refine wp.of rfl ⟨?_, f28.rf h⟩
    rw [if_pos ht]; rfl
  · have h9 : ¬ t = 9 := by omega
    rw [if_neg (nI_n9 (by omega) h9), sX2_bitsOf h hs, bd_s, wp_bd]
    refine (gm.hits ok g hw ht.1 (by omega) hm).mono ?_
    rintro r h2 ⟨er, fr⟩
    refine wp.of rfl ⟨?_, fr⟩
    rw [er, if_neg h9]
/-- what each has, if one throws so -/
theorem sX2_worthBy {σ : Sg} (ok : sOK σ) {h : Hp} (g : gm σ h) {s w t m c : Nat} (hs : s < 2 ^ sN σ) (hw : w < sN σ) (hb : s.testBit w = true) (hm : m < sB σ) (ht : isAim σ s w t) (hc : c ≤ 12) (tb : tM σ h (m + 1)) : wp (X2_worthBy h (nI m) (nI s) (nI w) (nI t) (nI c)) (fun _ h' => fN h h' ∧ ∀ p, p < sN σ → zj h' 33 p = lN c * dV σ (sB σ - (m + 1)) (if t = 9 then s else cl s t) (nxw σ (if t = 9 then s else cl s t) w) p + lN (12 - c) * dV σ (sB σ - (m + 1)) s (nxw σ s w) p) := by
  have hn := ok.1
  have hb9 := ok.2.2.2.2.1
  have hpw := pow16 hn
  have h16 : s < 16 := by omega
  have hl : (if t = 9 then s else cl s t) < 2 ^ sN σ := by
    split
    · exact hs
    · exact Nat.lt_of_le_of_lt (cl_le s t) hs
  have hlb : (if t = 9 then s else cl s t).testBit w = true := by
    split
    · exact hb
    · rename_i h9
      have ht2 := ht.resolve_left h9
      rw [cl_bit s h16 t (by omega) w (by omega), hb]
      simp only [Bool.true_and, decide_eq_true_eq]
      exact fun z => ht2.2.1 z.symm
  have key : ∀ N, (fun N r => ∀ k h1, fN h h1 → (∀ p, p < k → zj h1 33 p = lN c * dV σ (sB σ - (m + 1)) (if t = 9 then s else cl s t) (nxw σ (if t = 9 then s else cl s t) w) p + lN (12 - c) * dV σ (sB σ - (m + 1)) s (nxw σ s w) p) → k ≤ sN σ → sN σ - k < N → wp (r h1 (nI k)) (fun _ h' => fN h h' ∧ ∀ p, p < sN σ → zj h' 33 p = lN c * dV σ (sB σ - (m + 1)) (if t = 9 then s else cl s t) (nxw σ (if t = 9 then s else cl s t) w) p + lN (12 - c) * dV σ (sB σ - (m + 1)) s (nxw σ s w) p)) N (zfix (fun (_ : Hp) (_ : Int32) => (none : Option (Unit × Hp))) (X2_worthBy_b60 (nI c) (nI (4 * (((m + 1) * 16 + s) * 4 + nxw σ s w))) (nI (4 * (((m + 1) * 16 + (if t = 9 then s else cl s t)) * 4 + nxw σ (if t = 9 then s else cl s t) w)))) N) := by
    refine zfix_ind (σ := Hp → Int32 → Option (Unit × Hp)) _ _ (fun N r => ∀ k h1, fN h h1 → (∀ p, p < k → zj h1 33 p = lN c * dV σ (sB σ - (m + 1)) (if t = 9 then s else cl s t) (nxw σ (if t = 9 then s else cl s t) w) p + lN (12 - c) * dV σ (sB σ - (m + 1)) s (nxw σ s w) p) → k ≤ sN σ → sN σ - k < N → wp (r h1 (nI k)) (fun _ h' => fN h h' ∧ ∀ p, p < sN σ → zj h' 33 p = lN c * dV σ (sB σ - (m + 1)) (if t = 9 then s else cl s t) (nxw σ (if t = 9 then s else cl s t) w) p + lN (12 - c) * dV σ (sB σ - (m + 1)) s (nxw σ s w) p)) (fun k _ _ _ _ z => absurd z (Nat.not_lt_zero _)) (fun N r ih k h1 fr kn hk hN => ?_)
    have g1 := g.fr fr.f2
    have t1 := tb.fN fr
    have l1 := nxw_lt ok (s := s) hw
    have l2 := nxw_lt ok (s := if t = 9 then s else cl s t) hw
    have v1 := (t1 (m + 1) (Nat.le_refl _) hm s hs _ l1 (Or.inr (Or.inr (nxw_bit ok hw hb)))).2.2
    have v2 := (t1 (m + 1) (Nat.le_refl _) hm _ hl _ l2 (Or.inr (Or.inr (nxw_bit ok hw hlb)))).2.2
    unfold X2_worthBy_b60
    rw [g1.1]
    by_cases cc : sN σ ≤ k
    · rw [if_pos ((nI_leI (by omega) (by omega)).mpr cc)]
      exact wp.of rfl ⟨fr, fun p hp => kn p (by omega)⟩
    · rw [if_neg (fun z => cc ((nI_leI (by omega) (by omega)).mp z)), nI_add, nI_add, ck_i (by omega) (by omega), ck_i (by omega) (by omega), nI_clamp (by omega), nI_clamp (by omega), v1 k (by omega), v2 k (by omega)]
      simp only [nm_u]
      rw [ck_i (by omega) (by omega), nI_clamp (by omega), nI_1, show (12 : Int32) = nI 12 from rfl, pk_sub hc, nI_l (by omega), nI_l (by omega)]
      refine ih (k + 1) _ (fr.tr fN.sj) (fun p hp => ?_) (by omega) (by omega)
      rcases Nat.lt_or_ge p k with l | l
      · rw [zj_ne _ _ _ _ (Or.inr (by omega))]; exact kn p l
      · rw [show p = k from by omega, zj_eq]
  unfold X2_worthBy
  rw [sX2_next ok g h16 hw hb, bd_s, nI_1, sX2_st, bd_s]
  simp only [nm_u]
  rw [show (4 : Int32) = nI 4 from rfl, pk_mul]
  have fin := key zFU 0 h (fN.rf h) (fun p z => absurd z (Nat.not_lt_zero _)) (Nat.zero_le _) (by rw [zFU_u]; omega)
  by_cases h9 : t = 9
  · simp only [h9, if_true] at fin hlb ⊢
    rw [if_pos (show nI 9 = (9 : Int32) from rfl), sX2_next ok g h16 hw hb, bd_s, sX2_st, bd_s, pk_mul]
    exact fin
  · simp only [h9, if_false] at fin hlb hl ⊢
    have ht2 := ht.resolve_left h9
    rw [if_neg (nI_n9 (by omega) h9), b_cl s h16 t (by omega), sX2_next ok g (by omega) hw hlb, bd_s, sX2_st, bd_s, pk_mul]
    exact fin
theorem sX2_byHits {σ : Sg} (ok : sOK σ) {h : Hp} (g : gm σ h) {s w : Nat} (hs : s < 16) (hw : w < sN σ) (most : Bool) : X2_byHits h (nI w) (nI s) (if most then 1 else 0) = some (nI (dM σ most s w (sN σ)), h) := by
  have hn := ok.1
  have key : ∀ m, (fun m r => ∀ k, k ≤ sN σ → sN σ - k < m → r h (nI (dM σ most s w k)) (nI k) = some (nI (dM σ most s w (sN σ)), h)) m (zfix (fun (_ : Hp) (_ : Int32) (_ : Int32) => (none : Option (Int32 × Hp))) (X2_byHits_b7 (nI w) (nI s) (if most then 1 else 0)) m) := by
    refine zfix_ind (σ := Hp → Int32 → Int32 → Option (Int32 × Hp)) _ _ (fun m r => ∀ k, k ≤ sN σ → sN σ - k < m → r h (nI (dM σ most s w k)) (nI k) = some (nI (dM σ most s w (sN σ)), h)) (fun k _ z => absurd z (Nat.not_lt_zero _)) (fun m r ih k hk hm => ?_)
    unfold X2_byHits_b7
    rw [g.1]
    by_cases c : sN σ ≤ k
    · rw [if_pos ((nI_leI (by omega) (by omega)).mpr c), show k = sN σ from by omega]
    · rw [if_neg (fun z => c ((nI_leI (by omega) (by omega)).mp z)), sX2_isIn h hs (by omega), bd_s]
      simp only [nm_u]
      have ih1 := ih (k + 1) (by omega) (by omega)
      have hu : dM σ most s w (k + 1) = if k ≠ w ∧ s.testBit k = true ∧ (dM σ most s w k = 9 ∨ (if most then sM σ (dM σ most s w k) < sM σ k else sM σ k < sM σ (dM σ most s w k))) then k else dM σ most s w k := rfl
      rw [hu] at ih1
      rw [nI_1]
      have one : ¬ (1 : Int32) = 0 := by decide
      by_cases cb : s.testBit k = true
      · rw [if_neg (fun z => (pB0.mp z) cb)]
        by_cases cw : k = w
        · rw [if_neg (fun z => z.1 cw)] at ih1
          rw [if_pos (by rw [cw])]
          simp only [if_true, ite_self]
          exact ih1
        · rw [if_neg (fun z => cw ((nI_eq (by omega) (by omega)).mp z))]
          rcases dM_aim σ most s w k hk with c9 | c9
          · rw [if_pos ⟨cw, cb, Or.inl c9⟩] at ih1
            rw [if_pos (by rw [c9]; rfl), if_neg one, if_neg one]
            exact ih1
          · have h9 : ¬ dM σ most s w k = 9 := by omega
            have v1 := g.2.2.2.1 k (by omega) 0 (by decide)
            have v2 := g.2.2.2.1 _ c9.1 0 (by decide)
            rw [Nat.mul_zero, Nat.zero_add] at v1 v2
            have m1 := (ok.2.2.2.1 k (by omega)).1
            have m2 := (ok.2.2.2.1 _ c9.1).1
            rw [if_neg (nI_n9 (by omega) h9), if_neg one]
            cases most with
            | true =>
              simp only [if_true] at ih1 ⊢
              rw [if_neg one, ck_i (by omega) (by omega), ck_i (by omega) (by omega), nI_clamp (by omega), nI_clamp (by omega), v1, v2]
              by_cases cc : sM σ (dM σ true s w k) < sM σ k
              · rw [if_neg (fun z => by have := (nI_leI (by omega) (by omega)).mp z; omega), if_neg one]
                rw [if_pos ⟨cw, cb, Or.inr cc⟩] at ih1
                exact ih1
              · rw [if_pos ((nI_leI (by omega) (by omega)).mpr (by omega))]
                rw [if_neg (fun z => z.2.2.elim h9 cc)] at ih1
                exact ih1
            | false =>
              simp only [Bool.false_eq_true, if_false] at ih1 ⊢
              rw [if_pos trivial, ck_i (by omega) (by omega), ck_i (by omega) (by omega), nI_clamp (by omega), nI_clamp (by omega), v1, v2]
              by_cases cc : sM σ k < sM σ (dM σ false s w k)
              · rw [if_neg (fun z => by have := (nI_leI (by omega) (by omega)).mp z; omega), if_neg one]
                rw [if_pos ⟨cw, cb, Or.inr cc⟩] at ih1
                exact ih1
              · rw [if_pos ((nI_leI (by omega) (by omega)).mpr (by omega))]
                rw [if_neg (fun z => z.2.2.elim h9 cc)] at ih1
                exact ih1
      · rw [if_pos (pB0.mpr cb)]
        rw [if_neg (fun z => cb z.2.1)] at ih1
        simp only [if_true, ite_self]
        exact ih1
  exact key zFU 0 (by omega) (by rw [zFU_u]; omega)
