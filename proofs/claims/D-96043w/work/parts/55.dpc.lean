/-! THE CLASS finds what all is worth -/
/-- only the names are written -/
def f7 (h h' : Hp) : Prop := h'.2 = h.2 ∧ ∀ q k, q ≠ 7 → zi h' q k = zi h q k
/-- only what the class writes as it looks for values, likelihoods, told fights -/
def f0 (h h' : Hp) : Prop := h'.2.2 = h.2.2 ∧ (∀ q k, q ≠ 7 → q ≠ 9 → ¬ (q = 0 ∧ 19 ≤ k ∧ k ≤ 23) → zi h' q k = zi h q k) ∧ ∀ q k, q ≠ 8 → q ≠ 11 → q ≠ 12 → q ≠ 0 → zj h' q k = zj h q k
theorem f7.rf (h : Hp) : f7 h h := ⟨rfl, fun _ _ _ => rfl⟩
theorem f7.tr {h h' h2 : Hp} (a : f7 h h') (b : f7 h' h2) : f7 h h2 := ⟨b.1.trans a.1, fun q k hq => (b.2 q k hq).trans (a.2 q k hq)⟩
theorem f0.rf (h : Hp) : f0 h h := ⟨rfl, fun _ _ _ _ _ => rfl, fun _ _ _ _ _ _ => rfl⟩
theorem f0.tr {h h' h2 : Hp} (a : f0 h h') (b : f0 h' h2) : f0 h h2 := ⟨b.1.trans a.1, fun q k h1 h2 h3 => (b.2.1 q k h1 h2 h3).trans (a.2.1 q k h1 h2 h3), fun q k h1 h2 h3 h4 => (b.2.2 q k h1 h2 h3 h4).trans (a.2.2 q k h1 h2 h3 h4)⟩
theorem f7.f0 {h h' : Hp} (a : f7 h h') : f0 h h' := ⟨congrArg (fun x => x.2) a.1, fun q k h1 _ _ => a.2 q k h1, fun q k _ _ _ _ => congrFun (congrFun (congrArg (fun x => x.1) a.1) q) k⟩
theorem f7.zj {h h' : Hp} (a : f7 h h') : zj h' = zj h := congrArg (fun x => x.1) a.1
theorem f0.si {h : Hp} {q k : Nat} {v : Int32} (hc : q = 7 ∨ q = 9 ∨ (q = 0 ∧ 19 ≤ k ∧ k ≤ 23)) : f0 h (zsi h q k v) := by
  refine ⟨rfl, fun a b h1 h2 h3 => ?_, fun _ _ _ _ _ _ => rfl⟩
  refine zi_ne _ _ _ _ ?_
  by_cases e : a = q
  · right; intro e2; rw [e] at h1 h2 h3; rw [e2] at h3
    rcases hc with z | z | z
    · exact h1 z
    · exact h2 z
    · exact h3 z
  · exact Or.inl e
theorem f0.sj {h : Hp} {q k : Nat} {v : Int64} (hc : q = 8 ∨ q = 11 ∨ q = 12 ∨ q = 0) : f0 h (zsj h q k v) := by
  refine ⟨rfl, fun _ _ _ _ _ => rfl, fun a b h1 h2 h3 h4 => ?_⟩
  refine zj_ne _ _ _ _ (Or.inl ?_)
  intro e; rw [e] at h1 h2 h3 h4; omega
/-- the law's cells stay -/
def fL (h h' : Hp) : Prop := zr h' 0 10 = zr h 0 10 ∧ zx h ≤ zx h' ∧ ∀ q, 42 ≤ q → q < zx h → (zt h q = 6 ∨ (8 ≤ zt h q ∧ zt h q ≤ 12)) → zt h' q = zt h q ∧ ∀ k, zi h' q k = zi h q k ∧ zr h' q k = zr h q k
theorem fL.rf (h : Hp) : fL h h := ⟨rfl, Nat.le_refl _, fun _ _ _ _ => ⟨rfl, fun _ => ⟨rfl, rfl⟩⟩⟩
theorem fL.tr {h h' h2 : Hp} (a : fL h h') (b : fL h' h2) : fL h h2 := by
  refine ⟨b.1.trans a.1, Nat.le_trans a.2.1 b.2.1, fun q h1 h3 h4 => ?_⟩
  have a1 := a.2.2 q h1 h3 h4
  have b1 := b.2.2 q h1 (Nat.lt_of_lt_of_le h3 a.2.1) (by rw [a1.1]; exact h4)
  exact ⟨b1.1.trans a1.1, fun k => ⟨(b1.2 k).1.trans (a1.2 k).1, (b1.2 k).2.trans (a1.2 k).2⟩⟩
theorem f0.L {h h' : Hp} (a : f0 h h') : fL h h' := by
  have hr : zr h' = zr h := congrArg (fun x => x.1) a.1
  have ht : zt h' = zt h := congrArg (fun x => x.2.1) a.1
  have hx : zx h' = zx h := congrArg (fun x => x.2.2.2.1) a.1
  exact ⟨by rw [hr], by rw [hx]; exact Nat.le_refl _, fun q h1 _ _ => ⟨by rw [ht], fun k => ⟨a.2.1 q k (by omega) (by omega) (by omega), by rw [hr]⟩⟩⟩
/-- by the law (or without one) a throw hits so often -/
def LC (h : Hp) (D : Nat → Nat → Nat → Nat → Nat → Nat) : Prop := ∀ h', fL h h' → ∀ w t s m a c, w < 4 → t < 4 → s < 16 → m < 10 → zr h' 1 w = some a → zi h' a 0 = nI c → c ≤ 12 → 42 ≤ a → wp (X0_hitsOf h' (nI w) (nI t) (nI s) (nI m)) (fun r h2 => r = nI (D c w t (pc s) m) ∧ f7 h' h2)
theorem LC.fr {h h' : Hp} {D : Nat → Nat → Nat → Nat → Nat → Nat} (l : LC h D) (a : fL h h') : LC h' D := fun h2 b => l h2 (a.tr b)
/-- what the class reads -/
def gc (σ : Sg) (h : Hp) : Prop :=
  zi h 0 3 = nI (sN σ) ∧ (∀ k, k < sN σ → zi h 2 k = nI (sO σ k)) ∧
  (∀ p, p < sN σ → ∃ a, zr h 1 p = some a ∧ (42 ≤ a ∧ zt h a = 3) ∧ ∀ w, w < 3 → zi h a w = nI (sM σ (4 * w + p))) ∧
  zi h 0 4 = nI (sB σ) ∧ (∀ m, m < 5 → zi h 3 m = nI (sZ σ m)) ∧ (∀ k, k < 10 → zj h 10 k = lN (12 ^ k)) ∧ LC h (sD σ) ∧ ∀ p q a, p < sN σ → q < sN σ → zr h 1 p = some a → zr h 1 q = some a → p = q
theorem gc.fr {σ : Sg} {h h' : Hp} (g : gc σ h) (a : f0 h h') : gc σ h' := by
  have hr : zr h' = zr h := congrArg (fun x => x.1) a.1
  have ht : zt h' = zt h := congrArg (fun x => x.2.1) a.1
  refine ⟨(a.2.1 0 3 (by decide) (by decide) (by omega)).trans g.1, fun k hk => (a.2.1 2 k (by decide) (by decide) (by omega)).trans (g.2.1 k hk), fun p hp => ?_, (a.2.1 0 4 (by decide) (by decide) (by omega)).trans g.2.2.2.1, fun m hm => (a.2.1 3 m (by decide) (by decide) (by omega)).trans (g.2.2.2.2.1 m hm), fun k hk => (a.2.2 10 k (by decide) (by decide) (by decide) (by decide)).trans (g.2.2.2.2.2.1 k hk), g.2.2.2.2.2.2.1.fr a.L, by rw [hr]; exact g.2.2.2.2.2.2.2⟩
  obtain ⟨b, h1, h2, h3⟩ := g.2.2.1 p hp
  exact ⟨b, by rw [hr]; exact h1, ⟨h2.1, by rw [ht]; exact h2.2⟩, fun w hw => (a.2.1 b w (by omega) (by omega) (by omega)).trans (h3 w hw)⟩
theorem gc.hits {σ : Sg} (ok : sOK σ) {h : Hp} (g : gc σ h) {w t s m : Nat} (hw : w < sN σ) (ht : t < sN σ) (hs : s < 16) (hm : m < 10) : wp (X0_hitsOf h (nI w) (nI t) (nI s) (nI m)) (fun r h2 => r = nI (sH σ w t (pc s) m) ∧ f7 h h2) := by
  have hn := ok.1
  obtain ⟨a, h1, h2, h3⟩ := g.2.2.1 w hw
  have h4 := h3 0 (by decide)
  rw [Nat.mul_zero, Nat.zero_add] at h4
  exact g.2.2.2.2.2.2.1 h (fL.rf h) w t s m a _ (by omega) (by omega) hs hm h1 h4 (ok.2.2.2.1 w hw).1 h2.1
theorem sX0_next {σ : Sg} (ok : sOK σ) {h : Hp} (g : gc σ h) {s pl : Nat} (hs : s < 16) (hp : pl < sN σ) : X0_nextPlace h (nI s) (nI pl) = some (nI (nxp σ s pl), h) := by
  have hn := ok.1
  have key : ∀ m, (fun m r => ∀ i f, i < sN σ → sN σ - i ≤ m → sN σ - i ≤ f → r h (nI ((pl + i) % sN σ)) = some (nI (nxg σ s pl f ((pl + i) % sN σ)), h)) m (zfix (fun (_ : Hp) (_ : Int32) => (none : Option (Int32 × Hp))) (X0_nextPlace_b2 (nI s) (nI pl)) m) := by
    refine zfix_ind (σ := Hp → Int32 → Option (Int32 × Hp)) _ _ (fun m r => ∀ i f, i < sN σ → sN σ - i ≤ m → sN σ - i ≤ f → r h (nI ((pl + i) % sN σ)) = some (nI (nxg σ s pl f ((pl + i) % sN σ)), h)) (fun i f hi hm _ => by omega) (fun m r ih i f hi hm hf => ?_)
    obtain ⟨f, rfl⟩ : ∃ f', f = f' + 1 := ⟨f - 1, by omega⟩
    have hk : (pl + i) % sN σ < sN σ := Nat.mod_lt _ (by omega)
    have e : ((pl + i) % sN σ + 1) % sN σ = (pl + (i + 1)) % sN σ := by rw [Nat.mod_add_mod]; congr 1
    have hk' : (pl + (i + 1)) % sN σ < sN σ := Nat.mod_lt _ (by omega)
    unfold X0_nextPlace_b2 nxg
    rw [g.1, ck_t (nI_ne0 (by omega) (by omega)), nI_1, pk_rem (by omega) (by omega) (by omega), e]
    simp only [nm_u]
    by_cases c : (pl + (i + 1)) % sN σ = pl
    · rw [if_pos (by rw [c]), if_pos (Or.inl c)]
    · rw [if_neg (fun z => c ((nI_eq (by omega) (by omega)).mp z)), ck_i (by omega) (by omega), nI_clamp (by omega), g.2.1 _ hk', sX0_has h hs (by have := (ok.2.1 _ hk').1; omega), bd_s]
      by_cases d : s.testBit (sO σ ((pl + (i + 1)) % sN σ)) = true
      · rw [if_neg (fun z => (pB0.mp z) d), if_pos (Or.inr d)]
      · rw [if_pos (pB0.mpr d), if_neg (fun z => z.elim c d)]
        have hi1 : i + 1 < sN σ := by
          rcases Nat.lt_or_ge (i + 1) (sN σ) with l | l
          · exact l
          · exfalso; apply c
            rw [show i + 1 = sN σ from by omega, Nat.add_mod_right, Nat.mod_eq_of_lt hp]
        exact ih (i + 1) f hi1 (by omega) (by omega)
  have := key zFU 0 4 (by omega) (by rw [zFU_u]; omega) (by omega)
  rw [Nat.add_zero, Nat.mod_eq_of_lt hp] at this
  exact this
/-- the class's tables are right at one state -/
def eC (σ : Sg) (h : Hp) (s pl m : Nat) : Prop := zi h 9 (40 * s + 10 * pl + m) = nI (dG σ (sB σ - m) s (sO σ pl)) ∧ ∀ p, p < sN σ → zj h 8 (4 * (40 * s + 10 * pl + m) + p) = dV σ (sB σ - m) s (sO σ pl) p
/-- ... from so many throws on -/
def tC (σ : Sg) (h : Hp) (lo : Nat) : Prop := ∀ m, lo ≤ m → m < sB σ → ∀ s, s < 2 ^ sN σ → 1 < pc s → ∀ pl, pl < sN σ → s.testBit (sO σ pl) = true → eC σ h s pl m
theorem tC.f7 {σ : Sg} {h h' : Hp} {lo : Nat} (t : tC σ h lo) (a : f7 h h') : tC σ h' lo := fun m h1 h2 s h3 h4 pl h5 h6 => by
  have := t m h1 h2 s h3 h4 pl h5 h6
  exact ⟨(a.2 9 _ (by decide)).trans this.1, fun p hp => by rw [a.zj]; exact this.2 p hp⟩
theorem dV_over {σ : Sg} {m s : Nat} (c : sB σ ≤ m ∨ pc s ≤ 1) (w p : Nat) : dV σ (sB σ - m) s w p = dE σ (sB σ - m) s p := by
  cases e : sB σ - m with
  | zero => rfl
  | succ f => unfold dV; rw [if_pos (by omega)]
theorem sX0_ends {σ : Sg} {h : Hp} (g : gc σ h) {s p : Nat} (hs : s < 16) (hp : p < 4) (oz : ∀ m, m < 5 → sZ σ m ≤ 9) : X0_ends h (nI s) (nI p) = some (if s.testBit p then lN (sZ σ (pc s)) else 0, h) := by
  have h1 := pc_le s hs
  unfold X0_ends
  rw [sX0_has h hs hp, bd_s, sJ13 h s hs, bd_s]
  by_cases c : s.testBit p = true
  · rw [if_neg (fun z => (pB0.mp z) c), ck_i (by omega) (by omega), nI_clamp (by omega), g.2.2.2.2.1 _ (by omega), nI_l (by have := oz (pc s) (by omega); omega), if_pos c]
  · rw [if_pos (pB0.mpr c), if_neg c]
theorem sX0_valueAt {σ : Sg} (ok : sOK σ) {h : Hp} (g : gc σ h) {s pl m p : Nat} (hs : s < 2 ^ sN σ) (hp : pl < sN σ) (hm : m ≤ sB σ) (hq : p < sN σ) (hb : s.testBit (sO σ pl) = true) (t : tC σ h m) : X0_valueAt h (nI s) (nI pl) (nI m) (nI p) = some (dV σ (sB σ - m) s (sO σ pl) p, h) := by
  have hn := ok.1
  have hb9 := ok.2.2.2.2.1
  have h16 : s < 16 := Nat.lt_of_lt_of_le hs (pow16 hn)
  unfold X0_valueAt
  rw [sX0_isOver h h16 (by omega) (by omega) g.2.2.2.1, bd_s]
  by_cases c : sB σ ≤ m ∨ pc s ≤ 1
  · rw [if_neg (fun z => (pB0.mp z) c), sX0_ends g h16 (by omega) ok.2.2.2.2.2.1, bd_s, g.2.2.2.1, pk_sub hm, ck_i (by omega) (by omega), nI_clamp (by omega), g.2.2.2.2.2.1 _ (by omega), dV_over c]
    rfl
  · rw [if_pos (pB0.mpr c), sX0_at, bd_s]
    show ck _ (some (zj h 8 (nI 4 * nI (40 * s + 10 * pl + m) + nI p).toNatClampNeg, h)) = _
    have e := t m (Nat.le_refl _) (by omega) s hs (by omega) pl hp hb
    rw [pk_mul, nI_add, nI_clamp (by omega), e.2 p hq]
    refine ck_t ?_
    rw [show (4 : Int32) = nI 4 from rfl, pk_mul, nI_add]
    rw [nI_toInt (by omega)]; omega
/-- a throw, valued -/
theorem sX0_throwing {σ : Sg} (ok : sOK σ) {h : Hp} (g : gc σ h) {s pl m t p : Nat} (hs : s < 2 ^ sN σ) (hp : pl < sN σ) (hm : m < sB σ) (hq : p < sN σ) (hb : s.testBit (sO σ pl) = true) (ht : isAim σ s (sO σ pl) t) (tb : tC σ h (m + 1)) : wp (X0_throwing h (nI s) (nI pl) (nI m) (nI t) (nI p)) (fun r h' => r = dT σ (dV σ (sB σ - (m + 1))) (sB σ - (m + 1)) s (sO σ pl) t p ∧ f7 h h') := by
  have hn := ok.1
  have hb9 := ok.2.2.2.2.1
  have h16 : s < 16 := Nat.lt_of_lt_of_le hs (pow16 hn)
  have hw := (ok.2.1 pl hp).1
  unfold X0_throwing
  rw [nI_1]
  rcases ht with ht | ht
  · rw [if_pos (by rw [ht]; rfl), sX0_next ok g h16 hp, bd_s, sX0_valueAt ok g hs (nxp_lt hp) hm hq (nxp_bit hp hb) tb, bd_s]
    refine wp.of rfl ⟨?_, f7.rf h⟩
    unfold dT
    rw [if_pos ht, nxw_pl ok hp]
    rfl
  · have h9 : ¬ t = 9 := by omega
    rw [if_neg (nI_n9 (by omega) h9), ck_i (by omega) (by omega), nI_clamp (by omega), g.2.1 _ hp, wp_bd]
    refine (gc.hits ok g hw ht.1 h16 (by omega)).mono ?_
    rintro r h1 ⟨er, fr⟩
    have g1 := g.fr fr.f0
    have t1 := tb.f7 fr
    have hcl : cl s t < 2 ^ sN σ := Nat.lt_of_le_of_lt (cl_le s t) hs
    have hcb : (cl s t).testBit (sO σ pl) = true := by
      rw [cl_bit s h16 t (by omega) _ (by omega), hb]
      simp only [Bool.true_and, decide_eq_true_eq]
      exact fun z => ht.2.1 z.symm
    simp only [nm_u]
    rw [b_cl s h16 t (by omega)]
    rw [sX0_next ok g1 (Nat.lt_of_lt_of_le hcl (pow16 hn)) hp, bd_s, sX0_valueAt ok g1 hcl (nxp_lt hp) hm hq (nxp_bit hp hcb) t1, bd_s, sX0_next ok g1 h16 hp, bd_s, sX0_valueAt ok g1 hs (nxp_lt hp) hm hq (nxp_bit hp hb) t1, bd_s]
    refine wp.of rfl ⟨?_, fr⟩
    have h12 : sH σ (sO σ pl) t (pc s) m ≤ 12 := ok.2.2.2.2.2.2 _ _ _ _ _ (ok.2.2.2.1 _ hw).1
    unfold dT
    rw [if_neg h9, er, show (12 : Int32) = nI 12 from rfl, pk_sub h12, nI_l (by omega), nI_l (by omega), nxw_pl ok hp, nxw_pl ok hp, show sB σ - (sB σ - (m + 1) + 1) = m from by omega]
/-- by hits -/
theorem sX0_byHits {σ : Sg} (ok : sOK σ) {h : Hp} (g : gc σ h) {s w : Nat} (hs : s < 16) (hw : w < sN σ) (most : Bool) : X0_byHits h (nI s) (nI w) (if most then 1 else -1) = some (nI (dM σ most s w (sN σ)), h) := by
  have hn := ok.1
  have key : ∀ m, (fun m r => ∀ k, k ≤ sN σ → sN σ - k < m → r h (nI (dM σ most s w k)) (nI k) = some (nI (dM σ most s w (sN σ)), h)) m (zfix (fun (_ : Hp) (_ : Int32) (_ : Int32) => (none : Option (Int32 × Hp))) (X0_byHits_b7 (nI s) (nI w) (if most then 1 else -1)) m) := by
    refine zfix_ind (σ := Hp → Int32 → Int32 → Option (Int32 × Hp)) _ _ (fun m r => ∀ k, k ≤ sN σ → sN σ - k < m → r h (nI (dM σ most s w k)) (nI k) = some (nI (dM σ most s w (sN σ)), h)) (fun k _ z => absurd z (Nat.not_lt_zero _)) (fun m r ih k hk hm => ?_)
    unfold X0_byHits_b7
    rw [g.1]
    by_cases c : sN σ ≤ k
    · rw [if_pos ((nI_leI (by omega) (by omega)).mpr c), show k = sN σ from by omega]
    · rw [if_neg (fun z => c ((nI_leI (by omega) (by omega)).mp z))]
      simp only [nm_u]
      have ih1 := ih (k + 1) (by omega) (by omega)
      have hu : dM σ most s w (k + 1) = if k ≠ w ∧ s.testBit k = true ∧ (dM σ most s w k = 9 ∨ (if most then sM σ (dM σ most s w k) < sM σ k else sM σ k < sM σ (dM σ most s w k))) then k else dM σ most s w k := rfl
      rw [hu] at ih1
      rw [nI_1]
      by_cases cw : k = w
      · rw [if_pos (by rw [cw])]
        rw [if_neg (fun z => z.1 cw)] at ih1
        exact ih1
      · rw [if_neg (fun z => cw ((nI_eq (by omega) (by omega)).mp z)), sX0_has h hs (by omega), bd_s]
        by_cases cb : s.testBit k = true
        · rw [if_neg (fun z => (pB0.mp z) cb)]
          rcases dM_aim σ most s w k hk with c9 | c9
          · rw [if_pos (by rw [c9]; rfl)]
            rw [if_pos ⟨cw, cb, Or.inl c9⟩] at ih1
            exact ih1
          · have h9 : ¬ dM σ most s w k = 9 := by omega
            obtain ⟨a1, e1, _, e1'⟩ := g.2.2.1 k (by omega)
            obtain ⟨a2, e2, _, e2'⟩ := g.2.2.1 _ c9.1
            have v1 := e1' 0 (by decide)
            have v2 := e2' 0 (by decide)
            rw [Nat.mul_zero, Nat.zero_add] at v1 v2
            have m1 := (ok.2.2.2.1 k (by omega)).1
            have m2 := (ok.2.2.2.1 _ c9.1).1
            rw [if_neg (nI_n9 (by omega) h9), ck_i (by omega) (by omega), nI_clamp (by omega), e1, dr_s, ck_i (by omega) (by omega), nI_clamp (by omega), e2, dr_s, v1, v2]
            cases most with
            | true =>
              simp only [if_true] at ih1 ⊢
              rw [Int32.one_mul, Int32.one_mul]
              by_cases cc : sM σ (dM σ true s w k) < sM σ k
              · rw [if_neg (fun z => by have := (nI_leI (by omega) (by omega)).mp z; omega)]
                rw [if_pos ⟨cw, cb, Or.inr cc⟩] at ih1
                exact ih1
              · rw [if_pos ((nI_leI (by omega) (by omega)).mpr (by omega))]
                rw [if_neg (fun z => z.2.2.elim h9 cc)] at ih1
                exact ih1
            | false =>
              simp only [Bool.false_eq_true, if_false] at ih1 ⊢
              have neg : ∀ a b : Nat, a ≤ 12 → b ≤ 12 → ((-1 : Int32) * nI a ≤ (-1 : Int32) * nI b ↔ b ≤ a) := by
                have : ∀ a, a < 13 → ∀ b, b < 13 → ((-1 : Int32) * nI a ≤ (-1 : Int32) * nI b ↔ b ≤ a) := by decide
                exact fun a b ha hb => this a (by omega) b (by omega)
              by_cases cc : sM σ k < sM σ (dM σ false s w k)
              · rw [if_neg (fun z => by have := (neg _ _ m1 m2).mp z; omega)]
                rw [if_pos ⟨cw, cb, Or.inr cc⟩] at ih1
                exact ih1
              · rw [if_pos ((neg _ _ m1 m2).mpr (by omega))]
                rw [if_neg (fun z => z.2.2.elim h9 cc)] at ih1
                exact ih1
        · rw [if_pos (pB0.mpr cb)]
          rw [if_neg (fun z => cb z.2.1)] at ih1
          exact ih1
  exact key zFU 0 (by omega) (by rw [zFU_u]; omega)
