/-! WHAT A FIGHT IS WORTH, in plain Lean. The settings: players, order, places, (hits, ways, told), bell, prizes, who hits how often -/
abbrev Sg : Type := Nat × (Nat → Nat) × (Nat → Nat) × (Nat → Nat) × Nat × (Nat → Nat) × (Nat → Nat → Nat → Nat → Nat → Nat)
def sN (σ : Sg) : Nat := σ.1
def sO (σ : Sg) : Nat → Nat := σ.2.1
def sP (σ : Sg) : Nat → Nat := σ.2.2.1
def sM (σ : Sg) : Nat → Nat := σ.2.2.2.1
def sB (σ : Sg) : Nat := σ.2.2.2.2.1
def sZ (σ : Sg) : Nat → Nat := σ.2.2.2.2.2.1
def sD (σ : Sg) : Nat → Nat → Nat → Nat → Nat → Nat := σ.2.2.2.2.2.2
def sH (σ : Sg) (w t m k : Nat) : Nat := sD σ (sM σ w) w t m k
def sOK (σ : Sg) : Prop := sN σ ≤ 4 ∧ (∀ k, k < sN σ → sO σ k < sN σ ∧ sP σ (sO σ k) = k) ∧ (∀ p, p < sN σ → sP σ p < sN σ ∧ sO σ (sP σ p) = p) ∧ (∀ p, p < sN σ → sM σ p ≤ 12 ∧ sM σ (4 + p) ≤ 5 ∧ sM σ (8 + p) ≤ 3) ∧ sB σ ≤ 9 ∧ (∀ m, m < 5 → sZ σ m ≤ 9) ∧ ∀ a w t m k, a ≤ 12 → sD σ a w t m k ≤ 12
/-- the next place -/
def nxg (σ : Sg) (s pl : Nat) : Nat → Nat → Nat
  | 0, _ => pl
  | f + 1, k => if (k + 1) % sN σ = pl ∨ s.testBit (sO σ ((k + 1) % sN σ)) = true then (k + 1) % sN σ else nxg σ s pl f ((k + 1) % sN σ)
def nxp (σ : Sg) (s pl : Nat) : Nat := nxg σ s pl 4 pl
def nxw (σ : Sg) (s w : Nat) : Nat := sO σ (nxp σ s (sP σ w))
theorem nxg_p (σ : Sg) (s pl : Nat) (hp : pl < sN σ) : ∀ f k, nxg σ s pl f k < sN σ ∧ (s.testBit (sO σ pl) = true → s.testBit (sO σ (nxg σ s pl f k)) = true) := by
  intro f
  induction f with
  | zero => intro k; exact ⟨hp, fun z => z⟩
  | succ f ih =>
    intro k
    unfold nxg
    by_cases c : (k + 1) % sN σ = pl ∨ s.testBit (sO σ ((k + 1) % sN σ)) = true
    · rw [if_pos c]
      refine ⟨Nat.mod_lt _ (by omega), fun z => ?_⟩
      cases c with
      | inl e => rw [e]; exact z
      | inr e => exact e
    · rw [if_neg c]; exact ih _
theorem nxp_lt {σ : Sg} {s pl : Nat} (hp : pl < sN σ) : nxp σ s pl < sN σ := (nxg_p σ s pl hp 4 pl).1
theorem nxp_bit {σ : Sg} {s pl : Nat} (hp : pl < sN σ) (hb : s.testBit (sO σ pl) = true) : s.testBit (sO σ (nxp σ s pl)) = true := (nxg_p σ s pl hp 4 pl).2 hb
theorem nxw_lt {σ : Sg} (ok : sOK σ) {s w : Nat} (hw : w < sN σ) : nxw σ s w < sN σ := (ok.2.1 _ (nxp_lt (ok.2.2.1 w hw).1)).1
theorem nxw_bit {σ : Sg} (ok : sOK σ) {s w : Nat} (hw : w < sN σ) (hb : s.testBit w = true) : s.testBit (nxw σ s w) = true :=
  nxp_bit (ok.2.2.1 w hw).1 (by rw [(ok.2.2.1 w hw).2]; exact hb)
theorem nxw_pl {σ : Sg} (ok : sOK σ) {s pl : Nat} (hp : pl < sN σ) : sO σ (nxp σ s pl) = nxw σ s (sO σ pl) := by
  unfold nxw; rw [(ok.2.1 pl hp).2]
/-- at the end -/
def dE (σ : Sg) (f s p : Nat) : Int64 := (if s.testBit p then lN (sZ σ (pc s)) else 0) * lN (12 ^ f)
/-- a throw at t, with f throws left behind it -/
def dT (σ : Sg) (V : Nat → Nat → Nat → Int64) (f s w t p : Nat) : Int64 :=
  if t = 9 then lN 12 * V s (nxw σ s w) p
  else lN (sH σ w t (pc s) (sB σ - (f + 1))) * V (cl s t) (nxw σ (cl s t) w) p + lN (12 - sH σ w t (pc s) (sB σ - (f + 1))) * V s (nxw σ s w) p
/-- the one of most (least) hits among the first k -/
def dM (σ : Sg) (most : Bool) (s w : Nat) : Nat → Nat
  | 0 => 9
  | k + 1 => if k ≠ w ∧ s.testBit k = true ∧ (dM σ most s w k = 9 ∨ (if most then sM σ (dM σ most s w k) < sM σ k else sM σ k < sM σ (dM σ most s w k))) then k else dM σ most s w k
/-- the best aim among the first k -/
def dX (σ : Sg) (V : Nat → Nat → Nat → Int64) (f s w : Nat) : Nat → Nat × Int64
  | 0 => (9, dT σ V f s w 9 w)
  | k + 1 => if k ≠ w ∧ s.testBit k = true ∧ (dX σ V f s w k).2 < dT σ V f s w k w then (k, dT σ V f s w k w) else dX σ V f s w k
def dA (σ : Sg) (V : Nat → Nat → Nat → Int64) (f s w : Nat) : Nat :=
  if sM σ (4 + w) = 0 then dM σ true s w (sN σ) else if sM σ (4 + w) = 1 then dM σ false s w (sN σ)
  else if sM σ (4 + w) = 3 then nxw σ s w
  else if sM σ (4 + w) = 4 then (if sM σ (8 + w) ≠ w ∧ s.testBit (sM σ (8 + w)) = true then sM σ (8 + w) else 9)
  else if sM σ (4 + w) = 5 then (dX σ V f s w (sN σ)).1 else 9
def dV (σ : Sg) : Nat → Nat → Nat → Nat → Int64
  | 0, s, _, p => dE σ 0 s p
  | f + 1, s, w, p => if pc s ≤ 1 then dE σ (f + 1) s p else dT σ (dV σ f) f s w (dA σ (dV σ f) f s w) p
/-- the aim with f throws left -/
def dG (σ : Sg) : Nat → Nat → Nat → Nat
  | 0, _, _ => 9
  | f + 1, s, w => dA σ (dV σ f) f s w
/-- an aim is nobody, or another one who is in -/
def isAim (σ : Sg) (s w t : Nat) : Prop := t = 9 ∨ (t < sN σ ∧ t ≠ w ∧ s.testBit t = true)
theorem dM_aim (σ : Sg) (most : Bool) (s w : Nat) : ∀ k, k ≤ sN σ → isAim σ s w (dM σ most s w k) := by
  intro k
  induction k with
  | zero => intro _; exact Or.inl rfl
  | succ k ih =>
    intro hk
    unfold dM
    by_cases c : k ≠ w ∧ s.testBit k = true ∧ (dM σ most s w k = 9 ∨ (if most then sM σ (dM σ most s w k) < sM σ k else sM σ k < sM σ (dM σ most s w k)))
    · rw [if_pos c]; exact Or.inr ⟨by omega, c.1, c.2.1⟩
    · rw [if_neg c]; exact ih (by omega)
theorem dX_aim (σ : Sg) (V : Nat → Nat → Nat → Int64) (f s w : Nat) : ∀ k, k ≤ sN σ → isAim σ s w (dX σ V f s w k).1 := by
  intro k
  induction k with
  | zero => intro _; exact Or.inl rfl
  | succ k ih =>
    intro hk
    unfold dX
    split
    · rename_i c; exact Or.inr ⟨by show k < sN σ; omega, c.1, c.2.1⟩
    · exact ih (by omega)
/-- two are in: the next one is another one -/
theorem nxg_ne (σ : Sg) {s pl q : Nat} (hp : pl < sN σ) (hq : q < sN σ) (hqp : q ≠ pl) (hs : s.testBit (sO σ q) = true) : ∀ f i, i < sN σ → (pl + i) % sN σ ≠ q → (∀ j, j ≤ i → (pl + j) % sN σ ≠ q) → sN σ ≤ f + i → nxg σ s pl f ((pl + i) % sN σ) ≠ pl := by
  intro f
  induction f with
  | zero => intro i hi _ _ hf; omega
  | succ f ih =>
    intro i hi h1 h2 hf
    unfold nxg
    have e : ((pl + i) % sN σ + 1) % sN σ = (pl + (i + 1)) % sN σ := by rw [Nat.mod_add_mod]; congr 1
    rw [e]
    by_cases c : (pl + (i + 1)) % sN σ = pl ∨ s.testBit (sO σ ((pl + (i + 1)) % sN σ)) = true
    · rw [if_pos c]
      intro z
      have hi1 : i + 1 = sN σ := by
        rcases Nat.lt_or_ge (i + 1) (sN σ) with l | l
        · exfalso
          rcases Nat.lt_or_ge (pl + (i + 1)) (sN σ) with l2 | l2
          · rw [Nat.mod_eq_of_lt l2] at z; omega
          · rw [Nat.mod_eq_sub_mod l2, Nat.mod_eq_of_lt (by omega)] at z; omega
        · omega
      rcases Nat.lt_or_ge pl q with l | l
      · have := h2 (q - pl) (by omega)
        rw [show pl + (q - pl) = q from by omega, Nat.mod_eq_of_lt hq] at this
        exact this rfl
      · have := h2 (q + sN σ - pl) (by omega)
        rw [show pl + (q + sN σ - pl) = q + sN σ from by omega, Nat.add_mod_right, Nat.mod_eq_of_lt hq] at this
        exact this rfl
    · rw [if_neg c]
      have hi1 : i + 1 < sN σ := by
        rcases Nat.lt_or_ge (i + 1) (sN σ) with l | l
        · exact l
        · exfalso
          apply c
          left
          rw [show i + 1 = sN σ from by omega, Nat.add_mod_right, Nat.mod_eq_of_lt hp]
      have hne : (pl + (i + 1)) % sN σ ≠ q := fun z => c (Or.inr (by rw [z]; exact hs))
      refine ih (i + 1) hi1 hne (fun j hj => ?_) (by omega)
      rcases Nat.lt_or_ge j (i + 1) with l | l
      · exact h2 j (by omega)
      · rw [show j = i + 1 from by omega]; exact hne
theorem pc2' : ∀ s, s < 16 → ∀ w, w < 4 → (decide (pc s ≤ 1) || !(s.testBit w) || (s.testBit 0 && decide (0 ≠ w)) || (s.testBit 1 && decide (1 ≠ w)) || (s.testBit 2 && decide (2 ≠ w)) || (s.testBit 3 && decide (3 ≠ w))) = true := by decide
theorem pc2 (s : Nat) (hs : s < 16) (w : Nat) (hw : w < 4) (h1 : 1 < pc s) (h2 : s.testBit w = true) : ∃ t, t < 4 ∧ t ≠ w ∧ s.testBit t = true := by
  have := pc2' s hs w hw
  rw [h2] at this
  simp only [Bool.or_eq_true, Bool.and_eq_true, decide_eq_true_eq, Bool.not_true, Bool.false_eq_true, or_false] at this
  rcases this with (((z | z) | z) | z) | z
  · omega
  · exact ⟨0, by omega, z.2, z.1⟩
  · exact ⟨1, by omega, z.2, z.1⟩
  · exact ⟨2, by omega, z.2, z.1⟩
  · exact ⟨3, by omega, z.2, z.1⟩
theorem nxw_ne {σ : Sg} (ok : sOK σ) {s w : Nat} (hs : s < 2 ^ sN σ) (hw : w < sN σ) (hb : s.testBit w = true) (h2 : 1 < pc s) : nxw σ s w ≠ w := by
  have hn := ok.1
  have h16 : s < 16 := Nat.lt_of_lt_of_le hs (pow16 hn)
  obtain ⟨t, ht, htw, hst⟩ := pc2 s h16 w (by omega) h2 hb
  have htn : t < sN σ := b_out _ (by omega) s hs t ht hst
  have hp := ok.2.2.1 w hw
  have hq := ok.2.2.1 t htn
  intro z
  have hqp : sP σ t ≠ sP σ w := fun e => htw (by rw [← hq.2, e, hp.2])
  have h := nxg_ne σ (s := s) hp.1 hq.1 hqp (by rw [hq.2]; exact hst) 4 0 (by omega) (by rw [Nat.add_zero, Nat.mod_eq_of_lt hp.1]; exact fun e => hqp e.symm) (fun j hj => by rw [show j = 0 from by omega, Nat.add_zero, Nat.mod_eq_of_lt hp.1]; exact fun e => hqp e.symm) (by omega)
  rw [Nat.add_zero, Nat.mod_eq_of_lt hp.1] at h
  apply h
  have := (ok.2.1 _ (nxp_lt (s := s) hp.1)).2
  unfold nxw at z
  rw [z] at this
  exact this.symm
theorem dA_aim {σ : Sg} (ok : sOK σ) (V : Nat → Nat → Nat → Int64) (f : Nat) {s w : Nat} (hs : s < 2 ^ sN σ) (hw : w < sN σ) (hb : s.testBit w = true) (h2 : 1 < pc s) : isAim σ s w (dA σ V f s w) := by
  unfold dA
  split
  · exact dM_aim σ true s w _ (Nat.le_refl _)
  · split
    · exact dM_aim σ false s w _ (Nat.le_refl _)
    · split
      · exact Or.inr ⟨nxw_lt ok hw, nxw_ne ok hs hw hb h2, nxw_bit ok hw hb⟩
      · split
        · split
          · rename_i c
            exact Or.inr ⟨b_out _ (by have := ok.1; omega) s hs _ (by have := (ok.2.2.2.1 w hw).2.2; omega) c.2, c.1, c.2⟩
          · exact Or.inl rfl
        · split
          · exact dX_aim σ V f s w _ (Nat.le_refl _)
          · exact Or.inl rfl
