/-! the model's answer -/
theorem lX2_v42 {σ : Sg} (ok : sOK σ) {h0 : Hp} (g0 : gm σ h0) (t0 : tM σ h0 0) (pw : pw12 h0) {kind asked m : Nat} (hk : kind < 4) (ha : asked < 16) (h4 : kind ≤ 1 → asked < 4) (hm : m ≤ sB σ) {Q : Int64 → Hp → Prop} (j : Hp → Option (Int64 × Hp)) (hj : ∀ h', f34 h0 h' → tQ σ (eK kind asked) h' m → wp (j h') Q) :
    ∀ N, (fun N r => ∀ k h, f34 h0 h → tQ σ (eK kind asked) h (m + 1) → (∀ s', s' < k → ∀ w', w' < sN σ → (sB σ ≤ m ∨ pc s' ≤ 1 ∨ s'.testBit w' = true) → zj h 34 ((m * 16 + s') * 4 + w') = dQ σ (eK kind asked) (sB σ - m) s' w') → k ≤ 2 ^ sN σ → 2 ^ sN σ - k < N → wp (r h (nI k)) Q) N (zfix (fun (_ : Hp) (_ : Int32) => (none : Option (Int64 × Hp))) (X2_valueOf_b42 (nI kind) (nI asked) (nI m) j) N) := by
  have hn := ok.1
  have hb9 := ok.2.2.2.2.1
  have hpw := pow16 hn
  have hal := all_lt σ
  refine zfix_ind (σ := Hp → Int32 → Option (Int64 × Hp)) _ _ (fun N r => ∀ k h, f34 h0 h → tQ σ (eK kind asked) h (m + 1) → (∀ s', s' < k → ∀ w', w' < sN σ → (sB σ ≤ m ∨ pc s' ≤ 1 ∨ s'.testBit w' = true) → zj h 34 ((m * 16 + s') * 4 + w') = dQ σ (eK kind asked) (sB σ - m) s' w') → k ≤ 2 ^ sN σ → 2 ^ sN σ - k < N → wp (r h (nI k)) Q) (fun k _ _ _ _ _ z => absurd z (Nat.not_lt_zero _)) (fun N r ih k h fr t kn hk' hN => ?_)
  have g := g0.fr fr.f2
  unfold X2_valueOf_b42
  rw [sX2_allN h hn g.1, bd_s]
  by_cases c : 2 ^ sN σ ≤ k
  · rw [if_pos ((nI_ltI (by omega) (by omega)).mpr (by omega))]
    refine hj h fr (fun m' h1 h2 s h3 w h5 h6 => ?_)
    rcases Nat.lt_or_ge m m' with l | l
    · exact t m' l h2 s h3 w h5 h6
    · rw [show m' = m from by omega] at h6 ⊢; exact kn s (by omega) w h5 h6
  · rw [if_neg (fun z => by have := (nI_ltI (by omega) (by omega)).mp z; omega)]
    simp only [nm_u]
    rw [nI_1]
    refine lX2_v54 ok g0 t0 pw hk ha h4 (s := k) (by omega) hm _ h (fun h' a1 a2 a3 a4 => ?_) zFU 0 h fr t (fun _ _ _ _ _ => rfl) (fun w' z => absurd z (Nat.not_lt_zero _)) (Nat.zero_le _) (by rw [zFU_u]; omega)
    refine ih (k + 1) h' a1 a2 (fun s' b1 w' b3 b4 => ?_) (by omega) (by omega)
    rcases Nat.lt_or_ge s' k with l | l
    · rw [a3 s' (by omega) (by omega) w' b3]; exact kn s' l w' b3 b4
    · rw [show s' = k from by omega] at b4 ⊢; exact a4 w' b3 b4
def qV (σ : Sg) (kind asked : Nat) : Int64 := if sN σ = 0 then (if kind = 2 then lN (12 ^ sB σ) else 0) else dQ σ (eK kind asked) (sB σ) (2 ^ sN σ - 1) (sO σ 0)
theorem sX2_valueOf {σ : Sg} (ok : sOK σ) {h : Hp} (g : gm σ h) {kind asked : Nat} (hk : kind < 4) (ha : asked < 16) (h4 : kind ≤ 1 → asked < 4) : wp (X2_valueOf h (nI kind) (nI asked)) (fun r h' => r = qV σ kind asked ∧ f2 h h' ∧ pw12 h') := by
  have hn := ok.1
  have hb9 := ok.2.2.2.2.1
  have hpw := pow16 hn
  have hal := all_lt σ
  unfold X2_valueOf qV
  rw [wp_bd]
  refine (sX2_solves ok g).mono ?_
  rintro _ h1 ⟨fr, t, pw⟩
  have g1 := g.fr fr
  rw [g1.1, g1.2.2.2.2.1]
  by_cases c0 : sN σ = 0
  · rw [if_pos (by rw [c0]; rfl), if_pos c0]
    by_cases c2 : kind = 2
    · rw [if_pos (by rw [c2]; rfl), if_pos c2, ck_i (by omega) (by omega), nI_clamp (by omega), pw _ (by omega)]
      exact wp.of rfl ⟨rfl, fr, pw⟩
    · rw [if_neg (nI_n2 (by omega) c2), if_neg c2]
      exact wp.of rfl ⟨rfl, fr, pw⟩
  · rw [if_neg (nI_n0 (by omega) c0), if_neg c0]
    simp only [nm_u]
    have key : ∀ N, (fun N r => ∀ k h2, f34 h1 h2 → tQ σ (eK kind asked) h2 k → k ≤ sB σ + 1 → k < N → wp (r h2 (nI k - 1)) (fun r h' => r = dQ σ (eK kind asked) (sB σ) (2 ^ sN σ - 1) (sO σ 0) ∧ f2 h h' ∧ pw12 h')) N (zfix (fun (_ : Hp) (_ : Int32) => (none : Option (Int64 × Hp))) (X2_valueOf_b35 (nI kind) (nI asked) (fun (h5 : Hp)  => bd (X2_all h5 ) fun r8 h7 => ck (0 ≤ (0 : Int32).toInt ∧ (0 : Int32).toInt < 4) <| bd (X2_stateOf h7 (0 : Int32) r8 (zi h7 22 (0 : Int32).toNatClampNeg)) fun r11 h10 => ck (0 ≤ r11.toInt ∧ r11.toInt < 640) <| some (zj h10 34 r11.toNatClampNeg, h10))) N) := by
      refine zfix_ind (σ := Hp → Int32 → Option (Int64 × Hp)) _ _ (fun N r => ∀ k h2, f34 h1 h2 → tQ σ (eK kind asked) h2 k → k ≤ sB σ + 1 → k < N → wp (r h2 (nI k - 1)) (fun r h' => r = dQ σ (eK kind asked) (sB σ) (2 ^ sN σ - 1) (sO σ 0) ∧ f2 h h' ∧ pw12 h')) (fun k _ _ _ _ z => absurd z (Nat.not_lt_zero _)) (fun N r ih k h2 f3 tq hk' hN => ?_)
      have g2 := g1.fr f3.f2
      unfold X2_valueOf_b35
      cases k with
      | zero =>
        have ho := (ok.2.1 0 (by omega)).1
        rw [if_pos (by decide)]
        show wp (bd (X2_all h2) _) _
        rw [sX2_allN h2 hn g2.1, bd_s, ck_t (by decide), show (0 : Int32).toNatClampNeg = 0 from rfl, g2.2.1 0 (by omega), show X2_stateOf h2 (0 : Int32) = X2_stateOf h2 (nI 0) from rfl, sX2_st, bd_s, ck_i (by omega) (by omega), nI_clamp (by omega), tq 0 (Nat.le_refl _) (Nat.zero_le _) _ hal _ ho (Or.inr (Or.inr (allb ok (by omega))))]
        exact wp.of rfl ⟨rfl, fr.tr f3.f2, fun i hi => (f3.2.2 29 i (by decide)).trans (pw i hi)⟩
      | succ k =>
        rw [nI_pred, if_neg (nI_pos (by omega))]
        simp only [nm_u]
        rw [nI_dn]
        refine lX2_v42 ok g1 t pw hk ha h4 (by omega) _ (fun h' a1 a2 => ?_) zFU 0 h2 f3 tq (fun s' z => absurd z (Nat.not_lt_zero _)) (Nat.zero_le _) (by rw [zFU_u]; omega)
        exact ih k h' a1 a2 (by omega) (by omega)
    have := key zFU (sB σ + 1) h1 (f34.rf h1) (fun m a1 a2 => absurd a2 (by omega)) (Nat.le_refl _) (by rw [zFU_u]; omega)
    rw [nI_pred] at this
    exact this
/-! sums -/
def sumJ (f : Nat → Int64) : Nat → Int64
  | 0 => 0
  | n + 1 => sumJ f n + f n
theorem sumJ_c {f g : Nat → Int64} : ∀ n, (∀ i, i < n → f i = g i) → sumJ f n = sumJ g n := by
  intro n
  induction n with
  | zero => intro _; rfl
  | succ n ih => intro h; unfold sumJ; rw [ih (fun i hi => h i (by omega)), h n (by omega)]
theorem sumJ_0 {f : Nat → Int64} (n : Nat) (h : ∀ i, i < n → f i = 0) : sumJ f n = 0 := by
  induction n with
  | zero => rfl
  | succ n ih => unfold sumJ; rw [ih (fun i hi => h i (by omega)), h n (by omega)]; decide
theorem sumJ_u {f g : Nat → Int64} (j : Nat) : ∀ n, j < n → (∀ i, i < n → i ≠ j → g i = f i) → sumJ g n = sumJ f n + (g j - f j) := by
  intro n
  induction n with
  | zero => intro h; omega
  | succ n ih =>
    intro hj h
    unfold sumJ
    by_cases c : j = n
    · rw [sumJ_c n (fun i hi => h i (by omega) (by omega)), c]
      generalize sumJ f n = A
      generalize g n = B
      generalize f n = C
      grind
    · rw [ih (by omega) (fun i hi => h i (by omega)), h n (by omega) (fun z => c z.symm)]
      generalize sumJ f n = A
      generalize g j = B
      generalize f j = C
      generalize f n = D
      grind
/-! THE CLASS goes from the beginning on: a sum that stays -/
def fE (h h' : Hp) : Prop := h'.2.2 = h.2.2 ∧ (∀ q k, q ≠ 7 → zi h' q k = zi h q k) ∧ ∀ q k, q ≠ 11 → q ≠ 12 → ¬ (q = 0 ∧ k = 17) → zj h' q k = zj h q k
theorem fE.rf (h : Hp) : fE h h := ⟨rfl, fun _ _ _ => rfl, fun _ _ _ _ _ => rfl⟩
theorem fE.tr {h h' h2 : Hp} (a : fE h h') (b : fE h' h2) : fE h h2 := ⟨b.1.trans a.1, fun q k h1 => (b.2.1 q k h1).trans (a.2.1 q k h1), fun q k h1 h2 h3 => (b.2.2 q k h1 h2 h3).trans (a.2.2 q k h1 h2 h3)⟩
theorem fE.f0 {h h' : Hp} (a : fE h h') : f0 h h' := ⟨a.1, fun q k h1 _ _ => a.2.1 q k h1, fun q k _ h2 h3 h4 => a.2.2 q k h2 h3 (fun z => h4 z.1)⟩
theorem f7.fE {h h' : Hp} (a : f7 h h') : fE h h' := ⟨congrArg (fun x => x.2) a.1, fun q k h1 => a.2 q k h1, fun q k _ _ _ => by rw [a.zj]⟩
theorem fE.sj {h : Hp} {q k : Nat} {v : Int64} (hq : q = 11 ∨ q = 12 ∨ (q = 0 ∧ k = 17)) : fE h (zsj h q k v) := by
  refine ⟨rfl, fun _ _ _ => rfl, fun a b h1 h2 h3 => zj_ne _ _ _ _ ?_⟩
  by_cases c : a = q
  · right; intro z; rw [c] at h1 h2 h3; rw [z] at h3; rcases hq with e | e | e
    · exact h1 e
    · exact h2 e
    · exact h3 e
  · exact Or.inl c
theorem fE.tC {σ : Sg} {h h' : Hp} {lo : Nat} (a : fE h h') (t : tC σ h lo) : tC σ h' lo := fun m h1 h2 s h3 h4 pl h5 h6 => by
  have := t m h1 h2 s h3 h4 pl h5 h6
  exact ⟨(a.2.1 9 _ (by decide)).trans this.1, fun p hp => (a.2.2 8 _ (by decide) (by decide) (by omega)).trans (this.2 p hp)⟩
theorem ix_dec (i : Nat) (h : i < 640) : ∃ s k m, s < 16 ∧ k < 4 ∧ m < 10 ∧ i = 40 * s + 10 * k + m ∧ i % 10 = m ∧ i / 40 = s ∧ i / 10 % 4 = k := by
  have hd : i / 40 = i / 10 / 4 := by rw [Nat.div_div_eq_div_mul]
  refine ⟨i / 10 / 4, i / 10 % 4, i % 10, by omega, by omega, by omega, by omega, rfl, hd, rfl⟩
def wt (σ : Sg) (c : Int64) (e : Nat → Int64) (t i : Nat) : Int64 := if (i % 10 * 16 + i / 40) * 4 + i / 10 % 4 < t then 0 else dU σ c e (sB σ - i % 10) (i / 40) (sO σ (i / 10 % 4))
def Ph (σ : Sg) (c : Int64) (e : Nat → Int64) (h : Hp) (t : Nat) : Int64 := c * zj h 0 17 + sumJ (fun s => zj h 12 s * e s) (2 ^ sN σ) + sumJ (fun i => zj h 11 i * wt σ c e t i) 640
/-- only proper states are likely -/
def pA (σ : Sg) (h : Hp) : Prop := ∀ i, i < 640 → zj h 11 i ≠ 0 → i / 40 < 2 ^ sN σ ∧ i / 10 % 4 < sN σ ∧ i % 10 < sB σ ∧ 1 < pc (i / 40) ∧ (i / 40).testBit (sO σ (i / 10 % 4)) = true
theorem Ph_c {σ : Sg} {c : Int64} {e : Nat → Int64} {h : Hp} {t t' : Nat} (hh : ∀ i, i < 640 → zj h 11 i ≠ 0 → ((i % 10 * 16 + i / 40) * 4 + i / 10 % 4 < t ↔ (i % 10 * 16 + i / 40) * 4 + i / 10 % 4 < t')) : Ph σ c e h t = Ph σ c e h t' := by
  have key := sumJ_c (f := fun i => zj h 11 i * wt σ c e t i) (g := fun i => zj h 11 i * wt σ c e t' i) 640 (fun i hi => ?_)
  · unfold Ph
    rw [key]
  by_cases z : zj h 11 i = 0
  · show zj h 11 i * _ = zj h 11 i * _
    rw [z, Int64.zero_mul, Int64.zero_mul]
  · unfold wt
    have := hh i hi z
    by_cases c1 : (i % 10 * 16 + i / 40) * 4 + i / 10 % 4 < t
    · rw [if_pos c1, if_pos (this.mp c1)]
    · rw [if_neg c1, if_neg (fun y => c1 (this.mpr y))]
theorem Ph_drop {σ : Sg} {c : Int64} {e : Nat → Int64} {h : Hp} {s k m : Nat} (hs : s < 16) (hk : k < 4) (hm : m < 10) : Ph σ c e h ((m * 16 + s) * 4 + k + 1) = Ph σ c e h ((m * 16 + s) * 4 + k) - zj h 11 (40 * s + 10 * k + m) * dU σ c e (sB σ - m) s (sO σ k) := by
  have u := sumJ_u (f := fun i => zj h 11 i * wt σ c e ((m * 16 + s) * 4 + k) i) (g := fun i => zj h 11 i * wt σ c e ((m * 16 + s) * 4 + k + 1) i) (40 * s + 10 * k + m) 640 (by omega) (fun i hi hij => by
    show zj h 11 i * wt σ c e _ i = zj h 11 i * wt σ c e _ i
    have : wt σ c e ((m * 16 + s) * 4 + k + 1) i = wt σ c e ((m * 16 + s) * 4 + k) i := by
      obtain ⟨s', k', m', h1, h2, h3, h4, h5, h6, h7⟩ := ix_dec i hi
      unfold wt
      rw [h5, h6, h7]
      by_cases c1 : (m' * 16 + s') * 4 + k' < (m * 16 + s) * 4 + k
      · rw [if_pos c1, if_pos (by omega)]
      · rw [if_neg c1, if_neg (by omega)]
    rw [this])
  unfold Ph
  rw [u]
  have e1 : wt σ c e ((m * 16 + s) * 4 + k + 1) (40 * s + 10 * k + m) = 0 := by
    unfold wt; rw [if_pos (by omega)]
  have e2 : wt σ c e ((m * 16 + s) * 4 + k) (40 * s + 10 * k + m) = dU σ c e (sB σ - m) s (sO σ k) := by
    unfold wt; rw [if_neg (by omega), show (40 * s + 10 * k + m) % 10 = m from by omega, show (40 * s + 10 * k + m) / 40 = s from by omega, show (40 * s + 10 * k + m) / 10 % 4 = k from by omega]
  simp only [e1, e2]
  generalize sumJ (fun i => zj h 11 i * wt σ c e ((m * 16 + s) * 4 + k) i) 640 = A
  generalize sumJ (fun s => zj h 12 s * e s) (2 ^ sN σ) = B
  generalize zj h 11 (40 * s + 10 * k + m) = C
  generalize dU σ c e (sB σ - m) s (sO σ k) = D
  generalize c * zj h 0 17 = E
  grind
theorem dU_over {σ : Sg} {c : Int64} {e : Nat → Int64} {m s w : Nat} (hm : m ≤ sB σ) (o : sB σ ≤ m ∨ pc s ≤ 1) : dU σ c e (sB σ - m) s w = e s * lN (12 ^ (sB σ - m)) := by
  cases q : sB σ - m with
  | zero => rfl
  | succ f => unfold dU; rw [if_pos (by omega)]
theorem sX0_reach {σ : Sg} (ok : sOK σ) {h : Hp} (g : gc σ h) (c : Int64) (e : Nat → Int64) {s pl m t : Nat} (hs : s < 2 ^ sN σ) (hp : pl < sN σ) (hm : m ≤ sB σ) (hb : s.testBit (sO σ pl) = true) (a : pA σ h) (ht : t ≤ (m * 16 + s) * 4 + pl) (x : Int64) : wp (X0_reach h (nI s) (nI pl) (nI m) x) (fun _ h' => fE h h' ∧ pA σ h' ∧ Ph σ c e h' t = Ph σ c e h t + x * dU σ c e (sB σ - m) s (sO σ pl)) := by
  have hn := ok.1
  have hb9 := ok.2.2.2.2.1
  have hpw := pow16 hn
  unfold X0_reach
  by_cases c0 : x = 0
  · rw [if_pos c0]
    refine wp.of rfl ⟨fE.rf h, a, ?_⟩
    rw [c0, Int64.zero_mul, Int64.add_zero]
  · rw [if_neg c0, sX0_isOver h (by omega) (by omega) (by omega) g.2.2.2.1, bd_s]
    by_cases co : sB σ ≤ m ∨ pc s ≤ 1
    · rw [if_neg (fun z => (pB0.mp z) co), ck_i (by omega) (by omega), g.2.2.2.1, pk_sub hm, ck_i (by omega) (by omega), nI_clamp (by omega), nI_clamp (by omega), g.2.2.2.2.2.1 _ (by omega)]
      simp only [nm_u]
      rw [ck_i (by omega) (by omega)]
      refine wp.of rfl ⟨fE.sj (Or.inr (Or.inl rfl)), fun i hi z => a i hi (by rw [zj_ne _ _ _ _ (Or.inl (by decide))] at z; exact z), ?_⟩
      rw [dU_over hm co]
      have u := sumJ_u (f := fun i => zj h 12 i * e i) (g := fun i => zj (zsj h 12 s (zj h 12 s + x * lN (12 ^ (sB σ - m)))) 12 i * e i) s (2 ^ sN σ) hs (fun i _ hi => by
        show zj (zsj h 12 s _) 12 i * e i = _
        rw [zj_ne _ _ _ _ (Or.inr hi)])
      unfold Ph
      rw [u]
      have e3 : (fun i => zj (zsj h 12 s (zj h 12 s + x * lN (12 ^ (sB σ - m)))) 11 i * wt σ c e t i) = (fun i => zj h 11 i * wt σ c e t i) := by
        funext i; rw [zj_ne _ _ _ _ (Or.inl (by decide))]
      rw [e3, zj_eq, zj_ne _ _ _ _ (Or.inl (by decide))]
      generalize sumJ (fun i => zj h 11 i * wt σ c e t i) 640 = A
      generalize sumJ (fun i => zj h 12 i * e i) (2 ^ sN σ) = B
      generalize zj h 12 s = C
      generalize lN (12 ^ (sB σ - m)) = D
      generalize c * zj h 0 17 = E
      generalize e s = F
      grind
    · rw [if_pos (pB0.mpr co), sX0_at, bd_s, ck_i (by omega) (by omega), nI_clamp (by omega)]
      simp only [nm_u]
      rw [ck_i (by omega) (by omega)]
      refine wp.of rfl ⟨fE.sj (Or.inl rfl), fun i hi z => ?_, ?_⟩
      · by_cases ci : i = 40 * s + 10 * pl + m
        · rw [ci, show (40 * s + 10 * pl + m) % 10 = m from by omega, show (40 * s + 10 * pl + m) / 40 = s from by omega, show (40 * s + 10 * pl + m) / 10 % 4 = pl from by omega]
          exact ⟨hs, hp, by omega, by omega, hb⟩
        · rw [zj_ne _ _ _ _ (Or.inr ci)] at z; exact a i hi z
      · have u := sumJ_u (f := fun i => zj h 11 i * wt σ c e t i) (g := fun i => zj (zsj h 11 (40 * s + 10 * pl + m) (zj h 11 (40 * s + 10 * pl + m) + x)) 11 i * wt σ c e t i) (40 * s + 10 * pl + m) 640 (by omega) (fun i _ hi => by
          show zj (zsj h 11 _ _) 11 i * _ = _
          rw [zj_ne _ _ _ _ (Or.inr hi)])
        unfold Ph
        rw [u]
        have e3 : (fun i => zj (zsj h 11 (40 * s + 10 * pl + m) (zj h 11 (40 * s + 10 * pl + m) + x)) 12 i * e i) = (fun i => zj h 12 i * e i) := by
          funext i; rw [zj_ne _ _ _ _ (Or.inl (by decide))]
        have e2 : wt σ c e t (40 * s + 10 * pl + m) = dU σ c e (sB σ - m) s (sO σ pl) := by
          unfold wt; rw [if_neg (by omega), show (40 * s + 10 * pl + m) % 10 = m from by omega, show (40 * s + 10 * pl + m) / 40 = s from by omega, show (40 * s + 10 * pl + m) / 10 % 4 = pl from by omega]
        rw [e3, zj_eq, zj_ne _ _ _ _ (Or.inl (by decide)), e2]
        generalize sumJ (fun i => zj h 11 i * wt σ c e t i) 640 = A
        generalize sumJ (fun i => zj h 12 i * e i) (2 ^ sN σ) = B
        generalize zj h 11 (40 * s + 10 * pl + m) = C
        generalize dU σ c e (sB σ - m) s (sO σ pl) = D
        generalize c * zj h 0 17 = E
        grind
