/-! OTHER WAYS: the settings with one number changed -/
def sS (σ : Sg) (k v : Nat) : Sg := (σ.1, σ.2.1, σ.2.2.1, (fun i => if i = k then v else sM σ i), σ.2.2.2.2)
theorem sM_S (σ : Sg) (k v i : Nat) : sM (sS σ k v) i = if i = k then v else sM σ i := rfl
theorem sS_S (σ : Sg) (k u v : Nat) : sS (sS σ k u) k v = sS σ k v := by
  unfold sS
  congr 4
  funext i
  rw [show sM (σ.1, σ.2.1, σ.2.2.1, (fun i => if i = k then u else sM σ i), σ.2.2.2.2) i = if i = k then u else sM σ i from rfl]
  by_cases c : i = k
  · rw [if_pos c, if_pos c]
  · rw [if_neg c, if_neg c, if_neg c]
theorem sS_id (σ : Sg) (k : Nat) : sS σ k (sM σ k) = σ := by
  unfold sS
  have : (fun i => if i = k then sM σ k else sM σ i) = sM σ := by
    funext i
    by_cases c : i = k
    · rw [if_pos c, c]
    · rw [if_neg c]
  rw [this]
  rfl
theorem sS_ok {σ : Sg} (ok : sOK σ) {w p v : Nat} (hw : w < 3) (hp : p < sN σ) (hv : v ≤ (if w = 0 then 12 else if w = 1 then 5 else 3)) : sOK (sS σ (4 * w + p) v) := by
  refine ⟨ok.1, ok.2.1, ok.2.2.1, fun q hq => ?_, ok.2.2.2.2.1, ok.2.2.2.2.2.1, ok.2.2.2.2.2.2⟩
  have hq : q < sN σ := hq
  have hn := ok.1
  have o := ok.2.2.2.1 q hq
  rw [sM_S, sM_S, sM_S]
  have : w = 0 ∨ w = 1 ∨ w = 2 := by omega
  rcases this with rfl | rfl | rfl
  · rw [if_pos rfl] at hv
    refine ⟨?_, ?_, ?_⟩
    · split
      · exact hv
      · exact o.1
    · rw [if_neg (by omega)]; exact o.2.1
    · rw [if_neg (by omega)]; exact o.2.2
  · rw [if_neg (by decide), if_pos rfl] at hv
    refine ⟨?_, ?_, ?_⟩
    · rw [if_neg (by omega)]; exact o.1
    · split
      · exact hv
      · exact o.2.1
    · rw [if_neg (by omega)]; exact o.2.2
  · rw [if_neg (by decide), if_neg (by decide)] at hv
    refine ⟨?_, ?_, ?_⟩
    · rw [if_neg (by omega)]; exact o.1
    · rw [if_neg (by omega)]; exact o.2.1
    · split
      · exact hv
      · exact o.2.2
theorem fL.si {h : Hp} {a k : Nat} {v : Int32} (ht : zt h a = 3) : fL h (zsi h a k v) := by
  refine ⟨rfl, Nat.le_refl _, fun q _ _ h3 => ⟨rfl, fun k => ⟨zi_ne _ _ _ _ (Or.inl ?_), rfl⟩⟩⟩
  intro e; rw [e, ht] at h3; omega
theorem gc.set {σ : Sg} (ok : sOK σ) {h : Hp} (g : gc σ h) {w p v a : Nat} (hw : w < 3) (hp : p < sN σ) (ea : zr h 1 p = some a) : gc (sS σ (4 * w + p) v) (zsi h a w (nI v)) := by
  have hn := ok.1
  obtain ⟨a', e1, e2, e3⟩ := g.2.2.1 p hp
  obtain rfl : a' = a := by rw [e1] at ea; exact Option.some.inj ea
  refine ⟨(zi_ne _ _ _ _ (Or.inl (by omega))).trans g.1, fun k hk => (zi_ne _ _ _ _ (Or.inl (by omega))).trans (g.2.1 k hk), fun q hq => ?_, (zi_ne _ _ _ _ (Or.inl (by omega))).trans g.2.2.2.1, fun m hm => (zi_ne _ _ _ _ (Or.inl (by omega))).trans (g.2.2.2.2.1 m hm), g.2.2.2.2.2.1, g.2.2.2.2.2.2.1.fr (fL.si e2.2), g.2.2.2.2.2.2.2⟩
  have hq : q < sN σ := hq
  obtain ⟨b, f1, f2, f3⟩ := g.2.2.1 q hq
  refine ⟨b, f1, f2, fun w' hw' => ?_⟩
  rw [sM_S]
  by_cases c : q = p
  · obtain rfl : b = a' := by rw [c, e1] at f1; exact (Option.some.inj f1).symm
    by_cases d : w' = w
    · rw [d, c, if_pos rfl, zi_eq]
    · rw [if_neg (by omega), zi_ne _ _ _ _ (Or.inr d)]; exact f3 w' hw'
  · have hb : b ≠ a' := fun z => c (g.2.2.2.2.2.2.2 q p a' hq hp (by rw [f1, z]) e1)
    rw [if_neg (by omega), zi_ne _ _ _ _ (Or.inl hb)]; exact f3 w' hw'
theorem gm.set {σ : Sg} (ok : sOK σ) {h : Hp} (g : gm σ h) {w p v : Nat} (hw : w < 3) (hp : p < sN σ) : gm (sS σ (4 * w + p) v) (zsi h 18 (4 * w + p) (nI v)) := by
  have hn := ok.1
  refine ⟨(zi_ne _ _ _ _ (Or.inl (by omega))).trans g.1, fun k hk => (zi_ne _ _ _ _ (Or.inl (by omega))).trans (g.2.1 k hk), fun k hk => (zi_ne _ _ _ _ (Or.inl (by omega))).trans (g.2.2.1 k hk), fun q hq w' hw' => ?_, (zi_ne _ _ _ _ (Or.inl (by omega))).trans g.2.2.2.2.1, fun m hm => (zi_ne _ _ _ _ (Or.inl (by omega))).trans (g.2.2.2.2.2.1 m hm), g.2.2.2.2.2.2.fr ⟨zi_ne _ _ _ _ (Or.inl (by omega)), fun k => zi_ne _ _ _ _ (Or.inl (by omega))⟩⟩
  rw [sM_S, zi_si]
  by_cases c : 4 * w' + q = 4 * w + p
  · rw [if_pos c, if_pos ⟨rfl, c⟩]
  · rw [if_neg c, if_neg (fun z => c z.2)]; exact g.2.2.2.1 q hq w' hw'
/-- the class's writing when ways and hits are tried -/
def fP (n : Nat) (h h' : Hp) : Prop := h'.2.2 = h.2.2 ∧ (∀ q k, q ≠ 7 → q ≠ 9 → ¬ (q = 0 ∧ 19 ≤ k ∧ k ≤ 23) → ¬ (k < 3 ∧ ∃ p, p < n ∧ zr h 1 p = some q) → zi h' q k = zi h q k) ∧ ∀ q k, q ≠ 8 → q ≠ 11 → q ≠ 12 → q ≠ 0 → zj h' q k = zj h q k
def fS (h h' : Hp) : Prop := h'.2.2 = h.2.2 ∧ (∀ q k, q ≠ 7 → q ≠ 9 → q ≠ 13 → ¬ (q = 0 ∧ 19 ≤ k ∧ k ≤ 23) → zi h' q k = zi h q k) ∧ ∀ q k, q ≠ 8 → q ≠ 11 → q ≠ 12 → q ≠ 0 → zj h' q k = zj h q k
theorem fP.rr {n : Nat} {h h' : Hp} (a : fP n h h') : zr h' = zr h := congrArg (fun x => x.1) a.1
theorem fP.rf (n : Nat) (h : Hp) : fP n h h := ⟨rfl, fun _ _ _ _ _ _ => rfl, fun _ _ _ _ _ _ => rfl⟩
theorem fP.tr {n : Nat} {h h' h2 : Hp} (a : fP n h h') (b : fP n h' h2) : fP n h h2 := ⟨b.1.trans a.1, fun q k h1 h2 h4 h5 => (b.2.1 q k h1 h2 h4 (by rw [a.rr]; exact h5)).trans (a.2.1 q k h1 h2 h4 h5), fun q k h1 h2 h3 h4 => (b.2.2 q k h1 h2 h3 h4).trans (a.2.2 q k h1 h2 h3 h4)⟩
theorem f0.fP {n : Nat} {h h' : Hp} (a : f0 h h') : fP n h h' := ⟨a.1, fun q k h1 h2 h3 _ => a.2.1 q k h1 h2 h3, a.2.2⟩
theorem f0.fS {h h' : Hp} (a : f0 h h') : fS h h' := ⟨a.1, fun q k h1 h2 _ h3 => a.2.1 q k h1 h2 h3, a.2.2⟩
theorem fP.si {n : Nat} {h : Hp} {a p k : Nat} {v : Int32} (ea : zr h 1 p = some a) (hp : p < n) (hk : k < 3) : fP n h (zsi h a k v) := by
  refine ⟨rfl, fun q j _ _ _ h5 => zi_ne _ _ _ _ ?_, fun _ _ _ _ _ _ => rfl⟩
  by_cases c : q = a
  · right; intro z; exact h5 ⟨by omega, p, hp, by rw [c]; exact ea⟩
  · exact Or.inl c
/-- all numbers are as they were -/
theorem fP.S {σ : Sg} {h h' : Hp} (a : fP (sN σ) h h') (g : gc σ h) (g' : gc σ h') : f0 h h' := by
  refine ⟨a.1, fun q k h1 h2 h4 => ?_, a.2.2⟩
  by_cases c : k < 3 ∧ ∃ p, p < sN σ ∧ zr h 1 p = some q
  · obtain ⟨hk, p, hp, e⟩ := c
    obtain ⟨b, e1, _, e2⟩ := g.2.2.1 p hp
    obtain ⟨b', e1', _, e2'⟩ := g'.2.2.1 p hp
    obtain rfl : b = q := by rw [e] at e1; exact (Option.some.inj e1).symm
    obtain rfl : b' = b := by rw [a.rr, e] at e1'; exact (Option.some.inj e1').symm
    rw [e2 k hk, e2' k hk]
  · exact a.2.1 q k h1 h2 h4 c
def fP2 (n : Nat) (h h' : Hp) : Prop := h'.2.2 = h.2.2 ∧ (∀ q k, q ≠ 28 → q ≠ 31 → q ≠ 32 → ¬ (q = 17 ∧ (16 ≤ k ∧ k ≤ 20 ∨ k = 29 ∨ k = 30)) → ¬ (q = 18 ∧ ∃ w p, w < 3 ∧ p < n ∧ k = 4 * w + p) → zi h' q k = zi h q k) ∧ ∀ q k, q ≠ 29 → q ≠ 30 → q ≠ 33 → q ≠ 34 → q ≠ 17 → zj h' q k = zj h q k
def fS2 (h h' : Hp) : Prop := h'.2.2 = h.2.2 ∧ (∀ q k, q ≠ 28 → q ≠ 31 → q ≠ 32 → q ≠ 35 → ¬ (q = 17 ∧ (16 ≤ k ∧ k ≤ 20 ∨ k = 29 ∨ k = 30)) → zi h' q k = zi h q k) ∧ ∀ q k, q ≠ 29 → q ≠ 30 → q ≠ 33 → q ≠ 34 → q ≠ 17 → zj h' q k = zj h q k
theorem fP2.rf (n : Nat) (h : Hp) : fP2 n h h := ⟨rfl, fun _ _ _ _ _ _ _ => rfl, fun _ _ _ _ _ _ _ => rfl⟩
theorem fP2.tr {n : Nat} {h h' h2 : Hp} (a : fP2 n h h') (b : fP2 n h' h2) : fP2 n h h2 := ⟨b.1.trans a.1, fun q k h1 h2 h3 h5 h6 => (b.2.1 q k h1 h2 h3 h5 h6).trans (a.2.1 q k h1 h2 h3 h5 h6), fun q k h1 h2 h3 h4 h5 => (b.2.2 q k h1 h2 h3 h4 h5).trans (a.2.2 q k h1 h2 h3 h4 h5)⟩
theorem f2.fP2 {n : Nat} {h h' : Hp} (a : f2 h h') : fP2 n h h' := ⟨a.1, fun q k h1 h2 h3 h5 _ => a.2.1 q k h1 h2 h3 h5, a.2.2⟩
theorem f2.fS2 {h h' : Hp} (a : f2 h h') : fS2 h h' := ⟨a.1, fun q k h1 h2 h3 _ h5 => a.2.1 q k h1 h2 h3 h5, a.2.2⟩
theorem fP2.si {n : Nat} {h : Hp} {w p : Nat} {v : Int32} (hp : p < n) (hw : w < 3) : fP2 n h (zsi h 18 (4 * w + p) v) := by
  refine ⟨rfl, fun q j _ _ _ _ h6 => zi_ne _ _ _ _ ?_, fun _ _ _ _ _ _ _ => rfl⟩
  by_cases c : q = 18
  · right; intro z; exact h6 ⟨c, w, p, hw, hp, z⟩
  · exact Or.inl c
theorem fP2.S {σ : Sg} {h h' : Hp} (a : fP2 (sN σ) h h') (g : gm σ h) (g' : gm σ h') : f2 h h' := by
  refine ⟨a.1, fun q k h1 h2 h3 h5 => ?_, a.2.2⟩
  by_cases c : q = 18 ∧ ∃ w p, w < 3 ∧ p < sN σ ∧ k = 4 * w + p
  · obtain ⟨rfl, w, p, hw, hp, rfl⟩ := c
    rw [g.2.2.2.1 p hp w hw, g'.2.2.2.1 p hp w hw]
  · exact a.2.1 q k h1 h2 h3 h5 c
/-- the best way so far -/
def qW (σ : Sg) (p : Nat) : Nat → Nat × Int64
  | 0 => (sM σ (4 + p), dF σ 0 p)
  | v + 1 => if (qW σ p v).2 < dF (sS σ (4 + p) v) 0 p then (v, dF (sS σ (4 + p) v) 0 p) else qW σ p v
theorem qW_le {σ : Sg} (ok : sOK σ) {p : Nat} (hp : p < sN σ) : ∀ v, v ≤ 6 → (qW σ p v).1 ≤ 5 := by
  intro v
  induction v with
  | zero => intro _; exact (ok.2.2.2.1 p hp).2.1
  | succ v ih =>
    intro hv
    unfold qW
    split
    · show v ≤ 5; omega
    · exact ih (by omega)
theorem sX0_wouldOf {σ : Sg} (ok : sOK σ) {h : Hp} (g : gc σ h) {p : Nat} (hp : p < sN σ) : wp (X0_wouldOf h (nI p)) (fun r h' => r = nI (qW σ p 6).1 ∧ fP (sN σ) h h' ∧ gc σ h') := by
  have hn := ok.1
  obtain ⟨a, e1, e2, e3⟩ := g.2.2.1 p hp
  have v1 := e3 1 (by decide)
  rw [Nat.mul_one] at v1
  have o := ok.2.2.2.1 p hp
  unfold X0_wouldOf
  rw [ck_i (by omega) (by omega), nI_clamp (by omega), e1]
  simp only [nm_u]
  rw [dr_s, v1, wp_bd]
  refine (sX0_findValues ok g).mono ?_
  rintro _ h1 ⟨fr1, t1⟩
  have g1 := g.fr fr1.f0
  rw [sX0_worthOf ok g1 t1 hp, bd_s]
  have key : ∀ N, (fun N r => ∀ k u h2, k ≤ 6 → u ≤ 5 → gc (sS σ (4 + p) u) h2 → fP (sN σ) h h2 → 6 - k < N → wp (r h2 (nI (qW σ p k).1) (qW σ p k).2 (nI k)) (fun r h' => r = nI (qW σ p 6).1 ∧ fP (sN σ) h h' ∧ gc σ h')) N (zfix (fun (_ : Hp) (_ : Int32) (_ : Int64) (_ : Int32) => (none : Option (Int32 × Hp))) (X0_wouldOf_b26 (nI p) (fun (h9 : Hp) (v10 : Int32) => ck (0 ≤ (nI p).toInt ∧ (nI p).toInt < 4) (dr (zr h9 1 p) fun a14 => some (v10, zsi h9 a14 1 (nI (sM σ (4 + p))))))) N) := by
    refine zfix_ind (σ := Hp → Int32 → Int64 → Int32 → Option (Int32 × Hp)) _ _ (fun N r => ∀ k u h2, k ≤ 6 → u ≤ 5 → gc (sS σ (4 + p) u) h2 → fP (sN σ) h h2 → 6 - k < N → wp (r h2 (nI (qW σ p k).1) (qW σ p k).2 (nI k)) (fun r h' => r = nI (qW σ p 6).1 ∧ fP (sN σ) h h' ∧ gc σ h')) (fun k _ _ _ _ _ _ z => absurd z (Nat.not_lt_zero _)) (fun N r ih k u h2 hk hu g2 fr2 hN => ?_)
    have ea : zr h2 1 p = some a := by rw [fr2.rr]; exact e1
    unfold X0_wouldOf_b26
    by_cases c : k = 6
    · rw [if_pos (show (5 : Int32) < nI k from (nI_ltI (a := 5) (by omega) (by omega)).mpr (by omega))]
      show wp (ck _ _) _
      rw [ck_i (by omega) (by omega), ea, dr_s, c]
      have gs := gc.set (sS_ok ok (w := 1) (by omega) hp hu) g2 (w := 1) (v := sM σ (4 + p)) (by omega) hp ea
      rw [sS_S, sS_id] at gs
      exact wp.of rfl ⟨rfl, fr2.tr (fP.si ea hp (by omega)), gs⟩
    · rw [if_neg (fun z => by have := (nI_ltI (by omega) (by omega)).mp (show nI 5 < nI k from z); omega), ck_i (by omega) (by omega), nI_clamp (by omega), ea]
      simp only [nm_u]
      rw [dr_s, wp_bd]
      have gs := gc.set (sS_ok ok (w := 1) (by omega) hp hu) g2 (w := 1) (v := k) (by omega) hp ea
      rw [sS_S] at gs
      have oks := sS_ok ok (w := 1) (v := k) (by omega) hp (by rw [if_neg (by decide), if_pos rfl]; omega)
      refine (sX0_findValues oks gs).mono ?_
      rintro _ h3 ⟨fr3, t3⟩
      have g3 := gs.fr fr3.f0
      have f3 : fP (sN σ) h h3 := fr2.tr ((fP.si ea hp (by omega)).tr fr3.f0.fP)
      rw [sX0_worthOf oks g3 t3 hp, bd_s, nI_1]
      have ih1 := ih (k + 1) k h3 (by omega) (by omega) g3 f3 (by omega)
      have hu' : qW σ p (k + 1) = if (qW σ p k).2 < dF (sS σ (4 * 1 + p) k) 0 p then (k, dF (sS σ (4 * 1 + p) k) 0 p) else qW σ p k := rfl
      rw [hu'] at ih1
      by_cases d : (qW σ p k).2 < dF (sS σ (4 * 1 + p) k) 0 p
      · rw [if_pos d, sX0_worthOf oks g3 t3 hp, bd_s]
        rw [if_pos d] at ih1; exact ih1
      · rw [if_neg d]
        rw [if_neg d] at ih1; exact ih1
  have gi : gc (sS σ (4 + p) (sM σ (4 + p))) h1 := by rw [sS_id]; exact g1
  exact key zFU 0 (sM σ (4 + p)) h1 (by omega) o.2.1 gi fr1.f0.fP (by rw [zFU_u]; omega)
theorem sX2_wouldOf {σ : Sg} (ok : sOK σ) {h : Hp} (g : gm σ h) {p : Nat} (hp : p < sN σ) : wp (X2_wouldOf h (nI p)) (fun r h' => r = nI (qW σ p 6).1 ∧ fP2 (sN σ) h h' ∧ gm σ h') := by
  have hn := ok.1
  have v1 := g.2.2.2.1 p hp 1 (by decide)
  rw [Nat.mul_one] at v1
  have o := ok.2.2.2.1 p hp
  unfold X2_wouldOf
  rw [show (4 : Int32) = nI 4 from rfl, nI_add, ck_i (by omega) (by omega), nI_clamp (by omega), v1]
  simp only [nm_u]
  rw [wp_bd]
  refine (sX2_worthOf ok g hp).mono ?_
  rintro x h1 ⟨ex, fr1, _, _⟩
  have g1 := g.fr fr1
  rw [ex]
  have key : ∀ N, (fun N r => ∀ k u h2, k ≤ 6 → u ≤ 5 → gm (sS σ (4 + p) u) h2 → fP2 (sN σ) h h2 → 6 - k < N → wp (r h2 (qW σ p k).2 (nI (qW σ p k).1) (nI k)) (fun r h' => r = nI (qW σ p 6).1 ∧ fP2 (sN σ) h h' ∧ gm σ h')) N (zfix (fun (_ : Hp) (_ : Int64) (_ : Int32) (_ : Int32) => (none : Option (Int32 × Hp))) (X2_wouldOf_b21 (nI p) (fun (h5 : Hp) (v6 : Int32) => ck (0 ≤ (nI (4 + p)).toInt ∧ (nI (4 + p)).toInt < 12) (some (v6, zsi h5 18 (4 + p) (nI (sM σ (4 + p))))))) N) := by
    refine zfix_ind (σ := Hp → Int64 → Int32 → Int32 → Option (Int32 × Hp)) _ _ (fun N r => ∀ k u h2, k ≤ 6 → u ≤ 5 → gm (sS σ (4 + p) u) h2 → fP2 (sN σ) h h2 → 6 - k < N → wp (r h2 (qW σ p k).2 (nI (qW σ p k).1) (nI k)) (fun r h' => r = nI (qW σ p 6).1 ∧ fP2 (sN σ) h h' ∧ gm σ h')) (fun k _ _ _ _ _ _ z => absurd z (Nat.not_lt_zero _)) (fun N r ih k u h2 hk hu g2 fr2 hN => ?_)
    unfold X2_wouldOf_b21
    by_cases c : k = 6
    · rw [if_pos (show (6 : Int32) ≤ nI k from (nI_leI (a := 6) (by omega) (by omega)).mpr (by omega))]
      show wp (ck _ _) _
      rw [ck_i (by omega) (by omega), c]
      have gs := gm.set (sS_ok ok (w := 1) (by omega) hp hu) g2 (w := 1) (v := sM σ (4 + p)) (by omega) hp
      rw [sS_S, sS_id] at gs
      exact wp.of rfl ⟨rfl, fr2.tr (fP2.si (w := 1) hp (by omega)), gs⟩
    · rw [if_neg (fun z => by have := (nI_leI (by omega) (by omega)).mp (show nI 6 ≤ nI k from z); omega), show (4 : Int32) = nI 4 from rfl, nI_add, ck_i (by omega) (by omega), nI_clamp (by omega)]
      simp only [nm_u]
      rw [wp_bd]
      have gs := gm.set (sS_ok ok (w := 1) (by omega) hp hu) g2 (w := 1) (v := k) (by omega) hp
      rw [sS_S] at gs
      have oks := sS_ok ok (w := 1) (v := k) (by omega) hp (by rw [if_neg (by decide), if_pos rfl]; omega)
      refine (sX2_worthOf oks gs hp).mono ?_
      rintro x h3 ⟨ex, fr3, _, _⟩
      have g3 := gs.fr fr3
      have f3 : fP2 (sN σ) h h3 := fr2.tr ((fP2.si (w := 1) hp (by omega)).tr fr3.fP2)
      rw [nI_1, ex]
      have ih1 := ih (k + 1) k h3 (by omega) (by omega) g3 f3 (by omega)
      have hu' : qW σ p (k + 1) = if (qW σ p k).2 < dF (sS σ (4 * 1 + p) k) 0 p then (k, dF (sS σ (4 * 1 + p) k) 0 p) else qW σ p k := rfl
      rw [hu'] at ih1
      by_cases d : (qW σ p k).2 < dF (sS σ (4 * 1 + p) k) 0 p
      · rw [if_neg (Int64.not_le.mpr d), if_neg (Int64.not_le.mpr d)]
        rw [if_pos d] at ih1; exact ih1
      · rw [if_pos (Int64.not_lt.mp d), if_pos (Int64.not_lt.mp d)]
        rw [if_neg d] at ih1; exact ih1
  have gi : gm (sS σ (4 + p) (sM σ (4 + p))) h1 := by rw [sS_id]; exact g1
  exact key zFU 0 (sM σ (4 + p)) h1 (by omega) o.2.1 gi fr1.fP2 (by rw [zFU_u]; omega)
