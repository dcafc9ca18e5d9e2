/-! step -/
def fD (h h' : Hp) : Prop := h'.2.2 = h.2.2 ∧ (∀ q k, q ≠ 7 → q ≠ 9 → ¬ (q = 0 ∧ 19 ≤ k ∧ k ≤ 23) → ¬ (q = 0 ∧ 26 ≤ k ∧ k ≤ 28) → zi h' q k = zi h q k) ∧ ∀ q k, q ≠ 8 → q ≠ 11 → q ≠ 12 → q ≠ 0 → zj h' q k = zj h q k
def fD2 (h h' : Hp) : Prop := h'.2.2 = h.2.2 ∧ (∀ q k, q ≠ 28 → q ≠ 31 → q ≠ 32 → ¬ (q = 17 ∧ (16 ≤ k ∧ k ≤ 20 ∨ k = 29 ∨ k = 30)) → ¬ (q = 17 ∧ 33 ≤ k ∧ k ≤ 35) → zi h' q k = zi h q k) ∧ ∀ q k, q ≠ 29 → q ≠ 30 → q ≠ 33 → q ≠ 34 → q ≠ 17 → zj h' q k = zj h q k
theorem fD.rf (h : Hp) : fD h h := ⟨rfl, fun _ _ _ _ _ _ => rfl, fun _ _ _ _ _ _ => rfl⟩
theorem fD.tr {h h' h2 : Hp} (a : fD h h') (b : fD h' h2) : fD h h2 := ⟨b.1.trans a.1, fun q k h1 h2 h3 h4 => (b.2.1 q k h1 h2 h3 h4).trans (a.2.1 q k h1 h2 h3 h4), fun q k h1 h2 h3 h4 => (b.2.2 q k h1 h2 h3 h4).trans (a.2.2 q k h1 h2 h3 h4)⟩
theorem f0.fD {h h' : Hp} (a : f0 h h') : fD h h' := ⟨a.1, fun q k h1 h2 h3 _ => a.2.1 q k h1 h2 h3, a.2.2⟩
theorem fD.si {h : Hp} {k : Nat} {v : Int32} (hk : 26 ≤ k ∧ k ≤ 28) : fD h (zsi h 0 k v) := ⟨rfl, fun a b _ _ _ h4 => zi_ne _ _ _ _ (by
  by_cases c : a = 0
  · right; intro z; exact h4 ⟨c, by omega, by omega⟩
  · exact Or.inl c), fun _ _ _ _ _ _ => rfl⟩
theorem fD2.rf (h : Hp) : fD2 h h := ⟨rfl, fun _ _ _ _ _ _ _ => rfl, fun _ _ _ _ _ _ _ => rfl⟩
theorem fD2.tr {h h' h2 : Hp} (a : fD2 h h') (b : fD2 h' h2) : fD2 h h2 := ⟨b.1.trans a.1, fun q k h1 h2 h3 h4 h5 => (b.2.1 q k h1 h2 h3 h4 h5).trans (a.2.1 q k h1 h2 h3 h4 h5), fun q k h1 h2 h3 h4 h5 => (b.2.2 q k h1 h2 h3 h4 h5).trans (a.2.2 q k h1 h2 h3 h4 h5)⟩
theorem f2.fD2 {h h' : Hp} (a : f2 h h') : fD2 h h' := ⟨a.1, fun q k h1 h2 h3 h4 _ => a.2.1 q k h1 h2 h3 h4, a.2.2⟩
theorem fD2.si {h : Hp} {k : Nat} {v : Int32} (hk : 33 ≤ k ∧ k ≤ 35) : fD2 h (zsi h 17 k v) := ⟨rfl, fun a b _ _ _ _ h5 => zi_ne _ _ _ _ (by
  by_cases c : a = 17
  · right; intro z; exact h5 ⟨c, by omega, by omega⟩
  · exact Or.inl c), fun _ _ _ _ _ _ _ => rfl⟩
theorem gc.sD {σ : Sg} {h : Hp} (g : gc σ h) {k : Nat} {v : Int32} (hk : 19 ≤ k) : gc σ (zsi h 0 k v) := by
  refine ⟨(zi_ne _ _ _ _ (Or.inr (by omega))).trans g.1, fun k hk => (zi_ne _ _ _ _ (Or.inl (by omega))).trans (g.2.1 k hk), fun q hq => ?_, (zi_ne _ _ _ _ (Or.inr (by omega))).trans g.2.2.2.1, fun m hm => (zi_ne _ _ _ _ (Or.inl (by omega))).trans (g.2.2.2.2.1 m hm), g.2.2.2.2.2.1, g.2.2.2.2.2.2.1.fr (fL.lo (by omega)), g.2.2.2.2.2.2.2⟩
  obtain ⟨b, f1, f2, f3⟩ := g.2.2.1 q hq
  exact ⟨b, f1, f2, fun w hw => (zi_ne _ _ _ _ (Or.inl (by omega))).trans (f3 w hw)⟩
theorem gm.sD {σ : Sg} {h : Hp} (g : gm σ h) {k : Nat} {v : Int32} (hk : 16 ≤ k) : gm σ (zsi h 17 k v) :=
  ⟨(zi_ne _ _ _ _ (Or.inr (by omega))).trans g.1, fun k hk => (zi_ne _ _ _ _ (Or.inl (by omega))).trans (g.2.1 k hk), fun k hk => (zi_ne _ _ _ _ (Or.inl (by omega))).trans (g.2.2.1 k hk), fun q hq w' hw' => (zi_ne _ _ _ _ (Or.inl (by omega))).trans (g.2.2.2.1 q hq w' hw'), (zi_ne _ _ _ _ (Or.inr (by omega))).trans g.2.2.2.2.1, fun m hm => (zi_ne _ _ _ _ (Or.inl (by omega))).trans (g.2.2.2.2.2.1 m hm), g.2.2.2.2.2.2.fr ⟨zi_ne _ _ _ _ (Or.inr (by omega)), fun k => zi_ne _ _ _ _ (Or.inl (by omega))⟩⟩
/-- over, as the class and the model see it -/
abbrev isOv (σ : Sg) (s m : Nat) : Prop := sB σ ≤ m ∨ pc s ≤ 1
/-- what a step does: who is in, the place, the answer -/
def qSs (σ : Sg) (s pl m v : Nat) : Nat := if dG σ (sB σ - m) s (sO σ pl) ≠ 9 ∧ v < sH σ (sO σ pl) (dG σ (sB σ - m) s (sO σ pl)) (pc s) m then cl s (dG σ (sB σ - m) s (sO σ pl)) else s
def qSr (σ : Sg) (s pl m v : Nat) : Int32 := nI (100 * sO σ pl + 10 * dG σ (sB σ - m) s (sO σ pl) + (if dG σ (sB σ - m) s (sO σ pl) ≠ 9 ∧ v < sH σ (sO σ pl) (dG σ (sB σ - m) s (sO σ pl)) (pc s) m then 1 else 0))
theorem cl_keep {σ : Sg} (ok : sOK σ) {s w t : Nat} (hs : s < 2 ^ sN σ) (hw : w < sN σ) (hb : s.testBit w = true) (ht : t < sN σ) (htw : t ≠ w) : (cl s t).testBit w = true := by
  have hn := ok.1
  have hpw := pow16 hn
  rw [cl_bit s (by omega) t (by omega) w (by omega), hb]
  simp only [Bool.true_and, decide_eq_true_eq]
  exact fun z => htw z.symm
theorem dG_aim {σ : Sg} (ok : sOK σ) {s w m : Nat} (hs : s < 2 ^ sN σ) (hw : w < sN σ) (hb : s.testBit w = true) (ho : ¬ isOv σ s m) : isAim σ s w (dG σ (sB σ - m) s w) := by
  rw [show sB σ - m = sB σ - (m + 1) + 1 from by omega]
  exact dA_aim ok _ _ hs hw hb (by omega)
theorem qSs_p {σ : Sg} (ok : sOK σ) {s pl m v : Nat} (hs : s < 2 ^ sN σ) (hp : pl < sN σ) (hb : s.testBit (sO σ pl) = true) (ho : ¬ isOv σ s m) : qSs σ s pl m v < 2 ^ sN σ ∧ (qSs σ s pl m v).testBit (sO σ pl) = true := by
  have hw := (ok.2.1 pl hp).1
  have hA := dG_aim ok hs hw hb ho
  unfold qSs
  split
  · rename_i c
    have ht := hA.resolve_left c.1
    exact ⟨Nat.lt_of_le_of_lt (cl_le _ _) hs, cl_keep ok hs hw hb ht.1 ht.2.1⟩
  · exact ⟨hs, hb⟩
theorem sX0_step {σ : Sg} (ok : sOK σ) {h : Hp} (g : gc σ h) {s pl m : Nat} (e1 : zi h 0 26 = nI s) (e2 : zi h 0 27 = nI pl) (e3 : zi h 0 28 = nI m) (hs : s < 2 ^ sN σ) (hpb : 0 < sN σ → pl < sN σ ∧ s.testBit (sO σ pl) = true) (hm : m ≤ sB σ) (x : Int32) :
    wp (X0_step h x) (fun r h' => (0 ≤ x ∧ x ≤ 11 → ¬ isOv σ s m → r = qSr σ s pl m x.toNatClampNeg ∧ zi h' 0 26 = nI (qSs σ s pl m x.toNatClampNeg) ∧ zi h' 0 27 = nI (nxp σ (qSs σ s pl m x.toNatClampNeg) pl) ∧ zi h' 0 28 = nI (m + 1) ∧ fD h h') ∧ (¬ (0 ≤ x ∧ x ≤ 11 ∧ ¬ isOv σ s m) → r = (if 0 ≤ x ∧ x ≤ 11 then -5 else -1) ∧ h' = h)) := by
  have hn := ok.1
  have hb9 := ok.2.2.2.2.1
  have hpw := pow16 hn
  unfold X0_step
  rw [sX0_in, bd_s]
  by_cases c1 : 0 ≤ x ∧ x ≤ 11
  · rw [if_neg (fun z => (pB0.mp z) c1), e1, e3, sX0_isOver h (by omega) (by omega) (by omega) g.2.2.2.1, bd_s]
    by_cases co : isOv σ s m
    · rw [if_neg (fun z => (pB0.mp z) co)]
      exact wp.of rfl ⟨fun _ z => absurd co z, fun _ => ⟨by rw [if_pos c1], rfl⟩⟩
    · rw [if_pos (pB0.mpr co), wp_bd]
      have hn0 : 0 < sN σ := by
        rcases Nat.eq_zero_or_pos (sN σ) with z | z
        · rw [z] at hs
          have : s = 0 := by omega
          exact absurd (Or.inr (by rw [this, pc_0]; omega)) co
        · exact z
      obtain ⟨hp, hb⟩ := hpb hn0
      obtain ⟨v, hv, rfl⟩ := nI_rg (b := 11) (by omega) c1.1 c1.2
      have hw := (ok.2.1 pl hp).1
      have hA := dG_aim ok hs hw hb co
      rw [nI_clamp (by omega)]
      have hq := qSs_p ok (v := v) hs hp hb co
      refine (sX0_findValues ok g).mono ?_
      rintro _ h1 ⟨fr, t⟩
      have g1 := g.fr fr.f0
      have e1' : zi h1 0 26 = nI s := (fr.2.1 0 26 (by decide) (by decide)).trans e1
      have e2' : zi h1 0 27 = nI pl := (fr.2.1 0 27 (by decide) (by decide)).trans e2
      have e3' : zi h1 0 28 = nI m := (fr.2.1 0 28 (by decide) (by decide)).trans e3
      have et := (t m (Nat.zero_le _) (by omega) s hs (by omega) pl hp hb).1
      rw [e1', e2', e3', ck_i (by omega) (by omega), nI_clamp (by omega), g1.2.1 pl hp, nm_u, sX0_at, bd_s, ck_i (by omega) (by omega), nI_clamp (by omega), et, nm_u, nm_u, nm_u]
      -- the end
      have endp : ∀ h2 u, fD h h2 → gc σ h2 → zi h2 0 27 = nI pl → zi h2 0 28 = nI m → u < 2 ^ sN σ → zi h2 0 26 = nI u → u = qSs σ s pl m v → ∀ d : Nat, d = (if dG σ (sB σ - m) s (sO σ pl) ≠ 9 ∧ v < sH σ (sO σ pl) (dG σ (sB σ - m) s (sO σ pl)) (pc s) m then 1 else 0) → wp (bd (X0_nextPlace h2 (zi h2 0 26) (zi h2 0 27)) fun r21 h20 => nm (zsi h20 0 27 r21) fun h22 => nm ((zi h22 0 28) + (1 : Int32) : Int32) fun v23 => nm (zsi h22 0 28 v23) fun h24 => some ((((100 : Int32) * nI (sO σ pl)) + ((10 : Int32) * nI (dG σ (sB σ - m) s (sO σ pl)))) + nI d, h24)) (fun r h' => (0 ≤ nI v ∧ nI v ≤ 11 → ¬ isOv σ s m → r = qSr σ s pl m v ∧ zi h' 0 26 = nI (qSs σ s pl m v) ∧ zi h' 0 27 = nI (nxp σ (qSs σ s pl m v) pl) ∧ zi h' 0 28 = nI (m + 1) ∧ fD h h') ∧ (¬ (0 ≤ nI v ∧ nI v ≤ 11 ∧ ¬ isOv σ s m) → r = (if 0 ≤ nI v ∧ nI v ≤ 11 then -5 else -1) ∧ h' = h)) := by
        intro h2 u f2 g2 b2 b3 hu b1 eu d ed
        rw [b1, b2, sX0_next ok g2 (by omega) hp, bd_s, nm_u, nm_u, nm_u, zi_ne _ _ _ _ (Or.inr (by decide)), b3, nI_1]
        refine wp.of rfl ⟨fun _ _ => ⟨?_, ?_, ?_, zi_eq _ _ _ _, f2.tr ((fD.si (by omega)).tr (fD.si (by omega)))⟩, fun z => absurd ⟨c1.1, c1.2, co⟩ z⟩
        · unfold qSr
          rw [show (100 : Int32) = nI 100 from rfl, show (10 : Int32) = nI 10 from rfl, pk_mul, pk_mul, nI_add, nI_add, ed]
        · rw [zi_ne _ _ _ _ (Or.inr (by decide)), zi_ne _ _ _ _ (Or.inr (by decide)), b1, eu]
        · rw [zi_ne _ _ _ _ (Or.inr (by decide)), zi_eq, eu]
      have h9b : dG σ (sB σ - m) s (sO σ pl) < 2 ^ 31 := by rcases hA with z | z <;> omega
      have miss : ¬ (dG σ (sB σ - m) s (sO σ pl) ≠ 9 ∧ v < sH σ (sO σ pl) (dG σ (sB σ - m) s (sO σ pl)) (pc s) m) → ∀ h2, f7 h1 h2 → wp (if (0 : Int32) = 1 then (nm ((zi h2 0 26) &&& (((1 : Int32) <<< (nI (dG σ (sB σ - m) s (sO σ pl)) &&& 31)) ^^^ (-1 : Int32)) : Int32) fun v26 => nm (zsi h2 0 26 v26) fun h27 => bd (X0_nextPlace h27 (zi h27 0 26) (zi h27 0 27)) fun r21 h20 => nm (zsi h20 0 27 r21) fun h22 => nm ((zi h22 0 28) + (1 : Int32) : Int32) fun v23 => nm (zsi h22 0 28 v23) fun h24 => some ((((100 : Int32) * nI (sO σ pl)) + ((10 : Int32) * nI (dG σ (sB σ - m) s (sO σ pl)))) + 0, h24)) else (bd (X0_nextPlace h2 (zi h2 0 26) (zi h2 0 27)) fun r21 h20 => nm (zsi h20 0 27 r21) fun h22 => nm ((zi h22 0 28) + (1 : Int32) : Int32) fun v23 => nm (zsi h22 0 28 v23) fun h24 => some ((((100 : Int32) * nI (sO σ pl)) + ((10 : Int32) * nI (dG σ (sB σ - m) s (sO σ pl)))) + 0, h24))) (fun r h' => (0 ≤ nI v ∧ nI v ≤ 11 → ¬ isOv σ s m → r = qSr σ s pl m v ∧ zi h' 0 26 = nI (qSs σ s pl m v) ∧ zi h' 0 27 = nI (nxp σ (qSs σ s pl m v) pl) ∧ zi h' 0 28 = nI (m + 1) ∧ fD h h') ∧ (¬ (0 ≤ nI v ∧ nI v ≤ 11 ∧ ¬ isOv σ s m) → r = (if 0 ≤ nI v ∧ nI v ≤ 11 then -5 else -1) ∧ h' = h)) := by
        intro nh h2 f7'
        rw [if_neg (by decide)]
        exact endp h2 s (fr.f0.fD.tr f7'.f0.fD) (g1.fr f7'.f0) ((f7'.2 0 27 (by decide)).trans e2') ((f7'.2 0 28 (by decide)).trans e3') hs ((f7'.2 0 26 (by decide)).trans e1') (by unfold qSs; rw [if_neg nh]) 0 (by rw [if_neg nh])
      by_cases c9 : dG σ (sB σ - m) s (sO σ pl) = 9
      · rw [if_pos (by rw [c9]; rfl)]
        exact miss (fun z => z.1 c9) h1 (f7.rf h1)
      · have ht := hA.resolve_left c9
        rw [if_neg (nI_n9 h9b c9), e1', e3', wp_bd]
        refine (gc.hits ok g1 hw ht.1 (by omega) (by omega)).mono ?_
        rintro y h2 ⟨ey, f7'⟩
        have h12 : sH σ (sO σ pl) (dG σ (sB σ - m) s (sO σ pl)) (pc s) m ≤ 12 := ok.2.2.2.2.2.2 _ _ _ _ _ (ok.2.2.2.1 _ hw).1
        rw [ey]
        by_cases ch : v < sH σ (sO σ pl) (dG σ (sB σ - m) s (sO σ pl)) (pc s) m
        · rw [if_neg (fun z => by have := (nI_leI (by omega) (by omega)).mp z; omega)]
          show wp (nm _ _) _
          rw [nm_u, if_pos rfl, nm_u, nm_u, (f7'.2 0 26 (by decide)).trans e1', b_cl s (by omega) _ (by omega)]
          exact endp _ (cl s (dG σ (sB σ - m) s (sO σ pl))) (fr.f0.fD.tr (f7'.f0.fD.tr (fD.si (by omega)))) ((g1.fr f7'.f0).sD (by omega)) ((zi_ne _ _ _ _ (Or.inr (by decide))).trans ((f7'.2 0 27 (by decide)).trans e2')) ((zi_ne _ _ _ _ (Or.inr (by decide))).trans ((f7'.2 0 28 (by decide)).trans e3')) (Nat.lt_of_le_of_lt (cl_le _ _) hs) (zi_eq _ _ _ _) (by unfold qSs; rw [if_pos ⟨c9, ch⟩]) 1 (by rw [if_pos ⟨c9, ch⟩])
        · rw [if_pos ((nI_leI (by omega) (by omega)).mpr (by omega))]
          exact miss (fun z => ch z.2) h2 f7'
  · rw [if_pos (pB0.mpr c1)]
    exact wp.of rfl ⟨fun z => absurd z c1, fun _ => ⟨by rw [if_neg c1], rfl⟩⟩
