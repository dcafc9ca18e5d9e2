/-! judge, chance: the class's loop, the model -/
theorem lp_g1 {σ : Sg} (ok : sOK σ) {c : Nat → Int32} {l a ra : Nat} {h0 : Hp} (q1 : zt h0 a = 23) (q2 : zr h0 a 0 = some ra) (q3 : zn h0 ra = l) (hl : l ≤ 60) (hra : 42 ≤ ra) (q4 : ∀ i, i < l → zi h0 ra i = c i ∧ iFt 0 (zi h0 ra i)) : ∀ f k s pl o p q N h, gc σ h → tC σ h 0 → f0 h0 h → zi h 0 19 = nI s → zi h 0 20 = nI pl → zi h 0 21 = nI k → zi h 0 22 = -2 → zi h 0 23 = o → zj h 0 24 = p → zj h 0 25 = q → s < 2 ^ sN σ → (0 < sN σ → pl < sN σ ∧ s.testBit (sO σ pl) = true) → l ≤ 2 * (f + k) → k + f ≤ 31 → f + 1 < N → wp (zfix (fun _ _ => none) (X0_goThrough_b46 (some a)) N h (nI k)) (fun _ h' => f0 h0 h' ∧ (zi h' 0 22, zi h' 0 23, zj h' 0 24, zj h' 0 25) = gT σ c l f k s pl o p q) := by
  have row : ∀ h, f0 h0 h → zt h a = 23 ∧ zr h a 0 = some ra ∧ zn h ra = l ∧ ∀ i, i < l → zi h ra i = c i ∧ iFt 0 (zi h ra i) := by
    intro h fr
    have er : zr h = zr h0 := congrArg (fun x => x.1) fr.1
    have et : zt h = zt h0 := congrArg (fun x => x.2.1) fr.1
    have en : zn h = zn h0 := congrArg (fun x => x.2.2.1) fr.1
    refine ⟨by rw [et]; exact q1, by rw [er]; exact q2, by rw [en]; exact q3, fun i hi => ?_⟩
    rw [fr.2.1 ra i (by omega) (by omega) (by omega)]
    exact q4 i hi
  have siz : ∀ h, f0 h0 h → X23_size h a = some (nI l, h) := by
    intro h fr
    obtain ⟨_, r2, r3, _⟩ := row h fr
    unfold X23_size
    rw [nm_u, r2, dr_s, r3]
  have stop : ∀ N h k b, f0 h0 h → b < 100 → zi h 0 22 = nI b → zfix (fun _ _ => none) (X0_goThrough_b46 (some a)) (N + 1) h (nI k) = some ((), h) := by
    intro N h k b fr hb e
    rw [zfix_s, X0_goThrough_b46, dr_s, siz h fr, bd_s, e]
    by_cases z : nI l ≤ (2 : Int32) * nI k
    · rw [if_pos z]
    · rw [if_neg z, if_pos (nI_pos' (by omega))]
  intro f
  induction f with
  | zero =>
    intro k s pl o p q N h g t fr _ _ _ e22 e23 e24 e25 _ _ hf _ hN
    obtain ⟨N, rfl⟩ : ∃ M, N = M + 1 := ⟨N - 1, by omega⟩
    rw [zfix_s, X0_goThrough_b46, dr_s, siz h fr, bd_s, if_pos (by rw [show (2 : Int32) = nI 2 from rfl, pk_mul, nI_leI (by omega) (by omega)]; omega), wp_s]
    exact ⟨fr, by rw [e22, e23, e24, e25]; rfl⟩
  | succ f ih =>
    intro k s pl o p q N h g t fr e19 e20 e21 e22 e23 e24 e25 hs hpb hf hkf hN
    obtain ⟨N, rfl⟩ : ∃ M, N = M + 1 + 1 := ⟨N - 2, by omega⟩
    obtain ⟨r1, r2, r3, r4⟩ := row h fr
    rw [zfix_s, X0_goThrough_b46, dr_s, siz h fr, bd_s, show (2 : Int32) * nI k = nI (2 * k) from pk_mul 2 k, gT]
    by_cases c1 : l ≤ 2 * k
    · rw [if_pos (by rw [nI_leI (by omega) (by omega)]; exact c1), if_pos c1, wp_s]
      exact ⟨fr, by rw [e22, e23, e24, e25]⟩
    · rw [if_neg (by rw [nI_leI (by omega) (by omega)]; exact c1), if_neg c1, e22, if_neg (by decide), siz h fr, bd_s, nm_u, nm_u, nI_1]
      -- a bad one
      have bad : ∀ h1, f7 h h1 → ¬ (2 * k + 1 < l ∧ gOk σ s pl k (c (2 * k)) (c (2 * k + 1))) → wp (nm (zsi h1 0 22 (nI k)) fun h27 => (fun h22 => nm (nI k + (1 : Int32)) fun v24 => zfix (fun _ _ => none) (X0_goThrough_b46 (some a)) (N + 1) h22 v24) h27) (fun _ h' => f0 h0 h' ∧ (zi h' 0 22, zi h' 0 23, zj h' 0 24, zj h' 0 25) = @ite _ (2 * k + 1 < l ∧ gOk σ s pl k (c (2 * k)) (c (2 * k + 1))) (Classical.propDecidable _) (gT σ c l f (k + 1) (gS s (c (2 * k)) (c (2 * k + 1))) (nxp σ (gS s (c (2 * k)) (c (2 * k + 1))) pl) (gO σ s pl k (c (2 * k)) o) (gP σ s pl k (c (2 * k)) (c (2 * k + 1)) p) (gQ (c (2 * k)) q)) (nI k, o, p, q)) := by
        intro h1 f7' nb
        rw [nm_u]
        show wp (nm (nI k + (1 : Int32)) _) _
        rw [nm_u, nI_1, stop N _ _ k ((fr.tr f7'.f0).tr (f0.s19 (by omega))) (by omega) (zi_eq _ _ _ _), wp_s, if_neg nb]
        refine ⟨(fr.tr f7'.f0).tr (f0.s19 (by omega)), ?_⟩
        rw [zi_eq, zi_ne _ _ _ _ (Or.inr (by decide)), f7'.2 0 23 (by decide), e23, zj_si, f7'.zj, e24, e25]
      by_cases c2 : l ≤ 2 * k + 1
      · rw [if_pos (by rw [nI_leI (by omega) (by omega)]; exact c2)]
        exact bad h (f7.rf h) (fun z => by omega)
      · have x1 := (X23a r1 r2 r3 hl (show 2 * k < l by omega) (r4 _ (by omega)).2).1
        have x2 := (X23a r1 r2 r3 hl (show 2 * k + 1 < l by omega) (r4 _ (by omega)).2).1
        rw [if_neg (by rw [nI_leI (by omega) (by omega)]; exact c2), x1, bd_s, x2, bd_s, i3264, i3264, (r4 (2 * k) (by omega)).1, (r4 (2 * k + 1) (by omega)).1, wp_bd]
        refine (sX0_goes ok g t e19 e20 e21 hs hpb (by omega) _ _).mono ?_
        rintro r h1 (⟨gk, er, G⟩ | ⟨gk, er, f7'⟩)
        · rw [er, if_neg (by decide), if_pos ⟨by omega, gk⟩]
          show wp (nm (nI k + (1 : Int32)) _) _
          rw [nm_u, nI_1]
          obtain ⟨G1, G2, G3, G4, G5, G6, G7, G8, G9⟩ := G
          have h0' : 0 < sN σ := by
            rcases Nat.eq_zero_or_pos (sN σ) with z | z
            · rw [z] at hs
              have : s = 0 := by omega
              subst this
              exact absurd (Or.inr (show pc 0 ≤ 1 by decide)) gk.1
            · exact z
          obtain ⟨hp, hb⟩ := hpb h0'
          have sp : gS s (c (2 * k)) (c (2 * k + 1)) < 2 ^ sN σ ∧ (gS s (c (2 * k)) (c (2 * k + 1))).testBit (sO σ pl) = true := by
            unfold gS
            by_cases cy : c (2 * k + 1) = 1
            · rw [if_pos cy]
              rcases gk.2.2 with ⟨_, z⟩ | ⟨_, t', h1', h2, h3, _⟩
              · rw [cy] at z; exact absurd z (by decide)
              · have := ok.1
                rw [h2, nI_clamp (by omega)]
                exact ⟨Nat.lt_of_le_of_lt (cl_le _ _) hs, cl_keep ok hs (ok.2.1 pl hp).1 hb h1' h3⟩
            · rw [if_neg cy]; exact ⟨hs, hb⟩
          exact ih (k + 1) _ _ _ _ _ (N + 1) h1 (g.fr G1) G2 (fr.tr G1) G3 G4 G5 (G6.trans e22) (by rw [G7, e23]) (by rw [G8, e24]) (by rw [G9, e25]) sp.1 (fun _ => ⟨nxp_lt hp, nxp_bit hp sp.2⟩) (by omega) (by omega) (by omega)
        · rw [er, if_pos rfl]
          exact bad h1 f7' (fun z => gk z.2)
theorem sX0_gT {σ : Sg} (ok : sOK σ) {c : Nat → Int32} {l a ra : Nat} {h : Hp} (g : gc σ h) (q1 : zt h a = 23) (q2 : zr h a 0 = some ra) (q3 : zn h ra = l) (hl : l ≤ 60) (hra : 42 ≤ ra) (q4 : ∀ i, i < l → zi h ra i = c i ∧ iFt 0 (zi h ra i)) : wp (X0_goThrough h (some a)) (fun _ h' => f0 h h' ∧ (zi h' 0 22, zi h' 0 23, zj h' 0 24, zj h' 0 25) = gT σ c l 31 0 (2 ^ sN σ - 1) 0 (-2) 1 1) := by
  have hn := ok.1
  unfold X0_goThrough
  rw [wp_bd]
  refine (sX0_findValues ok g).mono ?_
  rintro _ h1 ⟨fv, t⟩
  have g1 := g.fr fv.f0
  rw [sX0_all _ hn g1.1, bd_s, nm_u, nm_u, nm_u, nm_u, nm_u, nm_u, nm_u]
  have F : f0 h1 (zsi (zsi (zsj (zsj (zsi (zsi (zsi h1 0 19 (nI (2 ^ sN σ - 1))) 0 20 0) 0 21 0) 0 24 1) 0 25 1) 0 22 (-2)) 0 23 (-2)) := ((((((f0.s19 (by omega)).tr (f0.s19 (by omega))).tr (f0.s19 (by omega))).tr (f0.sj (by omega))).tr (f0.sj (by omega))).tr (f0.s19 (by omega))).tr (f0.s19 (by omega))
  have R : fV h h1 := fv
  have er : zr h1 = zr h := congrArg (fun x => x.1) fv.1
  have et : zt h1 = zt h := congrArg (fun x => x.2.1) fv.1
  have en : zn h1 = zn h := congrArg (fun x => x.2.2.1) fv.1
  refine (lp_g1 ok (h0 := h) (a := a) (ra := ra) q1 q2 q3 hl hra q4 31 0 (2 ^ sN σ - 1) 0 (-2) 1 1 zFU _ (g1.fr F) (tC.s0 (tC.s0 (tC.j0 (tC.j0 (tC.s0 (tC.s0 (tC.s0 t))))))) (fv.f0.tr F) rfl rfl rfl rfl rfl rfl rfl (all_lt σ) (fun z => ⟨z, allb ok z⟩) (by omega) (by omega) (by rw [zFU_u]; omega)).mono ?_
  rintro _ h' q
  exact q
/-! the model -/
theorem f2.s29 {h : Hp} {k : Nat} {v : Int32} (hk : k = 29 ∨ k = 30) : f2 h (zsi h 17 k v) := ⟨rfl, fun a b _ _ _ h4 => zi_ne _ _ _ _ (by
  by_cases z : a = 17
  · right; intro y; exact h4 ⟨z, by omega⟩
  · left; exact z), fun _ _ _ _ _ _ _ => rfl⟩
theorem f2.j17 {h : Hp} {k : Nat} {v : Int64} : f2 h (zsj h 17 k v) := ⟨rfl, fun _ _ _ _ _ _ => rfl, fun _ _ _ _ _ _ h5 => zj_ne _ _ _ _ (Or.inl h5)⟩
theorem tM.s17 {σ : Sg} {h : Hp} {lo k : Nat} {v : Int32} (t : tM σ h lo) : tM σ (zsi h 17 k v) lo := fun m h1 h2 s h3 w h4 h5 => ⟨(zi_ne _ _ _ _ (Or.inl (by decide))).trans (t m h1 h2 s h3 w h4 h5).1, (zi_ne _ _ _ _ (Or.inl (by decide))).trans (t m h1 h2 s h3 w h4 h5).2.1, (t m h1 h2 s h3 w h4 h5).2.2⟩
theorem tM.j17 {σ : Sg} {h : Hp} {lo k : Nat} {v : Int64} (t : tM σ h lo) : tM σ (zsj h 17 k v) lo := fun m h1 h2 s h3 w h4 h5 => ⟨(t m h1 h2 s h3 w h4 h5).1, (t m h1 h2 s h3 w h4 h5).2.1, fun p hp => (zj_ne _ _ _ _ (Or.inl (by decide))).trans ((t m h1 h2 s h3 w h4 h5).2.2 p hp)⟩
def lNo (k52 : Hp → Int32 → Int32 → Int32 → Option (Unit × Hp)) (v13 v14 v15 : Int32) (h34 : Hp) : Option (Unit × Hp) := nm (zsi h34 17 29 v15) fun h36 => nm (v15 + (1 : Int32) : Int32) fun v33 => k52 h36 v13 v14 v33
def lTl (k52 : Hp → Int32 → Int32 → Int32 → Option (Unit × Hp)) (v13 v14 v15 : Int32) (v21 v27 : Int64) (h38 : Hp) : Option (Unit × Hp) := (nm (fun (h41 : Hp) (v42 : Int32) => nm (zsi h41 17 30 v42) fun h44 => nm (fun (h45 : Hp)  => nm (fun (h47 : Hp) (v48 : Int32) => bd (X2_nextOf h47 v14 v48) fun r51 h50 => nm (v15 + (1 : Int32) : Int32) fun v33 => k52 h50 v48 r51 v33) fun j290_49 => if v27 = (1 : Int64) then (j290_49 h45 (v13 &&& (((1 : Int32) <<< (v21.toInt32 &&& 31)) ^^^ (-1 : Int32)))) else (j290_49 h45 v13)) fun j270_46 => if v21 = (9 : Int64) then (j270_46 h44 ) else (bd (X2_bitsOf h44 v13) fun r55 h54 => bd (X2_hitsOf h54 v14 v21.toInt32 r55 v15) fun r57 h56 => nm (fun (h58 : Hp) (v59 : Int64) => nm ((zj h56 17 31) * v59 : Int64) fun v61 => nm (zsj h58 17 31 v61) fun h62 => nm ((zj h62 17 32) * (12 : Int64) : Int64) fun v63 => nm (zsj h62 17 32 v63) fun h64 => j270_46 h64 ) fun j254_60 => if v27 = (1 : Int64) then (j254_60 h56 r57.toInt64) else (j254_60 h56 (((12 : Int32) - r57).toInt64)))) fun j202_43 => nm (fun (h66 : Hp)  => j202_43 h66 (zi h66 17 30)) fun j198_67 => if 0 ≤ (zi h38 17 30) then (j198_67 h38 ) else (bd (X2_stateOf h38 v15 v13 v14) fun r70 h69 => ck (0 ≤ r70.toInt ∧ r70.toInt < 640) <| if ((zi h69 31 r70.toNatClampNeg).toInt64) = v21 then (j198_67 h69 ) else (j202_43 h69 v15)))
theorem looks_e (x1 : Int32) (k52 : Hp → Int32 → Int32 → Int32 → Option (Unit × Hp)) (h : Hp) (v13 v14 v15 : Int32) : X2_looksAt_b52 x1 k52 h v13 v14 v15 = (ck (0 ≤ x1.toInt ∧ x1.toInt < 6) <| if (zi h 39 x1.toNatClampNeg) ≤ ((2 : Int32) * v15) then (some ((), h)) else (if 0 ≤ (zi h 17 29) then (some ((), h)) else (ck (0 ≤ (((60 : Int32) * x1) + ((2 : Int32) * v15)).toInt ∧ (((60 : Int32) * x1) + ((2 : Int32) * v15)).toInt < 360) <| ck (0 ≤ x1.toInt ∧ x1.toInt < 6) <| if (zi h 39 x1.toNatClampNeg) ≤ (((2 : Int32) * v15) + (1 : Int32)) then lNo k52 v13 v14 v15 h else (ck (0 ≤ ((((60 : Int32) * x1) + ((2 : Int32) * v15)) + (1 : Int32)).toInt ∧ ((((60 : Int32) * x1) + ((2 : Int32) * v15)) + (1 : Int32)).toInt < 360) <| bd (X2_mayThrow h v15 v13 v14 (zj h 40 (((60 : Int32) * x1) + ((2 : Int32) * v15)).toNatClampNeg) (zj h 40 ((((60 : Int32) * x1) + ((2 : Int32) * v15)) + (1 : Int32)).toNatClampNeg)) fun r39 h38 => if r39 = 0 then lNo k52 v13 v14 v15 h38 else lTl k52 v13 v14 v15 (zj h 40 (((60 : Int32) * x1) + ((2 : Int32) * v15)).toNatClampNeg) (zj h 40 ((((60 : Int32) * x1) + ((2 : Int32) * v15)) + (1 : Int32)).toNatClampNeg) h38)))) := by
  unfold X2_looksAt_b52
  by_cases c : (zi h 39 x1.toNatClampNeg) ≤ (((2 : Int32) * v15) + (1 : Int32))
  · simp only [if_pos c]; rfl
  · simp only [if_neg c]; rfl
