/-! just -/
abbrev isSt (σ : Sg) (x : Int32) : Prop := 0 ≤ x ∧ x ≤ nI (2 ^ sN σ - 1)
def vJust (σ : Sg) (x : Int32) : Int64 := if 0 ≤ x then dU σ 0 (eK 2 x.toNatClampNeg 0) (sB σ) (2 ^ sN σ - 1) (sO σ 0) else dU σ 1 (fun _ => 0) (sB σ) (2 ^ sN σ - 1) (sO σ 0)
def qJust (σ : Sg) (x y : Int32) : Int64 := if x = -1 ∨ isSt σ x then (if 0 ≤ y ∧ y ≤ 1 then (if sN σ = 0 then (if 0 ≤ x then 1 else y.toInt64) else qPart (vJust σ x).toNatClampNeg (12 ^ sB σ) y) else -9223372036854775808) else -9223372036854775808
theorem m1_neg : ¬ (0 : Int32) ≤ -1 := by decide
theorem vJust_n {σ : Sg} (ok : sOK σ) (hn0 : 0 < sN σ) (x : Int32) : ∃ v, v < 2 ^ 62 ∧ vJust σ x = lN v := by
  unfold vJust
  split
  · exact dU_n ok hn0 (c' := 0) rfl (by omega) (eK_b _ _ (by omega))
  · exact dU_n ok hn0 (c' := 1) rfl (by omega) (fun _ => ⟨0, by omega, rfl⟩)
theorem sX0_isSt {σ : Sg} (ok : sOK σ) {h : Hp} (g : gc σ h) (x : Int32) : X0_isSet h x = some (pB (isSt σ x), h) := by
  unfold X0_isSet; rw [sX0_all h ok.1 g.1, bd_s, sX0_in, bd_s]
theorem lX0_just {σ : Sg} (ok : sOK σ) {h : Hp} (g : gc σ h) {x y : Int32} (hx : x = -1 ∨ isSt σ x) : wp (bd (X0_in h y (0 : Int32) (1 : Int32)) fun r4 h3 => if r4 = 0 then (some ((-9223372036854775808 : Int64), h3)) else (if (zi h3 0 3) = 0 then (if 0 ≤ x then (some ((1 : Int64), h3)) else (if y = 0 then (some ((0 : Int64), h3)) else (some ((1 : Int64), h3)))) else (bd (X0_findEnds h3 ) fun _ h7 => nm (fun (h9 : Hp) (v10 : Int64) => ck (0 ≤ (zi h9 0 4).toInt ∧ (zi h9 0 4).toInt < 10) <| bd (X0_part h9 v10 (zj h9 10 (zi h9 0 4).toNatClampNeg) y) fun r14 h13 => some (r14, h13)) fun j68_11 => if 0 ≤ x then (ck (0 ≤ x.toInt ∧ x.toInt < 16) <| j68_11 h7 (zj h7 12 x.toNatClampNeg)) else (j68_11 h7 (zj h7 0 17))))) (fun r h' => r = qJust σ x y ∧ f0 h h') := by
  have hn := ok.1
  have hb9 := ok.2.2.2.2.1
  have hpw := pow16 hn
  have hal := all_lt σ
  obtain ⟨hu, hu0⟩ := p12 _ hb9
  unfold qJust
  rw [if_pos hx, sX0_in, bd_s]
  by_cases c2 : 0 ≤ y ∧ y ≤ 1
  · rw [if_neg (fun z => (pB0.mp z) c2), if_pos c2, g.1]
    by_cases c0 : sN σ = 0
    · rw [if_pos (by rw [c0]; rfl), if_pos c0]
      by_cases cx : 0 ≤ x
      · rw [if_pos cx, if_pos cx]; exact wp.of rfl ⟨rfl, f0.rf h⟩
      · rw [if_neg cx, if_neg cx]
        rcases z01 c2 with rfl | rfl
        · rw [if_pos rfl]; exact wp.of rfl ⟨by decide, f0.rf h⟩
        · rw [if_neg (by decide)]; exact wp.of rfl ⟨by decide, f0.rf h⟩
    · rw [if_neg (nI_n0 (by omega) c0), if_neg c0, wp_bd]
      obtain ⟨v, hv, ev⟩ := vJust_n ok (by omega) x
      have fin : ∀ h1 w, f0 h h1 → w = vJust σ x → wp (ck (0 ≤ (zi h1 0 4).toInt ∧ (zi h1 0 4).toInt < 10) (bd (X0_part h1 w (zj h1 10 (zi h1 0 4).toNatClampNeg) y) fun r14 h13 => some (r14, h13))) (fun r h' => r = qPart (vJust σ x).toNatClampNeg (12 ^ sB σ) y ∧ f0 h h') := by
        intro h1 w fr ew
        have g1 := g.fr fr
        rw [g1.2.2.2.1, ck_i (by omega) (by omega), nI_clamp (by omega), g1.2.2.2.2.2.1 _ (by omega), ew, ev, sX0_part h1 hv hu hu0, bd_s, lN_nat (by omega)]
        exact wp.of rfl ⟨rfl, fr⟩
      by_cases cx : 0 ≤ x
      · have hs := hx.resolve_left (fun z => by rw [z] at cx; exact m1_neg cx)
        obtain ⟨s, hs1, rfl⟩ := nI_rg (by omega) hs.1 hs.2
        refine (sX0_findEnds ok g (by omega) 0 (eK 2 s 0)).mono ?_
        rintro _ h1 ⟨fr, t, su⟩
        rw [Int64.zero_mul, Int64.zero_add] at su
        have e2 : (fun s' => zj h1 12 s' * eK 2 s 0 s') = (fun s' => zj h1 12 s' * (if s' = s then 1 else 0)) := rfl
        rw [e2, sumJ_pick (f := fun s' => zj h1 12 s') _ (by omega)] at su
        rw [nm_u, if_pos cx, ck_i (by omega) (by omega), nI_clamp (by omega)]
        refine fin h1 _ fr ?_
        unfold vJust
        rw [if_pos cx, nI_clamp (by omega), ← su]
      · refine (sX0_findEnds ok g (by omega) 1 (fun _ => 0)).mono ?_
        rintro _ h1 ⟨fr, t, su⟩
        rw [Int64.one_mul, sumJ_0 _ (fun i _ => Int64.mul_zero), Int64.add_zero] at su
        rw [nm_u, if_neg cx]
        refine fin h1 _ fr ?_
        unfold vJust
        rw [if_neg cx, ← su]
  · rw [if_pos (pB0.mpr c2), if_neg c2]; exact wp.of rfl ⟨rfl, f0.rf h⟩
theorem sX0_just {σ : Sg} (ok : sOK σ) {h : Hp} (g : gc σ h) (x y : Int32) : wp (X0_just h x y) (fun r h' => r = qJust σ x y ∧ f0 h h') := by
  unfold X0_just
  rw [nm_u]
  by_cases cx : x = -1
  · rw [if_pos cx]
    exact lX0_just ok g (Or.inl cx)
  · rw [if_neg cx, sX0_isSt ok g, bd_s]
    by_cases cs : isSt σ x
    · rw [if_neg (fun z => (pB0.mp z) cs)]
      exact lX0_just ok g (Or.inr cs)
    · rw [if_pos (pB0.mpr cs)]
      refine wp.of rfl ⟨?_, f0.rf h⟩
      unfold qJust
      rw [if_neg (fun z => z.elim cx cs)]
theorem m1_le {x : Int32} {y : Int32} (hy : 0 ≤ y) : (-1 ≤ x ∧ x ≤ y) ↔ (x = -1 ∨ (0 ≤ x ∧ x ≤ y)) := by
  have e1 : (-1 : Int32).toInt = -1 := by decide
  have e0 : (0 : Int32).toInt = 0 := by decide
  constructor
  · rintro ⟨h1, h2⟩
    rw [Int32.le_iff_toInt_le, e1] at h1
    by_cases c : x.toInt = -1
    · left; rw [← Int32.toInt_inj, e1]; exact c
    · right; exact ⟨by rw [Int32.le_iff_toInt_le, e0]; omega, h2⟩
  · rintro (rfl | ⟨h1, h2⟩)
    · refine ⟨Int32.le_refl _, ?_⟩
      rw [Int32.le_iff_toInt_le, e0] at hy
      rw [Int32.le_iff_toInt_le, e1]; omega
    · refine ⟨?_, h2⟩
      rw [Int32.le_iff_toInt_le, e0] at h1
      rw [Int32.le_iff_toInt_le, e1]; omega
theorem sX2_just {σ : Sg} (ok : sOK σ) {h : Hp} (g : gm σ h) (x y : Int32) : wp (X2_just h x y) (fun r h' => r = qJust σ x y ∧ f2 h h') := by
  have hn := ok.1
  have hb9 := ok.2.2.2.2.1
  have hpw := pow16 hn
  have hal := all_lt σ
  obtain ⟨hu, hu0⟩ := p12 _ hb9
  unfold X2_just qJust
  rw [sX2_allN h hn g.1, bd_s, show (-1 : Int64) = (-1 : Int32).toInt64 from by decide, sX2_wi, bd_s]
  have hiff := m1_le (x := x) (y := nI (2 ^ sN σ - 1)) (nI_pos' (by omega))
  by_cases cx : x = -1 ∨ isSt σ x
  · rw [if_neg (fun z => (pB0.mp z) (hiff.mpr cx)), if_pos cx, show (0 : Int64) = (0 : Int32).toInt64 from by decide, show (1 : Int64) = (1 : Int32).toInt64 from by decide, sX2_wi, bd_s]
    by_cases c2 : 0 ≤ y ∧ y ≤ 1
    · rw [if_neg (fun z => (pB0.mp z) c2), if_pos c2, nm_u]
      have fin : ∀ w h1 n v, f2 h h1 → pw12 h1 → n < 2 ^ 62 → w = lN n → qPart n (12 ^ sB σ) y = v → wp (bd (X2_partOf h1 w y) fun r13 h12 => some (r13, h12)) (fun r h' => r = v ∧ f2 h h') := by
        intro w h1 n v fr pw hn' ew ev
        rw [ew, sX2_partOf ok (g.fr fr) pw hn' (z01 c2), bd_s]
        exact wp.of rfl ⟨ev, fr⟩
      by_cases cm : x = -1
      · rw [if_pos cm, wp_bd]
        refine (show wp (X2_valueOf h (3 : Int32) (0 : Int32)) _ from sX2_valueOf ok g (kind := 3) (asked := 0) (by omega) (by omega) (fun z => by omega)).mono ?_
        rintro w h1 ⟨ew, fr, pw⟩
        by_cases c0 : sN σ = 0
        · rw [if_pos c0, if_neg (by rw [cm]; exact m1_neg)]
          refine fin w h1 0 _ fr pw (by omega) (by rw [ew]; unfold qV; rw [if_pos c0, if_neg (by decide)]; rfl) ?_
          unfold qPart
          rw [Nat.gcd_zero_left]
          rcases z01 c2 with rfl | rfl
          · rw [if_pos rfl, pk_lDiv (by omega) hu0 (by omega), Nat.zero_div]; rfl
          · rw [if_neg (by decide), pk_lDiv (by omega) hu0 (by omega), Nat.div_self hu0]; rfl
        · rw [if_neg c0]
          obtain ⟨v, hv, ev⟩ := vJust_n ok (by omega) x
          refine fin w h1 v _ fr pw hv ?_ (by rw [ev, lN_nat (by omega)])
          rw [← ev, ew]
          unfold qV vJust
          rw [if_neg c0, if_neg (by rw [cm]; exact m1_neg)]
          have e3 : eK 3 0 = fun m _ => lN m := rfl
          rw [e3, dQ_3 ok _ _ _ (Nat.le_refl _) (ok.2.1 0 (by omega)).1, Nat.sub_self, show lN 0 = (0 : Int64) from rfl, Int64.zero_mul, Int64.add_zero]
      · have cs := cx.resolve_left cm
        obtain ⟨s, hs1, rfl⟩ := nI_rg (by omega) cs.1 cs.2
        rw [if_neg cm, wp_bd]
        refine (show wp (X2_valueOf h (2 : Int32) (nI s)) _ from sX2_valueOf ok g (kind := 2) (asked := s) (by omega) (by omega) (fun z => by omega)).mono ?_
        rintro w h1 ⟨ew, fr, pw⟩
        by_cases c0 : sN σ = 0
        · rw [if_pos c0, if_pos cs.1]
          refine fin w h1 (12 ^ sB σ) _ fr pw hu (by rw [ew]; unfold qV; rw [if_pos c0, if_pos rfl]) ?_
          unfold qPart
          rw [Nat.gcd_self]
          split
          · rw [pk_lDiv (by omega) hu0 (by omega), Nat.div_self hu0]; rfl
          · rw [pk_lDiv (by omega) hu0 (by omega), Nat.div_self hu0]; rfl
        · rw [if_neg c0]
          obtain ⟨v, hv, ev⟩ := vJust_n ok (by omega) (nI s)
          refine fin w h1 v _ fr pw hv ?_ (by rw [ev, lN_nat (by omega)])
          rw [← ev, ew]
          unfold qV vJust
          rw [if_neg c0, if_pos cs.1, nI_clamp (by omega), eK_c (by omega), dQ_0]
    · rw [if_pos (pB0.mpr c2), if_neg c2]; exact wp.of rfl ⟨rfl, f2.rf h⟩
  · rw [if_pos (pB0.mpr (fun z => cx (hiff.mp z))), if_neg cx]; exact wp.of rfl ⟨rfl, f2.rf h⟩
