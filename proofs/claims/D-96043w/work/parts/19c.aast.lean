/-! a reference is stored in an array of references -/
section ZAast
variable {p : Program} {l : Launch} {e : Env} {R : Room} {s : State} {m : MethodId} {args : Array Value} {below : List Frame} {meth : Method} {c : Code} {Q : State → Prop}
variable {D : va_G} {tA : Nat → ClassId} {B nL c0 s0 : Nat} {ad : Nat → Nat} {kn : State → Prop} {own : String} {cc : ByteArray} {ret : Option FieldType}
variable {pc : Nat} {h h1 h0 : Hp} {lv : List (Nat × Value)} {st : List Value}
theorem z_aast {q t j : Nat} {E : String} {i : Int32} {x : Option Nat} (F : ZF p s m args meth c D tA B nL kn own cc ret) (hj : (ztys tA)[j]? = some (tA j, .object E)) (htj : t = 100 + j) (h5 : 105 ≤ t) (hd : decode cc pc = .ok (.aastore, 1)) (hq : q < zx h) (ht : zt h q = t) (hi : vp_in i (zn h q))
    (hx : ∀ a, x = some a → ∃ ci C T N, a < zx h ∧ zt h a = ci ∧ ci < 100 ∧ zcl[ci]? = some (C, T, N) ∧ (C = E ∨ Cond.castable C E ∈ zNW))
    (kk : ZW p l e R s m args below meth c Q D tA B nL c0 s0 ad (pc + 1) (zsr h q i.toNatClampNeg x) lv st) : ZW p l e R s m args below meth c Q D tA B nL c0 s0 ad pc h lv (va_re ad x :: .int i :: .ref (ad q) :: st) := by
  intro H locs ls hw hl
  have ha : (zwl tA h ad)[q]? = some (ad q, .inl (tA j, zn h q, .inr (.inr (.inr (.inr (fun k => (zr h q k).map ad)))))) := by
    rw [z_at hq ht (by omega), htj, Nat.add_sub_cancel_left]
    unfold zar
    rw [if_neg (by omega), if_neg (by omega)]
  have hen : zen tA (zsr h q i.toNatClampNeg x) ad q = .inl (tA j, zn h q, .inr (.inr (.inr (.inr (va_up (fun k => (zr h q k).map ad) i.toNatClampNeg (x.map ad)))))) := by
    rw [zen_arr (h' := zsr h q i.toNatClampNeg x) (n := zn h q) (t := t) ht (by omega) rfl rfl, htj, Nat.add_sub_cancel_left]
    congr 3
    unfold zar
    rw [if_neg (by omega), if_neg (by omega)]
    congr 4
    funext k
    show (zu2 h.2.2.1 q i.toNatClampNeg x q k).map ad = va_up _ _ _ k
    unfold zu2 va_up
    by_cases hk : k = i.toNatClampNeg
    · simp [hk]
    · simp [hk]; rfl
  have go : ∀ (H1 : Heap) (locs1 : List Loc), va_P D zcl ((zwl tA h ad).set q (ad q, .inl (tA j, zn h q, .inr (.inr (.inr (.inr (va_up (fun k => (zr h q k).map ad) i.toNatClampNeg (x.map ad)))))))) H1 → va_D (fun q => B ≤ q) ((zwl tA h ad).set q (ad q, .inl (tA j, zn h q, .inr (.inr (.inr (.inr (va_up (fun k => (zr h q k).map ad) i.toNatClampNeg (x.map ad)))))))) → va_S (fun q => B ≤ q) s.heap H1 locs1 → W p l e R s m args below meth c H1 locs1 (zc h - c0) (zs h - s0) Q (F0 m (pc + 1) ls st) := by
    intro H1 locs1 a1 a2 a3
    exact kk H1 locs1 ls (zWd_set (h := h) (h' := zsr h q i.toNatClampNeg x) rfl (fun q' _ hq' => zen_sr hq') hen a1 a2 a3) hl
  cases x with
  | none => exact va_astqN F.x F.b F.K hw.1 hw.2.1 hw.2.2 q j ha hj hi hd go
  | some a =>
    obtain ⟨ci, C, T, N, hl1, htg, hci, hc, hw2⟩ := hx a rfl
    have hv : (zwl tA h ad)[a]? = some (ad a, .inr (ci, zfs h ad a (zft ci))) := by rw [zwl_at hl1, zen_o htg hci]
    rcases hw2 with rfl | hw2
    · exact va_astq F.x F.b F.K hw.1 hw.2.1 hw.2.2 q j a ci ha hj hv hc hi hd go
    · exact va_astqO F.x F.b F.K hw.1 hw.2.1 hw.2.2 q j a ci ha hj (F.N _ hw2) hv hc hi hd go
end ZAast
