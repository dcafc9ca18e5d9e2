/-! arrays that are made; short and boolean arrays -/
theorem zar_new {h : Hp} {u : Nat → Nat} {t n w : Nat} : zar (zne h t n w) u (zx h) t = if t < 104 then .inl (fun _ => 0) else if t = 104 then .inr (.inl (fun _ => 0)) else .inr (.inr (.inr (.inr (fun _ => none)))) := by
  unfold zar
  rw [show zi (zne h t n w) (zx h) = fun _ => 0 by show zu1 h.1 (zx h) (fun _ => 0) (zx h) = _; simp [zu1], show zj (zne h t n w) (zx h) = fun _ => 0 by show zu1 h.2.1 (zx h) (fun _ => 0) (zx h) = _; simp [zu1], show zr (zne h t n w) (zx h) = fun _ => none by show zu1 h.2.2.1 (zx h) (fun _ => none) (zx h) = _; simp [zu1]]
  rfl
theorem zen_newa {tA : Nat → ClassId} {h : Hp} {u : Nat → Nat} {t n w : Nat} (ht : 100 ≤ t) : zen tA (zne h t n w) u (zx h) = .inl (tA (t - 100), n, if t < 104 then .inl (fun _ => 0) else if t = 104 then .inr (.inl (fun _ => 0)) else .inr (.inr (.inr (.inr (fun _ => none))))) := by
  have e0 : zt (zne h t n w) (zx h) = t := by show zu1 _ (zx h) t (zx h) = t; simp [zu1]
  have e1 : zn (zne h t n w) (zx h) = n := by show zu1 _ (zx h) n (zx h) = n; simp [zu1]
  rw [zen_a e0 ht, e1, zar_new]
section ZArr
variable {p : Program} {l : Launch} {e : Env} {R : Room} {s : State} {m : MethodId} {args : Array Value} {below : List Frame} {meth : Method} {c : Code} {Q : State → Prop}
variable {D : va_G} {tA : Nat → ClassId} {B nL c0 s0 : Nat} {ad : Nat → Nat} {kn : State → Prop} {own : String} {cc : ByteArray} {ret : Option FieldType}
variable {pc : Nat} {h h1 h0 : Hp} {lv : List (Nat × Value)} {st : List Value}
theorem z_newa {j N : Nat} {n : Int32} {atype : ArrayType} {ty : FieldType} {a0 : vp_A} (F : ZF p s m args meth c D tA B nL kn own cc ret) (hW : zWT h) (hm : c0 ≤ zc h ∧ s0 ≤ zs h) (harr : Cond.arrayClass (newarray.typeOf atype) ∈ lw_all) (hty : newarray.typeOf atype = ty) (hj : (ztys tA)[j]? = some (tA j, ty)) (hobj : ∀ C, ty ≠ .object C) (ha0 : a0 = (N, if 100 + j < 104 then .inl (fun _ => 0) else if 100 + j = 104 then .inr (.inl (fun _ => 0)) else .inr (.inr (.inr (.inr (fun _ => none)))))) (hcell : ∀ cA : ClassId, vp_cell cA a0 = arrV cA N (fun _ => defaultValue ty)) (hn : ¬ n < 0) (hN : n.toNatClampNeg = N) (hby : N * componentBytes ty ≤ 536870912)
    (hr : (zc h - c0) + 1 ≤ R.cells ∧ (zs h - s0) + N ≤ R.slots) (hd : decode cc pc = .ok (.newarray atype, 2)) (kk : ∀ u, zA h ad u → ZW p l e R s m args below meth c Q D tA B nL c0 s0 u (pc + 2) (zne h (100 + j) N N) lv (.ref (u (zx h)) :: st)) : ZW p l e R s m args below meth c Q D tA B nL c0 s0 ad pc h lv (.int n :: st) := by
  intro H locs ls hw hl
  refine va_newa F.x F.b (F.ts _ harr) hty F.K hw.1 hw.2.1 hw.2.2 (fun q hq => Nat.le_trans F.bs hq) (a0 := a0) hcell hn hN hby hr.1 hr.2 hd (fun q cA H1 hK1 a1 a2 a3 => ?_)
  have hcA : cA = tA j := by
    have h1 := (hK1.2 (ztys tA).length (cA, ty) (by simp)).2
    have h2 := (F.K.2 j _ hj).2
    revert h1 h2
    cases ty <;> intro h1 h2 <;> first | exact Option.some.inj ((show s.vm.findClass _ = some cA from h1).symm.trans h2) | exact absurd rfl (hobj _)
  subst hcA
  have e1 := zen_newa (tA := tA) (h := h) (u := zu1 ad (zx h) q) (t := 100 + j) (n := N) (w := N) (by omega)
  rw [Nat.add_sub_cancel_left] at e1
  rw [ha0, ← e1, zwl_ne hW] at a1 a2
  have := kk _ (zA.new (q := q)) H1 locs ls ⟨a1, a2, a3⟩ hl
  rw [show zc (zne h (100 + j) N N) - c0 = zc h - c0 + 1 by show zc h + 1 - c0 = _; omega, show zs (zne h (100 + j) N N) - s0 = zs h - s0 + N by show zs h + N - s0 = _; omega, show zu1 ad (zx h) q (zx h) = q by simp [zu1]] at this
  exact this
theorem z_sald {q : Nat} {i : Int32} (F : ZF p s m args meth c D tA B nL kn own cc ret) (hd : decode cc pc = .ok (.saload, 1)) (hq : q < zx h) (ht : zt h q = 102) (hi : vp_in i (zn h q)) (kk : ZW p l e R s m args below meth c Q D tA B nL c0 s0 ad (pc + 1) h lv (.int (zi h q i.toNatClampNeg) :: st)) : ZW p l e R s m args below meth c Q D tA B nL c0 s0 ad pc h lv (.int i :: .ref (ad q) :: st) :=
  fun H locs ls hw hl => va_sald F.x F.b F.K hw.1 q 2 (z_at hq ht (by decide)) rfl hi hd (kk H locs ls hw hl)
theorem z_zald {q : Nat} {i : Int32} (F : ZF p s m args meth c D tA B nL kn own cc ret) (hd : decode cc pc = .ok (.baload, 1)) (hq : q < zx h) (ht : zt h q = 103) (hi : vp_in i (zn h q)) (kk : ZW p l e R s m args below meth c Q D tA B nL c0 s0 ad (pc + 1) h lv (.int (zi h q i.toNatClampNeg) :: st)) : ZW p l e R s m args below meth c Q D tA B nL c0 s0 ad pc h lv (.int i :: .ref (ad q) :: st) :=
  fun H locs ls hw hl => va_zald F.x F.b F.K hw.1 q 3 (z_at hq ht (by decide)) rfl hi hd (kk H locs ls hw hl)
theorem z_sast {q : Nat} {i x : Int32} (F : ZF p s m args meth c D tA B nL kn own cc ret) (hd : decode cc pc = .ok (.sastore, 1)) (hq : q < zx h) (ht : zt h q = 102) (hi : vp_in i (zn h q)) (kk : ZW p l e R s m args below meth c Q D tA B nL c0 s0 ad (pc + 1) (zsi h q i.toNatClampNeg (vp_nar .short x)) lv st) : ZW p l e R s m args below meth c Q D tA B nL c0 s0 ad pc h lv (.int x :: .int i :: .ref (ad q) :: st) := by
  intro H locs ls hw hl
  refine va_sast F.x F.b F.K hw.1 hw.2.1 hw.2.2 q 2 (z_at hq ht (by decide)) rfl hi hd (fun H1 locs1 a1 a2 a3 => kk H1 locs1 ls (zWd_set (h := h) (h' := zsi h q i.toNatClampNeg (vp_nar .short x)) rfl (fun q' _ hq' => zen_si hq') (zen_arr (t := 102) ht (by decide) rfl ?_) a1 a2 a3) hl)
  unfold zar
  rw [if_pos (by decide)]
  congr 1
  funext k
  show zu2 h.1 q i.toNatClampNeg (vp_nar .short x) q k = upd _ _ _ k
  unfold zu2 upd
  simp [zi]
theorem z_zast {q : Nat} {i x : Int32} (F : ZF p s m args meth c D tA B nL kn own cc ret) (hd : decode cc pc = .ok (.bastore, 1)) (hq : q < zx h) (ht : zt h q = 103) (hi : vp_in i (zn h q)) (kk : ZW p l e R s m args below meth c Q D tA B nL c0 s0 ad (pc + 1) (zsi h q i.toNatClampNeg (vp_nar .boolean x)) lv st) : ZW p l e R s m args below meth c Q D tA B nL c0 s0 ad pc h lv (.int x :: .int i :: .ref (ad q) :: st) := by
  intro H locs ls hw hl
  refine va_zast F.x F.b F.K hw.1 hw.2.1 hw.2.2 q 3 (z_at hq ht (by decide)) rfl hi hd (fun H1 locs1 a1 a2 a3 => kk H1 locs1 ls (zWd_set (h := h) (h' := zsi h q i.toNatClampNeg (vp_nar .boolean x)) rfl (fun q' _ hq' => zen_si hq') (zen_arr (t := 103) ht (by decide) rfl ?_) a1 a2 a3) hl)
  unfold zar
  rw [if_pos (by decide)]
  congr 1
  funext k
  show zu2 h.1 q i.toNatClampNeg (vp_nar .boolean x) q k = upd _ _ _ k
  unfold zu2 upd
  simp [zi]
end ZArr
