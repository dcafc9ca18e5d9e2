/-! A NEW ARRAY OF REFERENCES -/
section ZNewq
variable {p : Program} {l : Launch} {e : Env} {R : Room} {s : State} {m : MethodId} {args : Array Value} {below : List Frame} {meth : Method} {c : Code} {Q : State → Prop}
variable {D : va_G} {tA : Nat → ClassId} {B nL c0 s0 : Nat} {ad : Nat → Nat} {kn : State → Prop} {own : String} {cc : ByteArray} {ret : Option FieldType}
variable {pc : Nat} {h h1 h0 : Hp} {lv : List (Nat × Value)} {st : List Value}
theorem z_newq {j N index : Nat} {n : Int32} {C : String} (F : ZF p s m args meth c D tA B nL kn own cc ret) (hW : zWT h) (hm : c0 ≤ zc h ∧ s0 ≤ zs h) (hcl : Cond.classLink own index C ∈ lw_all) (hao : Cond.arrayOver (.object C) ∈ zNW) (hj : (ztys tA)[j]? = some (tA j, .object C)) (h5 : 5 ≤ j) (hn : ¬ n < 0) (hN : n.toNatClampNeg = N) (hby : N * 4 ≤ 536870912)
    (hr : (zc h - c0) + 1 ≤ R.cells ∧ (zs h - s0) + N ≤ R.slots) (hd : decode cc pc = .ok (.anewarray index, 3)) (kk : ∀ u, zA h ad u → ZW p l e R s m args below meth c Q D tA B nL c0 s0 u (pc + 3) (zne h (100 + j) N N) lv (.ref (u (zx h)) :: st)) : ZW p l e R s m args below meth c Q D tA B nL c0 s0 ad pc h lv (.int n :: st) := by
  intro H locs ls hw hl
  refine va_newq F.x F.b F.ow (F.ts _ hcl) (F.N _ hao) F.K hw.1 hw.2.1 hw.2.2 (fun q hq => Nat.le_trans F.bs hq) hn hN hby hr.1 hr.2 hd (fun q cA H1 hK1 a1 a2 a3 => ?_)
  have hcA : cA = tA j := by
    have h1 := (hK1.2 (ztys tA).length (cA, .object C) (by simp)).2
    have h2 := (F.K.2 j _ hj).2
    obtain ⟨-, -, -, -, -, e1⟩ := h1
    obtain ⟨-, -, -, -, -, e2⟩ := h2
    exact Option.some.inj (e1.symm.trans e2)
  subst hcA
  have e1 := zen_newa (tA := tA) (h := h) (u := zu1 ad (zx h) q) (t := 100 + j) (n := N) (w := N) (by omega)
  rw [Nat.add_sub_cancel_left, if_neg (by omega), if_neg (by omega)] at e1
  rw [← e1, zwl_ne hW] at a1 a2
  have := kk _ (zA.new (q := q)) H1 locs ls ⟨a1, a2, a3⟩ hl
  rw [show zc (zne h (100 + j) N N) - c0 = zc h - c0 + 1 by show zc h + 1 - c0 = _; omega, show zs (zne h (100 + j) N N) - s0 = zs h - s0 + N by show zs h + N - s0 = _; omega, show zu1 ad (zx h) q (zx h) = q by simp [zu1]] at this
  exact this
end ZNewq
