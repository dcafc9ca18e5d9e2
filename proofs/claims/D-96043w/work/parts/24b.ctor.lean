/-! THE CONSTRUCTORS OF THE STANDING CELLS: a weak contract, the exact heap -/
def zWv (D : va_G) (tA : Nat → ClassId) (B : Nat) (h : Hp) (ad : Nat → Nat) (h' : Hp) := va_Qv (S := Nat → Nat) (fun u => zA h ad u) (fun u t => zB D tA B h' u t) (fun q => B ≤ q)
section ZCtor
variable {p : Program} {l : Launch} {e : Env} {R : Room} {s : State} {m : MethodId} {args : Array Value} {below : List Frame} {meth : Method} {c : Code} {Q : State → Prop}
variable {D : va_G} {tA : Nat → ClassId} {B nL c0 s0 : Nat} {ad : Nat → Nat} {kn : State → Prop} {own : String} {cc : ByteArray} {ret : Option FieldType}
variable {pc : Nat} {h h1 h0 : Hp} {lv : List (Nat × Value)} {st : List Value}
theorem z_vreW {ad0 : Nat → Nat} (F : ZF p s m args meth c D tA B nL kn own cc none) (hd : decode cc pc = .ok (.return_, 1)) (hA : zA h0 ad0 ad) : ZW p l e R s m args below meth c (MQ below (zWv D tA B h0 ad0 h) args s (zc h - c0) (zs h - s0) (fun q => B ≤ q)) D tA B nL c0 s0 ad pc h lv [] :=
  fun H locs ls hw hl => W.vret F.x F.b F.r (fun t ht hW => ⟨⟨ad, rfl, hA, hw.zb ht⟩, hw.2.2.F ht⟩) hw.2.2.2.2 hd F.lk
end ZCtor
theorem mX1_init {l : Launch} {D : va_G} {tA : Nat → ClassId} {B : Nat} {kn : State → Prop} {h : Hp} {ad : Nat → Nat} {q : Nat} (hkp : zKp D tA B kn) (hW : zWT h) (hq : q < zx h) (ht : zt h q = 1) (hc : zc h + 1 ≤ zLC ∧ zs h + 128 ≤ zLS) : zM l D tA B kn yX1_init (ws_ yX1_init cX1_init 1 (Option.none : Option Jvm.ClassFile.FieldType)) 1 28 h ad [.ref (ad q)] (zsr (zne h 100 128 128) q 0 (some (zx h))) (zWv D tA B h ad (zsr (zne h 100 128 128) q 0 (some (zx h)))) := by
  refine zM_of hkp (by decide +kernel) (Nat.le_of_ble_eq_true rfl) ?_
  intro p e s m args below meth c F hnm
  show ZW p l e (zRm 1 28 h) s m args below meth c (MQ below (zWv D tA B h ad _) args s (zc (zne h 100 128 128) - zc h) (zs (zne h 100 128 128) - zs h) (fun q => B ≤ q)) D tA B 1 (zc h) (zs h) ad 0 h [(0, .ref (ad q))] []
  refine w_aload_n F dX1_init_0 0 rfl ?_
  refine z_obj F q153 q142 q143 dX1_init_1 (Nat.le_of_ble_eq_true rfl) ⟨Nat.le_of_ble_eq_true rfl, Nat.le_of_ble_eq_true rfl⟩ ?_
  refine w_aload_n F dX1_init_4 0 rfl ?_
  refine w_sipush (v := 128) F dX1_init_5 rfl ?_
  refine z_newa (j := 0) (N := 128) (atype := .int) F hW ⟨Nat.le_refl _, Nat.le_refl _⟩ q160 rfl rfl (by intro C z; cases z) rfl (fun _ => rfl) (by decide) rfl (by decide) (z_lim1 (zEx.rf h) hc) dX1_init_8 (fun u hA => ?_)
  rw [← hA q hq]
  refine z_putF2 (ci := 1) (k := 0) (t := 2) (ty := (tyX1 0)) (v := va_re u (some (zx h))) (h' := zsr (zne h 100 128 128) q 0 (some (zx h))) F hnm rfl in_X1 tyX1_ok (by decide +kernel) (by decide) rfl (by decide) q154 rfl rfl rfl rfl rfl dX1_init_10 rfl rfl rfl rfl (fun q' _ hq' => zen_sr hq') zfv_sr.1 zfv_sr.2 (Nat.lt_succ_of_lt hq) (by show zu1 _ (zx h) 100 q = 1; simp only [zu1, if_neg (Nat.ne_of_lt hq)]; exact ht) ?_
  exact z_vreW F dX1_init_13 hA
