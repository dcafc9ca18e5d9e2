theorem pw_X1_7 {p : Program} {l : Launch} {e : Env} {R : Room} {s : State} {m : MethodId} {args : Array Value} {below : List Frame} {meth : Method} {c : Code} {Q : State → Prop} {D : va_G} {tA : Nat → ClassId} {B nL c0 s0 : Nat} {ad : Nat → Nat} {kn : State → Prop} {cc : ByteArray} {ret : Option FieldType} {pc : Nat} {h : Hp} {lv : List (Nat × Value)} {st : List Value} {q : Nat} {x : Option Nat} (F : ZF p s m args meth c D tA B nL kn RX1 cc ret) (hin2 : meth.name = "<init>") (hd : decode cc pc = .ok (.putfield 7, 3)) (hO : zOw h) (t : zTy h q 1) (kk : ZW p l e R s m args below meth c Q D tA B nL c0 s0 ad (pc + 3) (zsr h q 0 x) lv st) : ZW p l e R s m args below meth c Q D tA B nL c0 s0 ad pc h lv (va_re ad x :: .ref (ad q) :: st) := 
  z_putF2 (ci := 1) (k := 0) (t := 2) (ty := (tyX1 0)) (h' := zsr h q 0 x) F hin2 rfl in_X1 tyX1_ok (by decide +kernel) (by decide) rfl (by decide) q154 rfl rfl rfl (by cases x <;> rfl) (by cases x <;> rfl) hd rfl rfl rfl rfl (fun q' _ hq' => zen_sr hq') zfv_sr.1 zfv_sr.2 t.1 (zTy.tg t (by decide)) kk
def X1_init (h : Hp) (a0 : Nat) : Option (Unit × Hp) :=
  ck (¬ (128 : Int32) < 0) <| ck (zc h + 1 ≤ zLC ∧ zs h + (128 : Int32).toNatClampNeg ≤ zLS) <| nm (zx h) fun a3 => nm (zne h 100 (128 : Int32).toNatClampNeg (128 : Int32).toNatClampNeg) fun h4 => nm (zsr h4 a0 0 (some a3)) fun h5 => some ((), h5)
set_option maxHeartbeats 4000000 in
theorem mX1_initW {l : Launch} {D : va_G} {tA : Nat → ClassId} {B : Nat} {kn : State → Prop} {h hE : Hp} {ad : Nat → Nat} {a0 : Nat} (hkp : zKp D tA B kn) (hO_h : zOw h) (t_a0 : zTy h a0 1) (hf : X1_init h a0 = some ((), hE)) : zM l D tA B kn yX1_init (ws_ yX1_init cX1_init 1 (Option.none : Option Jvm.ClassFile.FieldType)) 1 28 h ad [.ref (ad a0)] hE (zRvw D tA B h ad hE) := by
  refine zM_of hkp (by decide +kernel) (Nat.le_of_ble_eq_true rfl) ?_
  intro p e s m args below meth c F hnm
  show ZW p l e (zRm 1 28 h) s m args below meth c (MQ below (zRvw D tA B h ad hE) args s (zc hE - zc h) (zs hE - zs h) (fun q => B ≤ q)) D tA B 1 (zc h) (zs h) ad 0 h [(0, .ref (ad a0))] []
  replace hf := (X1_init.eq_1 h a0).symm.trans hf
  refine w_aload_n F dX1_init_0 0 rfl ?_
  refine z_obj F q153 q142 q143 dX1_init_1 (Nat.le_of_ble_eq_true rfl) ⟨Nat.le_of_ble_eq_true rfl, Nat.le_of_ble_eq_true rfl⟩ ?_
  refine w_aload_n F dX1_init_4 0 rfl ?_
  refine w_sipush (v := 128) F dX1_init_5 rfl ?_
  replace hf := ck_o hf
  obtain ⟨c1, hf⟩ := hf
  replace hf := ck_o hf
  obtain ⟨c2, hf⟩ := hf
  refine z_newa (j := 0) (atype := .int) F hO_h.1 ⟨(zEx.rf h).2.1, (zEx.rf h).2.2.1⟩ q160 rfl rfl (by intro C z; cases z) rfl (fun _ => rfl) c1 rfl (by have z := c2.2; simp only [zLS] at z; show _ * 4 ≤ _; omega) (z_lim1 (zEx.rf h) c2) dX1_init_8 (fun ad_h4 hA_h4 => ?_)
  rw [← hA_h4 a0 (t_a0.1)]
  replace hf := nm_o hf
  obtain ⟨a3, ea3, hf⟩ := hf
  rw [← ea3]
  replace hf := nm_o hf
  obtain ⟨h4, eh4, hf⟩ := hf
  refine w_nh eh4 ?_
  have Eh4 : zEx h h4 := by rw [eh4]; exact zEx.ne
  have hO_h4 : zOw h4 := by rw [eh4]; exact hO_h.ne c2
  have t_a0 := t_a0.ex Eh4
  have t_a3 : zTy h4 a3 100 := by rw [eh4, ea3]; exact zTy.new (by decide)
  refine pw_X1_7 (x := (some a3)) F hnm dX1_init_10 hO_h4 (t_a0) ?_
  replace hf := nm_o hf
  obtain ⟨h5, eh5, hf⟩ := hf
  refine w_nh eh5 ?_
  have Eh5 : zEx h4 h5 := by rw [eh5]; exact zEx.sr
  have hO_h5 : zOw h5 := by rw [eh5]; exact hO_h4.srt (t_a0).1 (zTy.tg t_a0 (by decide)) (by decide) (zTo.of t_a3)
  have t_a0 := t_a0.ex Eh5
  obtain ⟨-, rfl⟩ := ret_o hf
  exact z_vreDw F dX1_init_13 hO_h5 ((Eh4).tr Eh5) hA_h4
theorem gw_X2_28 {p : Program} {l : Launch} {e : Env} {R : Room} {s : State} {m : MethodId} {args : Array Value} {below : List Frame} {meth : Method} {c : Code} {Q : State → Prop} {D : va_G} {tA : Nat → ClassId} {B nL c0 s0 : Nat} {ad : Nat → Nat} {kn : State → Prop} {cc : ByteArray} {ret : Option FieldType} {pc : Nat} {h : Hp} {lv : List (Nat × Value)} {st : List Value} {q : Nat} (F : ZF p s m args meth c D tA B nL kn RX2 cc ret) (hd : decode cc pc = .ok (.getfield 28, 3)) (hO : zOw h) (t : zTy h q 2) (kk : ZW p l e R s m args below meth c Q D tA B nL c0 s0 ad (pc + 3) h lv (va_re ad (zr h q 10) :: st)) : ZW p l e R s m args below meth c Q D tA B nL c0 s0 ad pc h lv (.ref (ad q) :: st) :=
  z_get (ci := 2) (k := 10) (t := 2) F rfl in_X2 (by decide) rfl (by decide) (Or.inl (F.ts _ q1523)) rfl hd t.1 (zTy.tg t (by decide)) kk
theorem gw_X2_71 {p : Program} {l : Launch} {e : Env} {R : Room} {s : State} {m : MethodId} {args : Array Value} {below : List Frame} {meth : Method} {c : Code} {Q : State → Prop} {D : va_G} {tA : Nat → ClassId} {B nL c0 s0 : Nat} {ad : Nat → Nat} {kn : State → Prop} {cc : ByteArray} {ret : Option FieldType} {pc : Nat} {h : Hp} {lv : List (Nat × Value)} {st : List Value} {q : Nat} (F : ZF p s m args meth c D tA B nL kn RX2 cc ret) (hd : decode cc pc = .ok (.getfield 71, 3)) (hO : zOw h) (t : zTy h q 2) (kk : ZW p l e R s m args below meth c Q D tA B nL c0 s0 ad (pc + 3) h lv (va_re ad (zr h q 46) :: st)) : ZW p l e R s m args below meth c Q D tA B nL c0 s0 ad pc h lv (.ref (ad q) :: st) :=
  z_get (ci := 2) (k := 46) (t := 2) F rfl in_X2 (by decide) rfl (by decide) (Or.inl (F.ts _ q1559)) rfl hd t.1 (zTy.tg t (by decide)) kk
theorem pw_X2_13 {p : Program} {l : Launch} {e : Env} {R : Room} {s : State} {m : MethodId} {args : Array Value} {below : List Frame} {meth : Method} {c : Code} {Q : State → Prop} {D : va_G} {tA : Nat → ClassId} {B nL c0 s0 : Nat} {ad : Nat → Nat} {kn : State → Prop} {cc : ByteArray} {ret : Option FieldType} {pc : Nat} {h : Hp} {lv : List (Nat × Value)} {st : List Value} {q : Nat} {x : Option Nat} (F : ZF p s m args meth c D tA B nL kn RX2 cc ret) (hin2 : meth.name = "<init>") (hd : decode cc pc = .ok (.putfield 13, 3)) (hO : zOw h) (t : zTy h q 2) (kk : ZW p l e R s m args below meth c Q D tA B nL c0 s0 ad (pc + 3) (zsr h q 1 x) lv st) : ZW p l e R s m args below meth c Q D tA B nL c0 s0 ad pc h lv (va_re ad x :: .ref (ad q) :: st) := 
  z_putF2 (ci := 2) (k := 1) (t := 2) (ty := (tyX2 1)) (h' := zsr h q 1 x) F hin2 rfl in_X2 tyX2_ok (by decide +kernel) (by decide) rfl (by decide) q1514 rfl rfl rfl (by cases x <;> rfl) (by cases x <;> rfl) hd rfl rfl rfl rfl (fun q' _ hq' => zen_sr hq') zfv_sr.1 zfv_sr.2 t.1 (zTy.tg t (by decide)) kk
theorem pw_X2_16 {p : Program} {l : Launch} {e : Env} {R : Room} {s : State} {m : MethodId} {args : Array Value} {below : List Frame} {meth : Method} {c : Code} {Q : State → Prop} {D : va_G} {tA : Nat → ClassId} {B nL c0 s0 : Nat} {ad : Nat → Nat} {kn : State → Prop} {cc : ByteArray} {ret : Option FieldType} {pc : Nat} {h : Hp} {lv : List (Nat × Value)} {st : List Value} {q : Nat} {x : Option Nat} (F : ZF p s m args meth c D tA B nL kn RX2 cc ret) (hin2 : meth.name = "<init>") (hd : decode cc pc = .ok (.putfield 16, 3)) (hO : zOw h) (t : zTy h q 2) (kk : ZW p l e R s m args below meth c Q D tA B nL c0 s0 ad (pc + 3) (zsr h q 2 x) lv st) : ZW p l e R s m args below meth c Q D tA B nL c0 s0 ad pc h lv (va_re ad x :: .ref (ad q) :: st) := 
  z_putF2 (ci := 2) (k := 2) (t := 2) (ty := (tyX2 2)) (h' := zsr h q 2 x) F hin2 rfl in_X2 tyX2_ok (by decide +kernel) (by decide) rfl (by decide) q1515 rfl rfl rfl (by cases x <;> rfl) (by cases x <;> rfl) hd rfl rfl rfl rfl (fun q' _ hq' => zen_sr hq') zfv_sr.1 zfv_sr.2 t.1 (zTy.tg t (by decide)) kk
theorem pw_X2_19 {p : Program} {l : Launch} {e : Env} {R : Room} {s : State} {m : MethodId} {args : Array Value} {below : List Frame} {meth : Method} {c : Code} {Q : State → Prop} {D : va_G} {tA : Nat → ClassId} {B nL c0 s0 : Nat} {ad : Nat → Nat} {kn : State → Prop} {cc : ByteArray} {ret : Option FieldType} {pc : Nat} {h : Hp} {lv : List (Nat × Value)} {st : List Value} {q : Nat} {x : Option Nat} (F : ZF p s m args meth c D tA B nL kn RX2 cc ret) (hin2 : meth.name = "<init>") (hd : decode cc pc = .ok (.putfield 19, 3)) (hO : zOw h) (t : zTy h q 2) (kk : ZW p l e R s m args below meth c Q D tA B nL c0 s0 ad (pc + 3) (zsr h q 3 x) lv st) : ZW p l e R s m args below meth c Q D tA B nL c0 s0 ad pc h lv (va_re ad x :: .ref (ad q) :: st) := 
  z_putF2 (ci := 2) (k := 3) (t := 2) (ty := (tyX2 3)) (h' := zsr h q 3 x) F hin2 rfl in_X2 tyX2_ok (by decide +kernel) (by decide) rfl (by decide) q1516 rfl rfl rfl (by cases x <;> rfl) (by cases x <;> rfl) hd rfl rfl rfl rfl (fun q' _ hq' => zen_sr hq') zfv_sr.1 zfv_sr.2 t.1 (zTy.tg t (by decide)) kk
theorem pw_X2_22 {p : Program} {l : Launch} {e : Env} {R : Room} {s : State} {m : MethodId} {args : Array Value} {below : List Frame} {meth : Method} {c : Code} {Q : State → Prop} {D : va_G} {tA : Nat → ClassId} {B nL c0 s0 : Nat} {ad : Nat → Nat} {kn : State → Prop} {cc : ByteArray} {ret : Option FieldType} {pc : Nat} {h : Hp} {lv : List (Nat × Value)} {st : List Value} {q : Nat} {x : Option Nat} (F : ZF p s m args meth c D tA B nL kn RX2 cc ret) (hin2 : meth.name = "<init>") (hd : decode cc pc = .ok (.putfield 22, 3)) (hO : zOw h) (t : zTy h q 2) (kk : ZW p l e R s m args below meth c Q D tA B nL c0 s0 ad (pc + 3) (zsr h q 7 x) lv st) : ZW p l e R s m args below meth c Q D tA B nL c0 s0 ad pc h lv (va_re ad x :: .ref (ad q) :: st) := 
  z_putF2 (ci := 2) (k := 7) (t := 2) (ty := (tyX2 7)) (h' := zsr h q 7 x) F hin2 rfl in_X2 tyX2_ok (by decide +kernel) (by decide) rfl (by decide) q1520 rfl rfl rfl (by cases x <;> rfl) (by cases x <;> rfl) hd rfl rfl rfl rfl (fun q' _ hq' => zen_sr hq') zfv_sr.1 zfv_sr.2 t.1 (zTy.tg t (by decide)) kk
theorem pw_X2_25 {p : Program} {l : Launch} {e : Env} {R : Room} {s : State} {m : MethodId} {args : Array Value} {below : List Frame} {meth : Method} {c : Code} {Q : State → Prop} {D : va_G} {tA : Nat → ClassId} {B nL c0 s0 : Nat} {ad : Nat → Nat} {kn : State → Prop} {cc : ByteArray} {ret : Option FieldType} {pc : Nat} {h : Hp} {lv : List (Nat × Value)} {st : List Value} {q : Nat} {x : Option Nat} (F : ZF p s m args meth c D tA B nL kn RX2 cc ret) (hin2 : meth.name = "<init>") (hd : decode cc pc = .ok (.putfield 25, 3)) (hO : zOw h) (t : zTy h q 2) (kk : ZW p l e R s m args below meth c Q D tA B nL c0 s0 ad (pc + 3) (zsr h q 8 x) lv st) : ZW p l e R s m args below meth c Q D tA B nL c0 s0 ad pc h lv (va_re ad x :: .ref (ad q) :: st) := 
  z_putF2 (ci := 2) (k := 8) (t := 2) (ty := (tyX2 8)) (h' := zsr h q 8 x) F hin2 rfl in_X2 tyX2_ok (by decide +kernel) (by decide) rfl (by decide) q1521 rfl rfl rfl (by cases x <;> rfl) (by cases x <;> rfl) hd rfl rfl rfl rfl (fun q' _ hq' => zen_sr hq') zfv_sr.1 zfv_sr.2 t.1 (zTy.tg t (by decide)) kk
theorem pw_X2_28 {p : Program} {l : Launch} {e : Env} {R : Room} {s : State} {m : MethodId} {args : Array Value} {below : List Frame} {meth : Method} {c : Code} {Q : State → Prop} {D : va_G} {tA : Nat → ClassId} {B nL c0 s0 : Nat} {ad : Nat → Nat} {kn : State → Prop} {cc : ByteArray} {ret : Option FieldType} {pc : Nat} {h : Hp} {lv : List (Nat × Value)} {st : List Value} {q : Nat} {x : Option Nat} (F : ZF p s m args meth c D tA B nL kn RX2 cc ret) (hin2 : meth.name = "<init>") (hd : decode cc pc = .ok (.putfield 28, 3)) (hO : zOw h) (t : zTy h q 2) (kk : ZW p l e R s m args below meth c Q D tA B nL c0 s0 ad (pc + 3) (zsr h q 10 x) lv st) : ZW p l e R s m args below meth c Q D tA B nL c0 s0 ad pc h lv (va_re ad x :: .ref (ad q) :: st) := 
  z_putF2 (ci := 2) (k := 10) (t := 2) (ty := (tyX2 10)) (h' := zsr h q 10 x) F hin2 rfl in_X2 tyX2_ok (by decide +kernel) (by decide) rfl (by decide) q1523 rfl rfl rfl (by cases x <;> rfl) (by cases x <;> rfl) hd rfl rfl rfl rfl (fun q' _ hq' => zen_sr hq') zfv_sr.1 zfv_sr.2 t.1 (zTy.tg t (by decide)) kk
theorem pw_X2_31 {p : Program} {l : Launch} {e : Env} {R : Room} {s : State} {m : MethodId} {args : Array Value} {below : List Frame} {meth : Method} {c : Code} {Q : State → Prop} {D : va_G} {tA : Nat → ClassId} {B nL c0 s0 : Nat} {ad : Nat → Nat} {kn : State → Prop} {cc : ByteArray} {ret : Option FieldType} {pc : Nat} {h : Hp} {lv : List (Nat × Value)} {st : List Value} {q : Nat} {x : Option Nat} (F : ZF p s m args meth c D tA B nL kn RX2 cc ret) (hin2 : meth.name = "<init>") (hd : decode cc pc = .ok (.putfield 31, 3)) (hO : zOw h) (t : zTy h q 2) (kk : ZW p l e R s m args below meth c Q D tA B nL c0 s0 ad (pc + 3) (zsr h q 11 x) lv st) : ZW p l e R s m args below meth c Q D tA B nL c0 s0 ad pc h lv (va_re ad x :: .ref (ad q) :: st) := 
  z_putF2 (ci := 2) (k := 11) (t := 2) (ty := (tyX2 11)) (h' := zsr h q 11 x) F hin2 rfl in_X2 tyX2_ok (by decide +kernel) (by decide) rfl (by decide) q1524 rfl rfl rfl (by cases x <;> rfl) (by cases x <;> rfl) hd rfl rfl rfl rfl (fun q' _ hq' => zen_sr hq') zfv_sr.1 zfv_sr.2 t.1 (zTy.tg t (by decide)) kk
theorem pw_X2_34 {p : Program} {l : Launch} {e : Env} {R : Room} {s : State} {m : MethodId} {args : Array Value} {below : List Frame} {meth : Method} {c : Code} {Q : State → Prop} {D : va_G} {tA : Nat → ClassId} {B nL c0 s0 : Nat} {ad : Nat → Nat} {kn : State → Prop} {cc : ByteArray} {ret : Option FieldType} {pc : Nat} {h : Hp} {lv : List (Nat × Value)} {st : List Value} {q : Nat} {x : Option Nat} (F : ZF p s m args meth c D tA B nL kn RX2 cc ret) (hin2 : meth.name = "<init>") (hd : decode cc pc = .ok (.putfield 34, 3)) (hO : zOw h) (t : zTy h q 2) (kk : ZW p l e R s m args below meth c Q D tA B nL c0 s0 ad (pc + 3) (zsr h q 12 x) lv st) : ZW p l e R s m args below meth c Q D tA B nL c0 s0 ad pc h lv (va_re ad x :: .ref (ad q) :: st) := 
  z_putF2 (ci := 2) (k := 12) (t := 2) (ty := (tyX2 12)) (h' := zsr h q 12 x) F hin2 rfl in_X2 tyX2_ok (by decide +kernel) (by decide) rfl (by decide) q1525 rfl rfl rfl (by cases x <;> rfl) (by cases x <;> rfl) hd rfl rfl rfl rfl (fun q' _ hq' => zen_sr hq') zfv_sr.1 zfv_sr.2 t.1 (zTy.tg t (by decide)) kk
theorem pw_X2_37 {p : Program} {l : Launch} {e : Env} {R : Room} {s : State} {m : MethodId} {args : Array Value} {below : List Frame} {meth : Method} {c : Code} {Q : State → Prop} {D : va_G} {tA : Nat → ClassId} {B nL c0 s0 : Nat} {ad : Nat → Nat} {kn : State → Prop} {cc : ByteArray} {ret : Option FieldType} {pc : Nat} {h : Hp} {lv : List (Nat × Value)} {st : List Value} {q : Nat} {x : Option Nat} (F : ZF p s m args meth c D tA B nL kn RX2 cc ret) (hin2 : meth.name = "<init>") (hd : decode cc pc = .ok (.putfield 37, 3)) (hO : zOw h) (t : zTy h q 2) (kk : ZW p l e R s m args below meth c Q D tA B nL c0 s0 ad (pc + 3) (zsr h q 14 x) lv st) : ZW p l e R s m args below meth c Q D tA B nL c0 s0 ad pc h lv (va_re ad x :: .ref (ad q) :: st) := 
  z_putF2 (ci := 2) (k := 14) (t := 2) (ty := (tyX2 14)) (h' := zsr h q 14 x) F hin2 rfl in_X2 tyX2_ok (by decide +kernel) (by decide) rfl (by decide) q1527 rfl rfl rfl (by cases x <;> rfl) (by cases x <;> rfl) hd rfl rfl rfl rfl (fun q' _ hq' => zen_sr hq') zfv_sr.1 zfv_sr.2 t.1 (zTy.tg t (by decide)) kk
theorem pw_X2_40 {p : Program} {l : Launch} {e : Env} {R : Room} {s : State} {m : MethodId} {args : Array Value} {below : List Frame} {meth : Method} {c : Code} {Q : State → Prop} {D : va_G} {tA : Nat → ClassId} {B nL c0 s0 : Nat} {ad : Nat → Nat} {kn : State → Prop} {cc : ByteArray} {ret : Option FieldType} {pc : Nat} {h : Hp} {lv : List (Nat × Value)} {st : List Value} {q : Nat} {x : Option Nat} (F : ZF p s m args meth c D tA B nL kn RX2 cc ret) (hin2 : meth.name = "<init>") (hd : decode cc pc = .ok (.putfield 40, 3)) (hO : zOw h) (t : zTy h q 2) (kk : ZW p l e R s m args below meth c Q D tA B nL c0 s0 ad (pc + 3) (zsr h q 21 x) lv st) : ZW p l e R s m args below meth c Q D tA B nL c0 s0 ad pc h lv (va_re ad x :: .ref (ad q) :: st) := 
  z_putF2 (ci := 2) (k := 21) (t := 2) (ty := (tyX2 21)) (h' := zsr h q 21 x) F hin2 rfl in_X2 tyX2_ok (by decide +kernel) (by decide) rfl (by decide) q1534 rfl rfl rfl (by cases x <;> rfl) (by cases x <;> rfl) hd rfl rfl rfl rfl (fun q' _ hq' => zen_sr hq') zfv_sr.1 zfv_sr.2 t.1 (zTy.tg t (by decide)) kk
theorem pw_X2_43 {p : Program} {l : Launch} {e : Env} {R : Room} {s : State} {m : MethodId} {args : Array Value} {below : List Frame} {meth : Method} {c : Code} {Q : State → Prop} {D : va_G} {tA : Nat → ClassId} {B nL c0 s0 : Nat} {ad : Nat → Nat} {kn : State → Prop} {cc : ByteArray} {ret : Option FieldType} {pc : Nat} {h : Hp} {lv : List (Nat × Value)} {st : List Value} {q : Nat} {x : Option Nat} (F : ZF p s m args meth c D tA B nL kn RX2 cc ret) (hin2 : meth.name = "<init>") (hd : decode cc pc = .ok (.putfield 43, 3)) (hO : zOw h) (t : zTy h q 2) (kk : ZW p l e R s m args below meth c Q D tA B nL c0 s0 ad (pc + 3) (zsr h q 22 x) lv st) : ZW p l e R s m args below meth c Q D tA B nL c0 s0 ad pc h lv (va_re ad x :: .ref (ad q) :: st) := 
  z_putF2 (ci := 2) (k := 22) (t := 2) (ty := (tyX2 22)) (h' := zsr h q 22 x) F hin2 rfl in_X2 tyX2_ok (by decide +kernel) (by decide) rfl (by decide) q1535 rfl rfl rfl (by cases x <;> rfl) (by cases x <;> rfl) hd rfl rfl rfl rfl (fun q' _ hq' => zen_sr hq') zfv_sr.1 zfv_sr.2 t.1 (zTy.tg t (by decide)) kk
theorem pw_X2_47 {p : Program} {l : Launch} {e : Env} {R : Room} {s : State} {m : MethodId} {args : Array Value} {below : List Frame} {meth : Method} {c : Code} {Q : State → Prop} {D : va_G} {tA : Nat → ClassId} {B nL c0 s0 : Nat} {ad : Nat → Nat} {kn : State → Prop} {cc : ByteArray} {ret : Option FieldType} {pc : Nat} {h : Hp} {lv : List (Nat × Value)} {st : List Value} {q : Nat} {x : Option Nat} (F : ZF p s m args meth c D tA B nL kn RX2 cc ret) (hin2 : meth.name = "<init>") (hd : decode cc pc = .ok (.putfield 47, 3)) (hO : zOw h) (t : zTy h q 2) (kk : ZW p l e R s m args below meth c Q D tA B nL c0 s0 ad (pc + 3) (zsr h q 23 x) lv st) : ZW p l e R s m args below meth c Q D tA B nL c0 s0 ad pc h lv (va_re ad x :: .ref (ad q) :: st) := 
  z_putF2 (ci := 2) (k := 23) (t := 2) (ty := (tyX2 23)) (h' := zsr h q 23 x) F hin2 rfl in_X2 tyX2_ok (by decide +kernel) (by decide) rfl (by decide) q1536 rfl rfl rfl (by cases x <;> rfl) (by cases x <;> rfl) hd rfl rfl rfl rfl (fun q' _ hq' => zen_sr hq') zfv_sr.1 zfv_sr.2 t.1 (zTy.tg t (by decide)) kk
theorem pw_X2_50 {p : Program} {l : Launch} {e : Env} {R : Room} {s : State} {m : MethodId} {args : Array Value} {below : List Frame} {meth : Method} {c : Code} {Q : State → Prop} {D : va_G} {tA : Nat → ClassId} {B nL c0 s0 : Nat} {ad : Nat → Nat} {kn : State → Prop} {cc : ByteArray} {ret : Option FieldType} {pc : Nat} {h : Hp} {lv : List (Nat × Value)} {st : List Value} {q : Nat} {x : Option Nat} (F : ZF p s m args meth c D tA B nL kn RX2 cc ret) (hin2 : meth.name = "<init>") (hd : decode cc pc = .ok (.putfield 50, 3)) (hO : zOw h) (t : zTy h q 2) (kk : ZW p l e R s m args below meth c Q D tA B nL c0 s0 ad (pc + 3) (zsr h q 24 x) lv st) : ZW p l e R s m args below meth c Q D tA B nL c0 s0 ad pc h lv (va_re ad x :: .ref (ad q) :: st) := 
  z_putF2 (ci := 2) (k := 24) (t := 2) (ty := (tyX2 24)) (h' := zsr h q 24 x) F hin2 rfl in_X2 tyX2_ok (by decide +kernel) (by decide) rfl (by decide) q1537 rfl rfl rfl (by cases x <;> rfl) (by cases x <;> rfl) hd rfl rfl rfl rfl (fun q' _ hq' => zen_sr hq') zfv_sr.1 zfv_sr.2 t.1 (zTy.tg t (by decide)) kk
theorem pw_X2_53 {p : Program} {l : Launch} {e : Env} {R : Room} {s : State} {m : MethodId} {args : Array Value} {below : List Frame} {meth : Method} {c : Code} {Q : State → Prop} {D : va_G} {tA : Nat → ClassId} {B nL c0 s0 : Nat} {ad : Nat → Nat} {kn : State → Prop} {cc : ByteArray} {ret : Option FieldType} {pc : Nat} {h : Hp} {lv : List (Nat × Value)} {st : List Value} {q : Nat} {x : Option Nat} (F : ZF p s m args meth c D tA B nL kn RX2 cc ret) (hin2 : meth.name = "<init>") (hd : decode cc pc = .ok (.putfield 53, 3)) (hO : zOw h) (t : zTy h q 2) (kk : ZW p l e R s m args below meth c Q D tA B nL c0 s0 ad (pc + 3) (zsr h q 25 x) lv st) : ZW p l e R s m args below meth c Q D tA B nL c0 s0 ad pc h lv (va_re ad x :: .ref (ad q) :: st) := 
  z_putF2 (ci := 2) (k := 25) (t := 2) (ty := (tyX2 25)) (h' := zsr h q 25 x) F hin2 rfl in_X2 tyX2_ok (by decide +kernel) (by decide) rfl (by decide) q1538 rfl rfl rfl (by cases x <;> rfl) (by cases x <;> rfl) hd rfl rfl rfl rfl (fun q' _ hq' => zen_sr hq') zfv_sr.1 zfv_sr.2 t.1 (zTy.tg t (by decide)) kk
theorem pw_X2_56 {p : Program} {l : Launch} {e : Env} {R : Room} {s : State} {m : MethodId} {args : Array Value} {below : List Frame} {meth : Method} {c : Code} {Q : State → Prop} {D : va_G} {tA : Nat → ClassId} {B nL c0 s0 : Nat} {ad : Nat → Nat} {kn : State → Prop} {cc : ByteArray} {ret : Option FieldType} {pc : Nat} {h : Hp} {lv : List (Nat × Value)} {st : List Value} {q : Nat} {x : Option Nat} (F : ZF p s m args meth c D tA B nL kn RX2 cc ret) (hin2 : meth.name = "<init>") (hd : decode cc pc = .ok (.putfield 56, 3)) (hO : zOw h) (t : zTy h q 2) (kk : ZW p l e R s m args below meth c Q D tA B nL c0 s0 ad (pc + 3) (zsr h q 26 x) lv st) : ZW p l e R s m args below meth c Q D tA B nL c0 s0 ad pc h lv (va_re ad x :: .ref (ad q) :: st) := 
  z_putF2 (ci := 2) (k := 26) (t := 2) (ty := (tyX2 26)) (h' := zsr h q 26 x) F hin2 rfl in_X2 tyX2_ok (by decide +kernel) (by decide) rfl (by decide) q1539 rfl rfl rfl (by cases x <;> rfl) (by cases x <;> rfl) hd rfl rfl rfl rfl (fun q' _ hq' => zen_sr hq') zfv_sr.1 zfv_sr.2 t.1 (zTy.tg t (by decide)) kk
theorem pw_X2_59 {p : Program} {l : Launch} {e : Env} {R : Room} {s : State} {m : MethodId} {args : Array Value} {below : List Frame} {meth : Method} {c : Code} {Q : State → Prop} {D : va_G} {tA : Nat → ClassId} {B nL c0 s0 : Nat} {ad : Nat → Nat} {kn : State → Prop} {cc : ByteArray} {ret : Option FieldType} {pc : Nat} {h : Hp} {lv : List (Nat × Value)} {st : List Value} {q : Nat} {x : Option Nat} (F : ZF p s m args meth c D tA B nL kn RX2 cc ret) (hin2 : meth.name = "<init>") (hd : decode cc pc = .ok (.putfield 59, 3)) (hO : zOw h) (t : zTy h q 2) (kk : ZW p l e R s m args below meth c Q D tA B nL c0 s0 ad (pc + 3) (zsr h q 27 x) lv st) : ZW p l e R s m args below meth c Q D tA B nL c0 s0 ad pc h lv (va_re ad x :: .ref (ad q) :: st) := 
  z_putF2 (ci := 2) (k := 27) (t := 2) (ty := (tyX2 27)) (h' := zsr h q 27 x) F hin2 rfl in_X2 tyX2_ok (by decide +kernel) (by decide) rfl (by decide) q1540 rfl rfl rfl (by cases x <;> rfl) (by cases x <;> rfl) hd rfl rfl rfl rfl (fun q' _ hq' => zen_sr hq') zfv_sr.1 zfv_sr.2 t.1 (zTy.tg t (by decide)) kk
theorem pw_X2_62 {p : Program} {l : Launch} {e : Env} {R : Room} {s : State} {m : MethodId} {args : Array Value} {below : List Frame} {meth : Method} {c : Code} {Q : State → Prop} {D : va_G} {tA : Nat → ClassId} {B nL c0 s0 : Nat} {ad : Nat → Nat} {kn : State → Prop} {cc : ByteArray} {ret : Option FieldType} {pc : Nat} {h : Hp} {lv : List (Nat × Value)} {st : List Value} {q : Nat} {x : Option Nat} (F : ZF p s m args meth c D tA B nL kn RX2 cc ret) (hin2 : meth.name = "<init>") (hd : decode cc pc = .ok (.putfield 62, 3)) (hO : zOw h) (t : zTy h q 2) (kk : ZW p l e R s m args below meth c Q D tA B nL c0 s0 ad (pc + 3) (zsr h q 28 x) lv st) : ZW p l e R s m args below meth c Q D tA B nL c0 s0 ad pc h lv (va_re ad x :: .ref (ad q) :: st) := 
  z_putF2 (ci := 2) (k := 28) (t := 2) (ty := (tyX2 28)) (h' := zsr h q 28 x) F hin2 rfl in_X2 tyX2_ok (by decide +kernel) (by decide) rfl (by decide) q1541 rfl rfl rfl (by cases x <;> rfl) (by cases x <;> rfl) hd rfl rfl rfl rfl (fun q' _ hq' => zen_sr hq') zfv_sr.1 zfv_sr.2 t.1 (zTy.tg t (by decide)) kk
theorem pw_X2_65 {p : Program} {l : Launch} {e : Env} {R : Room} {s : State} {m : MethodId} {args : Array Value} {below : List Frame} {meth : Method} {c : Code} {Q : State → Prop} {D : va_G} {tA : Nat → ClassId} {B nL c0 s0 : Nat} {ad : Nat → Nat} {kn : State → Prop} {cc : ByteArray} {ret : Option FieldType} {pc : Nat} {h : Hp} {lv : List (Nat × Value)} {st : List Value} {q : Nat} {x : Option Nat} (F : ZF p s m args meth c D tA B nL kn RX2 cc ret) (hin2 : meth.name = "<init>") (hd : decode cc pc = .ok (.putfield 65, 3)) (hO : zOw h) (t : zTy h q 2) (kk : ZW p l e R s m args below meth c Q D tA B nL c0 s0 ad (pc + 3) (zsr h q 41 x) lv st) : ZW p l e R s m args below meth c Q D tA B nL c0 s0 ad pc h lv (va_re ad x :: .ref (ad q) :: st) := 
  z_putF2 (ci := 2) (k := 41) (t := 2) (ty := (tyX2 41)) (h' := zsr h q 41 x) F hin2 rfl in_X2 tyX2_ok (by decide +kernel) (by decide) rfl (by decide) q1554 rfl rfl rfl (by cases x <;> rfl) (by cases x <;> rfl) hd rfl rfl rfl rfl (fun q' _ hq' => zen_sr hq') zfv_sr.1 zfv_sr.2 t.1 (zTy.tg t (by decide)) kk
theorem pw_X2_68 {p : Program} {l : Launch} {e : Env} {R : Room} {s : State} {m : MethodId} {args : Array Value} {below : List Frame} {meth : Method} {c : Code} {Q : State → Prop} {D : va_G} {tA : Nat → ClassId} {B nL c0 s0 : Nat} {ad : Nat → Nat} {kn : State → Prop} {cc : ByteArray} {ret : Option FieldType} {pc : Nat} {h : Hp} {lv : List (Nat × Value)} {st : List Value} {q : Nat} {x : Option Nat} (F : ZF p s m args meth c D tA B nL kn RX2 cc ret) (hin2 : meth.name = "<init>") (hd : decode cc pc = .ok (.putfield 68, 3)) (hO : zOw h) (t : zTy h q 2) (kk : ZW p l e R s m args below meth c Q D tA B nL c0 s0 ad (pc + 3) (zsr h q 42 x) lv st) : ZW p l e R s m args below meth c Q D tA B nL c0 s0 ad pc h lv (va_re ad x :: .ref (ad q) :: st) := 
  z_putF2 (ci := 2) (k := 42) (t := 2) (ty := (tyX2 42)) (h' := zsr h q 42 x) F hin2 rfl in_X2 tyX2_ok (by decide +kernel) (by decide) rfl (by decide) q1555 rfl rfl rfl (by cases x <;> rfl) (by cases x <;> rfl) hd rfl rfl rfl rfl (fun q' _ hq' => zen_sr hq') zfv_sr.1 zfv_sr.2 t.1 (zTy.tg t (by decide)) kk
theorem pw_X2_71 {p : Program} {l : Launch} {e : Env} {R : Room} {s : State} {m : MethodId} {args : Array Value} {below : List Frame} {meth : Method} {c : Code} {Q : State → Prop} {D : va_G} {tA : Nat → ClassId} {B nL c0 s0 : Nat} {ad : Nat → Nat} {kn : State → Prop} {cc : ByteArray} {ret : Option FieldType} {pc : Nat} {h : Hp} {lv : List (Nat × Value)} {st : List Value} {q : Nat} {x : Option Nat} (F : ZF p s m args meth c D tA B nL kn RX2 cc ret) (hin2 : meth.name = "<init>") (hd : decode cc pc = .ok (.putfield 71, 3)) (hO : zOw h) (t : zTy h q 2) (kk : ZW p l e R s m args below meth c Q D tA B nL c0 s0 ad (pc + 3) (zsr h q 46 x) lv st) : ZW p l e R s m args below meth c Q D tA B nL c0 s0 ad pc h lv (va_re ad x :: .ref (ad q) :: st) := 
  z_putF2 (ci := 2) (k := 46) (t := 2) (ty := (tyX2 46)) (h' := zsr h q 46 x) F hin2 rfl in_X2 tyX2_ok (by decide +kernel) (by decide) rfl (by decide) q1559 rfl rfl rfl (by cases x <;> rfl) (by cases x <;> rfl) hd rfl rfl rfl rfl (fun q' _ hq' => zen_sr hq') zfv_sr.1 zfv_sr.2 t.1 (zTy.tg t (by decide)) kk
theorem pw_X2_74 {p : Program} {l : Launch} {e : Env} {R : Room} {s : State} {m : MethodId} {args : Array Value} {below : List Frame} {meth : Method} {c : Code} {Q : State → Prop} {D : va_G} {tA : Nat → ClassId} {B nL c0 s0 : Nat} {ad : Nat → Nat} {kn : State → Prop} {cc : ByteArray} {ret : Option FieldType} {pc : Nat} {h : Hp} {lv : List (Nat × Value)} {st : List Value} {q : Nat} {x : Option Nat} (F : ZF p s m args meth c D tA B nL kn RX2 cc ret) (hin2 : meth.name = "<init>") (hd : decode cc pc = .ok (.putfield 74, 3)) (hO : zOw h) (t : zTy h q 2) (kk : ZW p l e R s m args below meth c Q D tA B nL c0 s0 ad (pc + 3) (zsr h q 47 x) lv st) : ZW p l e R s m args below meth c Q D tA B nL c0 s0 ad pc h lv (va_re ad x :: .ref (ad q) :: st) := 
  z_putF2 (ci := 2) (k := 47) (t := 2) (ty := (tyX2 47)) (h' := zsr h q 47 x) F hin2 rfl in_X2 tyX2_ok (by decide +kernel) (by decide) rfl (by decide) q1560 rfl rfl rfl (by cases x <;> rfl) (by cases x <;> rfl) hd rfl rfl rfl rfl (fun q' _ hq' => zen_sr hq') zfv_sr.1 zfv_sr.2 t.1 (zTy.tg t (by decide)) kk
theorem pw_X2_77 {p : Program} {l : Launch} {e : Env} {R : Room} {s : State} {m : MethodId} {args : Array Value} {below : List Frame} {meth : Method} {c : Code} {Q : State → Prop} {D : va_G} {tA : Nat → ClassId} {B nL c0 s0 : Nat} {ad : Nat → Nat} {kn : State → Prop} {cc : ByteArray} {ret : Option FieldType} {pc : Nat} {h : Hp} {lv : List (Nat × Value)} {st : List Value} {q : Nat} {x : Option Nat} (F : ZF p s m args meth c D tA B nL kn RX2 cc ret) (hin2 : meth.name = "<init>") (hd : decode cc pc = .ok (.putfield 77, 3)) (hO : zOw h) (t : zTy h q 2) (kk : ZW p l e R s m args below meth c Q D tA B nL c0 s0 ad (pc + 3) (zsr h q 48 x) lv st) : ZW p l e R s m args below meth c Q D tA B nL c0 s0 ad pc h lv (va_re ad x :: .ref (ad q) :: st) := 
  z_putF2 (ci := 2) (k := 48) (t := 2) (ty := (tyX2 48)) (h' := zsr h q 48 x) F hin2 rfl in_X2 tyX2_ok (by decide +kernel) (by decide) rfl (by decide) q1561 rfl rfl rfl (by cases x <;> rfl) (by cases x <;> rfl) hd rfl rfl rfl rfl (fun q' _ hq' => zen_sr hq') zfv_sr.1 zfv_sr.2 t.1 (zTy.tg t (by decide)) kk
theorem pw_X2_80 {p : Program} {l : Launch} {e : Env} {R : Room} {s : State} {m : MethodId} {args : Array Value} {below : List Frame} {meth : Method} {c : Code} {Q : State → Prop} {D : va_G} {tA : Nat → ClassId} {B nL c0 s0 : Nat} {ad : Nat → Nat} {kn : State → Prop} {cc : ByteArray} {ret : Option FieldType} {pc : Nat} {h : Hp} {lv : List (Nat × Value)} {st : List Value} {q : Nat} {x : Option Nat} (F : ZF p s m args meth c D tA B nL kn RX2 cc ret) (hin2 : meth.name = "<init>") (hd : decode cc pc = .ok (.putfield 80, 3)) (hO : zOw h) (t : zTy h q 2) (kk : ZW p l e R s m args below meth c Q D tA B nL c0 s0 ad (pc + 3) (zsr h q 49 x) lv st) : ZW p l e R s m args below meth c Q D tA B nL c0 s0 ad pc h lv (va_re ad x :: .ref (ad q) :: st) := 
  z_putF2 (ci := 2) (k := 49) (t := 2) (ty := (tyX2 49)) (h' := zsr h q 49 x) F hin2 rfl in_X2 tyX2_ok (by decide +kernel) (by decide) rfl (by decide) q1562 rfl rfl rfl (by cases x <;> rfl) (by cases x <;> rfl) hd rfl rfl rfl rfl (fun q' _ hq' => zen_sr hq') zfv_sr.1 zfv_sr.2 t.1 (zTy.tg t (by decide)) kk
theorem pw_X2_83 {p : Program} {l : Launch} {e : Env} {R : Room} {s : State} {m : MethodId} {args : Array Value} {below : List Frame} {meth : Method} {c : Code} {Q : State → Prop} {D : va_G} {tA : Nat → ClassId} {B nL c0 s0 : Nat} {ad : Nat → Nat} {kn : State → Prop} {cc : ByteArray} {ret : Option FieldType} {pc : Nat} {h : Hp} {lv : List (Nat × Value)} {st : List Value} {q : Nat} {x : Int32} (F : ZF p s m args meth c D tA B nL kn RX2 cc ret) (hd : decode cc pc = .ok (.putfield 83, 3)) (hO : zOw h) (t : zTy h q 2) (kk : ZW p l e R s m args below meth c Q D tA B nL c0 s0 ad (pc + 3) (zsi h q 15 x) lv st) : ZW p l e R s m args below meth c Q D tA B nL c0 s0 ad pc h lv (.int x :: .ref (ad q) :: st) := 
  z_put (ci := 2) (k := 15) (t := 0) (ty := .int) (h' := zsi h q 15 x) F rfl in_X2 tyX2_ok nmX2 (by decide) rfl (by decide) (Or.inl (F.ts _ q1528)) rfl rfl rfl rfl rfl hd rfl rfl rfl rfl (fun q' _ hq' => zen_si hq') zfv_si.1 zfv_si.2 t.1 (zTy.tg t (by decide)) kk
theorem pw_X2_87 {p : Program} {l : Launch} {e : Env} {R : Room} {s : State} {m : MethodId} {args : Array Value} {below : List Frame} {meth : Method} {c : Code} {Q : State → Prop} {D : va_G} {tA : Nat → ClassId} {B nL c0 s0 : Nat} {ad : Nat → Nat} {kn : State → Prop} {cc : ByteArray} {ret : Option FieldType} {pc : Nat} {h : Hp} {lv : List (Nat × Value)} {st : List Value} {q : Nat} {x : Int32} (F : ZF p s m args meth c D tA B nL kn RX2 cc ret) (hd : decode cc pc = .ok (.putfield 87, 3)) (hO : zOw h) (t : zTy h q 2) (kk : ZW p l e R s m args below meth c Q D tA B nL c0 s0 ad (pc + 3) (zsi h q 9 x) lv st) : ZW p l e R s m args below meth c Q D tA B nL c0 s0 ad pc h lv (.int x :: .ref (ad q) :: st) := 
  z_put (ci := 2) (k := 9) (t := 0) (ty := .int) (h' := zsi h q 9 x) F rfl in_X2 tyX2_ok nmX2 (by decide) rfl (by decide) (Or.inl (F.ts _ q1522)) rfl rfl rfl rfl rfl hd rfl rfl rfl rfl (fun q' _ hq' => zen_si hq') zfv_si.1 zfv_si.2 t.1 (zTy.tg t (by decide)) kk
theorem pw_X2_9 {p : Program} {l : Launch} {e : Env} {R : Room} {s : State} {m : MethodId} {args : Array Value} {below : List Frame} {meth : Method} {c : Code} {Q : State → Prop} {D : va_G} {tA : Nat → ClassId} {B nL c0 s0 : Nat} {ad : Nat → Nat} {kn : State → Prop} {cc : ByteArray} {ret : Option FieldType} {pc : Nat} {h : Hp} {lv : List (Nat × Value)} {st : List Value} {q : Nat} {x : Option Nat} (F : ZF p s m args meth c D tA B nL kn RX2 cc ret) (hin2 : meth.name = "<init>") (hd : decode cc pc = .ok (.putfield 9, 3)) (hO : zOw h) (t : zTy h q 2) (kk : ZW p l e R s m args below meth c Q D tA B nL c0 s0 ad (pc + 3) (zsr h q 0 x) lv st) : ZW p l e R s m args below meth c Q D tA B nL c0 s0 ad pc h lv (va_re ad x :: .ref (ad q) :: st) := 
  z_putF2 (ci := 2) (k := 0) (t := 2) (ty := (tyX2 0)) (h' := zsr h q 0 x) F hin2 rfl in_X2 tyX2_ok (by decide +kernel) (by decide) rfl (by decide) q1513 rfl rfl rfl (by cases x <;> rfl) (by cases x <;> rfl) hd rfl rfl rfl rfl (fun q' _ hq' => zen_sr hq') zfv_sr.1 zfv_sr.2 t.1 (zTy.tg t (by decide)) kk
def X2_init_b196 (a0 : Nat) (j215_122 : Hp → Option (Unit × Hp)) (k196_143 : Hp → Int32 → Option (Unit × Hp)) (h141 : Hp) (v142 : Int32) : Option (Unit × Hp) :=
  if (6 : Int32) ≤ v142 then (j215_122 h141 ) else (nm (zr h141 a0 46) fun o145 => dr o145 fun a146 => ck (0 ≤ v142.toInt ∧ v142.toInt < (zn h141 a146 : Int)) <| nm (zsi h141 a146 v142.toNatClampNeg (-1 : Int32)) fun h148 => nm (v142 + (1 : Int32) : Int32) fun v149 => k196_143 h148 v149)
def X2_init (h : Hp) (a0 : Nat) : Option (Unit × Hp) :=
  ck (¬ (12 : Int32) < 0) <| ck (zc h + 1 ≤ zLC ∧ zs h + (12 : Int32).toNatClampNeg ≤ zLS) <| nm (zx h) fun a3 => nm (zne h 100 (12 : Int32).toNatClampNeg (12 : Int32).toNatClampNeg) fun h4 => nm (zsr h4 a0 0 (some a3)) fun h5 => ck (¬ (40 : Int32) < 0) <| ck (zc h5 + 1 ≤ zLC ∧ zs h5 + (40 : Int32).toNatClampNeg ≤ zLS) <| nm (zx h5) fun a8 => nm (zne h5 100 (40 : Int32).toNatClampNeg (40 : Int32).toNatClampNeg) fun h9 => nm (zsr h9 a0 1 (some a8)) fun h10 => ck (¬ (40 : Int32) < 0) <| ck (zc h10 + 1 ≤ zLC ∧ zs h10 + (40 : Int32).toNatClampNeg ≤ zLS) <| nm (zx h10) fun a13 => nm (zne h10 100 (40 : Int32).toNatClampNeg (40 : Int32).toNatClampNeg) fun h14 => nm (zsr h14 a0 2 (some a13)) fun h15 => ck (¬ (40 : Int32) < 0) <| ck (zc h15 + 1 ≤ zLC ∧ zs h15 + (40 : Int32).toNatClampNeg ≤ zLS) <| nm (zx h15) fun a18 => nm (zne h15 100 (40 : Int32).toNatClampNeg (40 : Int32).toNatClampNeg) fun h19 => nm (zsr h19 a0 3 (some a18)) fun h20 => ck (¬ (4 : Int32) < 0) <| ck (zc h20 + 1 ≤ zLC ∧ zs h20 + (4 : Int32).toNatClampNeg ≤ zLS) <| nm (zx h20) fun a23 => nm (zne h20 100 (4 : Int32).toNatClampNeg (4 : Int32).toNatClampNeg) fun h24 => nm (zsr h24 a0 7 (some a23)) fun h25 => ck (¬ (4 : Int32) < 0) <| ck (zc h25 + 1 ≤ zLC ∧ zs h25 + (4 : Int32).toNatClampNeg ≤ zLS) <| nm (zx h25) fun a28 => nm (zne h25 100 (4 : Int32).toNatClampNeg (4 : Int32).toNatClampNeg) fun h29 => nm (zsr h29 a0 8 (some a28)) fun h30 => ck (¬ (5 : Int32) < 0) <| ck (zc h30 + 1 ≤ zLC ∧ zs h30 + (5 : Int32).toNatClampNeg ≤ zLS) <| nm (zx h30) fun a33 => nm (zne h30 100 (5 : Int32).toNatClampNeg (5 : Int32).toNatClampNeg) fun h34 => nm (zsr h34 a0 10 (some a33)) fun h35 => ck (¬ (4 : Int32) < 0) <| ck (zc h35 + 1 ≤ zLC ∧ zs h35 + (4 : Int32).toNatClampNeg ≤ zLS) <| nm (zx h35) fun a38 => nm (zne h35 100 (4 : Int32).toNatClampNeg (4 : Int32).toNatClampNeg) fun h39 => nm (zsr h39 a0 11 (some a38)) fun h40 => ck (¬ (120 : Int32) < 0) <| ck (zc h40 + 1 ≤ zLC ∧ zs h40 + (120 : Int32).toNatClampNeg ≤ zLS) <| nm (zx h40) fun a43 => nm (zne h40 100 (120 : Int32).toNatClampNeg (120 : Int32).toNatClampNeg) fun h44 => nm (zsr h44 a0 12 (some a43)) fun h45 => ck (¬ (120 : Int32) < 0) <| ck (zc h45 + 1 ≤ zLC ∧ zs h45 + (120 : Int32).toNatClampNeg ≤ zLS) <| nm (zx h45) fun a48 => nm (zne h45 100 (120 : Int32).toNatClampNeg (120 : Int32).toNatClampNeg) fun h49 => nm (zsr h49 a0 14 (some a48)) fun h50 => ck (¬ (5 : Int32) < 0) <| ck (zc h50 + 1 ≤ zLC ∧ zs h50 + (5 : Int32).toNatClampNeg ≤ zLS) <| nm (zx h50) fun a53 => nm (zne h50 100 (5 : Int32).toNatClampNeg (5 : Int32).toNatClampNeg) fun h54 => nm (zsr h54 a0 21 (some a53)) fun h55 => ck (¬ (10 : Int32) < 0) <| ck (zc h55 + 1 ≤ zLC ∧ zs h55 + (10 : Int32).toNatClampNeg ≤ zLS) <| nm (zx h55) fun a58 => nm (zne h55 104 (10 : Int32).toNatClampNeg (10 : Int32).toNatClampNeg) fun h59 => nm (zsr h59 a0 22 (some a58)) fun h60 => ck (¬ (2560 : Int32) < 0) <| ck (zc h60 + 1 ≤ zLC ∧ zs h60 + (2560 : Int32).toNatClampNeg ≤ zLS) <| nm (zx h60) fun a63 => nm (zne h60 104 (2560 : Int32).toNatClampNeg (2560 : Int32).toNatClampNeg) fun h64 => nm (zsr h64 a0 23 (some a63)) fun h65 => ck (¬ (640 : Int32) < 0) <| ck (zc h65 + 1 ≤ zLC ∧ zs h65 + (640 : Int32).toNatClampNeg ≤ zLS) <| nm (zx h65) fun a68 => nm (zne h65 100 (640 : Int32).toNatClampNeg (640 : Int32).toNatClampNeg) fun h69 => nm (zsr h69 a0 24 (some a68)) fun h70 => ck (¬ (640 : Int32) < 0) <| ck (zc h70 + 1 ≤ zLC ∧ zs h70 + (640 : Int32).toNatClampNeg ≤ zLS) <| nm (zx h70) fun a73 => nm (zne h70 100 (640 : Int32).toNatClampNeg (640 : Int32).toNatClampNeg) fun h74 => nm (zsr h74 a0 25 (some a73)) fun h75 => ck (¬ (4 : Int32) < 0) <| ck (zc h75 + 1 ≤ zLC ∧ zs h75 + (4 : Int32).toNatClampNeg ≤ zLS) <| nm (zx h75) fun a78 => nm (zne h75 104 (4 : Int32).toNatClampNeg (4 : Int32).toNatClampNeg) fun h79 => nm (zsr h79 a0 26 (some a78)) fun h80 => ck (¬ (640 : Int32) < 0) <| ck (zc h80 + 1 ≤ zLC ∧ zs h80 + (640 : Int32).toNatClampNeg ≤ zLS) <| nm (zx h80) fun a83 => nm (zne h80 104 (640 : Int32).toNatClampNeg (640 : Int32).toNatClampNeg) fun h84 => nm (zsr h84 a0 27 (some a83)) fun h85 => ck (¬ (4 : Int32) < 0) <| ck (zc h85 + 1 ≤ zLC ∧ zs h85 + (4 : Int32).toNatClampNeg ≤ zLS) <| nm (zx h85) fun a88 => nm (zne h85 100 (4 : Int32).toNatClampNeg (4 : Int32).toNatClampNeg) fun h89 => nm (zsr h89 a0 28 (some a88)) fun h90 => ck (¬ (50 : Int32) < 0) <| ck (zc h90 + 1 ≤ zLC ∧ zs h90 + (50 : Int32).toNatClampNeg ≤ zLS) <| nm (zx h90) fun a93 => nm (zne h90 100 (50 : Int32).toNatClampNeg (50 : Int32).toNatClampNeg) fun h94 => nm (zsr h94 a0 41 (some a93)) fun h95 => ck (¬ (24 : Int32) < 0) <| ck (zc h95 + 1 ≤ zLC ∧ zs h95 + (24 : Int32).toNatClampNeg ≤ zLS) <| nm (zx h95) fun a98 => nm (zne h95 100 (24 : Int32).toNatClampNeg (24 : Int32).toNatClampNeg) fun h99 => nm (zsr h99 a0 42 (some a98)) fun h100 => ck (¬ (6 : Int32) < 0) <| ck (zc h100 + 1 ≤ zLC ∧ zs h100 + (6 : Int32).toNatClampNeg ≤ zLS) <| nm (zx h100) fun a103 => nm (zne h100 100 (6 : Int32).toNatClampNeg (6 : Int32).toNatClampNeg) fun h104 => nm (zsr h104 a0 46 (some a103)) fun h105 => ck (¬ (6 : Int32) < 0) <| ck (zc h105 + 1 ≤ zLC ∧ zs h105 + (6 : Int32).toNatClampNeg ≤ zLS) <| nm (zx h105) fun a108 => nm (zne h105 100 (6 : Int32).toNatClampNeg (6 : Int32).toNatClampNeg) fun h109 => nm (zsr h109 a0 47 (some a108)) fun h110 => ck (¬ (360 : Int32) < 0) <| ck (zc h110 + 1 ≤ zLC ∧ zs h110 + (360 : Int32).toNatClampNeg ≤ zLS) <| nm (zx h110) fun a113 => nm (zne h110 104 (360 : Int32).toNatClampNeg (360 : Int32).toNatClampNeg) fun h114 => nm (zsr h114 a0 48 (some a113)) fun h115 => ck (¬ (60 : Int32) < 0) <| ck (zc h115 + 1 ≤ zLC ∧ zs h115 + (60 : Int32).toNatClampNeg ≤ zLS) <| nm (zx h115) fun a118 => nm (zne h115 104 (60 : Int32).toNatClampNeg (60 : Int32).toNatClampNeg) fun h119 => nm (zsr h119 a0 49 (some a118)) fun h120 => nm (fun (h121 : Hp)  => nm (zsi h121 a0 15 (-1 : Int32)) fun h123 => nm (zsi h123 a0 9 (6 : Int32)) fun h124 => nm (zr h124 a0 10) fun o125 => dr o125 fun a126 => ck (0 ≤ (1 : Int32).toInt ∧ (1 : Int32).toInt < (zn h124 a126 : Int)) <| nm (zsi h124 a126 (1 : Int32).toNatClampNeg (9 : Int32)) fun h128 => nm (zr h128 a0 10) fun o129 => dr o129 fun a130 => ck (0 ≤ (2 : Int32).toInt ∧ (2 : Int32).toInt < (zn h128 a130 : Int)) <| nm (zsi h128 a130 (2 : Int32).toNatClampNeg (4 : Int32)) fun h132 => nm (zr h132 a0 10) fun o133 => dr o133 fun a134 => ck (0 ≤ (3 : Int32).toInt ∧ (3 : Int32).toInt < (zn h132 a134 : Int)) <| nm (zsi h132 a134 (3 : Int32).toNatClampNeg (2 : Int32)) fun h136 => nm (zr h136 a0 10) fun o137 => dr o137 fun a138 => ck (0 ≤ (4 : Int32).toInt ∧ (4 : Int32).toInt < (zn h136 a138 : Int)) <| nm (zsi h136 a138 (4 : Int32).toNatClampNeg (1 : Int32)) fun h140 => some ((), h140)) fun j215_122 => zfix (fun _ _ => none) (X2_init_b196 a0 j215_122) zFU h120 (0 : Int32)
set_option maxHeartbeats 4000000 in
theorem mX2_init {l : Launch} {D : va_G} {tA : Nat → ClassId} {B : Nat} {kn : State → Prop} {h hE : Hp} {ad : Nat → Nat} {a0 : Nat} (hkp : zKp D tA B kn) (hO_h : zOw h) (t_a0 : zTy h a0 2) (hf : X2_init h a0 = some ((), hE)) : zM l D tA B kn yX2_init (ws_ yX2_init cX2_init 2 (Option.none : Option Jvm.ClassFile.FieldType)) 1 28 h ad [.ref (ad a0)] hE (zRvw D tA B h ad hE) := by
  refine zM_of hkp (by decide +kernel) (Nat.le_of_ble_eq_true rfl) ?_
  intro p e s m args below meth c F hnm
  show ZW p l e (zRm 1 28 h) s m args below meth c (MQ below (zRvw D tA B h ad hE) args s (zc hE - zc h) (zs hE - zs h) (fun q => B ≤ q)) D tA B 2 (zc h) (zs h) ad 0 h [(0, .ref (ad a0))] []
  replace hf := (X2_init.eq_1 h a0).symm.trans hf
  refine w_aload_n F dX2_init_0 0 rfl ?_
  refine z_obj F q1512 q142 q143 dX2_init_1 (Nat.le_of_ble_eq_true rfl) ⟨Nat.le_of_ble_eq_true rfl, Nat.le_of_ble_eq_true rfl⟩ ?_
  refine w_aload_n F dX2_init_4 0 rfl ?_
  refine w_bipush (v := 12) F dX2_init_5 rfl ?_
  replace hf := ck_o hf
  obtain ⟨c1, hf⟩ := hf
  replace hf := ck_o hf
  obtain ⟨c2, hf⟩ := hf
  refine z_newa (j := 0) (atype := .int) F hO_h.1 ⟨(zEx.rf h).2.1, (zEx.rf h).2.2.1⟩ q160 rfl rfl (by intro C z; cases z) rfl (fun _ => rfl) c1 rfl (by have z := c2.2; simp only [zLS] at z; show _ * 4 ≤ _; omega) (z_lim1 (zEx.rf h) c2) dX2_init_7 (fun ad_h4 hA_h4 => ?_)
  rw [← hA_h4 a0 (t_a0.1)]
  replace hf := nm_o hf
  obtain ⟨a3, ea3, hf⟩ := hf
  rw [← ea3]
  replace hf := nm_o hf
  obtain ⟨h4, eh4, hf⟩ := hf
  refine w_nh eh4 ?_
  have Eh4 : zEx h h4 := by rw [eh4]; exact zEx.ne
  have hO_h4 : zOw h4 := by rw [eh4]; exact hO_h.ne c2
  have t_a0 := t_a0.ex Eh4
  have t_a3 : zTy h4 a3 100 := by rw [eh4, ea3]; exact zTy.new (by decide)
  refine pw_X2_9 (x := (some a3)) F hnm dX2_init_9 hO_h4 (t_a0) ?_
  replace hf := nm_o hf
  obtain ⟨h5, eh5, hf⟩ := hf
  refine w_nh eh5 ?_
  have Eh5 : zEx h4 h5 := by rw [eh5]; exact zEx.sr
  have hO_h5 : zOw h5 := by rw [eh5]; exact hO_h4.srt (t_a0).1 (zTy.tg t_a0 (by decide)) (by decide) (zTo.of t_a3)
  have t_a0 := t_a0.ex Eh5
  refine w_aload_n F dX2_init_12 0 rfl ?_
  refine w_bipush (v := 40) F dX2_init_13 rfl ?_
  replace hf := ck_o hf
  obtain ⟨c6, hf⟩ := hf
  replace hf := ck_o hf
  obtain ⟨c7, hf⟩ := hf
  refine z_newa (j := 0) (atype := .int) F hO_h5.1 ⟨((Eh4).tr Eh5).2.1, ((Eh4).tr Eh5).2.2.1⟩ q160 rfl rfl (by intro C z; cases z) rfl (fun _ => rfl) c6 rfl (by have z := c7.2; simp only [zLS] at z; show _ * 4 ≤ _; omega) (z_lim1 ((Eh4).tr Eh5) c7) dX2_init_15 (fun ad_h9 hA_h9 => ?_)
  rw [← hA_h9 a0 (t_a0.1)]
  replace hf := nm_o hf
  obtain ⟨a8, ea8, hf⟩ := hf
  rw [← ea8]
  replace hf := nm_o hf
  obtain ⟨h9, eh9, hf⟩ := hf
  refine w_nh eh9 ?_
  have Eh9 : zEx h5 h9 := by rw [eh9]; exact zEx.ne
  have hO_h9 : zOw h9 := by rw [eh9]; exact hO_h5.ne c7
  have t_a0 := t_a0.ex Eh9
  have t_a8 : zTy h9 a8 100 := by rw [eh9, ea8]; exact zTy.new (by decide)
  refine pw_X2_13 (x := (some a8)) F hnm dX2_init_17 hO_h9 (t_a0) ?_
  replace hf := nm_o hf
  obtain ⟨h10, eh10, hf⟩ := hf
  refine w_nh eh10 ?_
  have Eh10 : zEx h9 h10 := by rw [eh10]; exact zEx.sr
  have hO_h10 : zOw h10 := by rw [eh10]; exact hO_h9.srt (t_a0).1 (zTy.tg t_a0 (by decide)) (by decide) (zTo.of t_a8)
  have t_a0 := t_a0.ex Eh10
  refine w_aload_n F dX2_init_20 0 rfl ?_
  refine w_bipush (v := 40) F dX2_init_21 rfl ?_
  replace hf := ck_o hf
  obtain ⟨c11, hf⟩ := hf
  replace hf := ck_o hf
  obtain ⟨c12, hf⟩ := hf
  refine z_newa (j := 0) (atype := .int) F hO_h10.1 ⟨((((Eh4).tr Eh5).tr Eh9).tr Eh10).2.1, ((((Eh4).tr Eh5).tr Eh9).tr Eh10).2.2.1⟩ q160 rfl rfl (by intro C z; cases z) rfl (fun _ => rfl) c11 rfl (by have z := c12.2; simp only [zLS] at z; show _ * 4 ≤ _; omega) (z_lim1 ((((Eh4).tr Eh5).tr Eh9).tr Eh10) c12) dX2_init_23 (fun ad_h14 hA_h14 => ?_)
  rw [← hA_h14 a0 (t_a0.1)]
  replace hf := nm_o hf
  obtain ⟨a13, ea13, hf⟩ := hf
  rw [← ea13]
  replace hf := nm_o hf
  obtain ⟨h14, eh14, hf⟩ := hf
  refine w_nh eh14 ?_
  have Eh14 : zEx h10 h14 := by rw [eh14]; exact zEx.ne
  have hO_h14 : zOw h14 := by rw [eh14]; exact hO_h10.ne c12
  have t_a0 := t_a0.ex Eh14
  have t_a13 : zTy h14 a13 100 := by rw [eh14, ea13]; exact zTy.new (by decide)
  refine pw_X2_16 (x := (some a13)) F hnm dX2_init_25 hO_h14 (t_a0) ?_
  replace hf := nm_o hf
  obtain ⟨h15, eh15, hf⟩ := hf
  refine w_nh eh15 ?_
  have Eh15 : zEx h14 h15 := by rw [eh15]; exact zEx.sr
  have hO_h15 : zOw h15 := by rw [eh15]; exact hO_h14.srt (t_a0).1 (zTy.tg t_a0 (by decide)) (by decide) (zTo.of t_a13)
  have t_a0 := t_a0.ex Eh15
  refine w_aload_n F dX2_init_28 0 rfl ?_
  refine w_bipush (v := 40) F dX2_init_29 rfl ?_
  replace hf := ck_o hf
  obtain ⟨c16, hf⟩ := hf
  replace hf := ck_o hf
  obtain ⟨c17, hf⟩ := hf
  refine z_newa (j := 0) (atype := .int) F hO_h15.1 ⟨((((((Eh4).tr Eh5).tr Eh9).tr Eh10).tr Eh14).tr Eh15).2.1, ((((((Eh4).tr Eh5).tr Eh9).tr Eh10).tr Eh14).tr Eh15).2.2.1⟩ q160 rfl rfl (by intro C z; cases z) rfl (fun _ => rfl) c16 rfl (by have z := c17.2; simp only [zLS] at z; show _ * 4 ≤ _; omega) (z_lim1 ((((((Eh4).tr Eh5).tr Eh9).tr Eh10).tr Eh14).tr Eh15) c17) dX2_init_31 (fun ad_h19 hA_h19 => ?_)
  rw [← hA_h19 a0 (t_a0.1)]
  replace hf := nm_o hf
  obtain ⟨a18, ea18, hf⟩ := hf
  rw [← ea18]
  replace hf := nm_o hf
  obtain ⟨h19, eh19, hf⟩ := hf
  refine w_nh eh19 ?_
  have Eh19 : zEx h15 h19 := by rw [eh19]; exact zEx.ne
  have hO_h19 : zOw h19 := by rw [eh19]; exact hO_h15.ne c17
  have t_a0 := t_a0.ex Eh19
  have t_a18 : zTy h19 a18 100 := by rw [eh19, ea18]; exact zTy.new (by decide)
  refine pw_X2_19 (x := (some a18)) F hnm dX2_init_33 hO_h19 (t_a0) ?_
  replace hf := nm_o hf
  obtain ⟨h20, eh20, hf⟩ := hf
  refine w_nh eh20 ?_
  have Eh20 : zEx h19 h20 := by rw [eh20]; exact zEx.sr
  have hO_h20 : zOw h20 := by rw [eh20]; exact hO_h19.srt (t_a0).1 (zTy.tg t_a0 (by decide)) (by decide) (zTo.of t_a18)
  have t_a0 := t_a0.ex Eh20
  refine w_aload_n F dX2_init_36 0 rfl ?_
  refine w_iconst (v := 4) F dX2_init_37 rfl ?_
  replace hf := ck_o hf
  obtain ⟨c21, hf⟩ := hf
  replace hf := ck_o hf
  obtain ⟨c22, hf⟩ := hf
  refine z_newa (j := 0) (atype := .int) F hO_h20.1 ⟨((((((((Eh4).tr Eh5).tr Eh9).tr Eh10).tr Eh14).tr Eh15).tr Eh19).tr Eh20).2.1, ((((((((Eh4).tr Eh5).tr Eh9).tr Eh10).tr Eh14).tr Eh15).tr Eh19).tr Eh20).2.2.1⟩ q160 rfl rfl (by intro C z; cases z) rfl (fun _ => rfl) c21 rfl (by have z := c22.2; simp only [zLS] at z; show _ * 4 ≤ _; omega) (z_lim1 ((((((((Eh4).tr Eh5).tr Eh9).tr Eh10).tr Eh14).tr Eh15).tr Eh19).tr Eh20) c22) dX2_init_38 (fun ad_h24 hA_h24 => ?_)
  rw [← hA_h24 a0 (t_a0.1)]
  replace hf := nm_o hf
  obtain ⟨a23, ea23, hf⟩ := hf
  rw [← ea23]
  replace hf := nm_o hf
  obtain ⟨h24, eh24, hf⟩ := hf
  refine w_nh eh24 ?_
  have Eh24 : zEx h20 h24 := by rw [eh24]; exact zEx.ne
  have hO_h24 : zOw h24 := by rw [eh24]; exact hO_h20.ne c22
  have t_a0 := t_a0.ex Eh24
  have t_a23 : zTy h24 a23 100 := by rw [eh24, ea23]; exact zTy.new (by decide)
  refine pw_X2_22 (x := (some a23)) F hnm dX2_init_40 hO_h24 (t_a0) ?_
  replace hf := nm_o hf
  obtain ⟨h25, eh25, hf⟩ := hf
  refine w_nh eh25 ?_
  have Eh25 : zEx h24 h25 := by rw [eh25]; exact zEx.sr
  have hO_h25 : zOw h25 := by rw [eh25]; exact hO_h24.srt (t_a0).1 (zTy.tg t_a0 (by decide)) (by decide) (zTo.of t_a23)
  have t_a0 := t_a0.ex Eh25
  refine w_aload_n F dX2_init_43 0 rfl ?_
  refine w_iconst (v := 4) F dX2_init_44 rfl ?_
  replace hf := ck_o hf
  obtain ⟨c26, hf⟩ := hf
  replace hf := ck_o hf
  obtain ⟨c27, hf⟩ := hf
  refine z_newa (j := 0) (atype := .int) F hO_h25.1 ⟨((((((((((Eh4).tr Eh5).tr Eh9).tr Eh10).tr Eh14).tr Eh15).tr Eh19).tr Eh20).tr Eh24).tr Eh25).2.1, ((((((((((Eh4).tr Eh5).tr Eh9).tr Eh10).tr Eh14).tr Eh15).tr Eh19).tr Eh20).tr Eh24).tr Eh25).2.2.1⟩ q160 rfl rfl (by intro C z; cases z) rfl (fun _ => rfl) c26 rfl (by have z := c27.2; simp only [zLS] at z; show _ * 4 ≤ _; omega) (z_lim1 ((((((((((Eh4).tr Eh5).tr Eh9).tr Eh10).tr Eh14).tr Eh15).tr Eh19).tr Eh20).tr Eh24).tr Eh25) c27) dX2_init_45 (fun ad_h29 hA_h29 => ?_)
  rw [← hA_h29 a0 (t_a0.1)]
  replace hf := nm_o hf
  obtain ⟨a28, ea28, hf⟩ := hf
  rw [← ea28]
  replace hf := nm_o hf
  obtain ⟨h29, eh29, hf⟩ := hf
  refine w_nh eh29 ?_
  have Eh29 : zEx h25 h29 := by rw [eh29]; exact zEx.ne
  have hO_h29 : zOw h29 := by rw [eh29]; exact hO_h25.ne c27
  have t_a0 := t_a0.ex Eh29
  have t_a28 : zTy h29 a28 100 := by rw [eh29, ea28]; exact zTy.new (by decide)
  refine pw_X2_25 (x := (some a28)) F hnm dX2_init_47 hO_h29 (t_a0) ?_
  replace hf := nm_o hf
  obtain ⟨h30, eh30, hf⟩ := hf
  refine w_nh eh30 ?_
  have Eh30 : zEx h29 h30 := by rw [eh30]; exact zEx.sr
  have hO_h30 : zOw h30 := by rw [eh30]; exact hO_h29.srt (t_a0).1 (zTy.tg t_a0 (by decide)) (by decide) (zTo.of t_a28)
  have t_a0 := t_a0.ex Eh30
  refine w_aload_n F dX2_init_50 0 rfl ?_
  refine w_iconst (v := 5) F dX2_init_51 rfl ?_
  replace hf := ck_o hf
  obtain ⟨c31, hf⟩ := hf
  replace hf := ck_o hf
  obtain ⟨c32, hf⟩ := hf
  refine z_newa (j := 0) (atype := .int) F hO_h30.1 ⟨((((((((((((Eh4).tr Eh5).tr Eh9).tr Eh10).tr Eh14).tr Eh15).tr Eh19).tr Eh20).tr Eh24).tr Eh25).tr Eh29).tr Eh30).2.1, ((((((((((((Eh4).tr Eh5).tr Eh9).tr Eh10).tr Eh14).tr Eh15).tr Eh19).tr Eh20).tr Eh24).tr Eh25).tr Eh29).tr Eh30).2.2.1⟩ q160 rfl rfl (by intro C z; cases z) rfl (fun _ => rfl) c31 rfl (by have z := c32.2; simp only [zLS] at z; show _ * 4 ≤ _; omega) (z_lim1 ((((((((((((Eh4).tr Eh5).tr Eh9).tr Eh10).tr Eh14).tr Eh15).tr Eh19).tr Eh20).tr Eh24).tr Eh25).tr Eh29).tr Eh30) c32) dX2_init_52 (fun ad_h34 hA_h34 => ?_)
  rw [← hA_h34 a0 (t_a0.1)]
  replace hf := nm_o hf
  obtain ⟨a33, ea33, hf⟩ := hf
  rw [← ea33]
  replace hf := nm_o hf
  obtain ⟨h34, eh34, hf⟩ := hf
  refine w_nh eh34 ?_
  have Eh34 : zEx h30 h34 := by rw [eh34]; exact zEx.ne
  have hO_h34 : zOw h34 := by rw [eh34]; exact hO_h30.ne c32
  have t_a0 := t_a0.ex Eh34
  have t_a33 : zTy h34 a33 100 := by rw [eh34, ea33]; exact zTy.new (by decide)
  refine pw_X2_28 (x := (some a33)) F hnm dX2_init_54 hO_h34 (t_a0) ?_
  replace hf := nm_o hf
  obtain ⟨h35, eh35, hf⟩ := hf
  refine w_nh eh35 ?_
  have Eh35 : zEx h34 h35 := by rw [eh35]; exact zEx.sr
  have hO_h35 : zOw h35 := by rw [eh35]; exact hO_h34.srt (t_a0).1 (zTy.tg t_a0 (by decide)) (by decide) (zTo.of t_a33)
  have t_a0 := t_a0.ex Eh35
  refine w_aload_n F dX2_init_57 0 rfl ?_
  refine w_iconst (v := 4) F dX2_init_58 rfl ?_
  replace hf := ck_o hf
  obtain ⟨c36, hf⟩ := hf
  replace hf := ck_o hf
  obtain ⟨c37, hf⟩ := hf
  refine z_newa (j := 0) (atype := .int) F hO_h35.1 ⟨((((((((((((((Eh4).tr Eh5).tr Eh9).tr Eh10).tr Eh14).tr Eh15).tr Eh19).tr Eh20).tr Eh24).tr Eh25).tr Eh29).tr Eh30).tr Eh34).tr Eh35).2.1, ((((((((((((((Eh4).tr Eh5).tr Eh9).tr Eh10).tr Eh14).tr Eh15).tr Eh19).tr Eh20).tr Eh24).tr Eh25).tr Eh29).tr Eh30).tr Eh34).tr Eh35).2.2.1⟩ q160 rfl rfl (by intro C z; cases z) rfl (fun _ => rfl) c36 rfl (by have z := c37.2; simp only [zLS] at z; show _ * 4 ≤ _; omega) (z_lim1 ((((((((((((((Eh4).tr Eh5).tr Eh9).tr Eh10).tr Eh14).tr Eh15).tr Eh19).tr Eh20).tr Eh24).tr Eh25).tr Eh29).tr Eh30).tr Eh34).tr Eh35) c37) dX2_init_59 (fun ad_h39 hA_h39 => ?_)
  rw [← hA_h39 a0 (t_a0.1)]
  replace hf := nm_o hf
  obtain ⟨a38, ea38, hf⟩ := hf
  rw [← ea38]
  replace hf := nm_o hf
  obtain ⟨h39, eh39, hf⟩ := hf
  refine w_nh eh39 ?_
  have Eh39 : zEx h35 h39 := by rw [eh39]; exact zEx.ne
  have hO_h39 : zOw h39 := by rw [eh39]; exact hO_h35.ne c37
  have t_a0 := t_a0.ex Eh39
  have t_a38 : zTy h39 a38 100 := by rw [eh39, ea38]; exact zTy.new (by decide)
  refine pw_X2_31 (x := (some a38)) F hnm dX2_init_61 hO_h39 (t_a0) ?_
  replace hf := nm_o hf
  obtain ⟨h40, eh40, hf⟩ := hf
  refine w_nh eh40 ?_
  have Eh40 : zEx h39 h40 := by rw [eh40]; exact zEx.sr
  have hO_h40 : zOw h40 := by rw [eh40]; exact hO_h39.srt (t_a0).1 (zTy.tg t_a0 (by decide)) (by decide) (zTo.of t_a38)
  have t_a0 := t_a0.ex Eh40
  refine w_aload_n F dX2_init_64 0 rfl ?_
  refine w_bipush (v := 120) F dX2_init_65 rfl ?_
  replace hf := ck_o hf
  obtain ⟨c41, hf⟩ := hf
  replace hf := ck_o hf
  obtain ⟨c42, hf⟩ := hf
  refine z_newa (j := 0) (atype := .int) F hO_h40.1 ⟨((((((((((((((((Eh4).tr Eh5).tr Eh9).tr Eh10).tr Eh14).tr Eh15).tr Eh19).tr Eh20).tr Eh24).tr Eh25).tr Eh29).tr Eh30).tr Eh34).tr Eh35).tr Eh39).tr Eh40).2.1, ((((((((((((((((Eh4).tr Eh5).tr Eh9).tr Eh10).tr Eh14).tr Eh15).tr Eh19).tr Eh20).tr Eh24).tr Eh25).tr Eh29).tr Eh30).tr Eh34).tr Eh35).tr Eh39).tr Eh40).2.2.1⟩ q160 rfl rfl (by intro C z; cases z) rfl (fun _ => rfl) c41 rfl (by have z := c42.2; simp only [zLS] at z; show _ * 4 ≤ _; omega) (z_lim1 ((((((((((((((((Eh4).tr Eh5).tr Eh9).tr Eh10).tr Eh14).tr Eh15).tr Eh19).tr Eh20).tr Eh24).tr Eh25).tr Eh29).tr Eh30).tr Eh34).tr Eh35).tr Eh39).tr Eh40) c42) dX2_init_67 (fun ad_h44 hA_h44 => ?_)
  rw [← hA_h44 a0 (t_a0.1)]
  replace hf := nm_o hf
  obtain ⟨a43, ea43, hf⟩ := hf
  rw [← ea43]
  replace hf := nm_o hf
  obtain ⟨h44, eh44, hf⟩ := hf
  refine w_nh eh44 ?_
  have Eh44 : zEx h40 h44 := by rw [eh44]; exact zEx.ne
  have hO_h44 : zOw h44 := by rw [eh44]; exact hO_h40.ne c42
  have t_a0 := t_a0.ex Eh44
  have t_a43 : zTy h44 a43 100 := by rw [eh44, ea43]; exact zTy.new (by decide)
  refine pw_X2_34 (x := (some a43)) F hnm dX2_init_69 hO_h44 (t_a0) ?_
  replace hf := nm_o hf
  obtain ⟨h45, eh45, hf⟩ := hf
  refine w_nh eh45 ?_
  have Eh45 : zEx h44 h45 := by rw [eh45]; exact zEx.sr
  have hO_h45 : zOw h45 := by rw [eh45]; exact hO_h44.srt (t_a0).1 (zTy.tg t_a0 (by decide)) (by decide) (zTo.of t_a43)
  have t_a0 := t_a0.ex Eh45
  refine w_aload_n F dX2_init_72 0 rfl ?_
  refine w_bipush (v := 120) F dX2_init_73 rfl ?_
  replace hf := ck_o hf
  obtain ⟨c46, hf⟩ := hf
  replace hf := ck_o hf
  obtain ⟨c47, hf⟩ := hf
  refine z_newa (j := 0) (atype := .int) F hO_h45.1 ⟨((((((((((((((((((Eh4).tr Eh5).tr Eh9).tr Eh10).tr Eh14).tr Eh15).tr Eh19).tr Eh20).tr Eh24).tr Eh25).tr Eh29).tr Eh30).tr Eh34).tr Eh35).tr Eh39).tr Eh40).tr Eh44).tr Eh45).2.1, ((((((((((((((((((Eh4).tr Eh5).tr Eh9).tr Eh10).tr Eh14).tr Eh15).tr Eh19).tr Eh20).tr Eh24).tr Eh25).tr Eh29).tr Eh30).tr Eh34).tr Eh35).tr Eh39).tr Eh40).tr Eh44).tr Eh45).2.2.1⟩ q160 rfl rfl (by intro C z; cases z) rfl (fun _ => rfl) c46 rfl (by have z := c47.2; simp only [zLS] at z; show _ * 4 ≤ _; omega) (z_lim1 ((((((((((((((((((Eh4).tr Eh5).tr Eh9).tr Eh10).tr Eh14).tr Eh15).tr Eh19).tr Eh20).tr Eh24).tr Eh25).tr Eh29).tr Eh30).tr Eh34).tr Eh35).tr Eh39).tr Eh40).tr Eh44).tr Eh45) c47) dX2_init_75 (fun ad_h49 hA_h49 => ?_)
  rw [← hA_h49 a0 (t_a0.1)]
  replace hf := nm_o hf
  obtain ⟨a48, ea48, hf⟩ := hf
  rw [← ea48]
  replace hf := nm_o hf
  obtain ⟨h49, eh49, hf⟩ := hf
  refine w_nh eh49 ?_
  have Eh49 : zEx h45 h49 := by rw [eh49]; exact zEx.ne
  have hO_h49 : zOw h49 := by rw [eh49]; exact hO_h45.ne c47
  have t_a0 := t_a0.ex Eh49
  have t_a48 : zTy h49 a48 100 := by rw [eh49, ea48]; exact zTy.new (by decide)
  refine pw_X2_37 (x := (some a48)) F hnm dX2_init_77 hO_h49 (t_a0) ?_
  replace hf := nm_o hf
  obtain ⟨h50, eh50, hf⟩ := hf
  refine w_nh eh50 ?_
  have Eh50 : zEx h49 h50 := by rw [eh50]; exact zEx.sr
  have hO_h50 : zOw h50 := by rw [eh50]; exact hO_h49.srt (t_a0).1 (zTy.tg t_a0 (by decide)) (by decide) (zTo.of t_a48)
  have t_a0 := t_a0.ex Eh50
  refine w_aload_n F dX2_init_80 0 rfl ?_
  refine w_iconst (v := 5) F dX2_init_81 rfl ?_
  replace hf := ck_o hf
  obtain ⟨c51, hf⟩ := hf
  replace hf := ck_o hf
  obtain ⟨c52, hf⟩ := hf
  refine z_newa (j := 0) (atype := .int) F hO_h50.1 ⟨((((((((((((((((((((Eh4).tr Eh5).tr Eh9).tr Eh10).tr Eh14).tr Eh15).tr Eh19).tr Eh20).tr Eh24).tr Eh25).tr Eh29).tr Eh30).tr Eh34).tr Eh35).tr Eh39).tr Eh40).tr Eh44).tr Eh45).tr Eh49).tr Eh50).2.1, ((((((((((((((((((((Eh4).tr Eh5).tr Eh9).tr Eh10).tr Eh14).tr Eh15).tr Eh19).tr Eh20).tr Eh24).tr Eh25).tr Eh29).tr Eh30).tr Eh34).tr Eh35).tr Eh39).tr Eh40).tr Eh44).tr Eh45).tr Eh49).tr Eh50).2.2.1⟩ q160 rfl rfl (by intro C z; cases z) rfl (fun _ => rfl) c51 rfl (by have z := c52.2; simp only [zLS] at z; show _ * 4 ≤ _; omega) (z_lim1 ((((((((((((((((((((Eh4).tr Eh5).tr Eh9).tr Eh10).tr Eh14).tr Eh15).tr Eh19).tr Eh20).tr Eh24).tr Eh25).tr Eh29).tr Eh30).tr Eh34).tr Eh35).tr Eh39).tr Eh40).tr Eh44).tr Eh45).tr Eh49).tr Eh50) c52) dX2_init_82 (fun ad_h54 hA_h54 => ?_)
  rw [← hA_h54 a0 (t_a0.1)]
  replace hf := nm_o hf
  obtain ⟨a53, ea53, hf⟩ := hf
  rw [← ea53]
  replace hf := nm_o hf
  obtain ⟨h54, eh54, hf⟩ := hf
  refine w_nh eh54 ?_
  have Eh54 : zEx h50 h54 := by rw [eh54]; exact zEx.ne
  have hO_h54 : zOw h54 := by rw [eh54]; exact hO_h50.ne c52
  have t_a0 := t_a0.ex Eh54
  have t_a53 : zTy h54 a53 100 := by rw [eh54, ea53]; exact zTy.new (by decide)
  refine pw_X2_40 (x := (some a53)) F hnm dX2_init_84 hO_h54 (t_a0) ?_
  replace hf := nm_o hf
  obtain ⟨h55, eh55, hf⟩ := hf
  refine w_nh eh55 ?_
  have Eh55 : zEx h54 h55 := by rw [eh55]; exact zEx.sr
  have hO_h55 : zOw h55 := by rw [eh55]; exact hO_h54.srt (t_a0).1 (zTy.tg t_a0 (by decide)) (by decide) (zTo.of t_a53)
  have t_a0 := t_a0.ex Eh55
  refine w_aload_n F dX2_init_87 0 rfl ?_
  refine w_bipush (v := 10) F dX2_init_88 rfl ?_
  replace hf := ck_o hf
  obtain ⟨c56, hf⟩ := hf
  replace hf := ck_o hf
  obtain ⟨c57, hf⟩ := hf
  refine z_newa (j := 4) (atype := .long) F hO_h55.1 ⟨((((((((((((((((((((((Eh4).tr Eh5).tr Eh9).tr Eh10).tr Eh14).tr Eh15).tr Eh19).tr Eh20).tr Eh24).tr Eh25).tr Eh29).tr Eh30).tr Eh34).tr Eh35).tr Eh39).tr Eh40).tr Eh44).tr Eh45).tr Eh49).tr Eh50).tr Eh54).tr Eh55).2.1, ((((((((((((((((((((((Eh4).tr Eh5).tr Eh9).tr Eh10).tr Eh14).tr Eh15).tr Eh19).tr Eh20).tr Eh24).tr Eh25).tr Eh29).tr Eh30).tr Eh34).tr Eh35).tr Eh39).tr Eh40).tr Eh44).tr Eh45).tr Eh49).tr Eh50).tr Eh54).tr Eh55).2.2.1⟩ q292 rfl rfl (by intro C z; cases z) rfl (fun _ => rfl) c56 rfl (by have z := c57.2; simp only [zLS] at z; show _ * 8 ≤ _; omega) (z_lim1 ((((((((((((((((((((((Eh4).tr Eh5).tr Eh9).tr Eh10).tr Eh14).tr Eh15).tr Eh19).tr Eh20).tr Eh24).tr Eh25).tr Eh29).tr Eh30).tr Eh34).tr Eh35).tr Eh39).tr Eh40).tr Eh44).tr Eh45).tr Eh49).tr Eh50).tr Eh54).tr Eh55) c57) dX2_init_90 (fun ad_h59 hA_h59 => ?_)
  rw [← hA_h59 a0 (t_a0.1)]
  replace hf := nm_o hf
  obtain ⟨a58, ea58, hf⟩ := hf
  rw [← ea58]
  replace hf := nm_o hf
  obtain ⟨h59, eh59, hf⟩ := hf
  refine w_nh eh59 ?_
  have Eh59 : zEx h55 h59 := by rw [eh59]; exact zEx.ne
  have hO_h59 : zOw h59 := by rw [eh59]; exact hO_h55.ne c57
  have t_a0 := t_a0.ex Eh59
  have t_a58 : zTy h59 a58 104 := by rw [eh59, ea58]; exact zTy.new (by decide)
  refine pw_X2_43 (x := (some a58)) F hnm dX2_init_92 hO_h59 (t_a0) ?_
  replace hf := nm_o hf
  obtain ⟨h60, eh60, hf⟩ := hf
  refine w_nh eh60 ?_
  have Eh60 : zEx h59 h60 := by rw [eh60]; exact zEx.sr
  have hO_h60 : zOw h60 := by rw [eh60]; exact hO_h59.srt (t_a0).1 (zTy.tg t_a0 (by decide)) (by decide) (zTo.of t_a58)
  have t_a0 := t_a0.ex Eh60
  refine w_aload_n F dX2_init_95 0 rfl ?_
  refine w_sipush (v := 2560) F dX2_init_96 rfl ?_
  replace hf := ck_o hf
  obtain ⟨c61, hf⟩ := hf
  replace hf := ck_o hf
  obtain ⟨c62, hf⟩ := hf
  refine z_newa (j := 4) (atype := .long) F hO_h60.1 ⟨((((((((((((((((((((((((Eh4).tr Eh5).tr Eh9).tr Eh10).tr Eh14).tr Eh15).tr Eh19).tr Eh20).tr Eh24).tr Eh25).tr Eh29).tr Eh30).tr Eh34).tr Eh35).tr Eh39).tr Eh40).tr Eh44).tr Eh45).tr Eh49).tr Eh50).tr Eh54).tr Eh55).tr Eh59).tr Eh60).2.1, ((((((((((((((((((((((((Eh4).tr Eh5).tr Eh9).tr Eh10).tr Eh14).tr Eh15).tr Eh19).tr Eh20).tr Eh24).tr Eh25).tr Eh29).tr Eh30).tr Eh34).tr Eh35).tr Eh39).tr Eh40).tr Eh44).tr Eh45).tr Eh49).tr Eh50).tr Eh54).tr Eh55).tr Eh59).tr Eh60).2.2.1⟩ q292 rfl rfl (by intro C z; cases z) rfl (fun _ => rfl) c61 rfl (by have z := c62.2; simp only [zLS] at z; show _ * 8 ≤ _; omega) (z_lim1 ((((((((((((((((((((((((Eh4).tr Eh5).tr Eh9).tr Eh10).tr Eh14).tr Eh15).tr Eh19).tr Eh20).tr Eh24).tr Eh25).tr Eh29).tr Eh30).tr Eh34).tr Eh35).tr Eh39).tr Eh40).tr Eh44).tr Eh45).tr Eh49).tr Eh50).tr Eh54).tr Eh55).tr Eh59).tr Eh60) c62) dX2_init_99 (fun ad_h64 hA_h64 => ?_)
  rw [← hA_h64 a0 (t_a0.1)]
  replace hf := nm_o hf
  obtain ⟨a63, ea63, hf⟩ := hf
  rw [← ea63]
  replace hf := nm_o hf
  obtain ⟨h64, eh64, hf⟩ := hf
  refine w_nh eh64 ?_
  have Eh64 : zEx h60 h64 := by rw [eh64]; exact zEx.ne
  have hO_h64 : zOw h64 := by rw [eh64]; exact hO_h60.ne c62
  have t_a0 := t_a0.ex Eh64
  have t_a63 : zTy h64 a63 104 := by rw [eh64, ea63]; exact zTy.new (by decide)
  refine pw_X2_47 (x := (some a63)) F hnm dX2_init_101 hO_h64 (t_a0) ?_
  replace hf := nm_o hf
  obtain ⟨h65, eh65, hf⟩ := hf
  refine w_nh eh65 ?_
  have Eh65 : zEx h64 h65 := by rw [eh65]; exact zEx.sr
  have hO_h65 : zOw h65 := by rw [eh65]; exact hO_h64.srt (t_a0).1 (zTy.tg t_a0 (by decide)) (by decide) (zTo.of t_a63)
  have t_a0 := t_a0.ex Eh65
  refine w_aload_n F dX2_init_104 0 rfl ?_
  refine w_sipush (v := 640) F dX2_init_105 rfl ?_
  replace hf := ck_o hf
  obtain ⟨c66, hf⟩ := hf
  replace hf := ck_o hf
  obtain ⟨c67, hf⟩ := hf
  refine z_newa (j := 0) (atype := .int) F hO_h65.1 ⟨((((((((((((((((((((((((((Eh4).tr Eh5).tr Eh9).tr Eh10).tr Eh14).tr Eh15).tr Eh19).tr Eh20).tr Eh24).tr Eh25).tr Eh29).tr Eh30).tr Eh34).tr Eh35).tr Eh39).tr Eh40).tr Eh44).tr Eh45).tr Eh49).tr Eh50).tr Eh54).tr Eh55).tr Eh59).tr Eh60).tr Eh64).tr Eh65).2.1, ((((((((((((((((((((((((((Eh4).tr Eh5).tr Eh9).tr Eh10).tr Eh14).tr Eh15).tr Eh19).tr Eh20).tr Eh24).tr Eh25).tr Eh29).tr Eh30).tr Eh34).tr Eh35).tr Eh39).tr Eh40).tr Eh44).tr Eh45).tr Eh49).tr Eh50).tr Eh54).tr Eh55).tr Eh59).tr Eh60).tr Eh64).tr Eh65).2.2.1⟩ q160 rfl rfl (by intro C z; cases z) rfl (fun _ => rfl) c66 rfl (by have z := c67.2; simp only [zLS] at z; show _ * 4 ≤ _; omega) (z_lim1 ((((((((((((((((((((((((((Eh4).tr Eh5).tr Eh9).tr Eh10).tr Eh14).tr Eh15).tr Eh19).tr Eh20).tr Eh24).tr Eh25).tr Eh29).tr Eh30).tr Eh34).tr Eh35).tr Eh39).tr Eh40).tr Eh44).tr Eh45).tr Eh49).tr Eh50).tr Eh54).tr Eh55).tr Eh59).tr Eh60).tr Eh64).tr Eh65) c67) dX2_init_108 (fun ad_h69 hA_h69 => ?_)
  rw [← hA_h69 a0 (t_a0.1)]
  replace hf := nm_o hf
  obtain ⟨a68, ea68, hf⟩ := hf
  rw [← ea68]
  replace hf := nm_o hf
  obtain ⟨h69, eh69, hf⟩ := hf
  refine w_nh eh69 ?_
  have Eh69 : zEx h65 h69 := by rw [eh69]; exact zEx.ne
  have hO_h69 : zOw h69 := by rw [eh69]; exact hO_h65.ne c67
  have t_a0 := t_a0.ex Eh69
  have t_a68 : zTy h69 a68 100 := by rw [eh69, ea68]; exact zTy.new (by decide)
  refine pw_X2_50 (x := (some a68)) F hnm dX2_init_110 hO_h69 (t_a0) ?_
  replace hf := nm_o hf
  obtain ⟨h70, eh70, hf⟩ := hf
  refine w_nh eh70 ?_
  have Eh70 : zEx h69 h70 := by rw [eh70]; exact zEx.sr
  have hO_h70 : zOw h70 := by rw [eh70]; exact hO_h69.srt (t_a0).1 (zTy.tg t_a0 (by decide)) (by decide) (zTo.of t_a68)
  have t_a0 := t_a0.ex Eh70
  refine w_aload_n F dX2_init_113 0 rfl ?_
  refine w_sipush (v := 640) F dX2_init_114 rfl ?_
  replace hf := ck_o hf
  obtain ⟨c71, hf⟩ := hf
  replace hf := ck_o hf
  obtain ⟨c72, hf⟩ := hf
  refine z_newa (j := 0) (atype := .int) F hO_h70.1 ⟨((((((((((((((((((((((((((((Eh4).tr Eh5).tr Eh9).tr Eh10).tr Eh14).tr Eh15).tr Eh19).tr Eh20).tr Eh24).tr Eh25).tr Eh29).tr Eh30).tr Eh34).tr Eh35).tr Eh39).tr Eh40).tr Eh44).tr Eh45).tr Eh49).tr Eh50).tr Eh54).tr Eh55).tr Eh59).tr Eh60).tr Eh64).tr Eh65).tr Eh69).tr Eh70).2.1, ((((((((((((((((((((((((((((Eh4).tr Eh5).tr Eh9).tr Eh10).tr Eh14).tr Eh15).tr Eh19).tr Eh20).tr Eh24).tr Eh25).tr Eh29).tr Eh30).tr Eh34).tr Eh35).tr Eh39).tr Eh40).tr Eh44).tr Eh45).tr Eh49).tr Eh50).tr Eh54).tr Eh55).tr Eh59).tr Eh60).tr Eh64).tr Eh65).tr Eh69).tr Eh70).2.2.1⟩ q160 rfl rfl (by intro C z; cases z) rfl (fun _ => rfl) c71 rfl (by have z := c72.2; simp only [zLS] at z; show _ * 4 ≤ _; omega) (z_lim1 ((((((((((((((((((((((((((((Eh4).tr Eh5).tr Eh9).tr Eh10).tr Eh14).tr Eh15).tr Eh19).tr Eh20).tr Eh24).tr Eh25).tr Eh29).tr Eh30).tr Eh34).tr Eh35).tr Eh39).tr Eh40).tr Eh44).tr Eh45).tr Eh49).tr Eh50).tr Eh54).tr Eh55).tr Eh59).tr Eh60).tr Eh64).tr Eh65).tr Eh69).tr Eh70) c72) dX2_init_117 (fun ad_h74 hA_h74 => ?_)
  rw [← hA_h74 a0 (t_a0.1)]
  replace hf := nm_o hf
  obtain ⟨a73, ea73, hf⟩ := hf
  rw [← ea73]
  replace hf := nm_o hf
  obtain ⟨h74, eh74, hf⟩ := hf
  refine w_nh eh74 ?_
  have Eh74 : zEx h70 h74 := by rw [eh74]; exact zEx.ne
  have hO_h74 : zOw h74 := by rw [eh74]; exact hO_h70.ne c72
  have t_a0 := t_a0.ex Eh74
  have t_a73 : zTy h74 a73 100 := by rw [eh74, ea73]; exact zTy.new (by decide)
  refine pw_X2_53 (x := (some a73)) F hnm dX2_init_119 hO_h74 (t_a0) ?_
  replace hf := nm_o hf
  obtain ⟨h75, eh75, hf⟩ := hf
  refine w_nh eh75 ?_
  have Eh75 : zEx h74 h75 := by rw [eh75]; exact zEx.sr
  have hO_h75 : zOw h75 := by rw [eh75]; exact hO_h74.srt (t_a0).1 (zTy.tg t_a0 (by decide)) (by decide) (zTo.of t_a73)
  have t_a0 := t_a0.ex Eh75
  refine w_aload_n F dX2_init_122 0 rfl ?_
  refine w_iconst (v := 4) F dX2_init_123 rfl ?_
  replace hf := ck_o hf
  obtain ⟨c76, hf⟩ := hf
  replace hf := ck_o hf
  obtain ⟨c77, hf⟩ := hf
  refine z_newa (j := 4) (atype := .long) F hO_h75.1 ⟨((((((((((((((((((((((((((((((Eh4).tr Eh5).tr Eh9).tr Eh10).tr Eh14).tr Eh15).tr Eh19).tr Eh20).tr Eh24).tr Eh25).tr Eh29).tr Eh30).tr Eh34).tr Eh35).tr Eh39).tr Eh40).tr Eh44).tr Eh45).tr Eh49).tr Eh50).tr Eh54).tr Eh55).tr Eh59).tr Eh60).tr Eh64).tr Eh65).tr Eh69).tr Eh70).tr Eh74).tr Eh75).2.1, ((((((((((((((((((((((((((((((Eh4).tr Eh5).tr Eh9).tr Eh10).tr Eh14).tr Eh15).tr Eh19).tr Eh20).tr Eh24).tr Eh25).tr Eh29).tr Eh30).tr Eh34).tr Eh35).tr Eh39).tr Eh40).tr Eh44).tr Eh45).tr Eh49).tr Eh50).tr Eh54).tr Eh55).tr Eh59).tr Eh60).tr Eh64).tr Eh65).tr Eh69).tr Eh70).tr Eh74).tr Eh75).2.2.1⟩ q292 rfl rfl (by intro C z; cases z) rfl (fun _ => rfl) c76 rfl (by have z := c77.2; simp only [zLS] at z; show _ * 8 ≤ _; omega) (z_lim1 ((((((((((((((((((((((((((((((Eh4).tr Eh5).tr Eh9).tr Eh10).tr Eh14).tr Eh15).tr Eh19).tr Eh20).tr Eh24).tr Eh25).tr Eh29).tr Eh30).tr Eh34).tr Eh35).tr Eh39).tr Eh40).tr Eh44).tr Eh45).tr Eh49).tr Eh50).tr Eh54).tr Eh55).tr Eh59).tr Eh60).tr Eh64).tr Eh65).tr Eh69).tr Eh70).tr Eh74).tr Eh75) c77) dX2_init_124 (fun ad_h79 hA_h79 => ?_)
  rw [← hA_h79 a0 (t_a0.1)]
  replace hf := nm_o hf
  obtain ⟨a78, ea78, hf⟩ := hf
  rw [← ea78]
  replace hf := nm_o hf
  obtain ⟨h79, eh79, hf⟩ := hf
  refine w_nh eh79 ?_
  have Eh79 : zEx h75 h79 := by rw [eh79]; exact zEx.ne
  have hO_h79 : zOw h79 := by rw [eh79]; exact hO_h75.ne c77
  have t_a0 := t_a0.ex Eh79
  have t_a78 : zTy h79 a78 104 := by rw [eh79, ea78]; exact zTy.new (by decide)
  refine pw_X2_56 (x := (some a78)) F hnm dX2_init_126 hO_h79 (t_a0) ?_
  replace hf := nm_o hf
  obtain ⟨h80, eh80, hf⟩ := hf
  refine w_nh eh80 ?_
  have Eh80 : zEx h79 h80 := by rw [eh80]; exact zEx.sr
  have hO_h80 : zOw h80 := by rw [eh80]; exact hO_h79.srt (t_a0).1 (zTy.tg t_a0 (by decide)) (by decide) (zTo.of t_a78)
  have t_a0 := t_a0.ex Eh80
  refine w_aload_n F dX2_init_129 0 rfl ?_
  refine w_sipush (v := 640) F dX2_init_130 rfl ?_
  replace hf := ck_o hf
  obtain ⟨c81, hf⟩ := hf
  replace hf := ck_o hf
  obtain ⟨c82, hf⟩ := hf
  refine z_newa (j := 4) (atype := .long) F hO_h80.1 ⟨((((((((((((((((((((((((((((((((Eh4).tr Eh5).tr Eh9).tr Eh10).tr Eh14).tr Eh15).tr Eh19).tr Eh20).tr Eh24).tr Eh25).tr Eh29).tr Eh30).tr Eh34).tr Eh35).tr Eh39).tr Eh40).tr Eh44).tr Eh45).tr Eh49).tr Eh50).tr Eh54).tr Eh55).tr Eh59).tr Eh60).tr Eh64).tr Eh65).tr Eh69).tr Eh70).tr Eh74).tr Eh75).tr Eh79).tr Eh80).2.1, ((((((((((((((((((((((((((((((((Eh4).tr Eh5).tr Eh9).tr Eh10).tr Eh14).tr Eh15).tr Eh19).tr Eh20).tr Eh24).tr Eh25).tr Eh29).tr Eh30).tr Eh34).tr Eh35).tr Eh39).tr Eh40).tr Eh44).tr Eh45).tr Eh49).tr Eh50).tr Eh54).tr Eh55).tr Eh59).tr Eh60).tr Eh64).tr Eh65).tr Eh69).tr Eh70).tr Eh74).tr Eh75).tr Eh79).tr Eh80).2.2.1⟩ q292 rfl rfl (by intro C z; cases z) rfl (fun _ => rfl) c81 rfl (by have z := c82.2; simp only [zLS] at z; show _ * 8 ≤ _; omega) (z_lim1 ((((((((((((((((((((((((((((((((Eh4).tr Eh5).tr Eh9).tr Eh10).tr Eh14).tr Eh15).tr Eh19).tr Eh20).tr Eh24).tr Eh25).tr Eh29).tr Eh30).tr Eh34).tr Eh35).tr Eh39).tr Eh40).tr Eh44).tr Eh45).tr Eh49).tr Eh50).tr Eh54).tr Eh55).tr Eh59).tr Eh60).tr Eh64).tr Eh65).tr Eh69).tr Eh70).tr Eh74).tr Eh75).tr Eh79).tr Eh80) c82) dX2_init_133 (fun ad_h84 hA_h84 => ?_)
  rw [← hA_h84 a0 (t_a0.1)]
  replace hf := nm_o hf
  obtain ⟨a83, ea83, hf⟩ := hf
  rw [← ea83]
  replace hf := nm_o hf
  obtain ⟨h84, eh84, hf⟩ := hf
  refine w_nh eh84 ?_
  have Eh84 : zEx h80 h84 := by rw [eh84]; exact zEx.ne
  have hO_h84 : zOw h84 := by rw [eh84]; exact hO_h80.ne c82
  have t_a0 := t_a0.ex Eh84
  have t_a83 : zTy h84 a83 104 := by rw [eh84, ea83]; exact zTy.new (by decide)
  refine pw_X2_59 (x := (some a83)) F hnm dX2_init_135 hO_h84 (t_a0) ?_
  replace hf := nm_o hf
  obtain ⟨h85, eh85, hf⟩ := hf
  refine w_nh eh85 ?_
  have Eh85 : zEx h84 h85 := by rw [eh85]; exact zEx.sr
  have hO_h85 : zOw h85 := by rw [eh85]; exact hO_h84.srt (t_a0).1 (zTy.tg t_a0 (by decide)) (by decide) (zTo.of t_a83)
  have t_a0 := t_a0.ex Eh85
  refine w_aload_n F dX2_init_138 0 rfl ?_
  refine w_iconst (v := 4) F dX2_init_139 rfl ?_
  replace hf := ck_o hf
  obtain ⟨c86, hf⟩ := hf
  replace hf := ck_o hf
  obtain ⟨c87, hf⟩ := hf
  refine z_newa (j := 0) (atype := .int) F hO_h85.1 ⟨((((((((((((((((((((((((((((((((((Eh4).tr Eh5).tr Eh9).tr Eh10).tr Eh14).tr Eh15).tr Eh19).tr Eh20).tr Eh24).tr Eh25).tr Eh29).tr Eh30).tr Eh34).tr Eh35).tr Eh39).tr Eh40).tr Eh44).tr Eh45).tr Eh49).tr Eh50).tr Eh54).tr Eh55).tr Eh59).tr Eh60).tr Eh64).tr Eh65).tr Eh69).tr Eh70).tr Eh74).tr Eh75).tr Eh79).tr Eh80).tr Eh84).tr Eh85).2.1, ((((((((((((((((((((((((((((((((((Eh4).tr Eh5).tr Eh9).tr Eh10).tr Eh14).tr Eh15).tr Eh19).tr Eh20).tr Eh24).tr Eh25).tr Eh29).tr Eh30).tr Eh34).tr Eh35).tr Eh39).tr Eh40).tr Eh44).tr Eh45).tr Eh49).tr Eh50).tr Eh54).tr Eh55).tr Eh59).tr Eh60).tr Eh64).tr Eh65).tr Eh69).tr Eh70).tr Eh74).tr Eh75).tr Eh79).tr Eh80).tr Eh84).tr Eh85).2.2.1⟩ q160 rfl rfl (by intro C z; cases z) rfl (fun _ => rfl) c86 rfl (by have z := c87.2; simp only [zLS] at z; show _ * 4 ≤ _; omega) (z_lim1 ((((((((((((((((((((((((((((((((((Eh4).tr Eh5).tr Eh9).tr Eh10).tr Eh14).tr Eh15).tr Eh19).tr Eh20).tr Eh24).tr Eh25).tr Eh29).tr Eh30).tr Eh34).tr Eh35).tr Eh39).tr Eh40).tr Eh44).tr Eh45).tr Eh49).tr Eh50).tr Eh54).tr Eh55).tr Eh59).tr Eh60).tr Eh64).tr Eh65).tr Eh69).tr Eh70).tr Eh74).tr Eh75).tr Eh79).tr Eh80).tr Eh84).tr Eh85) c87) dX2_init_140 (fun ad_h89 hA_h89 => ?_)
  rw [← hA_h89 a0 (t_a0.1)]
  replace hf := nm_o hf
  obtain ⟨a88, ea88, hf⟩ := hf
  rw [← ea88]
  replace hf := nm_o hf
  obtain ⟨h89, eh89, hf⟩ := hf
  refine w_nh eh89 ?_
  have Eh89 : zEx h85 h89 := by rw [eh89]; exact zEx.ne
  have hO_h89 : zOw h89 := by rw [eh89]; exact hO_h85.ne c87
  have t_a0 := t_a0.ex Eh89
  have t_a88 : zTy h89 a88 100 := by rw [eh89, ea88]; exact zTy.new (by decide)
  refine pw_X2_62 (x := (some a88)) F hnm dX2_init_142 hO_h89 (t_a0) ?_
  replace hf := nm_o hf
  obtain ⟨h90, eh90, hf⟩ := hf
  refine w_nh eh90 ?_
  have Eh90 : zEx h89 h90 := by rw [eh90]; exact zEx.sr
  have hO_h90 : zOw h90 := by rw [eh90]; exact hO_h89.srt (t_a0).1 (zTy.tg t_a0 (by decide)) (by decide) (zTo.of t_a88)
  have t_a0 := t_a0.ex Eh90
  refine w_aload_n F dX2_init_145 0 rfl ?_
  refine w_bipush (v := 50) F dX2_init_146 rfl ?_
  replace hf := ck_o hf
  obtain ⟨c91, hf⟩ := hf
  replace hf := ck_o hf
  obtain ⟨c92, hf⟩ := hf
  refine z_newa (j := 0) (atype := .int) F hO_h90.1 ⟨((((((((((((((((((((((((((((((((((((Eh4).tr Eh5).tr Eh9).tr Eh10).tr Eh14).tr Eh15).tr Eh19).tr Eh20).tr Eh24).tr Eh25).tr Eh29).tr Eh30).tr Eh34).tr Eh35).tr Eh39).tr Eh40).tr Eh44).tr Eh45).tr Eh49).tr Eh50).tr Eh54).tr Eh55).tr Eh59).tr Eh60).tr Eh64).tr Eh65).tr Eh69).tr Eh70).tr Eh74).tr Eh75).tr Eh79).tr Eh80).tr Eh84).tr Eh85).tr Eh89).tr Eh90).2.1, ((((((((((((((((((((((((((((((((((((Eh4).tr Eh5).tr Eh9).tr Eh10).tr Eh14).tr Eh15).tr Eh19).tr Eh20).tr Eh24).tr Eh25).tr Eh29).tr Eh30).tr Eh34).tr Eh35).tr Eh39).tr Eh40).tr Eh44).tr Eh45).tr Eh49).tr Eh50).tr Eh54).tr Eh55).tr Eh59).tr Eh60).tr Eh64).tr Eh65).tr Eh69).tr Eh70).tr Eh74).tr Eh75).tr Eh79).tr Eh80).tr Eh84).tr Eh85).tr Eh89).tr Eh90).2.2.1⟩ q160 rfl rfl (by intro C z; cases z) rfl (fun _ => rfl) c91 rfl (by have z := c92.2; simp only [zLS] at z; show _ * 4 ≤ _; omega) (z_lim1 ((((((((((((((((((((((((((((((((((((Eh4).tr Eh5).tr Eh9).tr Eh10).tr Eh14).tr Eh15).tr Eh19).tr Eh20).tr Eh24).tr Eh25).tr Eh29).tr Eh30).tr Eh34).tr Eh35).tr Eh39).tr Eh40).tr Eh44).tr Eh45).tr Eh49).tr Eh50).tr Eh54).tr Eh55).tr Eh59).tr Eh60).tr Eh64).tr Eh65).tr Eh69).tr Eh70).tr Eh74).tr Eh75).tr Eh79).tr Eh80).tr Eh84).tr Eh85).tr Eh89).tr Eh90) c92) dX2_init_148 (fun ad_h94 hA_h94 => ?_)
  rw [← hA_h94 a0 (t_a0.1)]
  replace hf := nm_o hf
  obtain ⟨a93, ea93, hf⟩ := hf
  rw [← ea93]
  replace hf := nm_o hf
  obtain ⟨h94, eh94, hf⟩ := hf
  refine w_nh eh94 ?_
  have Eh94 : zEx h90 h94 := by rw [eh94]; exact zEx.ne
  have hO_h94 : zOw h94 := by rw [eh94]; exact hO_h90.ne c92
  have t_a0 := t_a0.ex Eh94
  have t_a93 : zTy h94 a93 100 := by rw [eh94, ea93]; exact zTy.new (by decide)
  refine pw_X2_65 (x := (some a93)) F hnm dX2_init_150 hO_h94 (t_a0) ?_
  replace hf := nm_o hf
  obtain ⟨h95, eh95, hf⟩ := hf
  refine w_nh eh95 ?_
  have Eh95 : zEx h94 h95 := by rw [eh95]; exact zEx.sr
  have hO_h95 : zOw h95 := by rw [eh95]; exact hO_h94.srt (t_a0).1 (zTy.tg t_a0 (by decide)) (by decide) (zTo.of t_a93)
  have t_a0 := t_a0.ex Eh95
  refine w_aload_n F dX2_init_153 0 rfl ?_
  refine w_bipush (v := 24) F dX2_init_154 rfl ?_
  replace hf := ck_o hf
  obtain ⟨c96, hf⟩ := hf
  replace hf := ck_o hf
  obtain ⟨c97, hf⟩ := hf
  refine z_newa (j := 0) (atype := .int) F hO_h95.1 ⟨((((((((((((((((((((((((((((((((((((((Eh4).tr Eh5).tr Eh9).tr Eh10).tr Eh14).tr Eh15).tr Eh19).tr Eh20).tr Eh24).tr Eh25).tr Eh29).tr Eh30).tr Eh34).tr Eh35).tr Eh39).tr Eh40).tr Eh44).tr Eh45).tr Eh49).tr Eh50).tr Eh54).tr Eh55).tr Eh59).tr Eh60).tr Eh64).tr Eh65).tr Eh69).tr Eh70).tr Eh74).tr Eh75).tr Eh79).tr Eh80).tr Eh84).tr Eh85).tr Eh89).tr Eh90).tr Eh94).tr Eh95).2.1, ((((((((((((((((((((((((((((((((((((((Eh4).tr Eh5).tr Eh9).tr Eh10).tr Eh14).tr Eh15).tr Eh19).tr Eh20).tr Eh24).tr Eh25).tr Eh29).tr Eh30).tr Eh34).tr Eh35).tr Eh39).tr Eh40).tr Eh44).tr Eh45).tr Eh49).tr Eh50).tr Eh54).tr Eh55).tr Eh59).tr Eh60).tr Eh64).tr Eh65).tr Eh69).tr Eh70).tr Eh74).tr Eh75).tr Eh79).tr Eh80).tr Eh84).tr Eh85).tr Eh89).tr Eh90).tr Eh94).tr Eh95).2.2.1⟩ q160 rfl rfl (by intro C z; cases z) rfl (fun _ => rfl) c96 rfl (by have z := c97.2; simp only [zLS] at z; show _ * 4 ≤ _; omega) (z_lim1 ((((((((((((((((((((((((((((((((((((((Eh4).tr Eh5).tr Eh9).tr Eh10).tr Eh14).tr Eh15).tr Eh19).tr Eh20).tr Eh24).tr Eh25).tr Eh29).tr Eh30).tr Eh34).tr Eh35).tr Eh39).tr Eh40).tr Eh44).tr Eh45).tr Eh49).tr Eh50).tr Eh54).tr Eh55).tr Eh59).tr Eh60).tr Eh64).tr Eh65).tr Eh69).tr Eh70).tr Eh74).tr Eh75).tr Eh79).tr Eh80).tr Eh84).tr Eh85).tr Eh89).tr Eh90).tr Eh94).tr Eh95) c97) dX2_init_156 (fun ad_h99 hA_h99 => ?_)
  rw [← hA_h99 a0 (t_a0.1)]
  replace hf := nm_o hf
  obtain ⟨a98, ea98, hf⟩ := hf
  rw [← ea98]
  replace hf := nm_o hf
  obtain ⟨h99, eh99, hf⟩ := hf
  refine w_nh eh99 ?_
  have Eh99 : zEx h95 h99 := by rw [eh99]; exact zEx.ne
  have hO_h99 : zOw h99 := by rw [eh99]; exact hO_h95.ne c97
  have t_a0 := t_a0.ex Eh99
  have t_a98 : zTy h99 a98 100 := by rw [eh99, ea98]; exact zTy.new (by decide)
  refine pw_X2_68 (x := (some a98)) F hnm dX2_init_158 hO_h99 (t_a0) ?_
  replace hf := nm_o hf
  obtain ⟨h100, eh100, hf⟩ := hf
  refine w_nh eh100 ?_
  have Eh100 : zEx h99 h100 := by rw [eh100]; exact zEx.sr
  have hO_h100 : zOw h100 := by rw [eh100]; exact hO_h99.srt (t_a0).1 (zTy.tg t_a0 (by decide)) (by decide) (zTo.of t_a98)
  have t_a0 := t_a0.ex Eh100
  refine w_aload_n F dX2_init_161 0 rfl ?_
  refine w_bipush (v := 6) F dX2_init_162 rfl ?_
  replace hf := ck_o hf
  obtain ⟨c101, hf⟩ := hf
  replace hf := ck_o hf
  obtain ⟨c102, hf⟩ := hf
  refine z_newa (j := 0) (atype := .int) F hO_h100.1 ⟨((((((((((((((((((((((((((((((((((((((((Eh4).tr Eh5).tr Eh9).tr Eh10).tr Eh14).tr Eh15).tr Eh19).tr Eh20).tr Eh24).tr Eh25).tr Eh29).tr Eh30).tr Eh34).tr Eh35).tr Eh39).tr Eh40).tr Eh44).tr Eh45).tr Eh49).tr Eh50).tr Eh54).tr Eh55).tr Eh59).tr Eh60).tr Eh64).tr Eh65).tr Eh69).tr Eh70).tr Eh74).tr Eh75).tr Eh79).tr Eh80).tr Eh84).tr Eh85).tr Eh89).tr Eh90).tr Eh94).tr Eh95).tr Eh99).tr Eh100).2.1, ((((((((((((((((((((((((((((((((((((((((Eh4).tr Eh5).tr Eh9).tr Eh10).tr Eh14).tr Eh15).tr Eh19).tr Eh20).tr Eh24).tr Eh25).tr Eh29).tr Eh30).tr Eh34).tr Eh35).tr Eh39).tr Eh40).tr Eh44).tr Eh45).tr Eh49).tr Eh50).tr Eh54).tr Eh55).tr Eh59).tr Eh60).tr Eh64).tr Eh65).tr Eh69).tr Eh70).tr Eh74).tr Eh75).tr Eh79).tr Eh80).tr Eh84).tr Eh85).tr Eh89).tr Eh90).tr Eh94).tr Eh95).tr Eh99).tr Eh100).2.2.1⟩ q160 rfl rfl (by intro C z; cases z) rfl (fun _ => rfl) c101 rfl (by have z := c102.2; simp only [zLS] at z; show _ * 4 ≤ _; omega) (z_lim1 ((((((((((((((((((((((((((((((((((((((((Eh4).tr Eh5).tr Eh9).tr Eh10).tr Eh14).tr Eh15).tr Eh19).tr Eh20).tr Eh24).tr Eh25).tr Eh29).tr Eh30).tr Eh34).tr Eh35).tr Eh39).tr Eh40).tr Eh44).tr Eh45).tr Eh49).tr Eh50).tr Eh54).tr Eh55).tr Eh59).tr Eh60).tr Eh64).tr Eh65).tr Eh69).tr Eh70).tr Eh74).tr Eh75).tr Eh79).tr Eh80).tr Eh84).tr Eh85).tr Eh89).tr Eh90).tr Eh94).tr Eh95).tr Eh99).tr Eh100) c102) dX2_init_164 (fun ad_h104 hA_h104 => ?_)
  rw [← hA_h104 a0 (t_a0.1)]
  replace hf := nm_o hf
  obtain ⟨a103, ea103, hf⟩ := hf
  rw [← ea103]
  replace hf := nm_o hf
  obtain ⟨h104, eh104, hf⟩ := hf
  refine w_nh eh104 ?_
  have Eh104 : zEx h100 h104 := by rw [eh104]; exact zEx.ne
  have hO_h104 : zOw h104 := by rw [eh104]; exact hO_h100.ne c102
  have t_a0 := t_a0.ex Eh104
  have t_a103 : zTy h104 a103 100 := by rw [eh104, ea103]; exact zTy.new (by decide)
  refine pw_X2_71 (x := (some a103)) F hnm dX2_init_166 hO_h104 (t_a0) ?_
  replace hf := nm_o hf
  obtain ⟨h105, eh105, hf⟩ := hf
  refine w_nh eh105 ?_
  have Eh105 : zEx h104 h105 := by rw [eh105]; exact zEx.sr
  have hO_h105 : zOw h105 := by rw [eh105]; exact hO_h104.srt (t_a0).1 (zTy.tg t_a0 (by decide)) (by decide) (zTo.of t_a103)
  have t_a0 := t_a0.ex Eh105
  refine w_aload_n F dX2_init_169 0 rfl ?_
  refine w_bipush (v := 6) F dX2_init_170 rfl ?_
  replace hf := ck_o hf
  obtain ⟨c106, hf⟩ := hf
  replace hf := ck_o hf
  obtain ⟨c107, hf⟩ := hf
  refine z_newa (j := 0) (atype := .int) F hO_h105.1 ⟨((((((((((((((((((((((((((((((((((((((((((Eh4).tr Eh5).tr Eh9).tr Eh10).tr Eh14).tr Eh15).tr Eh19).tr Eh20).tr Eh24).tr Eh25).tr Eh29).tr Eh30).tr Eh34).tr Eh35).tr Eh39).tr Eh40).tr Eh44).tr Eh45).tr Eh49).tr Eh50).tr Eh54).tr Eh55).tr Eh59).tr Eh60).tr Eh64).tr Eh65).tr Eh69).tr Eh70).tr Eh74).tr Eh75).tr Eh79).tr Eh80).tr Eh84).tr Eh85).tr Eh89).tr Eh90).tr Eh94).tr Eh95).tr Eh99).tr Eh100).tr Eh104).tr Eh105).2.1, ((((((((((((((((((((((((((((((((((((((((((Eh4).tr Eh5).tr Eh9).tr Eh10).tr Eh14).tr Eh15).tr Eh19).tr Eh20).tr Eh24).tr Eh25).tr Eh29).tr Eh30).tr Eh34).tr Eh35).tr Eh39).tr Eh40).tr Eh44).tr Eh45).tr Eh49).tr Eh50).tr Eh54).tr Eh55).tr Eh59).tr Eh60).tr Eh64).tr Eh65).tr Eh69).tr Eh70).tr Eh74).tr Eh75).tr Eh79).tr Eh80).tr Eh84).tr Eh85).tr Eh89).tr Eh90).tr Eh94).tr Eh95).tr Eh99).tr Eh100).tr Eh104).tr Eh105).2.2.1⟩ q160 rfl rfl (by intro C z; cases z) rfl (fun _ => rfl) c106 rfl (by have z := c107.2; simp only [zLS] at z; show _ * 4 ≤ _; omega) (z_lim1 ((((((((((((((((((((((((((((((((((((((((((Eh4).tr Eh5).tr Eh9).tr Eh10).tr Eh14).tr Eh15).tr Eh19).tr Eh20).tr Eh24).tr Eh25).tr Eh29).tr Eh30).tr Eh34).tr Eh35).tr Eh39).tr Eh40).tr Eh44).tr Eh45).tr Eh49).tr Eh50).tr Eh54).tr Eh55).tr Eh59).tr Eh60).tr Eh64).tr Eh65).tr Eh69).tr Eh70).tr Eh74).tr Eh75).tr Eh79).tr Eh80).tr Eh84).tr Eh85).tr Eh89).tr Eh90).tr Eh94).tr Eh95).tr Eh99).tr Eh100).tr Eh104).tr Eh105) c107) dX2_init_172 (fun ad_h109 hA_h109 => ?_)
  rw [← hA_h109 a0 (t_a0.1)]
  replace hf := nm_o hf
  obtain ⟨a108, ea108, hf⟩ := hf
  rw [← ea108]
  replace hf := nm_o hf
  obtain ⟨h109, eh109, hf⟩ := hf
  refine w_nh eh109 ?_
  have Eh109 : zEx h105 h109 := by rw [eh109]; exact zEx.ne
  have hO_h109 : zOw h109 := by rw [eh109]; exact hO_h105.ne c107
  have t_a0 := t_a0.ex Eh109
  have t_a108 : zTy h109 a108 100 := by rw [eh109, ea108]; exact zTy.new (by decide)
  refine pw_X2_74 (x := (some a108)) F hnm dX2_init_174 hO_h109 (t_a0) ?_
  replace hf := nm_o hf
  obtain ⟨h110, eh110, hf⟩ := hf
  refine w_nh eh110 ?_
  have Eh110 : zEx h109 h110 := by rw [eh110]; exact zEx.sr
  have hO_h110 : zOw h110 := by rw [eh110]; exact hO_h109.srt (t_a0).1 (zTy.tg t_a0 (by decide)) (by decide) (zTo.of t_a108)
  have t_a0 := t_a0.ex Eh110
  refine w_aload_n F dX2_init_177 0 rfl ?_
  refine w_sipush (v := 360) F dX2_init_178 rfl ?_
  replace hf := ck_o hf
  obtain ⟨c111, hf⟩ := hf
  replace hf := ck_o hf
  obtain ⟨c112, hf⟩ := hf
  refine z_newa (j := 4) (atype := .long) F hO_h110.1 ⟨((((((((((((((((((((((((((((((((((((((((((((Eh4).tr Eh5).tr Eh9).tr Eh10).tr Eh14).tr Eh15).tr Eh19).tr Eh20).tr Eh24).tr Eh25).tr Eh29).tr Eh30).tr Eh34).tr Eh35).tr Eh39).tr Eh40).tr Eh44).tr Eh45).tr Eh49).tr Eh50).tr Eh54).tr Eh55).tr Eh59).tr Eh60).tr Eh64).tr Eh65).tr Eh69).tr Eh70).tr Eh74).tr Eh75).tr Eh79).tr Eh80).tr Eh84).tr Eh85).tr Eh89).tr Eh90).tr Eh94).tr Eh95).tr Eh99).tr Eh100).tr Eh104).tr Eh105).tr Eh109).tr Eh110).2.1, ((((((((((((((((((((((((((((((((((((((((((((Eh4).tr Eh5).tr Eh9).tr Eh10).tr Eh14).tr Eh15).tr Eh19).tr Eh20).tr Eh24).tr Eh25).tr Eh29).tr Eh30).tr Eh34).tr Eh35).tr Eh39).tr Eh40).tr Eh44).tr Eh45).tr Eh49).tr Eh50).tr Eh54).tr Eh55).tr Eh59).tr Eh60).tr Eh64).tr Eh65).tr Eh69).tr Eh70).tr Eh74).tr Eh75).tr Eh79).tr Eh80).tr Eh84).tr Eh85).tr Eh89).tr Eh90).tr Eh94).tr Eh95).tr Eh99).tr Eh100).tr Eh104).tr Eh105).tr Eh109).tr Eh110).2.2.1⟩ q292 rfl rfl (by intro C z; cases z) rfl (fun _ => rfl) c111 rfl (by have z := c112.2; simp only [zLS] at z; show _ * 8 ≤ _; omega) (z_lim1 ((((((((((((((((((((((((((((((((((((((((((((Eh4).tr Eh5).tr Eh9).tr Eh10).tr Eh14).tr Eh15).tr Eh19).tr Eh20).tr Eh24).tr Eh25).tr Eh29).tr Eh30).tr Eh34).tr Eh35).tr Eh39).tr Eh40).tr Eh44).tr Eh45).tr Eh49).tr Eh50).tr Eh54).tr Eh55).tr Eh59).tr Eh60).tr Eh64).tr Eh65).tr Eh69).tr Eh70).tr Eh74).tr Eh75).tr Eh79).tr Eh80).tr Eh84).tr Eh85).tr Eh89).tr Eh90).tr Eh94).tr Eh95).tr Eh99).tr Eh100).tr Eh104).tr Eh105).tr Eh109).tr Eh110) c112) dX2_init_181 (fun ad_h114 hA_h114 => ?_)
  rw [← hA_h114 a0 (t_a0.1)]
  replace hf := nm_o hf
  obtain ⟨a113, ea113, hf⟩ := hf
  rw [← ea113]
  replace hf := nm_o hf
  obtain ⟨h114, eh114, hf⟩ := hf
  refine w_nh eh114 ?_
  have Eh114 : zEx h110 h114 := by rw [eh114]; exact zEx.ne
  have hO_h114 : zOw h114 := by rw [eh114]; exact hO_h110.ne c112
  have t_a0 := t_a0.ex Eh114
  have t_a113 : zTy h114 a113 104 := by rw [eh114, ea113]; exact zTy.new (by decide)
  refine pw_X2_77 (x := (some a113)) F hnm dX2_init_183 hO_h114 (t_a0) ?_
  replace hf := nm_o hf
  obtain ⟨h115, eh115, hf⟩ := hf
  refine w_nh eh115 ?_
  have Eh115 : zEx h114 h115 := by rw [eh115]; exact zEx.sr
  have hO_h115 : zOw h115 := by rw [eh115]; exact hO_h114.srt (t_a0).1 (zTy.tg t_a0 (by decide)) (by decide) (zTo.of t_a113)
  have t_a0 := t_a0.ex Eh115
  refine w_aload_n F dX2_init_186 0 rfl ?_
  refine w_bipush (v := 60) F dX2_init_187 rfl ?_
  replace hf := ck_o hf
  obtain ⟨c116, hf⟩ := hf
  replace hf := ck_o hf
  obtain ⟨c117, hf⟩ := hf
  refine z_newa (j := 4) (atype := .long) F hO_h115.1 ⟨((((((((((((((((((((((((((((((((((((((((((((((Eh4).tr Eh5).tr Eh9).tr Eh10).tr Eh14).tr Eh15).tr Eh19).tr Eh20).tr Eh24).tr Eh25).tr Eh29).tr Eh30).tr Eh34).tr Eh35).tr Eh39).tr Eh40).tr Eh44).tr Eh45).tr Eh49).tr Eh50).tr Eh54).tr Eh55).tr Eh59).tr Eh60).tr Eh64).tr Eh65).tr Eh69).tr Eh70).tr Eh74).tr Eh75).tr Eh79).tr Eh80).tr Eh84).tr Eh85).tr Eh89).tr Eh90).tr Eh94).tr Eh95).tr Eh99).tr Eh100).tr Eh104).tr Eh105).tr Eh109).tr Eh110).tr Eh114).tr Eh115).2.1, ((((((((((((((((((((((((((((((((((((((((((((((Eh4).tr Eh5).tr Eh9).tr Eh10).tr Eh14).tr Eh15).tr Eh19).tr Eh20).tr Eh24).tr Eh25).tr Eh29).tr Eh30).tr Eh34).tr Eh35).tr Eh39).tr Eh40).tr Eh44).tr Eh45).tr Eh49).tr Eh50).tr Eh54).tr Eh55).tr Eh59).tr Eh60).tr Eh64).tr Eh65).tr Eh69).tr Eh70).tr Eh74).tr Eh75).tr Eh79).tr Eh80).tr Eh84).tr Eh85).tr Eh89).tr Eh90).tr Eh94).tr Eh95).tr Eh99).tr Eh100).tr Eh104).tr Eh105).tr Eh109).tr Eh110).tr Eh114).tr Eh115).2.2.1⟩ q292 rfl rfl (by intro C z; cases z) rfl (fun _ => rfl) c116 rfl (by have z := c117.2; simp only [zLS] at z; show _ * 8 ≤ _; omega) (z_lim1 ((((((((((((((((((((((((((((((((((((((((((((((Eh4).tr Eh5).tr Eh9).tr Eh10).tr Eh14).tr Eh15).tr Eh19).tr Eh20).tr Eh24).tr Eh25).tr Eh29).tr Eh30).tr Eh34).tr Eh35).tr Eh39).tr Eh40).tr Eh44).tr Eh45).tr Eh49).tr Eh50).tr Eh54).tr Eh55).tr Eh59).tr Eh60).tr Eh64).tr Eh65).tr Eh69).tr Eh70).tr Eh74).tr Eh75).tr Eh79).tr Eh80).tr Eh84).tr Eh85).tr Eh89).tr Eh90).tr Eh94).tr Eh95).tr Eh99).tr Eh100).tr Eh104).tr Eh105).tr Eh109).tr Eh110).tr Eh114).tr Eh115) c117) dX2_init_189 (fun ad_h119 hA_h119 => ?_)
  rw [← hA_h119 a0 (t_a0.1)]
  replace hf := nm_o hf
  obtain ⟨a118, ea118, hf⟩ := hf
  rw [← ea118]
  replace hf := nm_o hf
  obtain ⟨h119, eh119, hf⟩ := hf
  refine w_nh eh119 ?_
  have Eh119 : zEx h115 h119 := by rw [eh119]; exact zEx.ne
  have hO_h119 : zOw h119 := by rw [eh119]; exact hO_h115.ne c117
  have t_a0 := t_a0.ex Eh119
  have t_a118 : zTy h119 a118 104 := by rw [eh119, ea118]; exact zTy.new (by decide)
  refine pw_X2_80 (x := (some a118)) F hnm dX2_init_191 hO_h119 (t_a0) ?_
  replace hf := nm_o hf
  obtain ⟨h120, eh120, hf⟩ := hf
  refine w_nh eh120 ?_
  have Eh120 : zEx h119 h120 := by rw [eh120]; exact zEx.sr
  have hO_h120 : zOw h120 := by rw [eh120]; exact hO_h119.srt (t_a0).1 (zTy.tg t_a0 (by decide)) (by decide) (zTo.of t_a118)
  have t_a0 := t_a0.ex Eh120
  refine w_iconst (v := 0) F dX2_init_194 rfl ?_
  refine w_istore_n (i := 1) (lv' := [(1, .int (0 : Int32)), (0, .ref (ad_h119 a0))]) F dX2_init_195 rfl (by decide) rfl ?_
  replace hf := nm_o hf
  obtain ⟨j215_122, ej215_122, hf⟩ := hf
  have Jj215_122 : ∀ (h121 : Hp) , ∀ ad_h121 : Nat → Nat, zOw h121 → zEx h120 h121 → zA h120 ad_h119 ad_h121 → j215_122 h121  = some ((), hE) → ZW p l e (zRm 1 28 h) s m args below meth c (MQ below (zRvw D tA B h ad hE) args s (zc hE - zc h) (zs hE - zs h) (fun q => B ≤ q)) D tA B 2 (zc h) (zs h) ad_h121 215 h121 [(0, .ref (ad_h121 a0))] [] := by
    clear hf
    intro h121 ad_h121 hO_h121 hX_h121 hA_h121  hf
    have t_a0 := t_a0.ex hX_h121
    subst ej215_122
    refine w_aload_n F dX2_init_215 0 rfl ?_
    refine w_iconst (v := -1) F dX2_init_216 rfl ?_
    refine pw_X2_83 F dX2_init_217 hO_h121 (t_a0) ?_
    replace hf := nm_o hf
    obtain ⟨h123, eh123, hf⟩ := hf
    refine w_nh eh123 ?_
    have Eh123 : zEx h121 h123 := by rw [eh123]; exact zEx.si
    have hO_h123 : zOw h123 := by rw [eh123]; exact hO_h121.si
    have t_a0 := t_a0.ex Eh123
    refine w_aload_n F dX2_init_220 0 rfl ?_
    refine w_bipush (v := 6) F dX2_init_221 rfl ?_
    refine pw_X2_87 F dX2_init_223 hO_h123 (t_a0) ?_
    replace hf := nm_o hf
    obtain ⟨h124, eh124, hf⟩ := hf
    refine w_nh eh124 ?_
    have Eh124 : zEx h123 h124 := by rw [eh124]; exact zEx.si
    have hO_h124 : zOw h124 := by rw [eh124]; exact hO_h123.si
    have t_a0 := t_a0.ex Eh124
    refine w_aload_n F dX2_init_226 0 rfl ?_
    refine gw_X2_28 F dX2_init_227 hO_h124 (t_a0) ?_
    replace hf := nm_o hf
    obtain ⟨o125, eo125, hf⟩ := hf
    refine w_no eo125 ?_
    have t_o125 : zTo h124 o125 100 := zTo.rdw hO_h124 (t_a0.1) (zTy.tg t_a0 (by decide)) (t := 2) rfl eo125
    refine w_iconst (v := 1) F dX2_init_230 rfl ?_
    refine w_bipush (v := 9) F dX2_init_231 rfl ?_
    replace hf := dr_o hf
    obtain ⟨a126, ea126, hf⟩ := hf
    subst ea126
    have t_a126 : zTy h124 a126 100 := t_o125 a126 rfl
    replace hf := ck_o hf
    obtain ⟨c127, hf⟩ := hf
    refine z_iast F dX2_init_233 t_a126.1 (zTy.tg t_a126 (by decide)) (vp_in_iff.mpr c127) ?_
    replace hf := nm_o hf
    obtain ⟨h128, eh128, hf⟩ := hf
    refine w_nh eh128 ?_
    have Eh128 : zEx h124 h128 := by rw [eh128]; exact zEx.si
    have hO_h128 : zOw h128 := by rw [eh128]; exact hO_h124.si
    have t_a0 := t_a0.ex Eh128
    refine w_aload_n F dX2_init_234 0 rfl ?_
    refine gw_X2_28 F dX2_init_235 hO_h128 (t_a0) ?_
    replace hf := nm_o hf
    obtain ⟨o129, eo129, hf⟩ := hf
    refine w_no eo129 ?_
    have t_o129 : zTo h128 o129 100 := zTo.rdw hO_h128 (t_a0.1) (zTy.tg t_a0 (by decide)) (t := 2) rfl eo129
    refine w_iconst (v := 2) F dX2_init_238 rfl ?_
    refine w_iconst (v := 4) F dX2_init_239 rfl ?_
    replace hf := dr_o hf
    obtain ⟨a130, ea130, hf⟩ := hf
    subst ea130
    have t_a130 : zTy h128 a130 100 := t_o129 a130 rfl
    replace hf := ck_o hf
    obtain ⟨c131, hf⟩ := hf
    refine z_iast F dX2_init_240 t_a130.1 (zTy.tg t_a130 (by decide)) (vp_in_iff.mpr c131) ?_
    replace hf := nm_o hf
    obtain ⟨h132, eh132, hf⟩ := hf
    refine w_nh eh132 ?_
    have Eh132 : zEx h128 h132 := by rw [eh132]; exact zEx.si
    have hO_h132 : zOw h132 := by rw [eh132]; exact hO_h128.si
    have t_a0 := t_a0.ex Eh132
    refine w_aload_n F dX2_init_241 0 rfl ?_
    refine gw_X2_28 F dX2_init_242 hO_h132 (t_a0) ?_
    replace hf := nm_o hf
    obtain ⟨o133, eo133, hf⟩ := hf
    refine w_no eo133 ?_
    have t_o133 : zTo h132 o133 100 := zTo.rdw hO_h132 (t_a0.1) (zTy.tg t_a0 (by decide)) (t := 2) rfl eo133
    refine w_iconst (v := 3) F dX2_init_245 rfl ?_
    refine w_iconst (v := 2) F dX2_init_246 rfl ?_
    replace hf := dr_o hf
    obtain ⟨a134, ea134, hf⟩ := hf
    subst ea134
    have t_a134 : zTy h132 a134 100 := t_o133 a134 rfl
    replace hf := ck_o hf
    obtain ⟨c135, hf⟩ := hf
    refine z_iast F dX2_init_247 t_a134.1 (zTy.tg t_a134 (by decide)) (vp_in_iff.mpr c135) ?_
    replace hf := nm_o hf
    obtain ⟨h136, eh136, hf⟩ := hf
    refine w_nh eh136 ?_
    have Eh136 : zEx h132 h136 := by rw [eh136]; exact zEx.si
    have hO_h136 : zOw h136 := by rw [eh136]; exact hO_h132.si
    have t_a0 := t_a0.ex Eh136
    refine w_aload_n F dX2_init_248 0 rfl ?_
    refine gw_X2_28 F dX2_init_249 hO_h136 (t_a0) ?_
    replace hf := nm_o hf
    obtain ⟨o137, eo137, hf⟩ := hf
    refine w_no eo137 ?_
    have t_o137 : zTo h136 o137 100 := zTo.rdw hO_h136 (t_a0.1) (zTy.tg t_a0 (by decide)) (t := 2) rfl eo137
    refine w_iconst (v := 4) F dX2_init_252 rfl ?_
    refine w_iconst (v := 1) F dX2_init_253 rfl ?_
    replace hf := dr_o hf
    obtain ⟨a138, ea138, hf⟩ := hf
    subst ea138
    have t_a138 : zTy h136 a138 100 := t_o137 a138 rfl
    replace hf := ck_o hf
    obtain ⟨c139, hf⟩ := hf
    refine z_iast F dX2_init_254 t_a138.1 (zTy.tg t_a138 (by decide)) (vp_in_iff.mpr c139) ?_
    replace hf := nm_o hf
    obtain ⟨h140, eh140, hf⟩ := hf
    refine w_nh eh140 ?_
    have Eh140 : zEx h136 h140 := by rw [eh140]; exact zEx.si
    have hO_h140 : zOw h140 := by rw [eh140]; exact hO_h136.si
    have t_a0 := t_a0.ex Eh140
    obtain ⟨-, rfl⟩ := ret_o hf
    exact z_vreDw F dX2_init_255 hO_h140 (((((((((((((((((((((((((((((((((((((((((((((((((((((((Eh4).tr Eh5).tr Eh9).tr Eh10).tr Eh14).tr Eh15).tr Eh19).tr Eh20).tr Eh24).tr Eh25).tr Eh29).tr Eh30).tr Eh34).tr Eh35).tr Eh39).tr Eh40).tr Eh44).tr Eh45).tr Eh49).tr Eh50).tr Eh54).tr Eh55).tr Eh59).tr Eh60).tr Eh64).tr Eh65).tr Eh69).tr Eh70).tr Eh74).tr Eh75).tr Eh79).tr Eh80).tr Eh84).tr Eh85).tr Eh89).tr Eh90).tr Eh94).tr Eh95).tr Eh99).tr Eh100).tr Eh104).tr Eh105).tr Eh109).tr Eh110).tr Eh114).tr Eh115).tr Eh119).tr Eh120).tr hX_h121).tr Eh123).tr Eh124).tr Eh128).tr Eh132).tr Eh136).tr Eh140) (((((((((((((((((((((((((hA_h4).tr ((Eh4).tr Eh5) hA_h9).tr ((((Eh4).tr Eh5).tr Eh9).tr Eh10) hA_h14).tr ((((((Eh4).tr Eh5).tr Eh9).tr Eh10).tr Eh14).tr Eh15) hA_h19).tr ((((((((Eh4).tr Eh5).tr Eh9).tr Eh10).tr Eh14).tr Eh15).tr Eh19).tr Eh20) hA_h24).tr ((((((((((Eh4).tr Eh5).tr Eh9).tr Eh10).tr Eh14).tr Eh15).tr Eh19).tr Eh20).tr Eh24).tr Eh25) hA_h29).tr ((((((((((((Eh4).tr Eh5).tr Eh9).tr Eh10).tr Eh14).tr Eh15).tr Eh19).tr Eh20).tr Eh24).tr Eh25).tr Eh29).tr Eh30) hA_h34).tr ((((((((((((((Eh4).tr Eh5).tr Eh9).tr Eh10).tr Eh14).tr Eh15).tr Eh19).tr Eh20).tr Eh24).tr Eh25).tr Eh29).tr Eh30).tr Eh34).tr Eh35) hA_h39).tr ((((((((((((((((Eh4).tr Eh5).tr Eh9).tr Eh10).tr Eh14).tr Eh15).tr Eh19).tr Eh20).tr Eh24).tr Eh25).tr Eh29).tr Eh30).tr Eh34).tr Eh35).tr Eh39).tr Eh40) hA_h44).tr ((((((((((((((((((Eh4).tr Eh5).tr Eh9).tr Eh10).tr Eh14).tr Eh15).tr Eh19).tr Eh20).tr Eh24).tr Eh25).tr Eh29).tr Eh30).tr Eh34).tr Eh35).tr Eh39).tr Eh40).tr Eh44).tr Eh45) hA_h49).tr ((((((((((((((((((((Eh4).tr Eh5).tr Eh9).tr Eh10).tr Eh14).tr Eh15).tr Eh19).tr Eh20).tr Eh24).tr Eh25).tr Eh29).tr Eh30).tr Eh34).tr Eh35).tr Eh39).tr Eh40).tr Eh44).tr Eh45).tr Eh49).tr Eh50) hA_h54).tr ((((((((((((((((((((((Eh4).tr Eh5).tr Eh9).tr Eh10).tr Eh14).tr Eh15).tr Eh19).tr Eh20).tr Eh24).tr Eh25).tr Eh29).tr Eh30).tr Eh34).tr Eh35).tr Eh39).tr Eh40).tr Eh44).tr Eh45).tr Eh49).tr Eh50).tr Eh54).tr Eh55) hA_h59).tr ((((((((((((((((((((((((Eh4).tr Eh5).tr Eh9).tr Eh10).tr Eh14).tr Eh15).tr Eh19).tr Eh20).tr Eh24).tr Eh25).tr Eh29).tr Eh30).tr Eh34).tr Eh35).tr Eh39).tr Eh40).tr Eh44).tr Eh45).tr Eh49).tr Eh50).tr Eh54).tr Eh55).tr Eh59).tr Eh60) hA_h64).tr ((((((((((((((((((((((((((Eh4).tr Eh5).tr Eh9).tr Eh10).tr Eh14).tr Eh15).tr Eh19).tr Eh20).tr Eh24).tr Eh25).tr Eh29).tr Eh30).tr Eh34).tr Eh35).tr Eh39).tr Eh40).tr Eh44).tr Eh45).tr Eh49).tr Eh50).tr Eh54).tr Eh55).tr Eh59).tr Eh60).tr Eh64).tr Eh65) hA_h69).tr ((((((((((((((((((((((((((((Eh4).tr Eh5).tr Eh9).tr Eh10).tr Eh14).tr Eh15).tr Eh19).tr Eh20).tr Eh24).tr Eh25).tr Eh29).tr Eh30).tr Eh34).tr Eh35).tr Eh39).tr Eh40).tr Eh44).tr Eh45).tr Eh49).tr Eh50).tr Eh54).tr Eh55).tr Eh59).tr Eh60).tr Eh64).tr Eh65).tr Eh69).tr Eh70) hA_h74).tr ((((((((((((((((((((((((((((((Eh4).tr Eh5).tr Eh9).tr Eh10).tr Eh14).tr Eh15).tr Eh19).tr Eh20).tr Eh24).tr Eh25).tr Eh29).tr Eh30).tr Eh34).tr Eh35).tr Eh39).tr Eh40).tr Eh44).tr Eh45).tr Eh49).tr Eh50).tr Eh54).tr Eh55).tr Eh59).tr Eh60).tr Eh64).tr Eh65).tr Eh69).tr Eh70).tr Eh74).tr Eh75) hA_h79).tr ((((((((((((((((((((((((((((((((Eh4).tr Eh5).tr Eh9).tr Eh10).tr Eh14).tr Eh15).tr Eh19).tr Eh20).tr Eh24).tr Eh25).tr Eh29).tr Eh30).tr Eh34).tr Eh35).tr Eh39).tr Eh40).tr Eh44).tr Eh45).tr Eh49).tr Eh50).tr Eh54).tr Eh55).tr Eh59).tr Eh60).tr Eh64).tr Eh65).tr Eh69).tr Eh70).tr Eh74).tr Eh75).tr Eh79).tr Eh80) hA_h84).tr ((((((((((((((((((((((((((((((((((Eh4).tr Eh5).tr Eh9).tr Eh10).tr Eh14).tr Eh15).tr Eh19).tr Eh20).tr Eh24).tr Eh25).tr Eh29).tr Eh30).tr Eh34).tr Eh35).tr Eh39).tr Eh40).tr Eh44).tr Eh45).tr Eh49).tr Eh50).tr Eh54).tr Eh55).tr Eh59).tr Eh60).tr Eh64).tr Eh65).tr Eh69).tr Eh70).tr Eh74).tr Eh75).tr Eh79).tr Eh80).tr Eh84).tr Eh85) hA_h89).tr ((((((((((((((((((((((((((((((((((((Eh4).tr Eh5).tr Eh9).tr Eh10).tr Eh14).tr Eh15).tr Eh19).tr Eh20).tr Eh24).tr Eh25).tr Eh29).tr Eh30).tr Eh34).tr Eh35).tr Eh39).tr Eh40).tr Eh44).tr Eh45).tr Eh49).tr Eh50).tr Eh54).tr Eh55).tr Eh59).tr Eh60).tr Eh64).tr Eh65).tr Eh69).tr Eh70).tr Eh74).tr Eh75).tr Eh79).tr Eh80).tr Eh84).tr Eh85).tr Eh89).tr Eh90) hA_h94).tr ((((((((((((((((((((((((((((((((((((((Eh4).tr Eh5).tr Eh9).tr Eh10).tr Eh14).tr Eh15).tr Eh19).tr Eh20).tr Eh24).tr Eh25).tr Eh29).tr Eh30).tr Eh34).tr Eh35).tr Eh39).tr Eh40).tr Eh44).tr Eh45).tr Eh49).tr Eh50).tr Eh54).tr Eh55).tr Eh59).tr Eh60).tr Eh64).tr Eh65).tr Eh69).tr Eh70).tr Eh74).tr Eh75).tr Eh79).tr Eh80).tr Eh84).tr Eh85).tr Eh89).tr Eh90).tr Eh94).tr Eh95) hA_h99).tr ((((((((((((((((((((((((((((((((((((((((Eh4).tr Eh5).tr Eh9).tr Eh10).tr Eh14).tr Eh15).tr Eh19).tr Eh20).tr Eh24).tr Eh25).tr Eh29).tr Eh30).tr Eh34).tr Eh35).tr Eh39).tr Eh40).tr Eh44).tr Eh45).tr Eh49).tr Eh50).tr Eh54).tr Eh55).tr Eh59).tr Eh60).tr Eh64).tr Eh65).tr Eh69).tr Eh70).tr Eh74).tr Eh75).tr Eh79).tr Eh80).tr Eh84).tr Eh85).tr Eh89).tr Eh90).tr Eh94).tr Eh95).tr Eh99).tr Eh100) hA_h104).tr ((((((((((((((((((((((((((((((((((((((((((Eh4).tr Eh5).tr Eh9).tr Eh10).tr Eh14).tr Eh15).tr Eh19).tr Eh20).tr Eh24).tr Eh25).tr Eh29).tr Eh30).tr Eh34).tr Eh35).tr Eh39).tr Eh40).tr Eh44).tr Eh45).tr Eh49).tr Eh50).tr Eh54).tr Eh55).tr Eh59).tr Eh60).tr Eh64).tr Eh65).tr Eh69).tr Eh70).tr Eh74).tr Eh75).tr Eh79).tr Eh80).tr Eh84).tr Eh85).tr Eh89).tr Eh90).tr Eh94).tr Eh95).tr Eh99).tr Eh100).tr Eh104).tr Eh105) hA_h109).tr ((((((((((((((((((((((((((((((((((((((((((((Eh4).tr Eh5).tr Eh9).tr Eh10).tr Eh14).tr Eh15).tr Eh19).tr Eh20).tr Eh24).tr Eh25).tr Eh29).tr Eh30).tr Eh34).tr Eh35).tr Eh39).tr Eh40).tr Eh44).tr Eh45).tr Eh49).tr Eh50).tr Eh54).tr Eh55).tr Eh59).tr Eh60).tr Eh64).tr Eh65).tr Eh69).tr Eh70).tr Eh74).tr Eh75).tr Eh79).tr Eh80).tr Eh84).tr Eh85).tr Eh89).tr Eh90).tr Eh94).tr Eh95).tr Eh99).tr Eh100).tr Eh104).tr Eh105).tr Eh109).tr Eh110) hA_h114).tr ((((((((((((((((((((((((((((((((((((((((((((((Eh4).tr Eh5).tr Eh9).tr Eh10).tr Eh14).tr Eh15).tr Eh19).tr Eh20).tr Eh24).tr Eh25).tr Eh29).tr Eh30).tr Eh34).tr Eh35).tr Eh39).tr Eh40).tr Eh44).tr Eh45).tr Eh49).tr Eh50).tr Eh54).tr Eh55).tr Eh59).tr Eh60).tr Eh64).tr Eh65).tr Eh69).tr Eh70).tr Eh74).tr Eh75).tr Eh79).tr Eh80).tr Eh84).tr Eh85).tr Eh89).tr Eh90).tr Eh94).tr Eh95).tr Eh99).tr Eh100).tr Eh104).tr Eh105).tr Eh109).tr Eh110).tr Eh114).tr Eh115) hA_h119).tr ((((((((((((((((((((((((((((((((((((((((((((((((Eh4).tr Eh5).tr Eh9).tr Eh10).tr Eh14).tr Eh15).tr Eh19).tr Eh20).tr Eh24).tr Eh25).tr Eh29).tr Eh30).tr Eh34).tr Eh35).tr Eh39).tr Eh40).tr Eh44).tr Eh45).tr Eh49).tr Eh50).tr Eh54).tr Eh55).tr Eh59).tr Eh60).tr Eh64).tr Eh65).tr Eh69).tr Eh70).tr Eh74).tr Eh75).tr Eh79).tr Eh80).tr Eh84).tr Eh85).tr Eh89).tr Eh90).tr Eh94).tr Eh95).tr Eh99).tr Eh100).tr Eh104).tr Eh105).tr Eh109).tr Eh110).tr Eh114).tr Eh115).tr Eh119).tr Eh120) hA_h121)
  have L196_149 : ∀ (n : Nat) (h141 : Hp) (v142 : Int32), ∀ ad_h141 : Nat → Nat, zOw h141 → zEx h120 h141 → zA h120 ad_h119 ad_h141 → zfix (fun _ _ => none) (X2_init_b196 a0 j215_122) n h141 v142 = some ((), hE) → ZW p l e (zRm 1 28 h) s m args below meth c (MQ below (zRvw D tA B h ad hE) args s (zc hE - zc h) (zs hE - zs h) (fun q => B ≤ q)) D tA B 2 (zc h) (zs h) ad_h141 196 h141 [(0, .ref (ad_h141 a0)), (1, .int v142)] [] := by
    clear hf
    intro n
    induction n with
    | zero =>
      intros
      rename_i hf
      cases hf
    | succ n ih =>
      intro h141 v142 ad_h141 hO_h141 hX_h141 hA_h141  hf
      have t_a0 := t_a0.ex hX_h141
      replace hf := (X2_init_b196.eq_1 a0 j215_122 (zfix (fun _ _ => none) (X2_init_b196 a0 j215_122) n) h141 v142).symm.trans hf
      refine w_iload_n F dX2_init_196 1 rfl ?_
      refine w_bipush (v := 6) F dX2_init_197 rfl ?_
      refine w_icmp_ge (tgt := 215) F dX2_init_199 (by decide) (fun c144 => ?_) (fun c144 => ?_)
      · replace hf := if_t c144 hf
        refine z_sub (lv' := [(0, .ref (ad_h141 a0))]) [0] rfl ?_
        exact Jj215_122 h141  ad_h141 hO_h141 hX_h141 hA_h141  hf
      · replace hf := if_f c144 hf
        refine w_aload_n F dX2_init_202 0 rfl ?_
        refine gw_X2_71 F dX2_init_203 hO_h141 (t_a0) ?_
        replace hf := nm_o hf
        obtain ⟨o145, eo145, hf⟩ := hf
        refine w_no eo145 ?_
        have t_o145 : zTo h141 o145 100 := zTo.rdw hO_h141 (t_a0.1) (zTy.tg t_a0 (by decide)) (t := 2) rfl eo145
        refine w_iload_n F dX2_init_206 1 rfl ?_
        refine w_iconst (v := -1) F dX2_init_207 rfl ?_
        replace hf := dr_o hf
        obtain ⟨a146, ea146, hf⟩ := hf
        subst ea146
        have t_a146 : zTy h141 a146 100 := t_o145 a146 rfl
        replace hf := ck_o hf
        obtain ⟨c147, hf⟩ := hf
        refine z_iast F dX2_init_208 t_a146.1 (zTy.tg t_a146 (by decide)) (vp_in_iff.mpr c147) ?_
        replace hf := nm_o hf
        obtain ⟨h148, eh148, hf⟩ := hf
        refine w_nh eh148 ?_
        have Eh148 : zEx h141 h148 := by rw [eh148]; exact zEx.si
        have hO_h148 : zOw h148 := by rw [eh148]; exact hO_h141.si
        have t_a0 := t_a0.ex Eh148
        replace hf := nm_o hf
        obtain ⟨v149, ev149, hf⟩ := hf
        refine w_iinc (i := 1) (v := v149) (lv' := [(1, .int v149), (0, .ref (ad_h141 a0))]) F dX2_init_209 1 rfl (by rw [ev149]; rfl) (by decide) rfl ?_
        refine w_goto (tgt := 196) F dX2_init_212 (by decide) ?_
        refine z_sub (lv' := [(0, .ref (ad_h141 a0)), (1, .int v149)]) [1, 0] rfl ?_
        exact ih h148 v149 ad_h141 hO_h148 ((hX_h141).tr Eh148) hA_h141  hf
  refine z_sub (lv' := [(0, .ref (ad_h119 a0)), (1, .int (0 : Int32))]) [1, 0] rfl ?_
  exact L196_149 zFU h120 (0 : Int32) ad_h119 hO_h120 (zEx.rf h120) zA.rf  hf
theorem cw_X0_38 {p : Program} {l : Launch} {e : Env} {s : State} {m : MethodId} {args : Array Value} {below : List Frame} {meth : Method} {c : Code} {Q : State → Prop} {D : va_G} {tA : Nat → ClassId} {B nL : Nat} {ad : Nat → Nat} {kn : State → Prop} {cc : ByteArray} {ret : Option FieldType} {pc : Nat} {h : Hp} {lv : List (Nat × Value)} {Fr Lo : Nat} {h0 h1 : Hp} {rest : List Value} {a0 : Nat} (F : ZF p s m args meth c D tA B nL kn RX0 cc ret) (hd : decode cc pc = .ok (.invokespecial 38, 3)) (hO : zOw h) (hE : zEx h0 h) (t_a0 : zTy h a0 1) (hR : 1 + 1 ≤ (zRm Fr Lo h0).frames ∧ 16 + (1 + 11) + 28 ≤ (zRm Fr Lo h0).locals) (hf : X1_init h a0 = some ((), h1)) (hr : (rest.map fun v => v.category).sum ≤ 16) (kk : zOw h1 → zEx h h1 → ∀ u, zA h ad u → ZW p l e (zRm Fr Lo h0) s m args below meth c Q D tA B nL (zc h0) (zs h0) u (pc + 3) h1 lv (rest)) : ZW p l e (zRm Fr Lo h0) s m args below meth c Q D tA B nL (zc h0) (zs h0) ad pc h lv (.ref (ad a0) :: rest) := 
  z_dvw ⟨hE.2.1, hE.2.2.1⟩ (fun H locs ls hw hl => z_runI F (mX1_initW F.2.2.2.2.2.1 hO t_a0 hf) (zCw.of 0 F.ts q152 q93 (by decide +kernel) hR) (Or.inr ⟨_, zNW_of q150 rfl⟩) rfl q151 rfl hr hd hw hl (z_fitw hE hO)) kk
theorem pw_X0_11 {p : Program} {l : Launch} {e : Env} {R : Room} {s : State} {m : MethodId} {args : Array Value} {below : List Frame} {meth : Method} {c : Code} {Q : State → Prop} {D : va_G} {tA : Nat → ClassId} {B nL c0 s0 : Nat} {ad : Nat → Nat} {kn : State → Prop} {cc : ByteArray} {ret : Option FieldType} {pc : Nat} {h : Hp} {lv : List (Nat × Value)} {st : List Value} {q : Nat} {x : Option Nat} (F : ZF p s m args meth c D tA B nL kn RX0 cc ret) (hin2 : meth.name = "<init>") (hd : decode cc pc = .ok (.putfield 11, 3)) (hO : zOw h) (t : zTy h q 0) (kk : ZW p l e R s m args below meth c Q D tA B nL c0 s0 ad (pc + 3) (zsr h q 0 x) lv st) : ZW p l e R s m args below meth c Q D tA B nL c0 s0 ad pc h lv (va_re ad x :: .ref (ad q) :: st) := 
  z_putF2 (ci := 0) (k := 0) (t := 2) (ty := (tyX0 0)) (h' := zsr h q 0 x) F hin2 rfl in_X0 tyX0_ok (by decide +kernel) (by decide) rfl (by decide) q175 rfl rfl rfl (by cases x <;> rfl) (by cases x <;> rfl) hd rfl rfl rfl rfl (fun q' _ hq' => zen_sr hq') zfv_sr.1 zfv_sr.2 t.1 (zTy.tg t (by decide)) kk
theorem pw_X0_15 {p : Program} {l : Launch} {e : Env} {R : Room} {s : State} {m : MethodId} {args : Array Value} {below : List Frame} {meth : Method} {c : Code} {Q : State → Prop} {D : va_G} {tA : Nat → ClassId} {B nL c0 s0 : Nat} {ad : Nat → Nat} {kn : State → Prop} {cc : ByteArray} {ret : Option FieldType} {pc : Nat} {h : Hp} {lv : List (Nat × Value)} {st : List Value} {q : Nat} {x : Option Nat} (F : ZF p s m args meth c D tA B nL kn RX0 cc ret) (hin2 : meth.name = "<init>") (hd : decode cc pc = .ok (.putfield 15, 3)) (hO : zOw h) (t : zTy h q 0) (kk : ZW p l e R s m args below meth c Q D tA B nL c0 s0 ad (pc + 3) (zsr h q 1 x) lv st) : ZW p l e R s m args below meth c Q D tA B nL c0 s0 ad pc h lv (va_re ad x :: .ref (ad q) :: st) := 
  z_putF2 (ci := 0) (k := 1) (t := 2) (ty := (tyX0 1)) (h' := zsr h q 1 x) F hin2 rfl in_X0 tyX0_ok (by decide +kernel) (by decide) rfl (by decide) q176 rfl rfl rfl (by cases x <;> rfl) (by cases x <;> rfl) hd rfl rfl rfl rfl (fun q' _ hq' => zen_sr hq') zfv_sr.1 zfv_sr.2 t.1 (zTy.tg t (by decide)) kk
theorem pw_X0_19 {p : Program} {l : Launch} {e : Env} {R : Room} {s : State} {m : MethodId} {args : Array Value} {below : List Frame} {meth : Method} {c : Code} {Q : State → Prop} {D : va_G} {tA : Nat → ClassId} {B nL c0 s0 : Nat} {ad : Nat → Nat} {kn : State → Prop} {cc : ByteArray} {ret : Option FieldType} {pc : Nat} {h : Hp} {lv : List (Nat × Value)} {st : List Value} {q : Nat} {x : Option Nat} (F : ZF p s m args meth c D tA B nL kn RX0 cc ret) (hin2 : meth.name = "<init>") (hd : decode cc pc = .ok (.putfield 19, 3)) (hO : zOw h) (t : zTy h q 0) (kk : ZW p l e R s m args below meth c Q D tA B nL c0 s0 ad (pc + 3) (zsr h q 2 x) lv st) : ZW p l e R s m args below meth c Q D tA B nL c0 s0 ad pc h lv (va_re ad x :: .ref (ad q) :: st) := 
  z_putF2 (ci := 0) (k := 2) (t := 2) (ty := (tyX0 2)) (h' := zsr h q 2 x) F hin2 rfl in_X0 tyX0_ok (by decide +kernel) (by decide) rfl (by decide) q177 rfl rfl rfl (by cases x <;> rfl) (by cases x <;> rfl) hd rfl rfl rfl rfl (fun q' _ hq' => zen_sr hq') zfv_sr.1 zfv_sr.2 t.1 (zTy.tg t (by decide)) kk
theorem pw_X0_22 {p : Program} {l : Launch} {e : Env} {R : Room} {s : State} {m : MethodId} {args : Array Value} {below : List Frame} {meth : Method} {c : Code} {Q : State → Prop} {D : va_G} {tA : Nat → ClassId} {B nL c0 s0 : Nat} {ad : Nat → Nat} {kn : State → Prop} {cc : ByteArray} {ret : Option FieldType} {pc : Nat} {h : Hp} {lv : List (Nat × Value)} {st : List Value} {q : Nat} {x : Int32} (F : ZF p s m args meth c D tA B nL kn RX0 cc ret) (hd : decode cc pc = .ok (.putfield 22, 3)) (hO : zOw h) (t : zTy h q 0) (kk : ZW p l e R s m args below meth c Q D tA B nL c0 s0 ad (pc + 3) (zsi h q 4 x) lv st) : ZW p l e R s m args below meth c Q D tA B nL c0 s0 ad pc h lv (.int x :: .ref (ad q) :: st) := 
  z_put (ci := 0) (k := 4) (t := 0) (ty := .int) (h' := zsi h q 4 x) F rfl in_X0 tyX0_ok nmX0 (by decide) rfl (by decide) (Or.inl (F.ts _ q179)) rfl rfl rfl rfl rfl hd rfl rfl rfl rfl (fun q' _ hq' => zen_si hq') zfv_si.1 zfv_si.2 t.1 (zTy.tg t (by decide)) kk
theorem pw_X0_28 {p : Program} {l : Launch} {e : Env} {R : Room} {s : State} {m : MethodId} {args : Array Value} {below : List Frame} {meth : Method} {c : Code} {Q : State → Prop} {D : va_G} {tA : Nat → ClassId} {B nL c0 s0 : Nat} {ad : Nat → Nat} {kn : State → Prop} {cc : ByteArray} {ret : Option FieldType} {pc : Nat} {h : Hp} {lv : List (Nat × Value)} {st : List Value} {q : Nat} {x : Option Nat} (F : ZF p s m args meth c D tA B nL kn RX0 cc ret) (hin2 : meth.name = "<init>") (hd : decode cc pc = .ok (.putfield 28, 3)) (hO : zOw h) (t : zTy h q 0) (kk : ZW p l e R s m args below meth c Q D tA B nL c0 s0 ad (pc + 3) (zsr h q 5 x) lv st) : ZW p l e R s m args below meth c Q D tA B nL c0 s0 ad pc h lv (va_re ad x :: .ref (ad q) :: st) := 
  z_putF2 (ci := 0) (k := 5) (t := 2) (ty := (tyX0 5)) (h' := zsr h q 5 x) F hin2 rfl in_X0 tyX0_ok (by decide +kernel) (by decide) rfl (by decide) q180 rfl rfl rfl (by cases x <;> rfl) (by cases x <;> rfl) hd rfl rfl rfl rfl (fun q' _ hq' => zen_sr hq') zfv_sr.1 zfv_sr.2 t.1 (zTy.tg t (by decide)) kk
theorem pw_X0_32 {p : Program} {l : Launch} {e : Env} {R : Room} {s : State} {m : MethodId} {args : Array Value} {below : List Frame} {meth : Method} {c : Code} {Q : State → Prop} {D : va_G} {tA : Nat → ClassId} {B nL c0 s0 : Nat} {ad : Nat → Nat} {kn : State → Prop} {cc : ByteArray} {ret : Option FieldType} {pc : Nat} {h : Hp} {lv : List (Nat × Value)} {st : List Value} {q : Nat} {x : Option Nat} (F : ZF p s m args meth c D tA B nL kn RX0 cc ret) (hin2 : meth.name = "<init>") (hd : decode cc pc = .ok (.putfield 32, 3)) (hO : zOw h) (t : zTy h q 0) (kk : ZW p l e R s m args below meth c Q D tA B nL c0 s0 ad (pc + 3) (zsr h q 8 x) lv st) : ZW p l e R s m args below meth c Q D tA B nL c0 s0 ad pc h lv (va_re ad x :: .ref (ad q) :: st) := 
  z_putF2 (ci := 0) (k := 8) (t := 2) (ty := (tyX0 8)) (h' := zsr h q 8 x) F hin2 rfl in_X0 tyX0_ok (by decide +kernel) (by decide) rfl (by decide) q183 rfl rfl rfl (by cases x <;> rfl) (by cases x <;> rfl) hd rfl rfl rfl rfl (fun q' _ hq' => zen_sr hq') zfv_sr.1 zfv_sr.2 t.1 (zTy.tg t (by decide)) kk
theorem pw_X0_39 {p : Program} {l : Launch} {e : Env} {R : Room} {s : State} {m : MethodId} {args : Array Value} {below : List Frame} {meth : Method} {c : Code} {Q : State → Prop} {D : va_G} {tA : Nat → ClassId} {B nL c0 s0 : Nat} {ad : Nat → Nat} {kn : State → Prop} {cc : ByteArray} {ret : Option FieldType} {pc : Nat} {h : Hp} {lv : List (Nat × Value)} {st : List Value} {q : Nat} {x : Option Nat} (F : ZF p s m args meth c D tA B nL kn RX0 cc ret) (hin2 : meth.name = "<init>") (hd : decode cc pc = .ok (.putfield 39, 3)) (hO : zOw h) (t : zTy h q 0) (kk : ZW p l e R s m args below meth c Q D tA B nL c0 s0 ad (pc + 3) (zsr h q 11 x) lv st) : ZW p l e R s m args below meth c Q D tA B nL c0 s0 ad pc h lv (va_re ad x :: .ref (ad q) :: st) := 
  z_putF2 (ci := 0) (k := 11) (t := 2) (ty := (tyX0 11)) (h' := zsr h q 11 x) F hin2 rfl in_X0 tyX0_ok (by decide +kernel) (by decide) rfl (by decide) q188 rfl rfl rfl (by cases x <;> rfl) (by cases x <;> rfl) hd rfl rfl rfl rfl (fun q' _ hq' => zen_sr hq') zfv_sr.1 zfv_sr.2 t.1 (zTy.tg t (by decide)) kk
theorem pw_X0_43 {p : Program} {l : Launch} {e : Env} {R : Room} {s : State} {m : MethodId} {args : Array Value} {below : List Frame} {meth : Method} {c : Code} {Q : State → Prop} {D : va_G} {tA : Nat → ClassId} {B nL c0 s0 : Nat} {ad : Nat → Nat} {kn : State → Prop} {cc : ByteArray} {ret : Option FieldType} {pc : Nat} {h : Hp} {lv : List (Nat × Value)} {st : List Value} {q : Nat} {x : Option Nat} (F : ZF p s m args meth c D tA B nL kn RX0 cc ret) (hin2 : meth.name = "<init>") (hd : decode cc pc = .ok (.putfield 43, 3)) (hO : zOw h) (t : zTy h q 0) (kk : ZW p l e R s m args below meth c Q D tA B nL c0 s0 ad (pc + 3) (zsr h q 12 x) lv st) : ZW p l e R s m args below meth c Q D tA B nL c0 s0 ad pc h lv (va_re ad x :: .ref (ad q) :: st) := 
  z_putF2 (ci := 0) (k := 12) (t := 2) (ty := (tyX0 12)) (h' := zsr h q 12 x) F hin2 rfl in_X0 tyX0_ok (by decide +kernel) (by decide) rfl (by decide) q189 rfl rfl rfl (by cases x <;> rfl) (by cases x <;> rfl) hd rfl rfl rfl rfl (fun q' _ hq' => zen_sr hq') zfv_sr.1 zfv_sr.2 t.1 (zTy.tg t (by decide)) kk
theorem pw_X0_47 {p : Program} {l : Launch} {e : Env} {R : Room} {s : State} {m : MethodId} {args : Array Value} {below : List Frame} {meth : Method} {c : Code} {Q : State → Prop} {D : va_G} {tA : Nat → ClassId} {B nL c0 s0 : Nat} {ad : Nat → Nat} {kn : State → Prop} {cc : ByteArray} {ret : Option FieldType} {pc : Nat} {h : Hp} {lv : List (Nat × Value)} {st : List Value} {q : Nat} {x : Option Nat} (F : ZF p s m args meth c D tA B nL kn RX0 cc ret) (hin2 : meth.name = "<init>") (hd : decode cc pc = .ok (.putfield 47, 3)) (hO : zOw h) (t : zTy h q 0) (kk : ZW p l e R s m args below meth c Q D tA B nL c0 s0 ad (pc + 3) (zsr h q 13 x) lv st) : ZW p l e R s m args below meth c Q D tA B nL c0 s0 ad pc h lv (va_re ad x :: .ref (ad q) :: st) := 
  z_putF2 (ci := 0) (k := 13) (t := 2) (ty := (tyX0 13)) (h' := zsr h q 13 x) F hin2 rfl in_X0 tyX0_ok (by decide +kernel) (by decide) rfl (by decide) q190 rfl rfl rfl (by cases x <;> rfl) (by cases x <;> rfl) hd rfl rfl rfl rfl (fun q' _ hq' => zen_sr hq') zfv_sr.1 zfv_sr.2 t.1 (zTy.tg t (by decide)) kk
theorem pw_X0_68 {p : Program} {l : Launch} {e : Env} {R : Room} {s : State} {m : MethodId} {args : Array Value} {below : List Frame} {meth : Method} {c : Code} {Q : State → Prop} {D : va_G} {tA : Nat → ClassId} {B nL c0 s0 : Nat} {ad : Nat → Nat} {kn : State → Prop} {cc : ByteArray} {ret : Option FieldType} {pc : Nat} {h : Hp} {lv : List (Nat × Value)} {st : List Value} {q : Nat} {x : Option Nat} (F : ZF p s m args meth c D tA B nL kn RX0 cc ret) (hin2 : meth.name = "<init>") (hd : decode cc pc = .ok (.putfield 68, 3)) (hO : zOw h) (t : zTy h q 0) (kk : ZW p l e R s m args below meth c Q D tA B nL c0 s0 ad (pc + 3) (zsr h q 14 x) lv st) : ZW p l e R s m args below meth c Q D tA B nL c0 s0 ad pc h lv (va_re ad x :: .ref (ad q) :: st) := 
  z_putF2 (ci := 0) (k := 14) (t := 2) (ty := (tyX0 14)) (h' := zsr h q 14 x) F hin2 rfl in_X0 tyX0_ok (by decide +kernel) (by decide) rfl (by decide) q191 rfl rfl rfl (by cases x <;> rfl) (by cases x <;> rfl) hd rfl rfl rfl rfl (fun q' _ hq' => zen_sr hq') zfv_sr.1 zfv_sr.2 t.1 (zTy.tg t (by decide)) kk
theorem pw_X0_71 {p : Program} {l : Launch} {e : Env} {R : Room} {s : State} {m : MethodId} {args : Array Value} {below : List Frame} {meth : Method} {c : Code} {Q : State → Prop} {D : va_G} {tA : Nat → ClassId} {B nL c0 s0 : Nat} {ad : Nat → Nat} {kn : State → Prop} {cc : ByteArray} {ret : Option FieldType} {pc : Nat} {h : Hp} {lv : List (Nat × Value)} {st : List Value} {q : Nat} {x : Option Nat} (F : ZF p s m args meth c D tA B nL kn RX0 cc ret) (hin2 : meth.name = "<init>") (hd : decode cc pc = .ok (.putfield 71, 3)) (hO : zOw h) (t : zTy h q 0) (kk : ZW p l e R s m args below meth c Q D tA B nL c0 s0 ad (pc + 3) (zsr h q 15 x) lv st) : ZW p l e R s m args below meth c Q D tA B nL c0 s0 ad pc h lv (va_re ad x :: .ref (ad q) :: st) := 
  z_putF2 (ci := 0) (k := 15) (t := 2) (ty := (tyX0 15)) (h' := zsr h q 15 x) F hin2 rfl in_X0 tyX0_ok (by decide +kernel) (by decide) rfl (by decide) q192 rfl rfl rfl (by cases x <;> rfl) (by cases x <;> rfl) hd rfl rfl rfl rfl (fun q' _ hq' => zen_sr hq') zfv_sr.1 zfv_sr.2 t.1 (zTy.tg t (by decide)) kk
theorem pw_X0_74 {p : Program} {l : Launch} {e : Env} {R : Room} {s : State} {m : MethodId} {args : Array Value} {below : List Frame} {meth : Method} {c : Code} {Q : State → Prop} {D : va_G} {tA : Nat → ClassId} {B nL c0 s0 : Nat} {ad : Nat → Nat} {kn : State → Prop} {cc : ByteArray} {ret : Option FieldType} {pc : Nat} {h : Hp} {lv : List (Nat × Value)} {st : List Value} {q : Nat} {x : Option Nat} (F : ZF p s m args meth c D tA B nL kn RX0 cc ret) (hin2 : meth.name = "<init>") (hd : decode cc pc = .ok (.putfield 74, 3)) (hO : zOw h) (t : zTy h q 0) (kk : ZW p l e R s m args below meth c Q D tA B nL c0 s0 ad (pc + 3) (zsr h q 16 x) lv st) : ZW p l e R s m args below meth c Q D tA B nL c0 s0 ad pc h lv (va_re ad x :: .ref (ad q) :: st) := 
  z_putF2 (ci := 0) (k := 16) (t := 2) (ty := (tyX0 16)) (h' := zsr h q 16 x) F hin2 rfl in_X0 tyX0_ok (by decide +kernel) (by decide) rfl (by decide) q193 rfl rfl rfl (by cases x <;> rfl) (by cases x <;> rfl) hd rfl rfl rfl rfl (fun q' _ hq' => zen_sr hq') zfv_sr.1 zfv_sr.2 t.1 (zTy.tg t (by decide)) kk
theorem pw_X0_77 {p : Program} {l : Launch} {e : Env} {R : Room} {s : State} {m : MethodId} {args : Array Value} {below : List Frame} {meth : Method} {c : Code} {Q : State → Prop} {D : va_G} {tA : Nat → ClassId} {B nL c0 s0 : Nat} {ad : Nat → Nat} {kn : State → Prop} {cc : ByteArray} {ret : Option FieldType} {pc : Nat} {h : Hp} {lv : List (Nat × Value)} {st : List Value} {q : Nat} {x : Option Nat} (F : ZF p s m args meth c D tA B nL kn RX0 cc ret) (hin2 : meth.name = "<init>") (hd : decode cc pc = .ok (.putfield 77, 3)) (hO : zOw h) (t : zTy h q 0) (kk : ZW p l e R s m args below meth c Q D tA B nL c0 s0 ad (pc + 3) (zsr h q 18 x) lv st) : ZW p l e R s m args below meth c Q D tA B nL c0 s0 ad pc h lv (va_re ad x :: .ref (ad q) :: st) := 
  z_putF2 (ci := 0) (k := 18) (t := 2) (ty := (tyX0 18)) (h' := zsr h q 18 x) F hin2 rfl in_X0 tyX0_ok (by decide +kernel) (by decide) rfl (by decide) q195 rfl rfl rfl (by cases x <;> rfl) (by cases x <;> rfl) hd rfl rfl rfl rfl (fun q' _ hq' => zen_sr hq') zfv_sr.1 zfv_sr.2 t.1 (zTy.tg t (by decide)) kk
theorem pw_X0_80 {p : Program} {l : Launch} {e : Env} {R : Room} {s : State} {m : MethodId} {args : Array Value} {below : List Frame} {meth : Method} {c : Code} {Q : State → Prop} {D : va_G} {tA : Nat → ClassId} {B nL c0 s0 : Nat} {ad : Nat → Nat} {kn : State → Prop} {cc : ByteArray} {ret : Option FieldType} {pc : Nat} {h : Hp} {lv : List (Nat × Value)} {st : List Value} {q : Nat} {x : Option Nat} (F : ZF p s m args meth c D tA B nL kn RX0 cc ret) (hin2 : meth.name = "<init>") (hd : decode cc pc = .ok (.putfield 80, 3)) (hO : zOw h) (t : zTy h q 0) (kk : ZW p l e R s m args below meth c Q D tA B nL c0 s0 ad (pc + 3) (zsr h q 34 x) lv st) : ZW p l e R s m args below meth c Q D tA B nL c0 s0 ad pc h lv (va_re ad x :: .ref (ad q) :: st) := 
  z_putF2 (ci := 0) (k := 34) (t := 2) (ty := (tyX0 34)) (h' := zsr h q 34 x) F hin2 rfl in_X0 tyX0_ok (by decide +kernel) (by decide) rfl (by decide) q211 rfl rfl rfl (by cases x <;> rfl) (by cases x <;> rfl) hd rfl rfl rfl rfl (fun q' _ hq' => zen_sr hq') zfv_sr.1 zfv_sr.2 t.1 (zTy.tg t (by decide)) kk
theorem pw_X0_85 {p : Program} {l : Launch} {e : Env} {R : Room} {s : State} {m : MethodId} {args : Array Value} {below : List Frame} {meth : Method} {c : Code} {Q : State → Prop} {D : va_G} {tA : Nat → ClassId} {B nL c0 s0 : Nat} {ad : Nat → Nat} {kn : State → Prop} {cc : ByteArray} {ret : Option FieldType} {pc : Nat} {h : Hp} {lv : List (Nat × Value)} {st : List Value} {q : Nat} {x : Option Nat} (F : ZF p s m args meth c D tA B nL kn RX0 cc ret) (hin2 : meth.name = "<init>") (hd : decode cc pc = .ok (.putfield 85, 3)) (hO : zOw h) (t : zTy h q 0) (kk : ZW p l e R s m args below meth c Q D tA B nL c0 s0 ad (pc + 3) (zsr h q 35 x) lv st) : ZW p l e R s m args below meth c Q D tA B nL c0 s0 ad pc h lv (va_re ad x :: .ref (ad q) :: st) := 
  z_putF2 (ci := 0) (k := 35) (t := 2) (ty := (tyX0 35)) (h' := zsr h q 35 x) F hin2 rfl in_X0 tyX0_ok (by decide +kernel) (by decide) rfl (by decide) q212 rfl rfl rfl (by cases x <;> rfl) (by cases x <;> rfl) hd rfl rfl rfl rfl (fun q' _ hq' => zen_sr hq') zfv_sr.1 zfv_sr.2 t.1 (zTy.tg t (by decide)) kk
theorem pw_X0_91 {p : Program} {l : Launch} {e : Env} {R : Room} {s : State} {m : MethodId} {args : Array Value} {below : List Frame} {meth : Method} {c : Code} {Q : State → Prop} {D : va_G} {tA : Nat → ClassId} {B nL c0 s0 : Nat} {ad : Nat → Nat} {kn : State → Prop} {cc : ByteArray} {ret : Option FieldType} {pc : Nat} {h : Hp} {lv : List (Nat × Value)} {st : List Value} {q : Nat} {x : Option Nat} (F : ZF p s m args meth c D tA B nL kn RX0 cc ret) (hin2 : meth.name = "<init>") (hd : decode cc pc = .ok (.putfield 91, 3)) (hO : zOw h) (t : zTy h q 0) (kk : ZW p l e R s m args below meth c Q D tA B nL c0 s0 ad (pc + 3) (zsr h q 37 x) lv st) : ZW p l e R s m args below meth c Q D tA B nL c0 s0 ad pc h lv (va_re ad x :: .ref (ad q) :: st) := 
  z_putF2 (ci := 0) (k := 37) (t := 2) (ty := (tyX0 37)) (h' := zsr h q 37 x) F hin2 rfl in_X0 tyX0_ok (by decide +kernel) (by decide) rfl (by decide) q214 rfl rfl rfl (by cases x <;> rfl) (by cases x <;> rfl) hd rfl rfl rfl rfl (fun q' _ hq' => zen_sr hq') zfv_sr.1 zfv_sr.2 t.1 (zTy.tg t (by decide)) kk
def X0_init (h : Hp) (a0 : Nat) : Option (Unit × Hp) :=
  ck (¬ (4 : Int32) < 0) <| ck (zc h + 1 ≤ zLC ∧ zs h + (4 : Int32).toNatClampNeg ≤ zLS) <| nm (zx h) fun a3 => nm (zne h 105 (4 : Int32).toNatClampNeg (4 : Int32).toNatClampNeg) fun h4 => nm (zsr h4 a0 0 (some a3)) fun h5 => ck (¬ (4 : Int32) < 0) <| ck (zc h5 + 1 ≤ zLC ∧ zs h5 + (4 : Int32).toNatClampNeg ≤ zLS) <| nm (zx h5) fun a8 => nm (zne h5 100 (4 : Int32).toNatClampNeg (4 : Int32).toNatClampNeg) fun h9 => nm (zsr h9 a0 1 (some a8)) fun h10 => ck (¬ (5 : Int32) < 0) <| ck (zc h10 + 1 ≤ zLC ∧ zs h10 + (5 : Int32).toNatClampNeg ≤ zLS) <| nm (zx h10) fun a13 => nm (zne h10 100 (5 : Int32).toNatClampNeg (5 : Int32).toNatClampNeg) fun h14 => ck (0 ≤ (0 : Int32).toInt ∧ (0 : Int32).toInt < (zn h14 a13 : Int)) <| nm (zsi h14 a13 (0 : Int32).toNatClampNeg (0 : Int32)) fun h16 => ck (0 ≤ (1 : Int32).toInt ∧ (1 : Int32).toInt < (zn h16 a13 : Int)) <| nm (zsi h16 a13 (1 : Int32).toNatClampNeg (9 : Int32)) fun h18 => ck (0 ≤ (2 : Int32).toInt ∧ (2 : Int32).toInt < (zn h18 a13 : Int)) <| nm (zsi h18 a13 (2 : Int32).toNatClampNeg (4 : Int32)) fun h20 => ck (0 ≤ (3 : Int32).toInt ∧ (3 : Int32).toInt < (zn h20 a13 : Int)) <| nm (zsi h20 a13 (3 : Int32).toNatClampNeg (2 : Int32)) fun h22 => ck (0 ≤ (4 : Int32).toInt ∧ (4 : Int32).toInt < (zn h22 a13 : Int)) <| nm (zsi h22 a13 (4 : Int32).toNatClampNeg (1 : Int32)) fun h24 => nm (zsr h24 a0 2 (some a13)) fun h25 => nm (zsi h25 a0 4 (6 : Int32)) fun h26 => ck (¬ (40 : Int32) < 0) <| ck (zc h26 + 1 ≤ zLC ∧ zs h26 + (40 : Int32).toNatClampNeg ≤ zLS) <| nm (zx h26) fun a29 => nm (zne h26 106 (40 : Int32).toNatClampNeg (40 : Int32).toNatClampNeg) fun h30 => nm (zsr h30 a0 5 (some a29)) fun h31 => ck (¬ (120 : Int32) < 0) <| ck (zc h31 + 1 ≤ zLC ∧ zs h31 + (120 : Int32).toNatClampNeg ≤ zLS) <| nm (zx h31) fun a34 => nm (zne h31 101 (120 : Int32).toNatClampNeg (120 : Int32).toNatClampNeg) fun h35 => nm (zsr h35 a0 8 (some a34)) fun h36 => ck (zc h36 + 1 ≤ zLC ∧ zs h36 + 1 ≤ zLS) <| nm (zx h36) fun a38 => nm (zne h36 1 0 1) fun h39 => bd (X1_init h39 a38) fun _ h40 => nm (zsr h40 a0 11 (some a38)) fun h42 => ck (¬ (2560 : Int32) < 0) <| ck (zc h42 + 1 ≤ zLC ∧ zs h42 + (2560 : Int32).toNatClampNeg ≤ zLS) <| nm (zx h42) fun a45 => nm (zne h42 104 (2560 : Int32).toNatClampNeg (2560 : Int32).toNatClampNeg) fun h46 => nm (zsr h46 a0 12 (some a45)) fun h47 => ck (¬ (640 : Int32) < 0) <| ck (zc h47 + 1 ≤ zLC ∧ zs h47 + (640 : Int32).toNatClampNeg ≤ zLS) <| nm (zx h47) fun a50 => nm (zne h47 101 (640 : Int32).toNatClampNeg (640 : Int32).toNatClampNeg) fun h51 => nm (zsr h51 a0 13 (some a50)) fun h52 => ck (¬ (10 : Int32) < 0) <| ck (zc h52 + 1 ≤ zLC ∧ zs h52 + (10 : Int32).toNatClampNeg ≤ zLS) <| nm (zx h52) fun a55 => nm (zne h52 104 (10 : Int32).toNatClampNeg (10 : Int32).toNatClampNeg) fun h56 => ck (0 ≤ (0 : Int32).toInt ∧ (0 : Int32).toInt < (zn h56 a55 : Int)) <| nm (zsj h56 a55 (0 : Int32).toNatClampNeg (1 : Int64)) fun h58 => ck (0 ≤ (1 : Int32).toInt ∧ (1 : Int32).toInt < (zn h58 a55 : Int)) <| nm (zsj h58 a55 (1 : Int32).toNatClampNeg (12 : Int64)) fun h60 => ck (0 ≤ (2 : Int32).toInt ∧ (2 : Int32).toInt < (zn h60 a55 : Int)) <| nm (zsj h60 a55 (2 : Int32).toNatClampNeg (144 : Int64)) fun h62 => ck (0 ≤ (3 : Int32).toInt ∧ (3 : Int32).toInt < (zn h62 a55 : Int)) <| nm (zsj h62 a55 (3 : Int32).toNatClampNeg (1728 : Int64)) fun h64 => ck (0 ≤ (4 : Int32).toInt ∧ (4 : Int32).toInt < (zn h64 a55 : Int)) <| nm (zsj h64 a55 (4 : Int32).toNatClampNeg (20736 : Int64)) fun h66 => ck (0 ≤ (5 : Int32).toInt ∧ (5 : Int32).toInt < (zn h66 a55 : Int)) <| nm (zsj h66 a55 (5 : Int32).toNatClampNeg (248832 : Int64)) fun h68 => ck (0 ≤ (6 : Int32).toInt ∧ (6 : Int32).toInt < (zn h68 a55 : Int)) <| nm (zsj h68 a55 (6 : Int32).toNatClampNeg (2985984 : Int64)) fun h70 => ck (0 ≤ (7 : Int32).toInt ∧ (7 : Int32).toInt < (zn h70 a55 : Int)) <| nm (zsj h70 a55 (7 : Int32).toNatClampNeg (35831808 : Int64)) fun h72 => ck (0 ≤ (8 : Int32).toInt ∧ (8 : Int32).toInt < (zn h72 a55 : Int)) <| nm (zsj h72 a55 (8 : Int32).toNatClampNeg (429981696 : Int64)) fun h74 => ck (0 ≤ (9 : Int32).toInt ∧ (9 : Int32).toInt < (zn h74 a55 : Int)) <| nm (zsj h74 a55 (9 : Int32).toNatClampNeg (5159780352 : Int64)) fun h76 => nm (zsr h76 a0 14 (some a55)) fun h77 => ck (¬ (640 : Int32) < 0) <| ck (zc h77 + 1 ≤ zLC ∧ zs h77 + (640 : Int32).toNatClampNeg ≤ zLS) <| nm (zx h77) fun a80 => nm (zne h77 104 (640 : Int32).toNatClampNeg (640 : Int32).toNatClampNeg) fun h81 => nm (zsr h81 a0 15 (some a80)) fun h82 => ck (¬ (16 : Int32) < 0) <| ck (zc h82 + 1 ≤ zLC ∧ zs h82 + (16 : Int32).toNatClampNeg ≤ zLS) <| nm (zx h82) fun a85 => nm (zne h82 104 (16 : Int32).toNatClampNeg (16 : Int32).toNatClampNeg) fun h86 => nm (zsr h86 a0 16 (some a85)) fun h87 => ck (¬ (4 : Int32) < 0) <| ck (zc h87 + 1 ≤ zLC ∧ zs h87 + (4 : Int32).toNatClampNeg ≤ zLS) <| nm (zx h87) fun a90 => nm (zne h87 100 (4 : Int32).toNatClampNeg (4 : Int32).toNatClampNeg) fun h91 => nm (zsr h91 a0 18 (some a90)) fun h92 => ck (¬ (24 : Int32) < 0) <| ck (zc h92 + 1 ≤ zLC ∧ zs h92 + (24 : Int32).toNatClampNeg ≤ zLS) <| nm (zx h92) fun a95 => nm (zne h92 101 (24 : Int32).toNatClampNeg (24 : Int32).toNatClampNeg) fun h96 => nm (zsr h96 a0 34 (some a95)) fun h97 => ck (¬ (50 : Int32) < 0) <| ck (zc h97 + 1 ≤ zLC ∧ zs h97 + (50 : Int32).toNatClampNeg ≤ zLS) <| nm (zx h97) fun a100 => nm (zne h97 107 (50 : Int32).toNatClampNeg (50 : Int32).toNatClampNeg) fun h101 => nm (zsr h101 a0 35 (some a100)) fun h102 => ck (¬ (6 : Int32) < 0) <| ck (zc h102 + 1 ≤ zLC ∧ zs h102 + (6 : Int32).toNatClampNeg ≤ zLS) <| nm (zx h102) fun a105 => nm (zne h102 108 (6 : Int32).toNatClampNeg (6 : Int32).toNatClampNeg) fun h106 => nm (zsr h106 a0 37 (some a105)) fun h107 => some ((), h107)
set_option maxHeartbeats 4000000 in
theorem mX0_init {l : Launch} {D : va_G} {tA : Nat → ClassId} {B : Nat} {kn : State → Prop} {h hE : Hp} {ad : Nat → Nat} {a0 : Nat} (hkp : zKp D tA B kn) (hO_h : zOw h) (t_a0 : zTy h a0 0) (hf : X0_init h a0 = some ((), hE)) : zM l D tA B kn yX0_init (ws_ yX0_init cX0_init 1 (Option.none : Option Jvm.ClassFile.FieldType)) 2 56 h ad [.ref (ad a0)] hE (zRvw D tA B h ad hE) := by
  refine zM_of hkp (by decide +kernel) (Nat.le_of_ble_eq_true rfl) ?_
  intro p e s m args below meth c F hnm
  show ZW p l e (zRm 2 56 h) s m args below meth c (MQ below (zRvw D tA B h ad hE) args s (zc hE - zc h) (zs hE - zs h) (fun q => B ≤ q)) D tA B 1 (zc h) (zs h) ad 0 h [(0, .ref (ad a0))] []
  replace hf := (X0_init.eq_1 h a0).symm.trans hf
  refine w_aload_n F dX0_init_0 0 rfl ?_
  refine z_obj F q141 q142 q143 dX0_init_1 (Nat.le_of_ble_eq_true rfl) ⟨Nat.le_of_ble_eq_true rfl, Nat.le_of_ble_eq_true rfl⟩ ?_
  refine w_aload_n F dX0_init_4 0 rfl ?_
  refine w_iconst (v := 4) F dX0_init_5 rfl ?_
  replace hf := ck_o hf
  obtain ⟨c1, hf⟩ := hf
  replace hf := ck_o hf
  obtain ⟨c2, hf⟩ := hf
  refine z_newq (j := 5) (C := "ThreeSnowballs$Player") F hO_h.1 ⟨(zEx.rf h).2.1, (zEx.rf h).2.2.1⟩ q144 (zNW_of q145 rfl) rfl (by decide) c1 rfl (by have z := c2.2; simp only [zLS] at z; omega) (z_lim1 (zEx.rf h) c2) dX0_init_6 (fun ad_h4 hA_h4 => ?_)
  rw [← hA_h4 a0 (t_a0.1)]
  replace hf := nm_o hf
  obtain ⟨a3, ea3, hf⟩ := hf
  rw [← ea3]
  replace hf := nm_o hf
  obtain ⟨h4, eh4, hf⟩ := hf
  refine w_nh eh4 ?_
  have Eh4 : zEx h h4 := by rw [eh4]; exact zEx.ne
  have hO_h4 : zOw h4 := by rw [eh4]; exact hO_h.ne c2
  have t_a0 := t_a0.ex Eh4
  have t_a3 : zTy h4 a3 105 := by rw [eh4, ea3]; exact zTy.new (by decide)
  refine pw_X0_11 (x := (some a3)) F hnm dX0_init_9 hO_h4 (t_a0) ?_
  replace hf := nm_o hf
  obtain ⟨h5, eh5, hf⟩ := hf
  refine w_nh eh5 ?_
  have Eh5 : zEx h4 h5 := by rw [eh5]; exact zEx.sr
  have hO_h5 : zOw h5 := by rw [eh5]; exact hO_h4.srt (t_a0).1 (zTy.tg t_a0 (by decide)) (by decide) (zTo.of t_a3)
  have t_a0 := t_a0.ex Eh5
  refine w_aload_n F dX0_init_12 0 rfl ?_
  refine w_iconst (v := 4) F dX0_init_13 rfl ?_
  replace hf := ck_o hf
  obtain ⟨c6, hf⟩ := hf
  replace hf := ck_o hf
  obtain ⟨c7, hf⟩ := hf
  refine z_newa (j := 0) (atype := .int) F hO_h5.1 ⟨((Eh4).tr Eh5).2.1, ((Eh4).tr Eh5).2.2.1⟩ q160 rfl rfl (by intro C z; cases z) rfl (fun _ => rfl) c6 rfl (by have z := c7.2; simp only [zLS] at z; show _ * 4 ≤ _; omega) (z_lim1 ((Eh4).tr Eh5) c7) dX0_init_14 (fun ad_h9 hA_h9 => ?_)
  rw [← hA_h9 a0 (t_a0.1)]
  replace hf := nm_o hf
  obtain ⟨a8, ea8, hf⟩ := hf
  rw [← ea8]
  replace hf := nm_o hf
  obtain ⟨h9, eh9, hf⟩ := hf
  refine w_nh eh9 ?_
  have Eh9 : zEx h5 h9 := by rw [eh9]; exact zEx.ne
  have hO_h9 : zOw h9 := by rw [eh9]; exact hO_h5.ne c7
  have t_a0 := t_a0.ex Eh9
  have t_a8 : zTy h9 a8 100 := by rw [eh9, ea8]; exact zTy.new (by decide)
  refine pw_X0_15 (x := (some a8)) F hnm dX0_init_16 hO_h9 (t_a0) ?_
  replace hf := nm_o hf
  obtain ⟨h10, eh10, hf⟩ := hf
  refine w_nh eh10 ?_
  have Eh10 : zEx h9 h10 := by rw [eh10]; exact zEx.sr
  have hO_h10 : zOw h10 := by rw [eh10]; exact hO_h9.srt (t_a0).1 (zTy.tg t_a0 (by decide)) (by decide) (zTo.of t_a8)
  have t_a0 := t_a0.ex Eh10
  refine w_aload_n F dX0_init_19 0 rfl ?_
  refine w_iconst (v := 5) F dX0_init_20 rfl ?_
  replace hf := ck_o hf
  obtain ⟨c11, hf⟩ := hf
  replace hf := ck_o hf
  obtain ⟨c12, hf⟩ := hf
  refine z_newa (j := 0) (atype := .int) F hO_h10.1 ⟨((((Eh4).tr Eh5).tr Eh9).tr Eh10).2.1, ((((Eh4).tr Eh5).tr Eh9).tr Eh10).2.2.1⟩ q160 rfl rfl (by intro C z; cases z) rfl (fun _ => rfl) c11 rfl (by have z := c12.2; simp only [zLS] at z; show _ * 4 ≤ _; omega) (z_lim1 ((((Eh4).tr Eh5).tr Eh9).tr Eh10) c12) dX0_init_21 (fun ad_h14 hA_h14 => ?_)
  rw [← hA_h14 a0 (t_a0.1)]
  replace hf := nm_o hf
  obtain ⟨a13, ea13, hf⟩ := hf
  rw [← ea13]
  replace hf := nm_o hf
  obtain ⟨h14, eh14, hf⟩ := hf
  refine w_nh eh14 ?_
  have Eh14 : zEx h10 h14 := by rw [eh14]; exact zEx.ne
  have hO_h14 : zOw h14 := by rw [eh14]; exact hO_h10.ne c12
  have t_a0 := t_a0.ex Eh14
  have t_a13 : zTy h14 a13 100 := by rw [eh14, ea13]; exact zTy.new (by decide)
  refine w_dup F dX0_init_23 rfl ?_
  refine w_iconst (v := 0) F dX0_init_24 rfl ?_
  refine w_iconst (v := 0) F dX0_init_25 rfl ?_
  replace hf := ck_o hf
  obtain ⟨c15, hf⟩ := hf
  refine z_iast F dX0_init_26 t_a13.1 (zTy.tg t_a13 (by decide)) (vp_in_iff.mpr c15) ?_
  replace hf := nm_o hf
  obtain ⟨h16, eh16, hf⟩ := hf
  refine w_nh eh16 ?_
  have Eh16 : zEx h14 h16 := by rw [eh16]; exact zEx.si
  have hO_h16 : zOw h16 := by rw [eh16]; exact hO_h14.si
  have t_a0 := t_a0.ex Eh16
  have t_a13 := t_a13.ex Eh16
  refine w_dup F dX0_init_27 rfl ?_
  refine w_iconst (v := 1) F dX0_init_28 rfl ?_
  refine w_bipush (v := 9) F dX0_init_29 rfl ?_
  replace hf := ck_o hf
  obtain ⟨c17, hf⟩ := hf
  refine z_iast F dX0_init_31 t_a13.1 (zTy.tg t_a13 (by decide)) (vp_in_iff.mpr c17) ?_
  replace hf := nm_o hf
  obtain ⟨h18, eh18, hf⟩ := hf
  refine w_nh eh18 ?_
  have Eh18 : zEx h16 h18 := by rw [eh18]; exact zEx.si
  have hO_h18 : zOw h18 := by rw [eh18]; exact hO_h16.si
  have t_a0 := t_a0.ex Eh18
  have t_a13 := t_a13.ex Eh18
  refine w_dup F dX0_init_32 rfl ?_
  refine w_iconst (v := 2) F dX0_init_33 rfl ?_
  refine w_iconst (v := 4) F dX0_init_34 rfl ?_
  replace hf := ck_o hf
  obtain ⟨c19, hf⟩ := hf
  refine z_iast F dX0_init_35 t_a13.1 (zTy.tg t_a13 (by decide)) (vp_in_iff.mpr c19) ?_
  replace hf := nm_o hf
  obtain ⟨h20, eh20, hf⟩ := hf
  refine w_nh eh20 ?_
  have Eh20 : zEx h18 h20 := by rw [eh20]; exact zEx.si
  have hO_h20 : zOw h20 := by rw [eh20]; exact hO_h18.si
  have t_a0 := t_a0.ex Eh20
  have t_a13 := t_a13.ex Eh20
  refine w_dup F dX0_init_36 rfl ?_
  refine w_iconst (v := 3) F dX0_init_37 rfl ?_
  refine w_iconst (v := 2) F dX0_init_38 rfl ?_
  replace hf := ck_o hf
  obtain ⟨c21, hf⟩ := hf
  refine z_iast F dX0_init_39 t_a13.1 (zTy.tg t_a13 (by decide)) (vp_in_iff.mpr c21) ?_
  replace hf := nm_o hf
  obtain ⟨h22, eh22, hf⟩ := hf
  refine w_nh eh22 ?_
  have Eh22 : zEx h20 h22 := by rw [eh22]; exact zEx.si
  have hO_h22 : zOw h22 := by rw [eh22]; exact hO_h20.si
  have t_a0 := t_a0.ex Eh22
  have t_a13 := t_a13.ex Eh22
  refine w_dup F dX0_init_40 rfl ?_
  refine w_iconst (v := 4) F dX0_init_41 rfl ?_
  refine w_iconst (v := 1) F dX0_init_42 rfl ?_
  replace hf := ck_o hf
  obtain ⟨c23, hf⟩ := hf
  refine z_iast F dX0_init_43 t_a13.1 (zTy.tg t_a13 (by decide)) (vp_in_iff.mpr c23) ?_
  replace hf := nm_o hf
  obtain ⟨h24, eh24, hf⟩ := hf
  refine w_nh eh24 ?_
  have Eh24 : zEx h22 h24 := by rw [eh24]; exact zEx.si
  have hO_h24 : zOw h24 := by rw [eh24]; exact hO_h22.si
  have t_a0 := t_a0.ex Eh24
  have t_a13 := t_a13.ex Eh24
  refine pw_X0_19 (x := (some a13)) F hnm dX0_init_44 hO_h24 (t_a0) ?_
  replace hf := nm_o hf
  obtain ⟨h25, eh25, hf⟩ := hf
  refine w_nh eh25 ?_
  have Eh25 : zEx h24 h25 := by rw [eh25]; exact zEx.sr
  have hO_h25 : zOw h25 := by rw [eh25]; exact hO_h24.srt (t_a0).1 (zTy.tg t_a0 (by decide)) (by decide) (zTo.of t_a13)
  have t_a0 := t_a0.ex Eh25
  refine w_aload_n F dX0_init_47 0 rfl ?_
  refine w_bipush (v := 6) F dX0_init_48 rfl ?_
  refine pw_X0_22 F dX0_init_50 hO_h25 (t_a0) ?_
  replace hf := nm_o hf
  obtain ⟨h26, eh26, hf⟩ := hf
  refine w_nh eh26 ?_
  have Eh26 : zEx h25 h26 := by rw [eh26]; exact zEx.si
  have hO_h26 : zOw h26 := by rw [eh26]; exact hO_h25.si
  have t_a0 := t_a0.ex Eh26
  refine w_aload_n F dX0_init_53 0 rfl ?_
  refine w_bipush (v := 40) F dX0_init_54 rfl ?_
  replace hf := ck_o hf
  obtain ⟨c27, hf⟩ := hf
  replace hf := ck_o hf
  obtain ⟨c28, hf⟩ := hf
  refine z_newq (j := 6) (C := "ThreeSnowballs$Change") F hO_h26.1 ⟨((((((((((((Eh4).tr Eh5).tr Eh9).tr Eh10).tr Eh14).tr Eh16).tr Eh18).tr Eh20).tr Eh22).tr Eh24).tr Eh25).tr Eh26).2.1, ((((((((((((Eh4).tr Eh5).tr Eh9).tr Eh10).tr Eh14).tr Eh16).tr Eh18).tr Eh20).tr Eh22).tr Eh24).tr Eh25).tr Eh26).2.2.1⟩ q146 (zNW_of q147 rfl) rfl (by decide) c27 rfl (by have z := c28.2; simp only [zLS] at z; omega) (z_lim1 ((((((((((((Eh4).tr Eh5).tr Eh9).tr Eh10).tr Eh14).tr Eh16).tr Eh18).tr Eh20).tr Eh22).tr Eh24).tr Eh25).tr Eh26) c28) dX0_init_56 (fun ad_h30 hA_h30 => ?_)
  rw [← hA_h30 a0 (t_a0.1)]
  replace hf := nm_o hf
  obtain ⟨a29, ea29, hf⟩ := hf
  rw [← ea29]
  replace hf := nm_o hf
  obtain ⟨h30, eh30, hf⟩ := hf
  refine w_nh eh30 ?_
  have Eh30 : zEx h26 h30 := by rw [eh30]; exact zEx.ne
  have hO_h30 : zOw h30 := by rw [eh30]; exact hO_h26.ne c28
  have t_a0 := t_a0.ex Eh30
  have t_a29 : zTy h30 a29 106 := by rw [eh30, ea29]; exact zTy.new (by decide)
  refine pw_X0_28 (x := (some a29)) F hnm dX0_init_59 hO_h30 (t_a0) ?_
  replace hf := nm_o hf
  obtain ⟨h31, eh31, hf⟩ := hf
  refine w_nh eh31 ?_
  have Eh31 : zEx h30 h31 := by rw [eh31]; exact zEx.sr
  have hO_h31 : zOw h31 := by rw [eh31]; exact hO_h30.srt (t_a0).1 (zTy.tg t_a0 (by decide)) (by decide) (zTo.of t_a29)
  have t_a0 := t_a0.ex Eh31
  refine w_aload_n F dX0_init_62 0 rfl ?_
  refine w_bipush (v := 120) F dX0_init_63 rfl ?_
  replace hf := ck_o hf
  obtain ⟨c32, hf⟩ := hf
  replace hf := ck_o hf
  obtain ⟨c33, hf⟩ := hf
  refine z_newa (j := 1) (atype := .byte) F hO_h31.1 ⟨((((((((((((((Eh4).tr Eh5).tr Eh9).tr Eh10).tr Eh14).tr Eh16).tr Eh18).tr Eh20).tr Eh22).tr Eh24).tr Eh25).tr Eh26).tr Eh30).tr Eh31).2.1, ((((((((((((((Eh4).tr Eh5).tr Eh9).tr Eh10).tr Eh14).tr Eh16).tr Eh18).tr Eh20).tr Eh22).tr Eh24).tr Eh25).tr Eh26).tr Eh30).tr Eh31).2.2.1⟩ q161 rfl rfl (by intro C z; cases z) rfl (fun _ => rfl) c32 rfl (by have z := c33.2; simp only [zLS] at z; show _ * 1 ≤ _; omega) (z_lim1 ((((((((((((((Eh4).tr Eh5).tr Eh9).tr Eh10).tr Eh14).tr Eh16).tr Eh18).tr Eh20).tr Eh22).tr Eh24).tr Eh25).tr Eh26).tr Eh30).tr Eh31) c33) dX0_init_65 (fun ad_h35 hA_h35 => ?_)
  rw [← hA_h35 a0 (t_a0.1)]
  replace hf := nm_o hf
  obtain ⟨a34, ea34, hf⟩ := hf
  rw [← ea34]
  replace hf := nm_o hf
  obtain ⟨h35, eh35, hf⟩ := hf
  refine w_nh eh35 ?_
  have Eh35 : zEx h31 h35 := by rw [eh35]; exact zEx.ne
  have hO_h35 : zOw h35 := by rw [eh35]; exact hO_h31.ne c33
  have t_a0 := t_a0.ex Eh35
  have t_a34 : zTy h35 a34 101 := by rw [eh35, ea34]; exact zTy.new (by decide)
  refine pw_X0_32 (x := (some a34)) F hnm dX0_init_67 hO_h35 (t_a0) ?_
  replace hf := nm_o hf
  obtain ⟨h36, eh36, hf⟩ := hf
  refine w_nh eh36 ?_
  have Eh36 : zEx h35 h36 := by rw [eh36]; exact zEx.sr
  have hO_h36 : zOw h36 := by rw [eh36]; exact hO_h35.srt (t_a0).1 (zTy.tg t_a0 (by decide)) (by decide) (zTo.of t_a34)
  have t_a0 := t_a0.ex Eh36
  refine w_aload_n F dX0_init_70 0 rfl ?_
  replace hf := ck_o hf
  obtain ⟨c37, hf⟩ := hf
  refine z_new (ci := 1) F hO_h36.1 ⟨((((((((((((((((Eh4).tr Eh5).tr Eh9).tr Eh10).tr Eh14).tr Eh16).tr Eh18).tr Eh20).tr Eh22).tr Eh24).tr Eh25).tr Eh26).tr Eh30).tr Eh31).tr Eh35).tr Eh36).2.1, ((((((((((((((((Eh4).tr Eh5).tr Eh9).tr Eh10).tr Eh14).tr Eh16).tr Eh18).tr Eh20).tr Eh22).tr Eh24).tr Eh25).tr Eh26).tr Eh30).tr Eh31).tr Eh35).tr Eh36).2.2.1⟩ rfl (by decide) in_X1 tyX1_ok (by decide) q148 q149 q93 (z_lim1 ((((((((((((((((Eh4).tr Eh5).tr Eh9).tr Eh10).tr Eh14).tr Eh16).tr Eh18).tr Eh20).tr Eh22).tr Eh24).tr Eh25).tr Eh26).tr Eh30).tr Eh31).tr Eh35).tr Eh36) c37) dX0_init_71 (fun ad_h39 hA_h39 => ?_)
  rw [← hA_h39 a0 (t_a0.1)]
  replace hf := nm_o hf
  obtain ⟨a38, ea38, hf⟩ := hf
  rw [← ea38]
  replace hf := nm_o hf
  obtain ⟨h39, eh39, hf⟩ := hf
  refine w_nh eh39 ?_
  have Eh39 : zEx h36 h39 := by rw [eh39]; exact zEx.ne
  have hO_h39 : zOw h39 := by rw [eh39]; exact hO_h36.ne c37
  have t_a0 := t_a0.ex Eh39
  have t_a38 : zTy h39 a38 1 := by rw [eh39, ea38]; exact zTy.new (by decide)
  refine w_dup F dX0_init_74 rfl ?_
  replace hf := bd_o hf
  obtain ⟨r41, h40, qh40, hf⟩ := hf
  refine cw_X0_38 F dX0_init_75 hO_h39 (((((((((((((((((Eh4).tr Eh5).tr Eh9).tr Eh10).tr Eh14).tr Eh16).tr Eh18).tr Eh20).tr Eh22).tr Eh24).tr Eh25).tr Eh26).tr Eh30).tr Eh31).tr Eh35).tr Eh36).tr Eh39) (t_a38) ⟨Nat.le_of_ble_eq_true rfl, Nat.le_of_ble_eq_true rfl⟩ qh40 (Nat.le_of_ble_eq_true rfl) (fun hO_h40 Eh40 ad_h40 hA_h40 => ?_)
  rw [← hA_h40 a0 (t_a0.1)]
  rw [← hA_h40 a38 (t_a38.1)]
  have t_a0 := t_a0.ex Eh40
  have t_a38 := t_a38.ex Eh40
  refine pw_X0_39 (x := (some a38)) F hnm dX0_init_78 hO_h40 (t_a0) ?_
  replace hf := nm_o hf
  obtain ⟨h42, eh42, hf⟩ := hf
  refine w_nh eh42 ?_
  have Eh42 : zEx h40 h42 := by rw [eh42]; exact zEx.sr
  have hO_h42 : zOw h42 := by rw [eh42]; exact hO_h40.srt (t_a0).1 (zTy.tg t_a0 (by decide)) (by decide) (zTo.of t_a38)
  have t_a0 := t_a0.ex Eh42
  refine w_aload_n F dX0_init_81 0 rfl ?_
  refine w_sipush (v := 2560) F dX0_init_82 rfl ?_
  replace hf := ck_o hf
  obtain ⟨c43, hf⟩ := hf
  replace hf := ck_o hf
  obtain ⟨c44, hf⟩ := hf
  refine z_newa (j := 4) (atype := .long) F hO_h42.1 ⟨(((((((((((((((((((Eh4).tr Eh5).tr Eh9).tr Eh10).tr Eh14).tr Eh16).tr Eh18).tr Eh20).tr Eh22).tr Eh24).tr Eh25).tr Eh26).tr Eh30).tr Eh31).tr Eh35).tr Eh36).tr Eh39).tr Eh40).tr Eh42).2.1, (((((((((((((((((((Eh4).tr Eh5).tr Eh9).tr Eh10).tr Eh14).tr Eh16).tr Eh18).tr Eh20).tr Eh22).tr Eh24).tr Eh25).tr Eh26).tr Eh30).tr Eh31).tr Eh35).tr Eh36).tr Eh39).tr Eh40).tr Eh42).2.2.1⟩ q292 rfl rfl (by intro C z; cases z) rfl (fun _ => rfl) c43 rfl (by have z := c44.2; simp only [zLS] at z; show _ * 8 ≤ _; omega) (z_lim1 (((((((((((((((((((Eh4).tr Eh5).tr Eh9).tr Eh10).tr Eh14).tr Eh16).tr Eh18).tr Eh20).tr Eh22).tr Eh24).tr Eh25).tr Eh26).tr Eh30).tr Eh31).tr Eh35).tr Eh36).tr Eh39).tr Eh40).tr Eh42) c44) dX0_init_85 (fun ad_h46 hA_h46 => ?_)
  rw [← hA_h46 a0 (t_a0.1)]
  replace hf := nm_o hf
  obtain ⟨a45, ea45, hf⟩ := hf
  rw [← ea45]
  replace hf := nm_o hf
  obtain ⟨h46, eh46, hf⟩ := hf
  refine w_nh eh46 ?_
  have Eh46 : zEx h42 h46 := by rw [eh46]; exact zEx.ne
  have hO_h46 : zOw h46 := by rw [eh46]; exact hO_h42.ne c44
  have t_a0 := t_a0.ex Eh46
  have t_a45 : zTy h46 a45 104 := by rw [eh46, ea45]; exact zTy.new (by decide)
  refine pw_X0_43 (x := (some a45)) F hnm dX0_init_87 hO_h46 (t_a0) ?_
  replace hf := nm_o hf
  obtain ⟨h47, eh47, hf⟩ := hf
  refine w_nh eh47 ?_
  have Eh47 : zEx h46 h47 := by rw [eh47]; exact zEx.sr
  have hO_h47 : zOw h47 := by rw [eh47]; exact hO_h46.srt (t_a0).1 (zTy.tg t_a0 (by decide)) (by decide) (zTo.of t_a45)
  have t_a0 := t_a0.ex Eh47
  refine w_aload_n F dX0_init_90 0 rfl ?_
  refine w_sipush (v := 640) F dX0_init_91 rfl ?_
  replace hf := ck_o hf
  obtain ⟨c48, hf⟩ := hf
  replace hf := ck_o hf
  obtain ⟨c49, hf⟩ := hf
  refine z_newa (j := 1) (atype := .byte) F hO_h47.1 ⟨(((((((((((((((((((((Eh4).tr Eh5).tr Eh9).tr Eh10).tr Eh14).tr Eh16).tr Eh18).tr Eh20).tr Eh22).tr Eh24).tr Eh25).tr Eh26).tr Eh30).tr Eh31).tr Eh35).tr Eh36).tr Eh39).tr Eh40).tr Eh42).tr Eh46).tr Eh47).2.1, (((((((((((((((((((((Eh4).tr Eh5).tr Eh9).tr Eh10).tr Eh14).tr Eh16).tr Eh18).tr Eh20).tr Eh22).tr Eh24).tr Eh25).tr Eh26).tr Eh30).tr Eh31).tr Eh35).tr Eh36).tr Eh39).tr Eh40).tr Eh42).tr Eh46).tr Eh47).2.2.1⟩ q161 rfl rfl (by intro C z; cases z) rfl (fun _ => rfl) c48 rfl (by have z := c49.2; simp only [zLS] at z; show _ * 1 ≤ _; omega) (z_lim1 (((((((((((((((((((((Eh4).tr Eh5).tr Eh9).tr Eh10).tr Eh14).tr Eh16).tr Eh18).tr Eh20).tr Eh22).tr Eh24).tr Eh25).tr Eh26).tr Eh30).tr Eh31).tr Eh35).tr Eh36).tr Eh39).tr Eh40).tr Eh42).tr Eh46).tr Eh47) c49) dX0_init_94 (fun ad_h51 hA_h51 => ?_)
  rw [← hA_h51 a0 (t_a0.1)]
  replace hf := nm_o hf
  obtain ⟨a50, ea50, hf⟩ := hf
  rw [← ea50]
  replace hf := nm_o hf
  obtain ⟨h51, eh51, hf⟩ := hf
  refine w_nh eh51 ?_
  have Eh51 : zEx h47 h51 := by rw [eh51]; exact zEx.ne
  have hO_h51 : zOw h51 := by rw [eh51]; exact hO_h47.ne c49
  have t_a0 := t_a0.ex Eh51
  have t_a50 : zTy h51 a50 101 := by rw [eh51, ea50]; exact zTy.new (by decide)
  refine pw_X0_47 (x := (some a50)) F hnm dX0_init_96 hO_h51 (t_a0) ?_
  replace hf := nm_o hf
  obtain ⟨h52, eh52, hf⟩ := hf
  refine w_nh eh52 ?_
  have Eh52 : zEx h51 h52 := by rw [eh52]; exact zEx.sr
  have hO_h52 : zOw h52 := by rw [eh52]; exact hO_h51.srt (t_a0).1 (zTy.tg t_a0 (by decide)) (by decide) (zTo.of t_a50)
  have t_a0 := t_a0.ex Eh52
  refine w_aload_n F dX0_init_99 0 rfl ?_
  refine w_bipush (v := 10) F dX0_init_100 rfl ?_
  replace hf := ck_o hf
  obtain ⟨c53, hf⟩ := hf
  replace hf := ck_o hf
  obtain ⟨c54, hf⟩ := hf
  refine z_newa (j := 4) (atype := .long) F hO_h52.1 ⟨(((((((((((((((((((((((Eh4).tr Eh5).tr Eh9).tr Eh10).tr Eh14).tr Eh16).tr Eh18).tr Eh20).tr Eh22).tr Eh24).tr Eh25).tr Eh26).tr Eh30).tr Eh31).tr Eh35).tr Eh36).tr Eh39).tr Eh40).tr Eh42).tr Eh46).tr Eh47).tr Eh51).tr Eh52).2.1, (((((((((((((((((((((((Eh4).tr Eh5).tr Eh9).tr Eh10).tr Eh14).tr Eh16).tr Eh18).tr Eh20).tr Eh22).tr Eh24).tr Eh25).tr Eh26).tr Eh30).tr Eh31).tr Eh35).tr Eh36).tr Eh39).tr Eh40).tr Eh42).tr Eh46).tr Eh47).tr Eh51).tr Eh52).2.2.1⟩ q292 rfl rfl (by intro C z; cases z) rfl (fun _ => rfl) c53 rfl (by have z := c54.2; simp only [zLS] at z; show _ * 8 ≤ _; omega) (z_lim1 (((((((((((((((((((((((Eh4).tr Eh5).tr Eh9).tr Eh10).tr Eh14).tr Eh16).tr Eh18).tr Eh20).tr Eh22).tr Eh24).tr Eh25).tr Eh26).tr Eh30).tr Eh31).tr Eh35).tr Eh36).tr Eh39).tr Eh40).tr Eh42).tr Eh46).tr Eh47).tr Eh51).tr Eh52) c54) dX0_init_102 (fun ad_h56 hA_h56 => ?_)
  rw [← hA_h56 a0 (t_a0.1)]
  replace hf := nm_o hf
  obtain ⟨a55, ea55, hf⟩ := hf
  rw [← ea55]
  replace hf := nm_o hf
  obtain ⟨h56, eh56, hf⟩ := hf
  refine w_nh eh56 ?_
  have Eh56 : zEx h52 h56 := by rw [eh56]; exact zEx.ne
  have hO_h56 : zOw h56 := by rw [eh56]; exact hO_h52.ne c54
  have t_a0 := t_a0.ex Eh56
  have t_a55 : zTy h56 a55 104 := by rw [eh56, ea55]; exact zTy.new (by decide)
  refine w_dup F dX0_init_104 rfl ?_
  refine w_iconst (v := 0) F dX0_init_105 rfl ?_
  refine w_lconst (v := 1) F dX0_init_106 rfl ?_
  replace hf := ck_o hf
  obtain ⟨c57, hf⟩ := hf
  refine z_last F dX0_init_107 t_a55.1 (zTy.tg t_a55 (by decide)) (vp_in_iff.mpr c57) ?_
  replace hf := nm_o hf
  obtain ⟨h58, eh58, hf⟩ := hf
  refine w_nh eh58 ?_
  have Eh58 : zEx h56 h58 := by rw [eh58]; exact zEx.sj
  have hO_h58 : zOw h58 := by rw [eh58]; exact hO_h56.sj
  have t_a0 := t_a0.ex Eh58
  have t_a55 := t_a55.ex Eh58
  refine w_dup F dX0_init_108 rfl ?_
  refine w_iconst (v := 1) F dX0_init_109 rfl ?_
  refine w_ldc2 (v := 12) F dX0_init_110 q162 ?_
  replace hf := ck_o hf
  obtain ⟨c59, hf⟩ := hf
  refine z_last F dX0_init_113 t_a55.1 (zTy.tg t_a55 (by decide)) (vp_in_iff.mpr c59) ?_
  replace hf := nm_o hf
  obtain ⟨h60, eh60, hf⟩ := hf
  refine w_nh eh60 ?_
  have Eh60 : zEx h58 h60 := by rw [eh60]; exact zEx.sj
  have hO_h60 : zOw h60 := by rw [eh60]; exact hO_h58.sj
  have t_a0 := t_a0.ex Eh60
  have t_a55 := t_a55.ex Eh60
  refine w_dup F dX0_init_114 rfl ?_
  refine w_iconst (v := 2) F dX0_init_115 rfl ?_
  refine w_ldc2 (v := 144) F dX0_init_116 q163 ?_
  replace hf := ck_o hf
  obtain ⟨c61, hf⟩ := hf
  refine z_last F dX0_init_119 t_a55.1 (zTy.tg t_a55 (by decide)) (vp_in_iff.mpr c61) ?_
  replace hf := nm_o hf
  obtain ⟨h62, eh62, hf⟩ := hf
  refine w_nh eh62 ?_
  have Eh62 : zEx h60 h62 := by rw [eh62]; exact zEx.sj
  have hO_h62 : zOw h62 := by rw [eh62]; exact hO_h60.sj
  have t_a0 := t_a0.ex Eh62
  have t_a55 := t_a55.ex Eh62
  refine w_dup F dX0_init_120 rfl ?_
  refine w_iconst (v := 3) F dX0_init_121 rfl ?_
  refine w_ldc2 (v := 1728) F dX0_init_122 q164 ?_
  replace hf := ck_o hf
  obtain ⟨c63, hf⟩ := hf
  refine z_last F dX0_init_125 t_a55.1 (zTy.tg t_a55 (by decide)) (vp_in_iff.mpr c63) ?_
  replace hf := nm_o hf
  obtain ⟨h64, eh64, hf⟩ := hf
  refine w_nh eh64 ?_
  have Eh64 : zEx h62 h64 := by rw [eh64]; exact zEx.sj
  have hO_h64 : zOw h64 := by rw [eh64]; exact hO_h62.sj
  have t_a0 := t_a0.ex Eh64
  have t_a55 := t_a55.ex Eh64
  refine w_dup F dX0_init_126 rfl ?_
  refine w_iconst (v := 4) F dX0_init_127 rfl ?_
  refine w_ldc2 (v := 20736) F dX0_init_128 q165 ?_
  replace hf := ck_o hf
  obtain ⟨c65, hf⟩ := hf
  refine z_last F dX0_init_131 t_a55.1 (zTy.tg t_a55 (by decide)) (vp_in_iff.mpr c65) ?_
  replace hf := nm_o hf
  obtain ⟨h66, eh66, hf⟩ := hf
  refine w_nh eh66 ?_
  have Eh66 : zEx h64 h66 := by rw [eh66]; exact zEx.sj
  have hO_h66 : zOw h66 := by rw [eh66]; exact hO_h64.sj
  have t_a0 := t_a0.ex Eh66
  have t_a55 := t_a55.ex Eh66
  refine w_dup F dX0_init_132 rfl ?_
  refine w_iconst (v := 5) F dX0_init_133 rfl ?_
  refine w_ldc2 (v := 248832) F dX0_init_134 q166 ?_
  replace hf := ck_o hf
  obtain ⟨c67, hf⟩ := hf
  refine z_last F dX0_init_137 t_a55.1 (zTy.tg t_a55 (by decide)) (vp_in_iff.mpr c67) ?_
  replace hf := nm_o hf
  obtain ⟨h68, eh68, hf⟩ := hf
  refine w_nh eh68 ?_
  have Eh68 : zEx h66 h68 := by rw [eh68]; exact zEx.sj
  have hO_h68 : zOw h68 := by rw [eh68]; exact hO_h66.sj
  have t_a0 := t_a0.ex Eh68
  have t_a55 := t_a55.ex Eh68
  refine w_dup F dX0_init_138 rfl ?_
  refine w_bipush (v := 6) F dX0_init_139 rfl ?_
  refine w_ldc2 (v := 2985984) F dX0_init_141 q167 ?_
  replace hf := ck_o hf
  obtain ⟨c69, hf⟩ := hf
  refine z_last F dX0_init_144 t_a55.1 (zTy.tg t_a55 (by decide)) (vp_in_iff.mpr c69) ?_
  replace hf := nm_o hf
  obtain ⟨h70, eh70, hf⟩ := hf
  refine w_nh eh70 ?_
  have Eh70 : zEx h68 h70 := by rw [eh70]; exact zEx.sj
  have hO_h70 : zOw h70 := by rw [eh70]; exact hO_h68.sj
  have t_a0 := t_a0.ex Eh70
  have t_a55 := t_a55.ex Eh70
  refine w_dup F dX0_init_145 rfl ?_
  refine w_bipush (v := 7) F dX0_init_146 rfl ?_
  refine w_ldc2 (v := 35831808) F dX0_init_148 q168 ?_
  replace hf := ck_o hf
  obtain ⟨c71, hf⟩ := hf
  refine z_last F dX0_init_151 t_a55.1 (zTy.tg t_a55 (by decide)) (vp_in_iff.mpr c71) ?_
  replace hf := nm_o hf
  obtain ⟨h72, eh72, hf⟩ := hf
  refine w_nh eh72 ?_
  have Eh72 : zEx h70 h72 := by rw [eh72]; exact zEx.sj
  have hO_h72 : zOw h72 := by rw [eh72]; exact hO_h70.sj
  have t_a0 := t_a0.ex Eh72
  have t_a55 := t_a55.ex Eh72
  refine w_dup F dX0_init_152 rfl ?_
  refine w_bipush (v := 8) F dX0_init_153 rfl ?_
  refine w_ldc2 (v := 429981696) F dX0_init_155 q169 ?_
  replace hf := ck_o hf
  obtain ⟨c73, hf⟩ := hf
  refine z_last F dX0_init_158 t_a55.1 (zTy.tg t_a55 (by decide)) (vp_in_iff.mpr c73) ?_
  replace hf := nm_o hf
  obtain ⟨h74, eh74, hf⟩ := hf
  refine w_nh eh74 ?_
  have Eh74 : zEx h72 h74 := by rw [eh74]; exact zEx.sj
  have hO_h74 : zOw h74 := by rw [eh74]; exact hO_h72.sj
  have t_a0 := t_a0.ex Eh74
  have t_a55 := t_a55.ex Eh74
  refine w_dup F dX0_init_159 rfl ?_
  refine w_bipush (v := 9) F dX0_init_160 rfl ?_
  refine w_ldc2 (v := 5159780352) F dX0_init_162 q170 ?_
  replace hf := ck_o hf
  obtain ⟨c75, hf⟩ := hf
  refine z_last F dX0_init_165 t_a55.1 (zTy.tg t_a55 (by decide)) (vp_in_iff.mpr c75) ?_
  replace hf := nm_o hf
  obtain ⟨h76, eh76, hf⟩ := hf
  refine w_nh eh76 ?_
  have Eh76 : zEx h74 h76 := by rw [eh76]; exact zEx.sj
  have hO_h76 : zOw h76 := by rw [eh76]; exact hO_h74.sj
  have t_a0 := t_a0.ex Eh76
  have t_a55 := t_a55.ex Eh76
  refine pw_X0_68 (x := (some a55)) F hnm dX0_init_166 hO_h76 (t_a0) ?_
  replace hf := nm_o hf
  obtain ⟨h77, eh77, hf⟩ := hf
  refine w_nh eh77 ?_
  have Eh77 : zEx h76 h77 := by rw [eh77]; exact zEx.sr
  have hO_h77 : zOw h77 := by rw [eh77]; exact hO_h76.srt (t_a0).1 (zTy.tg t_a0 (by decide)) (by decide) (zTo.of t_a55)
  have t_a0 := t_a0.ex Eh77
  refine w_aload_n F dX0_init_169 0 rfl ?_
  refine w_sipush (v := 640) F dX0_init_170 rfl ?_
  replace hf := ck_o hf
  obtain ⟨c78, hf⟩ := hf
  replace hf := ck_o hf
  obtain ⟨c79, hf⟩ := hf
  refine z_newa (j := 4) (atype := .long) F hO_h77.1 ⟨(((((((((((((((((((((((((((((((((((Eh4).tr Eh5).tr Eh9).tr Eh10).tr Eh14).tr Eh16).tr Eh18).tr Eh20).tr Eh22).tr Eh24).tr Eh25).tr Eh26).tr Eh30).tr Eh31).tr Eh35).tr Eh36).tr Eh39).tr Eh40).tr Eh42).tr Eh46).tr Eh47).tr Eh51).tr Eh52).tr Eh56).tr Eh58).tr Eh60).tr Eh62).tr Eh64).tr Eh66).tr Eh68).tr Eh70).tr Eh72).tr Eh74).tr Eh76).tr Eh77).2.1, (((((((((((((((((((((((((((((((((((Eh4).tr Eh5).tr Eh9).tr Eh10).tr Eh14).tr Eh16).tr Eh18).tr Eh20).tr Eh22).tr Eh24).tr Eh25).tr Eh26).tr Eh30).tr Eh31).tr Eh35).tr Eh36).tr Eh39).tr Eh40).tr Eh42).tr Eh46).tr Eh47).tr Eh51).tr Eh52).tr Eh56).tr Eh58).tr Eh60).tr Eh62).tr Eh64).tr Eh66).tr Eh68).tr Eh70).tr Eh72).tr Eh74).tr Eh76).tr Eh77).2.2.1⟩ q292 rfl rfl (by intro C z; cases z) rfl (fun _ => rfl) c78 rfl (by have z := c79.2; simp only [zLS] at z; show _ * 8 ≤ _; omega) (z_lim1 (((((((((((((((((((((((((((((((((((Eh4).tr Eh5).tr Eh9).tr Eh10).tr Eh14).tr Eh16).tr Eh18).tr Eh20).tr Eh22).tr Eh24).tr Eh25).tr Eh26).tr Eh30).tr Eh31).tr Eh35).tr Eh36).tr Eh39).tr Eh40).tr Eh42).tr Eh46).tr Eh47).tr Eh51).tr Eh52).tr Eh56).tr Eh58).tr Eh60).tr Eh62).tr Eh64).tr Eh66).tr Eh68).tr Eh70).tr Eh72).tr Eh74).tr Eh76).tr Eh77) c79) dX0_init_173 (fun ad_h81 hA_h81 => ?_)
  rw [← hA_h81 a0 (t_a0.1)]
  replace hf := nm_o hf
  obtain ⟨a80, ea80, hf⟩ := hf
  rw [← ea80]
  replace hf := nm_o hf
  obtain ⟨h81, eh81, hf⟩ := hf
  refine w_nh eh81 ?_
  have Eh81 : zEx h77 h81 := by rw [eh81]; exact zEx.ne
  have hO_h81 : zOw h81 := by rw [eh81]; exact hO_h77.ne c79
  have t_a0 := t_a0.ex Eh81
  have t_a80 : zTy h81 a80 104 := by rw [eh81, ea80]; exact zTy.new (by decide)
  refine pw_X0_71 (x := (some a80)) F hnm dX0_init_175 hO_h81 (t_a0) ?_
  replace hf := nm_o hf
  obtain ⟨h82, eh82, hf⟩ := hf
  refine w_nh eh82 ?_
  have Eh82 : zEx h81 h82 := by rw [eh82]; exact zEx.sr
  have hO_h82 : zOw h82 := by rw [eh82]; exact hO_h81.srt (t_a0).1 (zTy.tg t_a0 (by decide)) (by decide) (zTo.of t_a80)
  have t_a0 := t_a0.ex Eh82
  refine w_aload_n F dX0_init_178 0 rfl ?_
  refine w_bipush (v := 16) F dX0_init_179 rfl ?_
  replace hf := ck_o hf
  obtain ⟨c83, hf⟩ := hf
  replace hf := ck_o hf
  obtain ⟨c84, hf⟩ := hf
  refine z_newa (j := 4) (atype := .long) F hO_h82.1 ⟨(((((((((((((((((((((((((((((((((((((Eh4).tr Eh5).tr Eh9).tr Eh10).tr Eh14).tr Eh16).tr Eh18).tr Eh20).tr Eh22).tr Eh24).tr Eh25).tr Eh26).tr Eh30).tr Eh31).tr Eh35).tr Eh36).tr Eh39).tr Eh40).tr Eh42).tr Eh46).tr Eh47).tr Eh51).tr Eh52).tr Eh56).tr Eh58).tr Eh60).tr Eh62).tr Eh64).tr Eh66).tr Eh68).tr Eh70).tr Eh72).tr Eh74).tr Eh76).tr Eh77).tr Eh81).tr Eh82).2.1, (((((((((((((((((((((((((((((((((((((Eh4).tr Eh5).tr Eh9).tr Eh10).tr Eh14).tr Eh16).tr Eh18).tr Eh20).tr Eh22).tr Eh24).tr Eh25).tr Eh26).tr Eh30).tr Eh31).tr Eh35).tr Eh36).tr Eh39).tr Eh40).tr Eh42).tr Eh46).tr Eh47).tr Eh51).tr Eh52).tr Eh56).tr Eh58).tr Eh60).tr Eh62).tr Eh64).tr Eh66).tr Eh68).tr Eh70).tr Eh72).tr Eh74).tr Eh76).tr Eh77).tr Eh81).tr Eh82).2.2.1⟩ q292 rfl rfl (by intro C z; cases z) rfl (fun _ => rfl) c83 rfl (by have z := c84.2; simp only [zLS] at z; show _ * 8 ≤ _; omega) (z_lim1 (((((((((((((((((((((((((((((((((((((Eh4).tr Eh5).tr Eh9).tr Eh10).tr Eh14).tr Eh16).tr Eh18).tr Eh20).tr Eh22).tr Eh24).tr Eh25).tr Eh26).tr Eh30).tr Eh31).tr Eh35).tr Eh36).tr Eh39).tr Eh40).tr Eh42).tr Eh46).tr Eh47).tr Eh51).tr Eh52).tr Eh56).tr Eh58).tr Eh60).tr Eh62).tr Eh64).tr Eh66).tr Eh68).tr Eh70).tr Eh72).tr Eh74).tr Eh76).tr Eh77).tr Eh81).tr Eh82) c84) dX0_init_181 (fun ad_h86 hA_h86 => ?_)
  rw [← hA_h86 a0 (t_a0.1)]
  replace hf := nm_o hf
  obtain ⟨a85, ea85, hf⟩ := hf
  rw [← ea85]
  replace hf := nm_o hf
  obtain ⟨h86, eh86, hf⟩ := hf
  refine w_nh eh86 ?_
  have Eh86 : zEx h82 h86 := by rw [eh86]; exact zEx.ne
  have hO_h86 : zOw h86 := by rw [eh86]; exact hO_h82.ne c84
  have t_a0 := t_a0.ex Eh86
  have t_a85 : zTy h86 a85 104 := by rw [eh86, ea85]; exact zTy.new (by decide)
  refine pw_X0_74 (x := (some a85)) F hnm dX0_init_183 hO_h86 (t_a0) ?_
  replace hf := nm_o hf
  obtain ⟨h87, eh87, hf⟩ := hf
  refine w_nh eh87 ?_
  have Eh87 : zEx h86 h87 := by rw [eh87]; exact zEx.sr
  have hO_h87 : zOw h87 := by rw [eh87]; exact hO_h86.srt (t_a0).1 (zTy.tg t_a0 (by decide)) (by decide) (zTo.of t_a85)
  have t_a0 := t_a0.ex Eh87
  refine w_aload_n F dX0_init_186 0 rfl ?_
  refine w_iconst (v := 4) F dX0_init_187 rfl ?_
  replace hf := ck_o hf
  obtain ⟨c88, hf⟩ := hf
  replace hf := ck_o hf
  obtain ⟨c89, hf⟩ := hf
  refine z_newa (j := 0) (atype := .int) F hO_h87.1 ⟨(((((((((((((((((((((((((((((((((((((((Eh4).tr Eh5).tr Eh9).tr Eh10).tr Eh14).tr Eh16).tr Eh18).tr Eh20).tr Eh22).tr Eh24).tr Eh25).tr Eh26).tr Eh30).tr Eh31).tr Eh35).tr Eh36).tr Eh39).tr Eh40).tr Eh42).tr Eh46).tr Eh47).tr Eh51).tr Eh52).tr Eh56).tr Eh58).tr Eh60).tr Eh62).tr Eh64).tr Eh66).tr Eh68).tr Eh70).tr Eh72).tr Eh74).tr Eh76).tr Eh77).tr Eh81).tr Eh82).tr Eh86).tr Eh87).2.1, (((((((((((((((((((((((((((((((((((((((Eh4).tr Eh5).tr Eh9).tr Eh10).tr Eh14).tr Eh16).tr Eh18).tr Eh20).tr Eh22).tr Eh24).tr Eh25).tr Eh26).tr Eh30).tr Eh31).tr Eh35).tr Eh36).tr Eh39).tr Eh40).tr Eh42).tr Eh46).tr Eh47).tr Eh51).tr Eh52).tr Eh56).tr Eh58).tr Eh60).tr Eh62).tr Eh64).tr Eh66).tr Eh68).tr Eh70).tr Eh72).tr Eh74).tr Eh76).tr Eh77).tr Eh81).tr Eh82).tr Eh86).tr Eh87).2.2.1⟩ q160 rfl rfl (by intro C z; cases z) rfl (fun _ => rfl) c88 rfl (by have z := c89.2; simp only [zLS] at z; show _ * 4 ≤ _; omega) (z_lim1 (((((((((((((((((((((((((((((((((((((((Eh4).tr Eh5).tr Eh9).tr Eh10).tr Eh14).tr Eh16).tr Eh18).tr Eh20).tr Eh22).tr Eh24).tr Eh25).tr Eh26).tr Eh30).tr Eh31).tr Eh35).tr Eh36).tr Eh39).tr Eh40).tr Eh42).tr Eh46).tr Eh47).tr Eh51).tr Eh52).tr Eh56).tr Eh58).tr Eh60).tr Eh62).tr Eh64).tr Eh66).tr Eh68).tr Eh70).tr Eh72).tr Eh74).tr Eh76).tr Eh77).tr Eh81).tr Eh82).tr Eh86).tr Eh87) c89) dX0_init_188 (fun ad_h91 hA_h91 => ?_)
  rw [← hA_h91 a0 (t_a0.1)]
  replace hf := nm_o hf
  obtain ⟨a90, ea90, hf⟩ := hf
  rw [← ea90]
  replace hf := nm_o hf
  obtain ⟨h91, eh91, hf⟩ := hf
  refine w_nh eh91 ?_
  have Eh91 : zEx h87 h91 := by rw [eh91]; exact zEx.ne
  have hO_h91 : zOw h91 := by rw [eh91]; exact hO_h87.ne c89
  have t_a0 := t_a0.ex Eh91
  have t_a90 : zTy h91 a90 100 := by rw [eh91, ea90]; exact zTy.new (by decide)
  refine pw_X0_77 (x := (some a90)) F hnm dX0_init_190 hO_h91 (t_a0) ?_
  replace hf := nm_o hf
  obtain ⟨h92, eh92, hf⟩ := hf
  refine w_nh eh92 ?_
  have Eh92 : zEx h91 h92 := by rw [eh92]; exact zEx.sr
  have hO_h92 : zOw h92 := by rw [eh92]; exact hO_h91.srt (t_a0).1 (zTy.tg t_a0 (by decide)) (by decide) (zTo.of t_a90)
  have t_a0 := t_a0.ex Eh92
  refine w_aload_n F dX0_init_193 0 rfl ?_
  refine w_bipush (v := 24) F dX0_init_194 rfl ?_
  replace hf := ck_o hf
  obtain ⟨c93, hf⟩ := hf
  replace hf := ck_o hf
  obtain ⟨c94, hf⟩ := hf
  refine z_newa (j := 1) (atype := .byte) F hO_h92.1 ⟨(((((((((((((((((((((((((((((((((((((((((Eh4).tr Eh5).tr Eh9).tr Eh10).tr Eh14).tr Eh16).tr Eh18).tr Eh20).tr Eh22).tr Eh24).tr Eh25).tr Eh26).tr Eh30).tr Eh31).tr Eh35).tr Eh36).tr Eh39).tr Eh40).tr Eh42).tr Eh46).tr Eh47).tr Eh51).tr Eh52).tr Eh56).tr Eh58).tr Eh60).tr Eh62).tr Eh64).tr Eh66).tr Eh68).tr Eh70).tr Eh72).tr Eh74).tr Eh76).tr Eh77).tr Eh81).tr Eh82).tr Eh86).tr Eh87).tr Eh91).tr Eh92).2.1, (((((((((((((((((((((((((((((((((((((((((Eh4).tr Eh5).tr Eh9).tr Eh10).tr Eh14).tr Eh16).tr Eh18).tr Eh20).tr Eh22).tr Eh24).tr Eh25).tr Eh26).tr Eh30).tr Eh31).tr Eh35).tr Eh36).tr Eh39).tr Eh40).tr Eh42).tr Eh46).tr Eh47).tr Eh51).tr Eh52).tr Eh56).tr Eh58).tr Eh60).tr Eh62).tr Eh64).tr Eh66).tr Eh68).tr Eh70).tr Eh72).tr Eh74).tr Eh76).tr Eh77).tr Eh81).tr Eh82).tr Eh86).tr Eh87).tr Eh91).tr Eh92).2.2.1⟩ q161 rfl rfl (by intro C z; cases z) rfl (fun _ => rfl) c93 rfl (by have z := c94.2; simp only [zLS] at z; show _ * 1 ≤ _; omega) (z_lim1 (((((((((((((((((((((((((((((((((((((((((Eh4).tr Eh5).tr Eh9).tr Eh10).tr Eh14).tr Eh16).tr Eh18).tr Eh20).tr Eh22).tr Eh24).tr Eh25).tr Eh26).tr Eh30).tr Eh31).tr Eh35).tr Eh36).tr Eh39).tr Eh40).tr Eh42).tr Eh46).tr Eh47).tr Eh51).tr Eh52).tr Eh56).tr Eh58).tr Eh60).tr Eh62).tr Eh64).tr Eh66).tr Eh68).tr Eh70).tr Eh72).tr Eh74).tr Eh76).tr Eh77).tr Eh81).tr Eh82).tr Eh86).tr Eh87).tr Eh91).tr Eh92) c94) dX0_init_196 (fun ad_h96 hA_h96 => ?_)
  rw [← hA_h96 a0 (t_a0.1)]
  replace hf := nm_o hf
  obtain ⟨a95, ea95, hf⟩ := hf
  rw [← ea95]
  replace hf := nm_o hf
  obtain ⟨h96, eh96, hf⟩ := hf
  refine w_nh eh96 ?_
  have Eh96 : zEx h92 h96 := by rw [eh96]; exact zEx.ne
  have hO_h96 : zOw h96 := by rw [eh96]; exact hO_h92.ne c94
  have t_a0 := t_a0.ex Eh96
  have t_a95 : zTy h96 a95 101 := by rw [eh96, ea95]; exact zTy.new (by decide)
  refine pw_X0_80 (x := (some a95)) F hnm dX0_init_198 hO_h96 (t_a0) ?_
  replace hf := nm_o hf
  obtain ⟨h97, eh97, hf⟩ := hf
  refine w_nh eh97 ?_
  have Eh97 : zEx h96 h97 := by rw [eh97]; exact zEx.sr
  have hO_h97 : zOw h97 := by rw [eh97]; exact hO_h96.srt (t_a0).1 (zTy.tg t_a0 (by decide)) (by decide) (zTo.of t_a95)
  have t_a0 := t_a0.ex Eh97
  refine w_aload_n F dX0_init_201 0 rfl ?_
  refine w_bipush (v := 50) F dX0_init_202 rfl ?_
  replace hf := ck_o hf
  obtain ⟨c98, hf⟩ := hf
  replace hf := ck_o hf
  obtain ⟨c99, hf⟩ := hf
  refine z_newq (j := 7) (C := "ThreeSnowballs$Thrower") F hO_h97.1 ⟨(((((((((((((((((((((((((((((((((((((((((((Eh4).tr Eh5).tr Eh9).tr Eh10).tr Eh14).tr Eh16).tr Eh18).tr Eh20).tr Eh22).tr Eh24).tr Eh25).tr Eh26).tr Eh30).tr Eh31).tr Eh35).tr Eh36).tr Eh39).tr Eh40).tr Eh42).tr Eh46).tr Eh47).tr Eh51).tr Eh52).tr Eh56).tr Eh58).tr Eh60).tr Eh62).tr Eh64).tr Eh66).tr Eh68).tr Eh70).tr Eh72).tr Eh74).tr Eh76).tr Eh77).tr Eh81).tr Eh82).tr Eh86).tr Eh87).tr Eh91).tr Eh92).tr Eh96).tr Eh97).2.1, (((((((((((((((((((((((((((((((((((((((((((Eh4).tr Eh5).tr Eh9).tr Eh10).tr Eh14).tr Eh16).tr Eh18).tr Eh20).tr Eh22).tr Eh24).tr Eh25).tr Eh26).tr Eh30).tr Eh31).tr Eh35).tr Eh36).tr Eh39).tr Eh40).tr Eh42).tr Eh46).tr Eh47).tr Eh51).tr Eh52).tr Eh56).tr Eh58).tr Eh60).tr Eh62).tr Eh64).tr Eh66).tr Eh68).tr Eh70).tr Eh72).tr Eh74).tr Eh76).tr Eh77).tr Eh81).tr Eh82).tr Eh86).tr Eh87).tr Eh91).tr Eh92).tr Eh96).tr Eh97).2.2.1⟩ q171 (zNW_of q172 rfl) rfl (by decide) c98 rfl (by have z := c99.2; simp only [zLS] at z; omega) (z_lim1 (((((((((((((((((((((((((((((((((((((((((((Eh4).tr Eh5).tr Eh9).tr Eh10).tr Eh14).tr Eh16).tr Eh18).tr Eh20).tr Eh22).tr Eh24).tr Eh25).tr Eh26).tr Eh30).tr Eh31).tr Eh35).tr Eh36).tr Eh39).tr Eh40).tr Eh42).tr Eh46).tr Eh47).tr Eh51).tr Eh52).tr Eh56).tr Eh58).tr Eh60).tr Eh62).tr Eh64).tr Eh66).tr Eh68).tr Eh70).tr Eh72).tr Eh74).tr Eh76).tr Eh77).tr Eh81).tr Eh82).tr Eh86).tr Eh87).tr Eh91).tr Eh92).tr Eh96).tr Eh97) c99) dX0_init_204 (fun ad_h101 hA_h101 => ?_)
  rw [← hA_h101 a0 (t_a0.1)]
  replace hf := nm_o hf
  obtain ⟨a100, ea100, hf⟩ := hf
  rw [← ea100]
  replace hf := nm_o hf
  obtain ⟨h101, eh101, hf⟩ := hf
  refine w_nh eh101 ?_
  have Eh101 : zEx h97 h101 := by rw [eh101]; exact zEx.ne
  have hO_h101 : zOw h101 := by rw [eh101]; exact hO_h97.ne c99
  have t_a0 := t_a0.ex Eh101
  have t_a100 : zTy h101 a100 107 := by rw [eh101, ea100]; exact zTy.new (by decide)
  refine pw_X0_85 (x := (some a100)) F hnm dX0_init_207 hO_h101 (t_a0) ?_
  replace hf := nm_o hf
  obtain ⟨h102, eh102, hf⟩ := hf
  refine w_nh eh102 ?_
  have Eh102 : zEx h101 h102 := by rw [eh102]; exact zEx.sr
  have hO_h102 : zOw h102 := by rw [eh102]; exact hO_h101.srt (t_a0).1 (zTy.tg t_a0 (by decide)) (by decide) (zTo.of t_a100)
  have t_a0 := t_a0.ex Eh102
  refine w_aload_n F dX0_init_210 0 rfl ?_
  refine w_bipush (v := 6) F dX0_init_211 rfl ?_
  replace hf := ck_o hf
  obtain ⟨c103, hf⟩ := hf
  replace hf := ck_o hf
  obtain ⟨c104, hf⟩ := hf
  refine z_newq (j := 8) (C := "ThreeSnowballs$Held") F hO_h102.1 ⟨(((((((((((((((((((((((((((((((((((((((((((((Eh4).tr Eh5).tr Eh9).tr Eh10).tr Eh14).tr Eh16).tr Eh18).tr Eh20).tr Eh22).tr Eh24).tr Eh25).tr Eh26).tr Eh30).tr Eh31).tr Eh35).tr Eh36).tr Eh39).tr Eh40).tr Eh42).tr Eh46).tr Eh47).tr Eh51).tr Eh52).tr Eh56).tr Eh58).tr Eh60).tr Eh62).tr Eh64).tr Eh66).tr Eh68).tr Eh70).tr Eh72).tr Eh74).tr Eh76).tr Eh77).tr Eh81).tr Eh82).tr Eh86).tr Eh87).tr Eh91).tr Eh92).tr Eh96).tr Eh97).tr Eh101).tr Eh102).2.1, (((((((((((((((((((((((((((((((((((((((((((((Eh4).tr Eh5).tr Eh9).tr Eh10).tr Eh14).tr Eh16).tr Eh18).tr Eh20).tr Eh22).tr Eh24).tr Eh25).tr Eh26).tr Eh30).tr Eh31).tr Eh35).tr Eh36).tr Eh39).tr Eh40).tr Eh42).tr Eh46).tr Eh47).tr Eh51).tr Eh52).tr Eh56).tr Eh58).tr Eh60).tr Eh62).tr Eh64).tr Eh66).tr Eh68).tr Eh70).tr Eh72).tr Eh74).tr Eh76).tr Eh77).tr Eh81).tr Eh82).tr Eh86).tr Eh87).tr Eh91).tr Eh92).tr Eh96).tr Eh97).tr Eh101).tr Eh102).2.2.1⟩ q173 (zNW_of q174 rfl) rfl (by decide) c103 rfl (by have z := c104.2; simp only [zLS] at z; omega) (z_lim1 (((((((((((((((((((((((((((((((((((((((((((((Eh4).tr Eh5).tr Eh9).tr Eh10).tr Eh14).tr Eh16).tr Eh18).tr Eh20).tr Eh22).tr Eh24).tr Eh25).tr Eh26).tr Eh30).tr Eh31).tr Eh35).tr Eh36).tr Eh39).tr Eh40).tr Eh42).tr Eh46).tr Eh47).tr Eh51).tr Eh52).tr Eh56).tr Eh58).tr Eh60).tr Eh62).tr Eh64).tr Eh66).tr Eh68).tr Eh70).tr Eh72).tr Eh74).tr Eh76).tr Eh77).tr Eh81).tr Eh82).tr Eh86).tr Eh87).tr Eh91).tr Eh92).tr Eh96).tr Eh97).tr Eh101).tr Eh102) c104) dX0_init_213 (fun ad_h106 hA_h106 => ?_)
  rw [← hA_h106 a0 (t_a0.1)]
  replace hf := nm_o hf
  obtain ⟨a105, ea105, hf⟩ := hf
  rw [← ea105]
  replace hf := nm_o hf
  obtain ⟨h106, eh106, hf⟩ := hf
  refine w_nh eh106 ?_
  have Eh106 : zEx h102 h106 := by rw [eh106]; exact zEx.ne
  have hO_h106 : zOw h106 := by rw [eh106]; exact hO_h102.ne c104
  have t_a0 := t_a0.ex Eh106
  have t_a105 : zTy h106 a105 108 := by rw [eh106, ea105]; exact zTy.new (by decide)
  refine pw_X0_91 (x := (some a105)) F hnm dX0_init_216 hO_h106 (t_a0) ?_
  replace hf := nm_o hf
  obtain ⟨h107, eh107, hf⟩ := hf
  refine w_nh eh107 ?_
  have Eh107 : zEx h106 h107 := by rw [eh107]; exact zEx.sr
  have hO_h107 : zOw h107 := by rw [eh107]; exact hO_h106.srt (t_a0).1 (zTy.tg t_a0 (by decide)) (by decide) (zTo.of t_a105)
  have t_a0 := t_a0.ex Eh107
  obtain ⟨-, rfl⟩ := ret_o hf
  exact z_vreDw F dX0_init_219 hO_h107 (((((((((((((((((((((((((((((((((((((((((((((((Eh4).tr Eh5).tr Eh9).tr Eh10).tr Eh14).tr Eh16).tr Eh18).tr Eh20).tr Eh22).tr Eh24).tr Eh25).tr Eh26).tr Eh30).tr Eh31).tr Eh35).tr Eh36).tr Eh39).tr Eh40).tr Eh42).tr Eh46).tr Eh47).tr Eh51).tr Eh52).tr Eh56).tr Eh58).tr Eh60).tr Eh62).tr Eh64).tr Eh66).tr Eh68).tr Eh70).tr Eh72).tr Eh74).tr Eh76).tr Eh77).tr Eh81).tr Eh82).tr Eh86).tr Eh87).tr Eh91).tr Eh92).tr Eh96).tr Eh97).tr Eh101).tr Eh102).tr Eh106).tr Eh107) ((((((((((((((((hA_h4).tr ((Eh4).tr Eh5) hA_h9).tr ((((Eh4).tr Eh5).tr Eh9).tr Eh10) hA_h14).tr ((((((((((((Eh4).tr Eh5).tr Eh9).tr Eh10).tr Eh14).tr Eh16).tr Eh18).tr Eh20).tr Eh22).tr Eh24).tr Eh25).tr Eh26) hA_h30).tr ((((((((((((((Eh4).tr Eh5).tr Eh9).tr Eh10).tr Eh14).tr Eh16).tr Eh18).tr Eh20).tr Eh22).tr Eh24).tr Eh25).tr Eh26).tr Eh30).tr Eh31) hA_h35).tr ((((((((((((((((Eh4).tr Eh5).tr Eh9).tr Eh10).tr Eh14).tr Eh16).tr Eh18).tr Eh20).tr Eh22).tr Eh24).tr Eh25).tr Eh26).tr Eh30).tr Eh31).tr Eh35).tr Eh36) hA_h39).tr (((((((((((((((((Eh4).tr Eh5).tr Eh9).tr Eh10).tr Eh14).tr Eh16).tr Eh18).tr Eh20).tr Eh22).tr Eh24).tr Eh25).tr Eh26).tr Eh30).tr Eh31).tr Eh35).tr Eh36).tr Eh39) hA_h40).tr (((((((((((((((((((Eh4).tr Eh5).tr Eh9).tr Eh10).tr Eh14).tr Eh16).tr Eh18).tr Eh20).tr Eh22).tr Eh24).tr Eh25).tr Eh26).tr Eh30).tr Eh31).tr Eh35).tr Eh36).tr Eh39).tr Eh40).tr Eh42) hA_h46).tr (((((((((((((((((((((Eh4).tr Eh5).tr Eh9).tr Eh10).tr Eh14).tr Eh16).tr Eh18).tr Eh20).tr Eh22).tr Eh24).tr Eh25).tr Eh26).tr Eh30).tr Eh31).tr Eh35).tr Eh36).tr Eh39).tr Eh40).tr Eh42).tr Eh46).tr Eh47) hA_h51).tr (((((((((((((((((((((((Eh4).tr Eh5).tr Eh9).tr Eh10).tr Eh14).tr Eh16).tr Eh18).tr Eh20).tr Eh22).tr Eh24).tr Eh25).tr Eh26).tr Eh30).tr Eh31).tr Eh35).tr Eh36).tr Eh39).tr Eh40).tr Eh42).tr Eh46).tr Eh47).tr Eh51).tr Eh52) hA_h56).tr (((((((((((((((((((((((((((((((((((Eh4).tr Eh5).tr Eh9).tr Eh10).tr Eh14).tr Eh16).tr Eh18).tr Eh20).tr Eh22).tr Eh24).tr Eh25).tr Eh26).tr Eh30).tr Eh31).tr Eh35).tr Eh36).tr Eh39).tr Eh40).tr Eh42).tr Eh46).tr Eh47).tr Eh51).tr Eh52).tr Eh56).tr Eh58).tr Eh60).tr Eh62).tr Eh64).tr Eh66).tr Eh68).tr Eh70).tr Eh72).tr Eh74).tr Eh76).tr Eh77) hA_h81).tr (((((((((((((((((((((((((((((((((((((Eh4).tr Eh5).tr Eh9).tr Eh10).tr Eh14).tr Eh16).tr Eh18).tr Eh20).tr Eh22).tr Eh24).tr Eh25).tr Eh26).tr Eh30).tr Eh31).tr Eh35).tr Eh36).tr Eh39).tr Eh40).tr Eh42).tr Eh46).tr Eh47).tr Eh51).tr Eh52).tr Eh56).tr Eh58).tr Eh60).tr Eh62).tr Eh64).tr Eh66).tr Eh68).tr Eh70).tr Eh72).tr Eh74).tr Eh76).tr Eh77).tr Eh81).tr Eh82) hA_h86).tr (((((((((((((((((((((((((((((((((((((((Eh4).tr Eh5).tr Eh9).tr Eh10).tr Eh14).tr Eh16).tr Eh18).tr Eh20).tr Eh22).tr Eh24).tr Eh25).tr Eh26).tr Eh30).tr Eh31).tr Eh35).tr Eh36).tr Eh39).tr Eh40).tr Eh42).tr Eh46).tr Eh47).tr Eh51).tr Eh52).tr Eh56).tr Eh58).tr Eh60).tr Eh62).tr Eh64).tr Eh66).tr Eh68).tr Eh70).tr Eh72).tr Eh74).tr Eh76).tr Eh77).tr Eh81).tr Eh82).tr Eh86).tr Eh87) hA_h91).tr (((((((((((((((((((((((((((((((((((((((((Eh4).tr Eh5).tr Eh9).tr Eh10).tr Eh14).tr Eh16).tr Eh18).tr Eh20).tr Eh22).tr Eh24).tr Eh25).tr Eh26).tr Eh30).tr Eh31).tr Eh35).tr Eh36).tr Eh39).tr Eh40).tr Eh42).tr Eh46).tr Eh47).tr Eh51).tr Eh52).tr Eh56).tr Eh58).tr Eh60).tr Eh62).tr Eh64).tr Eh66).tr Eh68).tr Eh70).tr Eh72).tr Eh74).tr Eh76).tr Eh77).tr Eh81).tr Eh82).tr Eh86).tr Eh87).tr Eh91).tr Eh92) hA_h96).tr (((((((((((((((((((((((((((((((((((((((((((Eh4).tr Eh5).tr Eh9).tr Eh10).tr Eh14).tr Eh16).tr Eh18).tr Eh20).tr Eh22).tr Eh24).tr Eh25).tr Eh26).tr Eh30).tr Eh31).tr Eh35).tr Eh36).tr Eh39).tr Eh40).tr Eh42).tr Eh46).tr Eh47).tr Eh51).tr Eh52).tr Eh56).tr Eh58).tr Eh60).tr Eh62).tr Eh64).tr Eh66).tr Eh68).tr Eh70).tr Eh72).tr Eh74).tr Eh76).tr Eh77).tr Eh81).tr Eh82).tr Eh86).tr Eh87).tr Eh91).tr Eh92).tr Eh96).tr Eh97) hA_h101).tr (((((((((((((((((((((((((((((((((((((((((((((Eh4).tr Eh5).tr Eh9).tr Eh10).tr Eh14).tr Eh16).tr Eh18).tr Eh20).tr Eh22).tr Eh24).tr Eh25).tr Eh26).tr Eh30).tr Eh31).tr Eh35).tr Eh36).tr Eh39).tr Eh40).tr Eh42).tr Eh46).tr Eh47).tr Eh51).tr Eh52).tr Eh56).tr Eh58).tr Eh60).tr Eh62).tr Eh64).tr Eh66).tr Eh68).tr Eh70).tr Eh72).tr Eh74).tr Eh76).tr Eh77).tr Eh81).tr Eh82).tr Eh86).tr Eh87).tr Eh91).tr Eh92).tr Eh96).tr Eh97).tr Eh101).tr Eh102) hA_h106)
