theorem gf_X23_7 {p : Program} {l : Launch} {e : Env} {R : Room} {s : State} {m : MethodId} {args : Array Value} {below : List Frame} {meth : Method} {c : Code} {Q : State → Prop} {D : va_G} {tA : Nat → ClassId} {B nL c0 s0 : Nat} {ad : Nat → Nat} {kn : State → Prop} {cc : ByteArray} {ret : Option FieldType} {pc : Nat} {h : Hp} {lv : List (Nat × Value)} {st : List Value} {q : Nat} (F : ZF p s m args meth c D tA B nL kn RX23 cc ret) (hd : decode cc pc = .ok (.getfield 7, 3)) (hO : zOk h) (t : zTy h q 23) (kk : ZW p l e R s m args below meth c Q D tA B nL c0 s0 ad (pc + 3) h lv (va_re ad (zr h q 0) :: st)) : ZW p l e R s m args below meth c Q D tA B nL c0 s0 ad pc h lv (.ref (ad q) :: st) :=
  z_get (ci := 23) (k := 0) (t := 2) F rfl in_X23 (by decide) rfl (by decide) (Or.inl (F.ts _ q1325)) rfl hd t.1 (zTy.tg t (by decide)) kk
def X23_at (h : Hp) (a0 : Nat) (x1 : Int32) : Option (Int64 × Hp) :=
  nm (zr h a0 0) fun o1 => dr o1 fun a2 => ck (0 ≤ x1.toInt ∧ x1.toInt < (zn h a2 : Int)) <| some ((zi h a2 x1.toNatClampNeg).toInt64, h)
set_option maxHeartbeats 4000000 in
theorem mX23_at {l : Launch} {D : va_G} {tA : Nat → ClassId} {B : Nat} {kn : State → Prop} {h hE : Hp} {ad : Nat → Nat} {a0 : Nat} {x1 : Int32} {r : Int64} (hkp : zKp D tA B kn) (hO_h : zOk h) (t_a0 : zTy h a0 23) (hf : X23_at h a0 x1 = some (r, hE)) : zM l D tA B kn yX23_at (ws_ yX23_at cX23_at 2 (Option.some Jvm.ClassFile.FieldType.long)) 0 0 h ad [.ref (ad a0), .int x1] hE (zQl D tA B h ad r hE) := by
  refine zM_of hkp (by decide +kernel) (Nat.le_of_ble_eq_true rfl) ?_
  intro p e s m args below meth c F hnm
  show ZW p l e (zRm 0 0 h) s m args below meth c (MQ below (zQl D tA B h ad r hE) args s (zc hE - zc h) (zs hE - zs h) (fun q => B ≤ q)) D tA B 2 (zc h) (zs h) ad 0 h [(0, .ref (ad a0)), (1, .int x1)] []
  replace hf := (X23_at.eq_1 h a0 x1).symm.trans hf
  refine w_aload_n F dX23_at_0 0 rfl ?_
  refine gf_X23_7 F dX23_at_1 hO_h (t_a0) ?_
  replace hf := nm_o hf
  obtain ⟨o1, eo1, hf⟩ := hf
  refine w_no eo1 ?_
  have t_o1 : zTo h o1 101 := zTo.rd hO_h (t_a0.1) (zTy.tg t_a0 (by decide)) (t := 23) rfl eo1
  refine w_iload_n F dX23_at_4 1 rfl ?_
  replace hf := dr_o hf
  obtain ⟨a2, ea2, hf⟩ := hf
  subst ea2
  have t_a2 : zTy h a2 101 := t_o1 a2 rfl
  replace hf := ck_o hf
  obtain ⟨c3, hf⟩ := hf
  refine z_bald F dX23_at_5 t_a2.1 (zTy.tg t_a2 (by decide)) (vp_in_iff.mpr c3) ?_
  refine w_i2l F dX23_at_6 ?_
  obtain ⟨rfl, rfl⟩ := ret_o hf
  exact z_lret F dX23_at_7 hO_h (zEx.rf h)
def X23_size (h : Hp) (a0 : Nat) : Option (Int32 × Hp) :=
  nm (zr h a0 0) fun o1 => dr o1 fun a2 => some (nI (zn h a2), h)
set_option maxHeartbeats 4000000 in
theorem mX23_size {l : Launch} {D : va_G} {tA : Nat → ClassId} {B : Nat} {kn : State → Prop} {h hE : Hp} {ad : Nat → Nat} {a0 : Nat} {r : Int32} (hkp : zKp D tA B kn) (hO_h : zOk h) (t_a0 : zTy h a0 23) (hf : X23_size h a0 = some (r, hE)) : zM l D tA B kn yX23_size (ws_ yX23_size cX23_size 1 (Option.some Jvm.ClassFile.FieldType.int)) 0 0 h ad [.ref (ad a0)] hE (zQi D tA B h ad r hE) := by
  refine zM_of hkp (by decide +kernel) (Nat.le_of_ble_eq_true rfl) ?_
  intro p e s m args below meth c F hnm
  show ZW p l e (zRm 0 0 h) s m args below meth c (MQ below (zQi D tA B h ad r hE) args s (zc hE - zc h) (zs hE - zs h) (fun q => B ≤ q)) D tA B 1 (zc h) (zs h) ad 0 h [(0, .ref (ad a0))] []
  replace hf := (X23_size.eq_1 h a0).symm.trans hf
  refine w_aload_n F dX23_size_0 0 rfl ?_
  refine gf_X23_7 F dX23_size_1 hO_h (t_a0) ?_
  replace hf := nm_o hf
  obtain ⟨o1, eo1, hf⟩ := hf
  refine w_no eo1 ?_
  have t_o1 : zTo h o1 101 := zTo.rd hO_h (t_a0.1) (zTy.tg t_a0 (by decide)) (t := 23) rfl eo1
  replace hf := dr_o hf
  obtain ⟨a2, ea2, hf⟩ := hf
  subst ea2
  have t_a2 : zTy h a2 101 := t_o1 a2 rfl
  refine z_alen (j := 1) F rfl (t := 101) rfl dX23_size_4 t_a2.1 (zTy.tg t_a2 (by decide)) ?_
  obtain ⟨rfl, rfl⟩ := ret_o hf
  exact z_iret F dX23_size_5 hO_h (zEx.rf h)
theorem cl_X23_1 {p : Program} {l : Launch} {e : Env} {s : State} {m : MethodId} {args : Array Value} {below : List Frame} {meth : Method} {c : Code} {Q : State → Prop} {D : va_G} {tA : Nat → ClassId} {B nL : Nat} {ad : Nat → Nat} {kn : State → Prop} {cc : ByteArray} {ret : Option FieldType} {pc : Nat} {h : Hp} {lv : List (Nat × Value)} {Fr Lo : Nat} {h0 h1 : Hp} {rest : List Value} {a0 : Nat} (F : ZF p s m args meth c D tA B nL kn RX23 cc ret) (hd : decode cc pc = .ok (.invokespecial 1, 3)) (hO : zOk h) (hE : zEx h0 h) (t_a0 : zTy h a0 53) (hR : 2 + 1 ≤ (zRm Fr Lo h0).frames ∧ 16 + (1 + 11) + 56 ≤ (zRm Fr Lo h0).locals) (hf : X22_init h a0 = some ((), h1)) (hr : (rest.map fun v => v.category).sum ≤ 16) (kk : zOk h1 → zEx h h1 → ZW p l e (zRm Fr Lo h0) s m args below meth c Q D tA B nL (zc h0) (zs h0) ad (pc + 3) h1 lv (rest)) : ZW p l e (zRm Fr Lo h0) s m args below meth c Q D tA B nL (zc h0) (zs h0) ad pc h lv (.ref (ad a0) :: rest) := 
  z_cv ⟨hE.2.1, hE.2.2.1⟩ (fun H locs ls hw hl => z_runI F (mX22_init F.2.2.2.2.2.1 hO t_a0 hf) (zCw.of 0 F.ts q1323 q129 (by decide +kernel) hR) (Or.inr ⟨_, zNW_of q1321 rfl⟩) rfl q1322 rfl hr hd hw hl (z_fit hE hO)) kk
theorem pf_X23_7 {p : Program} {l : Launch} {e : Env} {R : Room} {s : State} {m : MethodId} {args : Array Value} {below : List Frame} {meth : Method} {c : Code} {Q : State → Prop} {D : va_G} {tA : Nat → ClassId} {B nL c0 s0 : Nat} {ad : Nat → Nat} {kn : State → Prop} {cc : ByteArray} {ret : Option FieldType} {pc : Nat} {h : Hp} {lv : List (Nat × Value)} {st : List Value} {q : Nat} {x : Option Nat} (F : ZF p s m args meth c D tA B nL kn RX23 cc ret) (hin2 : meth.name = "<init>") (hd : decode cc pc = .ok (.putfield 7, 3)) (hO : zOk h) (t : zTy h q 23) (kk : ZW p l e R s m args below meth c Q D tA B nL c0 s0 ad (pc + 3) (zsr h q 0 x) lv st) : ZW p l e R s m args below meth c Q D tA B nL c0 s0 ad pc h lv (va_re ad x :: .ref (ad q) :: st) := 
  z_putF2 (ci := 23) (k := 0) (t := 2) (ty := (tyX23 0)) (h' := zsr h q 0 x) F hin2 rfl in_X23 tyX23_ok (by decide +kernel) (by decide) rfl (by decide) q1325 rfl rfl rfl (by cases x <;> rfl) (by cases x <;> rfl) hd rfl rfl rfl rfl (fun q' _ hq' => zen_sr hq') zfv_sr.1 zfv_sr.2 t.1 (zTy.tg t (by decide)) kk
def X23_init (h : Hp) (a0 : Nat) (x1 : Int32) : Option (Unit × Hp) :=
  bd (X22_init h a0) fun _ h1 => ck (¬ x1 < 0) <| ck (zc h1 + 1 ≤ zLC ∧ zs h1 + x1.toNatClampNeg ≤ zLS) <| nm (zx h1) fun a5 => nm (zne h1 101 x1.toNatClampNeg x1.toNatClampNeg) fun h6 => nm (zsr h6 a0 0 (some a5)) fun h7 => some ((), h7)
set_option maxHeartbeats 4000000 in
theorem mX23_init {l : Launch} {D : va_G} {tA : Nat → ClassId} {B : Nat} {kn : State → Prop} {h hE : Hp} {ad : Nat → Nat} {a0 : Nat} {x1 : Int32} (hkp : zKp D tA B kn) (hO_h : zOk h) (t_a0 : zTy h a0 23) (hf : X23_init h a0 x1 = some ((), hE)) : zM l D tA B kn yX23_init (ws_ yX23_init cX23_init 2 (Option.none : Option Jvm.ClassFile.FieldType)) 3 84 h ad [.ref (ad a0), .int x1] hE (zRv D tA B h ad hE) := by
  refine zM_of hkp (by decide +kernel) (Nat.le_of_ble_eq_true rfl) ?_
  intro p e s m args below meth c F hnm
  show ZW p l e (zRm 3 84 h) s m args below meth c (MQ below (zRv D tA B h ad hE) args s (zc hE - zc h) (zs hE - zs h) (fun q => B ≤ q)) D tA B 2 (zc h) (zs h) ad 0 h [(0, .ref (ad a0)), (1, .int x1)] []
  replace hf := (X23_init.eq_1 h a0 x1).symm.trans hf
  refine w_aload_n F dX23_init_0 0 rfl ?_
  replace hf := bd_o hf
  obtain ⟨r2, h1, qh1, hf⟩ := hf
  refine cl_X23_1 F dX23_init_1 hO_h (zEx.rf h) ((zTy.up t_a0 (by decide))) ⟨Nat.le_of_ble_eq_true rfl, Nat.le_of_ble_eq_true rfl⟩ qh1 (Nat.le_of_ble_eq_true rfl) (fun hO_h1 Eh1 => ?_)
  have t_a0 := t_a0.ex Eh1
  refine w_aload_n F dX23_init_4 0 rfl ?_
  refine w_iload_n F dX23_init_5 1 rfl ?_
  replace hf := ck_o hf
  obtain ⟨c3, hf⟩ := hf
  replace hf := ck_o hf
  obtain ⟨c4, hf⟩ := hf
  refine z_newa (j := 1) (atype := .byte) F hO_h1.1 ⟨Eh1.2.1, Eh1.2.2.1⟩ q161 rfl rfl (by intro C z; cases z) rfl (fun _ => rfl) c3 rfl (by have z := c4.2; simp only [zLS] at z; show _ * 1 ≤ _; omega) (z_lim1 Eh1 c4) dX23_init_6 (fun ad_h6 hA_h6 => ?_)
  rw [← hA_h6 a0 (t_a0.1)]
  replace hf := nm_o hf
  obtain ⟨a5, ea5, hf⟩ := hf
  rw [← ea5]
  replace hf := nm_o hf
  obtain ⟨h6, eh6, hf⟩ := hf
  refine w_nh eh6 ?_
  have Eh6 : zEx h1 h6 := by rw [eh6]; exact zEx.ne
  have hO_h6 : zOk h6 := by rw [eh6]; exact hO_h1.ne (by decide) c4
  have t_a0 := t_a0.ex Eh6
  have t_a5 : zTy h6 a5 101 := by rw [eh6, ea5]; exact zTy.new (by decide)
  refine pf_X23_7 (x := (some a5)) F hnm dX23_init_8 hO_h6 (t_a0) ?_
  replace hf := nm_o hf
  obtain ⟨h7, eh7, hf⟩ := hf
  refine w_nh eh7 ?_
  have Eh7 : zEx h6 h7 := by rw [eh7]; exact zEx.sr
  have hO_h7 : zOk h7 := by rw [eh7]; exact hO_h6.srt (t_a0).1 (zTy.tg t_a0 (by decide)) (by decide) (zTo.of t_a5)
  have t_a0 := t_a0.ex Eh7
  have t_a5 := t_a5.ex Eh7
  obtain ⟨-, rfl⟩ := ret_o hf
  exact z_vreD F dX23_init_11 hO_h7 (((Eh1).tr Eh6).tr Eh7) ((zA.rf).tr Eh1 hA_h6)
def X23_put (h : Hp) (a0 : Nat) (x1 : Int32) (x2 : Int64) : Option (Int32 × Hp) :=
  nm (zr h a0 0) fun o1 => nm (x2.toInt32.toInt8.toInt32 : Int32) fun v2 => dr o1 fun a3 => ck (0 ≤ x1.toInt ∧ x1.toInt < (zn h a3 : Int)) <| nm (zsi h a3 x1.toNatClampNeg (vp_nar .byte v2)) fun h5 => some ((1 : Int32), h5)
set_option maxHeartbeats 4000000 in
theorem mX23_put {l : Launch} {D : va_G} {tA : Nat → ClassId} {B : Nat} {kn : State → Prop} {h hE : Hp} {ad : Nat → Nat} {a0 : Nat} {x1 : Int32} {x2 : Int64} {r : Int32} (hkp : zKp D tA B kn) (hO_h : zOk h) (t_a0 : zTy h a0 23) (hf : X23_put h a0 x1 x2 = some (r, hE)) : zM l D tA B kn yX23_put (ws_ yX23_put cX23_put 4 (Option.some Jvm.ClassFile.FieldType.boolean)) 0 0 h ad [.ref (ad a0), .int x1, .long x2] hE (zQz D tA B h ad r hE) := by
  refine zM_of hkp (by decide +kernel) (Nat.le_of_ble_eq_true rfl) ?_
  intro p e s m args below meth c F hnm
  show ZW p l e (zRm 0 0 h) s m args below meth c (MQ below (zQz D tA B h ad r hE) args s (zc hE - zc h) (zs hE - zs h) (fun q => B ≤ q)) D tA B 4 (zc h) (zs h) ad 0 h [(0, .ref (ad a0)), (1, .int x1), (2, .long x2)] []
  replace hf := (X23_put.eq_1 h a0 x1 x2).symm.trans hf
  refine w_aload_n F dX23_put_0 0 rfl ?_
  refine gf_X23_7 F dX23_put_1 hO_h (t_a0) ?_
  replace hf := nm_o hf
  obtain ⟨o1, eo1, hf⟩ := hf
  refine w_no eo1 ?_
  have t_o1 : zTo h o1 101 := zTo.rd hO_h (t_a0.1) (zTy.tg t_a0 (by decide)) (t := 23) rfl eo1
  refine w_iload_n F dX23_put_4 1 rfl ?_
  refine w_lload_n F dX23_put_5 2 rfl ?_
  refine w_l2i F dX23_put_6 ?_
  refine w_i2b F dX23_put_7 ?_
  replace hf := nm_o hf
  obtain ⟨v2, ev2, hf⟩ := hf
  refine w_ni ev2 ?_
  replace hf := dr_o hf
  obtain ⟨a3, ea3, hf⟩ := hf
  subst ea3
  have t_a3 : zTy h a3 101 := t_o1 a3 rfl
  replace hf := ck_o hf
  obtain ⟨c4, hf⟩ := hf
  refine z_bast F dX23_put_8 t_a3.1 (zTy.tg t_a3 (by decide)) (vp_in_iff.mpr c4) ?_
  replace hf := nm_o hf
  obtain ⟨h5, eh5, hf⟩ := hf
  refine w_nh eh5 ?_
  have Eh5 : zEx h h5 := by rw [eh5]; exact zEx.si
  have hO_h5 : zOk h5 := by rw [eh5]; exact hO_h.si
  have t_a0 := t_a0.ex Eh5
  have t_a3 := t_a3.ex Eh5
  refine w_iconst (v := 1) F dX23_put_9 rfl ?_
  obtain ⟨rfl, rfl⟩ := ret_o hf
  exact z_zret F dX23_put_10 rfl hO_h5 Eh5
theorem cl_X24_1 {p : Program} {l : Launch} {e : Env} {s : State} {m : MethodId} {args : Array Value} {below : List Frame} {meth : Method} {c : Code} {Q : State → Prop} {D : va_G} {tA : Nat → ClassId} {B nL : Nat} {ad : Nat → Nat} {kn : State → Prop} {cc : ByteArray} {ret : Option FieldType} {pc : Nat} {h : Hp} {lv : List (Nat × Value)} {Fr Lo : Nat} {h0 h1 : Hp} {rest : List Value} {a0 : Nat} (F : ZF p s m args meth c D tA B nL kn RX24 cc ret) (hd : decode cc pc = .ok (.invokespecial 1, 3)) (hO : zOk h) (hE : zEx h0 h) (t_a0 : zTy h a0 53) (hR : 2 + 1 ≤ (zRm Fr Lo h0).frames ∧ 16 + (1 + 11) + 56 ≤ (zRm Fr Lo h0).locals) (hf : X22_init h a0 = some ((), h1)) (hr : (rest.map fun v => v.category).sum ≤ 16) (kk : zOk h1 → zEx h h1 → ZW p l e (zRm Fr Lo h0) s m args below meth c Q D tA B nL (zc h0) (zs h0) ad (pc + 3) h1 lv (rest)) : ZW p l e (zRm Fr Lo h0) s m args below meth c Q D tA B nL (zc h0) (zs h0) ad pc h lv (.ref (ad a0) :: rest) := 
  z_cv ⟨hE.2.1, hE.2.2.1⟩ (fun H locs ls hw hl => z_runI F (mX22_init F.2.2.2.2.2.1 hO t_a0 hf) (zCw.of 0 F.ts q1323 q129 (by decide +kernel) hR) (Or.inr ⟨_, zNW_of q1334 rfl⟩) rfl q1322 rfl hr hd hw hl (z_fit hE hO)) kk
theorem pf_X24_7 {p : Program} {l : Launch} {e : Env} {R : Room} {s : State} {m : MethodId} {args : Array Value} {below : List Frame} {meth : Method} {c : Code} {Q : State → Prop} {D : va_G} {tA : Nat → ClassId} {B nL c0 s0 : Nat} {ad : Nat → Nat} {kn : State → Prop} {cc : ByteArray} {ret : Option FieldType} {pc : Nat} {h : Hp} {lv : List (Nat × Value)} {st : List Value} {q : Nat} {x : Option Nat} (F : ZF p s m args meth c D tA B nL kn RX24 cc ret) (hin2 : meth.name = "<init>") (hd : decode cc pc = .ok (.putfield 7, 3)) (hO : zOk h) (t : zTy h q 24) (kk : ZW p l e R s m args below meth c Q D tA B nL c0 s0 ad (pc + 3) (zsr h q 0 x) lv st) : ZW p l e R s m args below meth c Q D tA B nL c0 s0 ad pc h lv (va_re ad x :: .ref (ad q) :: st) := 
  z_putF2 (ci := 24) (k := 0) (t := 2) (ty := (tyX24 0)) (h' := zsr h q 0 x) F hin2 rfl in_X24 tyX24_ok (by decide +kernel) (by decide) rfl (by decide) q1335 rfl rfl rfl (by cases x <;> rfl) (by cases x <;> rfl) hd rfl rfl rfl rfl (fun q' _ hq' => zen_sr hq') zfv_sr.1 zfv_sr.2 t.1 (zTy.tg t (by decide)) kk
def X24_init (h : Hp) (a0 : Nat) (x1 : Int32) : Option (Unit × Hp) :=
  bd (X22_init h a0) fun _ h1 => ck (¬ x1 < 0) <| ck (zc h1 + 1 ≤ zLC ∧ zs h1 + x1.toNatClampNeg ≤ zLS) <| nm (zx h1) fun a5 => nm (zne h1 102 x1.toNatClampNeg x1.toNatClampNeg) fun h6 => nm (zsr h6 a0 0 (some a5)) fun h7 => some ((), h7)
set_option maxHeartbeats 4000000 in
theorem mX24_init {l : Launch} {D : va_G} {tA : Nat → ClassId} {B : Nat} {kn : State → Prop} {h hE : Hp} {ad : Nat → Nat} {a0 : Nat} {x1 : Int32} (hkp : zKp D tA B kn) (hO_h : zOk h) (t_a0 : zTy h a0 24) (hf : X24_init h a0 x1 = some ((), hE)) : zM l D tA B kn yX24_init (ws_ yX24_init cX24_init 2 (Option.none : Option Jvm.ClassFile.FieldType)) 3 84 h ad [.ref (ad a0), .int x1] hE (zRv D tA B h ad hE) := by
  refine zM_of hkp (by decide +kernel) (Nat.le_of_ble_eq_true rfl) ?_
  intro p e s m args below meth c F hnm
  show ZW p l e (zRm 3 84 h) s m args below meth c (MQ below (zRv D tA B h ad hE) args s (zc hE - zc h) (zs hE - zs h) (fun q => B ≤ q)) D tA B 2 (zc h) (zs h) ad 0 h [(0, .ref (ad a0)), (1, .int x1)] []
  replace hf := (X24_init.eq_1 h a0 x1).symm.trans hf
  refine w_aload_n F dX24_init_0 0 rfl ?_
  replace hf := bd_o hf
  obtain ⟨r2, h1, qh1, hf⟩ := hf
  refine cl_X24_1 F dX24_init_1 hO_h (zEx.rf h) ((zTy.up t_a0 (by decide))) ⟨Nat.le_of_ble_eq_true rfl, Nat.le_of_ble_eq_true rfl⟩ qh1 (Nat.le_of_ble_eq_true rfl) (fun hO_h1 Eh1 => ?_)
  have t_a0 := t_a0.ex Eh1
  refine w_aload_n F dX24_init_4 0 rfl ?_
  refine w_iload_n F dX24_init_5 1 rfl ?_
  replace hf := ck_o hf
  obtain ⟨c3, hf⟩ := hf
  replace hf := ck_o hf
  obtain ⟨c4, hf⟩ := hf
  refine z_newa (j := 2) (atype := .short) F hO_h1.1 ⟨Eh1.2.1, Eh1.2.2.1⟩ q1339 rfl rfl (by intro C z; cases z) rfl (fun _ => rfl) c3 rfl (by have z := c4.2; simp only [zLS] at z; show _ * 2 ≤ _; omega) (z_lim1 Eh1 c4) dX24_init_6 (fun ad_h6 hA_h6 => ?_)
  rw [← hA_h6 a0 (t_a0.1)]
  replace hf := nm_o hf
  obtain ⟨a5, ea5, hf⟩ := hf
  rw [← ea5]
  replace hf := nm_o hf
  obtain ⟨h6, eh6, hf⟩ := hf
  refine w_nh eh6 ?_
  have Eh6 : zEx h1 h6 := by rw [eh6]; exact zEx.ne
  have hO_h6 : zOk h6 := by rw [eh6]; exact hO_h1.ne (by decide) c4
  have t_a0 := t_a0.ex Eh6
  have t_a5 : zTy h6 a5 102 := by rw [eh6, ea5]; exact zTy.new (by decide)
  refine pf_X24_7 (x := (some a5)) F hnm dX24_init_8 hO_h6 (t_a0) ?_
  replace hf := nm_o hf
  obtain ⟨h7, eh7, hf⟩ := hf
  refine w_nh eh7 ?_
  have Eh7 : zEx h6 h7 := by rw [eh7]; exact zEx.sr
  have hO_h7 : zOk h7 := by rw [eh7]; exact hO_h6.srt (t_a0).1 (zTy.tg t_a0 (by decide)) (by decide) (zTo.of t_a5)
  have t_a0 := t_a0.ex Eh7
  have t_a5 := t_a5.ex Eh7
  obtain ⟨-, rfl⟩ := ret_o hf
  exact z_vreD F dX24_init_11 hO_h7 (((Eh1).tr Eh6).tr Eh7) ((zA.rf).tr Eh1 hA_h6)
theorem gf_X24_7 {p : Program} {l : Launch} {e : Env} {R : Room} {s : State} {m : MethodId} {args : Array Value} {below : List Frame} {meth : Method} {c : Code} {Q : State → Prop} {D : va_G} {tA : Nat → ClassId} {B nL c0 s0 : Nat} {ad : Nat → Nat} {kn : State → Prop} {cc : ByteArray} {ret : Option FieldType} {pc : Nat} {h : Hp} {lv : List (Nat × Value)} {st : List Value} {q : Nat} (F : ZF p s m args meth c D tA B nL kn RX24 cc ret) (hd : decode cc pc = .ok (.getfield 7, 3)) (hO : zOk h) (t : zTy h q 24) (kk : ZW p l e R s m args below meth c Q D tA B nL c0 s0 ad (pc + 3) h lv (va_re ad (zr h q 0) :: st)) : ZW p l e R s m args below meth c Q D tA B nL c0 s0 ad pc h lv (.ref (ad q) :: st) :=
  z_get (ci := 24) (k := 0) (t := 2) F rfl in_X24 (by decide) rfl (by decide) (Or.inl (F.ts _ q1335)) rfl hd t.1 (zTy.tg t (by decide)) kk
def X24_put (h : Hp) (a0 : Nat) (x1 : Int32) (x2 : Int64) : Option (Int32 × Hp) :=
  nm (zr h a0 0) fun o1 => nm (x2.toInt32.toInt16.toInt32 : Int32) fun v2 => dr o1 fun a3 => ck (0 ≤ x1.toInt ∧ x1.toInt < (zn h a3 : Int)) <| nm (zsi h a3 x1.toNatClampNeg (vp_nar .short v2)) fun h5 => some ((1 : Int32), h5)
set_option maxHeartbeats 4000000 in
theorem mX24_put {l : Launch} {D : va_G} {tA : Nat → ClassId} {B : Nat} {kn : State → Prop} {h hE : Hp} {ad : Nat → Nat} {a0 : Nat} {x1 : Int32} {x2 : Int64} {r : Int32} (hkp : zKp D tA B kn) (hO_h : zOk h) (t_a0 : zTy h a0 24) (hf : X24_put h a0 x1 x2 = some (r, hE)) : zM l D tA B kn yX24_put (ws_ yX24_put cX24_put 4 (Option.some Jvm.ClassFile.FieldType.boolean)) 0 0 h ad [.ref (ad a0), .int x1, .long x2] hE (zQz D tA B h ad r hE) := by
  refine zM_of hkp (by decide +kernel) (Nat.le_of_ble_eq_true rfl) ?_
  intro p e s m args below meth c F hnm
  show ZW p l e (zRm 0 0 h) s m args below meth c (MQ below (zQz D tA B h ad r hE) args s (zc hE - zc h) (zs hE - zs h) (fun q => B ≤ q)) D tA B 4 (zc h) (zs h) ad 0 h [(0, .ref (ad a0)), (1, .int x1), (2, .long x2)] []
  replace hf := (X24_put.eq_1 h a0 x1 x2).symm.trans hf
  refine w_aload_n F dX24_put_0 0 rfl ?_
  refine gf_X24_7 F dX24_put_1 hO_h (t_a0) ?_
  replace hf := nm_o hf
  obtain ⟨o1, eo1, hf⟩ := hf
  refine w_no eo1 ?_
  have t_o1 : zTo h o1 102 := zTo.rd hO_h (t_a0.1) (zTy.tg t_a0 (by decide)) (t := 24) rfl eo1
  refine w_iload_n F dX24_put_4 1 rfl ?_
  refine w_lload_n F dX24_put_5 2 rfl ?_
  refine w_l2i F dX24_put_6 ?_
  refine w_i2s F dX24_put_7 ?_
  replace hf := nm_o hf
  obtain ⟨v2, ev2, hf⟩ := hf
  refine w_ni ev2 ?_
  replace hf := dr_o hf
  obtain ⟨a3, ea3, hf⟩ := hf
  subst ea3
  have t_a3 : zTy h a3 102 := t_o1 a3 rfl
  replace hf := ck_o hf
  obtain ⟨c4, hf⟩ := hf
  refine z_sast F dX24_put_8 t_a3.1 (zTy.tg t_a3 (by decide)) (vp_in_iff.mpr c4) ?_
  replace hf := nm_o hf
  obtain ⟨h5, eh5, hf⟩ := hf
  refine w_nh eh5 ?_
  have Eh5 : zEx h h5 := by rw [eh5]; exact zEx.si
  have hO_h5 : zOk h5 := by rw [eh5]; exact hO_h.si
  have t_a0 := t_a0.ex Eh5
  have t_a3 := t_a3.ex Eh5
  refine w_iconst (v := 1) F dX24_put_9 rfl ?_
  obtain ⟨rfl, rfl⟩ := ret_o hf
  exact z_zret F dX24_put_10 rfl hO_h5 Eh5
def X24_at (h : Hp) (a0 : Nat) (x1 : Int32) : Option (Int64 × Hp) :=
  nm (zr h a0 0) fun o1 => dr o1 fun a2 => ck (0 ≤ x1.toInt ∧ x1.toInt < (zn h a2 : Int)) <| some ((zi h a2 x1.toNatClampNeg).toInt64, h)
set_option maxHeartbeats 4000000 in
theorem mX24_at {l : Launch} {D : va_G} {tA : Nat → ClassId} {B : Nat} {kn : State → Prop} {h hE : Hp} {ad : Nat → Nat} {a0 : Nat} {x1 : Int32} {r : Int64} (hkp : zKp D tA B kn) (hO_h : zOk h) (t_a0 : zTy h a0 24) (hf : X24_at h a0 x1 = some (r, hE)) : zM l D tA B kn yX24_at (ws_ yX24_at cX24_at 2 (Option.some Jvm.ClassFile.FieldType.long)) 0 0 h ad [.ref (ad a0), .int x1] hE (zQl D tA B h ad r hE) := by
  refine zM_of hkp (by decide +kernel) (Nat.le_of_ble_eq_true rfl) ?_
  intro p e s m args below meth c F hnm
  show ZW p l e (zRm 0 0 h) s m args below meth c (MQ below (zQl D tA B h ad r hE) args s (zc hE - zc h) (zs hE - zs h) (fun q => B ≤ q)) D tA B 2 (zc h) (zs h) ad 0 h [(0, .ref (ad a0)), (1, .int x1)] []
  replace hf := (X24_at.eq_1 h a0 x1).symm.trans hf
  refine w_aload_n F dX24_at_0 0 rfl ?_
  refine gf_X24_7 F dX24_at_1 hO_h (t_a0) ?_
  replace hf := nm_o hf
  obtain ⟨o1, eo1, hf⟩ := hf
  refine w_no eo1 ?_
  have t_o1 : zTo h o1 102 := zTo.rd hO_h (t_a0.1) (zTy.tg t_a0 (by decide)) (t := 24) rfl eo1
  refine w_iload_n F dX24_at_4 1 rfl ?_
  replace hf := dr_o hf
  obtain ⟨a2, ea2, hf⟩ := hf
  subst ea2
  have t_a2 : zTy h a2 102 := t_o1 a2 rfl
  replace hf := ck_o hf
  obtain ⟨c3, hf⟩ := hf
  refine z_sald F dX24_at_5 t_a2.1 (zTy.tg t_a2 (by decide)) (vp_in_iff.mpr c3) ?_
  refine w_i2l F dX24_at_6 ?_
  obtain ⟨rfl, rfl⟩ := ret_o hf
  exact z_lret F dX24_at_7 hO_h (zEx.rf h)
theorem cl_X25_1 {p : Program} {l : Launch} {e : Env} {s : State} {m : MethodId} {args : Array Value} {below : List Frame} {meth : Method} {c : Code} {Q : State → Prop} {D : va_G} {tA : Nat → ClassId} {B nL : Nat} {ad : Nat → Nat} {kn : State → Prop} {cc : ByteArray} {ret : Option FieldType} {pc : Nat} {h : Hp} {lv : List (Nat × Value)} {Fr Lo : Nat} {h0 h1 : Hp} {rest : List Value} {a0 : Nat} (F : ZF p s m args meth c D tA B nL kn RX25 cc ret) (hd : decode cc pc = .ok (.invokespecial 1, 3)) (hO : zOk h) (hE : zEx h0 h) (t_a0 : zTy h a0 53) (hR : 2 + 1 ≤ (zRm Fr Lo h0).frames ∧ 16 + (1 + 11) + 56 ≤ (zRm Fr Lo h0).locals) (hf : X22_init h a0 = some ((), h1)) (hr : (rest.map fun v => v.category).sum ≤ 16) (kk : zOk h1 → zEx h h1 → ZW p l e (zRm Fr Lo h0) s m args below meth c Q D tA B nL (zc h0) (zs h0) ad (pc + 3) h1 lv (rest)) : ZW p l e (zRm Fr Lo h0) s m args below meth c Q D tA B nL (zc h0) (zs h0) ad pc h lv (.ref (ad a0) :: rest) := 
  z_cv ⟨hE.2.1, hE.2.2.1⟩ (fun H locs ls hw hl => z_runI F (mX22_init F.2.2.2.2.2.1 hO t_a0 hf) (zCw.of 0 F.ts q1323 q129 (by decide +kernel) hR) (Or.inr ⟨_, zNW_of q1345 rfl⟩) rfl q1322 rfl hr hd hw hl (z_fit hE hO)) kk
theorem pf_X25_7 {p : Program} {l : Launch} {e : Env} {R : Room} {s : State} {m : MethodId} {args : Array Value} {below : List Frame} {meth : Method} {c : Code} {Q : State → Prop} {D : va_G} {tA : Nat → ClassId} {B nL c0 s0 : Nat} {ad : Nat → Nat} {kn : State → Prop} {cc : ByteArray} {ret : Option FieldType} {pc : Nat} {h : Hp} {lv : List (Nat × Value)} {st : List Value} {q : Nat} {x : Option Nat} (F : ZF p s m args meth c D tA B nL kn RX25 cc ret) (hin2 : meth.name = "<init>") (hd : decode cc pc = .ok (.putfield 7, 3)) (hO : zOk h) (t : zTy h q 25) (kk : ZW p l e R s m args below meth c Q D tA B nL c0 s0 ad (pc + 3) (zsr h q 0 x) lv st) : ZW p l e R s m args below meth c Q D tA B nL c0 s0 ad pc h lv (va_re ad x :: .ref (ad q) :: st) := 
  z_putF2 (ci := 25) (k := 0) (t := 2) (ty := (tyX25 0)) (h' := zsr h q 0 x) F hin2 rfl in_X25 tyX25_ok (by decide +kernel) (by decide) rfl (by decide) q1346 rfl rfl rfl (by cases x <;> rfl) (by cases x <;> rfl) hd rfl rfl rfl rfl (fun q' _ hq' => zen_sr hq') zfv_sr.1 zfv_sr.2 t.1 (zTy.tg t (by decide)) kk
def X25_init (h : Hp) (a0 : Nat) (x1 : Int32) : Option (Unit × Hp) :=
  bd (X22_init h a0) fun _ h1 => ck (¬ x1 < 0) <| ck (zc h1 + 1 ≤ zLC ∧ zs h1 + x1.toNatClampNeg ≤ zLS) <| nm (zx h1) fun a5 => nm (zne h1 100 x1.toNatClampNeg x1.toNatClampNeg) fun h6 => nm (zsr h6 a0 0 (some a5)) fun h7 => some ((), h7)
set_option maxHeartbeats 4000000 in
theorem mX25_init {l : Launch} {D : va_G} {tA : Nat → ClassId} {B : Nat} {kn : State → Prop} {h hE : Hp} {ad : Nat → Nat} {a0 : Nat} {x1 : Int32} (hkp : zKp D tA B kn) (hO_h : zOk h) (t_a0 : zTy h a0 25) (hf : X25_init h a0 x1 = some ((), hE)) : zM l D tA B kn yX25_init (ws_ yX25_init cX25_init 2 (Option.none : Option Jvm.ClassFile.FieldType)) 3 84 h ad [.ref (ad a0), .int x1] hE (zRv D tA B h ad hE) := by
  refine zM_of hkp (by decide +kernel) (Nat.le_of_ble_eq_true rfl) ?_
  intro p e s m args below meth c F hnm
  show ZW p l e (zRm 3 84 h) s m args below meth c (MQ below (zRv D tA B h ad hE) args s (zc hE - zc h) (zs hE - zs h) (fun q => B ≤ q)) D tA B 2 (zc h) (zs h) ad 0 h [(0, .ref (ad a0)), (1, .int x1)] []
  replace hf := (X25_init.eq_1 h a0 x1).symm.trans hf
  refine w_aload_n F dX25_init_0 0 rfl ?_
  replace hf := bd_o hf
  obtain ⟨r2, h1, qh1, hf⟩ := hf
  refine cl_X25_1 F dX25_init_1 hO_h (zEx.rf h) ((zTy.up t_a0 (by decide))) ⟨Nat.le_of_ble_eq_true rfl, Nat.le_of_ble_eq_true rfl⟩ qh1 (Nat.le_of_ble_eq_true rfl) (fun hO_h1 Eh1 => ?_)
  have t_a0 := t_a0.ex Eh1
  refine w_aload_n F dX25_init_4 0 rfl ?_
  refine w_iload_n F dX25_init_5 1 rfl ?_
  replace hf := ck_o hf
  obtain ⟨c3, hf⟩ := hf
  replace hf := ck_o hf
  obtain ⟨c4, hf⟩ := hf
  refine z_newa (j := 0) (atype := .int) F hO_h1.1 ⟨Eh1.2.1, Eh1.2.2.1⟩ q160 rfl rfl (by intro C z; cases z) rfl (fun _ => rfl) c3 rfl (by have z := c4.2; simp only [zLS] at z; show _ * 4 ≤ _; omega) (z_lim1 Eh1 c4) dX25_init_6 (fun ad_h6 hA_h6 => ?_)
  rw [← hA_h6 a0 (t_a0.1)]
  replace hf := nm_o hf
  obtain ⟨a5, ea5, hf⟩ := hf
  rw [← ea5]
  replace hf := nm_o hf
  obtain ⟨h6, eh6, hf⟩ := hf
  refine w_nh eh6 ?_
  have Eh6 : zEx h1 h6 := by rw [eh6]; exact zEx.ne
  have hO_h6 : zOk h6 := by rw [eh6]; exact hO_h1.ne (by decide) c4
  have t_a0 := t_a0.ex Eh6
  have t_a5 : zTy h6 a5 100 := by rw [eh6, ea5]; exact zTy.new (by decide)
  refine pf_X25_7 (x := (some a5)) F hnm dX25_init_8 hO_h6 (t_a0) ?_
  replace hf := nm_o hf
  obtain ⟨h7, eh7, hf⟩ := hf
  refine w_nh eh7 ?_
  have Eh7 : zEx h6 h7 := by rw [eh7]; exact zEx.sr
  have hO_h7 : zOk h7 := by rw [eh7]; exact hO_h6.srt (t_a0).1 (zTy.tg t_a0 (by decide)) (by decide) (zTo.of t_a5)
  have t_a0 := t_a0.ex Eh7
  have t_a5 := t_a5.ex Eh7
  obtain ⟨-, rfl⟩ := ret_o hf
  exact z_vreD F dX25_init_11 hO_h7 (((Eh1).tr Eh6).tr Eh7) ((zA.rf).tr Eh1 hA_h6)
theorem gf_X25_7 {p : Program} {l : Launch} {e : Env} {R : Room} {s : State} {m : MethodId} {args : Array Value} {below : List Frame} {meth : Method} {c : Code} {Q : State → Prop} {D : va_G} {tA : Nat → ClassId} {B nL c0 s0 : Nat} {ad : Nat → Nat} {kn : State → Prop} {cc : ByteArray} {ret : Option FieldType} {pc : Nat} {h : Hp} {lv : List (Nat × Value)} {st : List Value} {q : Nat} (F : ZF p s m args meth c D tA B nL kn RX25 cc ret) (hd : decode cc pc = .ok (.getfield 7, 3)) (hO : zOk h) (t : zTy h q 25) (kk : ZW p l e R s m args below meth c Q D tA B nL c0 s0 ad (pc + 3) h lv (va_re ad (zr h q 0) :: st)) : ZW p l e R s m args below meth c Q D tA B nL c0 s0 ad pc h lv (.ref (ad q) :: st) :=
  z_get (ci := 25) (k := 0) (t := 2) F rfl in_X25 (by decide) rfl (by decide) (Or.inl (F.ts _ q1346)) rfl hd t.1 (zTy.tg t (by decide)) kk
def X25_put (h : Hp) (a0 : Nat) (x1 : Int32) (x2 : Int64) : Option (Int32 × Hp) :=
  nm (zr h a0 0) fun o1 => nm (x2.toInt32 : Int32) fun v2 => dr o1 fun a3 => ck (0 ≤ x1.toInt ∧ x1.toInt < (zn h a3 : Int)) <| nm (zsi h a3 x1.toNatClampNeg v2) fun h5 => some ((1 : Int32), h5)
set_option maxHeartbeats 4000000 in
theorem mX25_put {l : Launch} {D : va_G} {tA : Nat → ClassId} {B : Nat} {kn : State → Prop} {h hE : Hp} {ad : Nat → Nat} {a0 : Nat} {x1 : Int32} {x2 : Int64} {r : Int32} (hkp : zKp D tA B kn) (hO_h : zOk h) (t_a0 : zTy h a0 25) (hf : X25_put h a0 x1 x2 = some (r, hE)) : zM l D tA B kn yX25_put (ws_ yX25_put cX25_put 4 (Option.some Jvm.ClassFile.FieldType.boolean)) 0 0 h ad [.ref (ad a0), .int x1, .long x2] hE (zQz D tA B h ad r hE) := by
  refine zM_of hkp (by decide +kernel) (Nat.le_of_ble_eq_true rfl) ?_
  intro p e s m args below meth c F hnm
  show ZW p l e (zRm 0 0 h) s m args below meth c (MQ below (zQz D tA B h ad r hE) args s (zc hE - zc h) (zs hE - zs h) (fun q => B ≤ q)) D tA B 4 (zc h) (zs h) ad 0 h [(0, .ref (ad a0)), (1, .int x1), (2, .long x2)] []
  replace hf := (X25_put.eq_1 h a0 x1 x2).symm.trans hf
  refine w_aload_n F dX25_put_0 0 rfl ?_
  refine gf_X25_7 F dX25_put_1 hO_h (t_a0) ?_
  replace hf := nm_o hf
  obtain ⟨o1, eo1, hf⟩ := hf
  refine w_no eo1 ?_
  have t_o1 : zTo h o1 100 := zTo.rd hO_h (t_a0.1) (zTy.tg t_a0 (by decide)) (t := 25) rfl eo1
  refine w_iload_n F dX25_put_4 1 rfl ?_
  refine w_lload_n F dX25_put_5 2 rfl ?_
  refine w_l2i F dX25_put_6 ?_
  replace hf := nm_o hf
  obtain ⟨v2, ev2, hf⟩ := hf
  refine w_ni ev2 ?_
  replace hf := dr_o hf
  obtain ⟨a3, ea3, hf⟩ := hf
  subst ea3
  have t_a3 : zTy h a3 100 := t_o1 a3 rfl
  replace hf := ck_o hf
  obtain ⟨c4, hf⟩ := hf
  refine z_iast F dX25_put_7 t_a3.1 (zTy.tg t_a3 (by decide)) (vp_in_iff.mpr c4) ?_
  replace hf := nm_o hf
  obtain ⟨h5, eh5, hf⟩ := hf
  refine w_nh eh5 ?_
  have Eh5 : zEx h h5 := by rw [eh5]; exact zEx.si
  have hO_h5 : zOk h5 := by rw [eh5]; exact hO_h.si
  have t_a0 := t_a0.ex Eh5
  have t_a3 := t_a3.ex Eh5
  refine w_iconst (v := 1) F dX25_put_8 rfl ?_
  obtain ⟨rfl, rfl⟩ := ret_o hf
  exact z_zret F dX25_put_9 rfl hO_h5 Eh5
def X25_at (h : Hp) (a0 : Nat) (x1 : Int32) : Option (Int64 × Hp) :=
  nm (zr h a0 0) fun o1 => dr o1 fun a2 => ck (0 ≤ x1.toInt ∧ x1.toInt < (zn h a2 : Int)) <| some ((zi h a2 x1.toNatClampNeg).toInt64, h)
set_option maxHeartbeats 4000000 in
theorem mX25_at {l : Launch} {D : va_G} {tA : Nat → ClassId} {B : Nat} {kn : State → Prop} {h hE : Hp} {ad : Nat → Nat} {a0 : Nat} {x1 : Int32} {r : Int64} (hkp : zKp D tA B kn) (hO_h : zOk h) (t_a0 : zTy h a0 25) (hf : X25_at h a0 x1 = some (r, hE)) : zM l D tA B kn yX25_at (ws_ yX25_at cX25_at 2 (Option.some Jvm.ClassFile.FieldType.long)) 0 0 h ad [.ref (ad a0), .int x1] hE (zQl D tA B h ad r hE) := by
  refine zM_of hkp (by decide +kernel) (Nat.le_of_ble_eq_true rfl) ?_
  intro p e s m args below meth c F hnm
  show ZW p l e (zRm 0 0 h) s m args below meth c (MQ below (zQl D tA B h ad r hE) args s (zc hE - zc h) (zs hE - zs h) (fun q => B ≤ q)) D tA B 2 (zc h) (zs h) ad 0 h [(0, .ref (ad a0)), (1, .int x1)] []
  replace hf := (X25_at.eq_1 h a0 x1).symm.trans hf
  refine w_aload_n F dX25_at_0 0 rfl ?_
  refine gf_X25_7 F dX25_at_1 hO_h (t_a0) ?_
  replace hf := nm_o hf
  obtain ⟨o1, eo1, hf⟩ := hf
  refine w_no eo1 ?_
  have t_o1 : zTo h o1 100 := zTo.rd hO_h (t_a0.1) (zTy.tg t_a0 (by decide)) (t := 25) rfl eo1
  refine w_iload_n F dX25_at_4 1 rfl ?_
  replace hf := dr_o hf
  obtain ⟨a2, ea2, hf⟩ := hf
  subst ea2
  have t_a2 : zTy h a2 100 := t_o1 a2 rfl
  replace hf := ck_o hf
  obtain ⟨c3, hf⟩ := hf
  refine z_iald F dX25_at_5 t_a2.1 (zTy.tg t_a2 (by decide)) (vp_in_iff.mpr c3) ?_
  refine w_i2l F dX25_at_6 ?_
  obtain ⟨rfl, rfl⟩ := ret_o hf
  exact z_lret F dX25_at_7 hO_h (zEx.rf h)
theorem cl_X26_1 {p : Program} {l : Launch} {e : Env} {s : State} {m : MethodId} {args : Array Value} {below : List Frame} {meth : Method} {c : Code} {Q : State → Prop} {D : va_G} {tA : Nat → ClassId} {B nL : Nat} {ad : Nat → Nat} {kn : State → Prop} {cc : ByteArray} {ret : Option FieldType} {pc : Nat} {h : Hp} {lv : List (Nat × Value)} {Fr Lo : Nat} {h0 h1 : Hp} {rest : List Value} {a0 : Nat} (F : ZF p s m args meth c D tA B nL kn RX26 cc ret) (hd : decode cc pc = .ok (.invokespecial 1, 3)) (hO : zOk h) (hE : zEx h0 h) (t_a0 : zTy h a0 53) (hR : 2 + 1 ≤ (zRm Fr Lo h0).frames ∧ 16 + (1 + 11) + 56 ≤ (zRm Fr Lo h0).locals) (hf : X22_init h a0 = some ((), h1)) (hr : (rest.map fun v => v.category).sum ≤ 16) (kk : zOk h1 → zEx h h1 → ZW p l e (zRm Fr Lo h0) s m args below meth c Q D tA B nL (zc h0) (zs h0) ad (pc + 3) h1 lv (rest)) : ZW p l e (zRm Fr Lo h0) s m args below meth c Q D tA B nL (zc h0) (zs h0) ad pc h lv (.ref (ad a0) :: rest) := 
  z_cv ⟨hE.2.1, hE.2.2.1⟩ (fun H locs ls hw hl => z_runI F (mX22_init F.2.2.2.2.2.1 hO t_a0 hf) (zCw.of 0 F.ts q1323 q129 (by decide +kernel) hR) (Or.inr ⟨_, zNW_of q1355 rfl⟩) rfl q1322 rfl hr hd hw hl (z_fit hE hO)) kk
theorem pf_X26_7 {p : Program} {l : Launch} {e : Env} {R : Room} {s : State} {m : MethodId} {args : Array Value} {below : List Frame} {meth : Method} {c : Code} {Q : State → Prop} {D : va_G} {tA : Nat → ClassId} {B nL c0 s0 : Nat} {ad : Nat → Nat} {kn : State → Prop} {cc : ByteArray} {ret : Option FieldType} {pc : Nat} {h : Hp} {lv : List (Nat × Value)} {st : List Value} {q : Nat} {x : Option Nat} (F : ZF p s m args meth c D tA B nL kn RX26 cc ret) (hin2 : meth.name = "<init>") (hd : decode cc pc = .ok (.putfield 7, 3)) (hO : zOk h) (t : zTy h q 26) (kk : ZW p l e R s m args below meth c Q D tA B nL c0 s0 ad (pc + 3) (zsr h q 0 x) lv st) : ZW p l e R s m args below meth c Q D tA B nL c0 s0 ad pc h lv (va_re ad x :: .ref (ad q) :: st) := 
  z_putF2 (ci := 26) (k := 0) (t := 2) (ty := (tyX26 0)) (h' := zsr h q 0 x) F hin2 rfl in_X26 tyX26_ok (by decide +kernel) (by decide) rfl (by decide) q1356 rfl rfl rfl (by cases x <;> rfl) (by cases x <;> rfl) hd rfl rfl rfl rfl (fun q' _ hq' => zen_sr hq') zfv_sr.1 zfv_sr.2 t.1 (zTy.tg t (by decide)) kk
def X26_init (h : Hp) (a0 : Nat) (x1 : Int32) : Option (Unit × Hp) :=
  bd (X22_init h a0) fun _ h1 => ck (¬ x1 < 0) <| ck (zc h1 + 1 ≤ zLC ∧ zs h1 + x1.toNatClampNeg ≤ zLS) <| nm (zx h1) fun a5 => nm (zne h1 104 x1.toNatClampNeg x1.toNatClampNeg) fun h6 => nm (zsr h6 a0 0 (some a5)) fun h7 => some ((), h7)
set_option maxHeartbeats 4000000 in
theorem mX26_init {l : Launch} {D : va_G} {tA : Nat → ClassId} {B : Nat} {kn : State → Prop} {h hE : Hp} {ad : Nat → Nat} {a0 : Nat} {x1 : Int32} (hkp : zKp D tA B kn) (hO_h : zOk h) (t_a0 : zTy h a0 26) (hf : X26_init h a0 x1 = some ((), hE)) : zM l D tA B kn yX26_init (ws_ yX26_init cX26_init 2 (Option.none : Option Jvm.ClassFile.FieldType)) 3 84 h ad [.ref (ad a0), .int x1] hE (zRv D tA B h ad hE) := by
  refine zM_of hkp (by decide +kernel) (Nat.le_of_ble_eq_true rfl) ?_
  intro p e s m args below meth c F hnm
  show ZW p l e (zRm 3 84 h) s m args below meth c (MQ below (zRv D tA B h ad hE) args s (zc hE - zc h) (zs hE - zs h) (fun q => B ≤ q)) D tA B 2 (zc h) (zs h) ad 0 h [(0, .ref (ad a0)), (1, .int x1)] []
  replace hf := (X26_init.eq_1 h a0 x1).symm.trans hf
  refine w_aload_n F dX26_init_0 0 rfl ?_
  replace hf := bd_o hf
  obtain ⟨r2, h1, qh1, hf⟩ := hf
  refine cl_X26_1 F dX26_init_1 hO_h (zEx.rf h) ((zTy.up t_a0 (by decide))) ⟨Nat.le_of_ble_eq_true rfl, Nat.le_of_ble_eq_true rfl⟩ qh1 (Nat.le_of_ble_eq_true rfl) (fun hO_h1 Eh1 => ?_)
  have t_a0 := t_a0.ex Eh1
  refine w_aload_n F dX26_init_4 0 rfl ?_
  refine w_iload_n F dX26_init_5 1 rfl ?_
  replace hf := ck_o hf
  obtain ⟨c3, hf⟩ := hf
  replace hf := ck_o hf
  obtain ⟨c4, hf⟩ := hf
  refine z_newa (j := 4) (atype := .long) F hO_h1.1 ⟨Eh1.2.1, Eh1.2.2.1⟩ q292 rfl rfl (by intro C z; cases z) rfl (fun _ => rfl) c3 rfl (by have z := c4.2; simp only [zLS] at z; show _ * 8 ≤ _; omega) (z_lim1 Eh1 c4) dX26_init_6 (fun ad_h6 hA_h6 => ?_)
  rw [← hA_h6 a0 (t_a0.1)]
  replace hf := nm_o hf
  obtain ⟨a5, ea5, hf⟩ := hf
  rw [← ea5]
  replace hf := nm_o hf
  obtain ⟨h6, eh6, hf⟩ := hf
  refine w_nh eh6 ?_
  have Eh6 : zEx h1 h6 := by rw [eh6]; exact zEx.ne
  have hO_h6 : zOk h6 := by rw [eh6]; exact hO_h1.ne (by decide) c4
  have t_a0 := t_a0.ex Eh6
  have t_a5 : zTy h6 a5 104 := by rw [eh6, ea5]; exact zTy.new (by decide)
  refine pf_X26_7 (x := (some a5)) F hnm dX26_init_8 hO_h6 (t_a0) ?_
  replace hf := nm_o hf
  obtain ⟨h7, eh7, hf⟩ := hf
  refine w_nh eh7 ?_
  have Eh7 : zEx h6 h7 := by rw [eh7]; exact zEx.sr
  have hO_h7 : zOk h7 := by rw [eh7]; exact hO_h6.srt (t_a0).1 (zTy.tg t_a0 (by decide)) (by decide) (zTo.of t_a5)
  have t_a0 := t_a0.ex Eh7
  have t_a5 := t_a5.ex Eh7
  obtain ⟨-, rfl⟩ := ret_o hf
  exact z_vreD F dX26_init_11 hO_h7 (((Eh1).tr Eh6).tr Eh7) ((zA.rf).tr Eh1 hA_h6)
theorem gf_X26_7 {p : Program} {l : Launch} {e : Env} {R : Room} {s : State} {m : MethodId} {args : Array Value} {below : List Frame} {meth : Method} {c : Code} {Q : State → Prop} {D : va_G} {tA : Nat → ClassId} {B nL c0 s0 : Nat} {ad : Nat → Nat} {kn : State → Prop} {cc : ByteArray} {ret : Option FieldType} {pc : Nat} {h : Hp} {lv : List (Nat × Value)} {st : List Value} {q : Nat} (F : ZF p s m args meth c D tA B nL kn RX26 cc ret) (hd : decode cc pc = .ok (.getfield 7, 3)) (hO : zOk h) (t : zTy h q 26) (kk : ZW p l e R s m args below meth c Q D tA B nL c0 s0 ad (pc + 3) h lv (va_re ad (zr h q 0) :: st)) : ZW p l e R s m args below meth c Q D tA B nL c0 s0 ad pc h lv (.ref (ad q) :: st) :=
  z_get (ci := 26) (k := 0) (t := 2) F rfl in_X26 (by decide) rfl (by decide) (Or.inl (F.ts _ q1356)) rfl hd t.1 (zTy.tg t (by decide)) kk
def X26_put (h : Hp) (a0 : Nat) (x1 : Int32) (x2 : Int64) : Option (Int32 × Hp) :=
  nm (zr h a0 0) fun o1 => dr o1 fun a2 => ck (0 ≤ x1.toInt ∧ x1.toInt < (zn h a2 : Int)) <| nm (zsj h a2 x1.toNatClampNeg x2) fun h4 => some ((1 : Int32), h4)
set_option maxHeartbeats 4000000 in
theorem mX26_put {l : Launch} {D : va_G} {tA : Nat → ClassId} {B : Nat} {kn : State → Prop} {h hE : Hp} {ad : Nat → Nat} {a0 : Nat} {x1 : Int32} {x2 : Int64} {r : Int32} (hkp : zKp D tA B kn) (hO_h : zOk h) (t_a0 : zTy h a0 26) (hf : X26_put h a0 x1 x2 = some (r, hE)) : zM l D tA B kn yX26_put (ws_ yX26_put cX26_put 4 (Option.some Jvm.ClassFile.FieldType.boolean)) 0 0 h ad [.ref (ad a0), .int x1, .long x2] hE (zQz D tA B h ad r hE) := by
  refine zM_of hkp (by decide +kernel) (Nat.le_of_ble_eq_true rfl) ?_
  intro p e s m args below meth c F hnm
  show ZW p l e (zRm 0 0 h) s m args below meth c (MQ below (zQz D tA B h ad r hE) args s (zc hE - zc h) (zs hE - zs h) (fun q => B ≤ q)) D tA B 4 (zc h) (zs h) ad 0 h [(0, .ref (ad a0)), (1, .int x1), (2, .long x2)] []
  replace hf := (X26_put.eq_1 h a0 x1 x2).symm.trans hf
  refine w_aload_n F dX26_put_0 0 rfl ?_
  refine gf_X26_7 F dX26_put_1 hO_h (t_a0) ?_
  replace hf := nm_o hf
  obtain ⟨o1, eo1, hf⟩ := hf
  refine w_no eo1 ?_
  have t_o1 : zTo h o1 104 := zTo.rd hO_h (t_a0.1) (zTy.tg t_a0 (by decide)) (t := 26) rfl eo1
  refine w_iload_n F dX26_put_4 1 rfl ?_
  refine w_lload_n F dX26_put_5 2 rfl ?_
  replace hf := dr_o hf
  obtain ⟨a2, ea2, hf⟩ := hf
  subst ea2
  have t_a2 : zTy h a2 104 := t_o1 a2 rfl
  replace hf := ck_o hf
  obtain ⟨c3, hf⟩ := hf
  refine z_last F dX26_put_6 t_a2.1 (zTy.tg t_a2 (by decide)) (vp_in_iff.mpr c3) ?_
  replace hf := nm_o hf
  obtain ⟨h4, eh4, hf⟩ := hf
  refine w_nh eh4 ?_
  have Eh4 : zEx h h4 := by rw [eh4]; exact zEx.sj
  have hO_h4 : zOk h4 := by rw [eh4]; exact hO_h.sj
  have t_a0 := t_a0.ex Eh4
  have t_a2 := t_a2.ex Eh4
  refine w_iconst (v := 1) F dX26_put_7 rfl ?_
  obtain ⟨rfl, rfl⟩ := ret_o hf
  exact z_zret F dX26_put_8 rfl hO_h4 Eh4
def X26_at (h : Hp) (a0 : Nat) (x1 : Int32) : Option (Int64 × Hp) :=
  nm (zr h a0 0) fun o1 => dr o1 fun a2 => ck (0 ≤ x1.toInt ∧ x1.toInt < (zn h a2 : Int)) <| some (zj h a2 x1.toNatClampNeg, h)
set_option maxHeartbeats 4000000 in
theorem mX26_at {l : Launch} {D : va_G} {tA : Nat → ClassId} {B : Nat} {kn : State → Prop} {h hE : Hp} {ad : Nat → Nat} {a0 : Nat} {x1 : Int32} {r : Int64} (hkp : zKp D tA B kn) (hO_h : zOk h) (t_a0 : zTy h a0 26) (hf : X26_at h a0 x1 = some (r, hE)) : zM l D tA B kn yX26_at (ws_ yX26_at cX26_at 2 (Option.some Jvm.ClassFile.FieldType.long)) 0 0 h ad [.ref (ad a0), .int x1] hE (zQl D tA B h ad r hE) := by
  refine zM_of hkp (by decide +kernel) (Nat.le_of_ble_eq_true rfl) ?_
  intro p e s m args below meth c F hnm
  show ZW p l e (zRm 0 0 h) s m args below meth c (MQ below (zQl D tA B h ad r hE) args s (zc hE - zc h) (zs hE - zs h) (fun q => B ≤ q)) D tA B 2 (zc h) (zs h) ad 0 h [(0, .ref (ad a0)), (1, .int x1)] []
  replace hf := (X26_at.eq_1 h a0 x1).symm.trans hf
  refine w_aload_n F dX26_at_0 0 rfl ?_
  refine gf_X26_7 F dX26_at_1 hO_h (t_a0) ?_
  replace hf := nm_o hf
  obtain ⟨o1, eo1, hf⟩ := hf
  refine w_no eo1 ?_
  have t_o1 : zTo h o1 104 := zTo.rd hO_h (t_a0.1) (zTy.tg t_a0 (by decide)) (t := 26) rfl eo1
  refine w_iload_n F dX26_at_4 1 rfl ?_
  replace hf := dr_o hf
  obtain ⟨a2, ea2, hf⟩ := hf
  subst ea2
  have t_a2 : zTy h a2 104 := t_o1 a2 rfl
  replace hf := ck_o hf
  obtain ⟨c3, hf⟩ := hf
  refine z_lald F dX26_at_5 t_a2.1 (zTy.tg t_a2 (by decide)) (vp_in_iff.mpr c3) ?_
  obtain ⟨rfl, rfl⟩ := ret_o hf
  exact z_lret F dX26_at_6 hO_h (zEx.rf h)
theorem cl_X27_1 {p : Program} {l : Launch} {e : Env} {s : State} {m : MethodId} {args : Array Value} {below : List Frame} {meth : Method} {c : Code} {Q : State → Prop} {D : va_G} {tA : Nat → ClassId} {B nL : Nat} {ad : Nat → Nat} {kn : State → Prop} {cc : ByteArray} {ret : Option FieldType} {pc : Nat} {h : Hp} {lv : List (Nat × Value)} {Fr Lo : Nat} {h0 h1 : Hp} {rest : List Value} {a0 : Nat} (F : ZF p s m args meth c D tA B nL kn RX27 cc ret) (hd : decode cc pc = .ok (.invokespecial 1, 3)) (hO : zOk h) (hE : zEx h0 h) (t_a0 : zTy h a0 53) (hR : 2 + 1 ≤ (zRm Fr Lo h0).frames ∧ 16 + (1 + 11) + 56 ≤ (zRm Fr Lo h0).locals) (hf : X22_init h a0 = some ((), h1)) (hr : (rest.map fun v => v.category).sum ≤ 16) (kk : zOk h1 → zEx h h1 → ZW p l e (zRm Fr Lo h0) s m args below meth c Q D tA B nL (zc h0) (zs h0) ad (pc + 3) h1 lv (rest)) : ZW p l e (zRm Fr Lo h0) s m args below meth c Q D tA B nL (zc h0) (zs h0) ad pc h lv (.ref (ad a0) :: rest) := 
  z_cv ⟨hE.2.1, hE.2.2.1⟩ (fun H locs ls hw hl => z_runI F (mX22_init F.2.2.2.2.2.1 hO t_a0 hf) (zCw.of 0 F.ts q1323 q129 (by decide +kernel) hR) (Or.inr ⟨_, zNW_of q1365 rfl⟩) rfl q1322 rfl hr hd hw hl (z_fit hE hO)) kk
theorem pf_X27_7 {p : Program} {l : Launch} {e : Env} {R : Room} {s : State} {m : MethodId} {args : Array Value} {below : List Frame} {meth : Method} {c : Code} {Q : State → Prop} {D : va_G} {tA : Nat → ClassId} {B nL c0 s0 : Nat} {ad : Nat → Nat} {kn : State → Prop} {cc : ByteArray} {ret : Option FieldType} {pc : Nat} {h : Hp} {lv : List (Nat × Value)} {st : List Value} {q : Nat} {x : Option Nat} (F : ZF p s m args meth c D tA B nL kn RX27 cc ret) (hin2 : meth.name = "<init>") (hd : decode cc pc = .ok (.putfield 7, 3)) (hO : zOk h) (t : zTy h q 27) (kk : ZW p l e R s m args below meth c Q D tA B nL c0 s0 ad (pc + 3) (zsr h q 0 x) lv st) : ZW p l e R s m args below meth c Q D tA B nL c0 s0 ad pc h lv (va_re ad x :: .ref (ad q) :: st) := 
  z_putF2 (ci := 27) (k := 0) (t := 2) (ty := (tyX27 0)) (h' := zsr h q 0 x) F hin2 rfl in_X27 tyX27_ok (by decide +kernel) (by decide) rfl (by decide) q1366 rfl rfl rfl (by cases x <;> rfl) (by cases x <;> rfl) hd rfl rfl rfl rfl (fun q' _ hq' => zen_sr hq') zfv_sr.1 zfv_sr.2 t.1 (zTy.tg t (by decide)) kk
def X27_init (h : Hp) (a0 : Nat) (x1 : Int32) : Option (Unit × Hp) :=
  bd (X22_init h a0) fun _ h1 => ck (¬ x1 < 0) <| ck (zc h1 + 1 ≤ zLC ∧ zs h1 + x1.toNatClampNeg ≤ zLS) <| nm (zx h1) fun a5 => nm (zne h1 103 x1.toNatClampNeg x1.toNatClampNeg) fun h6 => nm (zsr h6 a0 0 (some a5)) fun h7 => some ((), h7)
set_option maxHeartbeats 4000000 in
theorem mX27_init {l : Launch} {D : va_G} {tA : Nat → ClassId} {B : Nat} {kn : State → Prop} {h hE : Hp} {ad : Nat → Nat} {a0 : Nat} {x1 : Int32} (hkp : zKp D tA B kn) (hO_h : zOk h) (t_a0 : zTy h a0 27) (hf : X27_init h a0 x1 = some ((), hE)) : zM l D tA B kn yX27_init (ws_ yX27_init cX27_init 2 (Option.none : Option Jvm.ClassFile.FieldType)) 3 84 h ad [.ref (ad a0), .int x1] hE (zRv D tA B h ad hE) := by
  refine zM_of hkp (by decide +kernel) (Nat.le_of_ble_eq_true rfl) ?_
  intro p e s m args below meth c F hnm
  show ZW p l e (zRm 3 84 h) s m args below meth c (MQ below (zRv D tA B h ad hE) args s (zc hE - zc h) (zs hE - zs h) (fun q => B ≤ q)) D tA B 2 (zc h) (zs h) ad 0 h [(0, .ref (ad a0)), (1, .int x1)] []
  replace hf := (X27_init.eq_1 h a0 x1).symm.trans hf
  refine w_aload_n F dX27_init_0 0 rfl ?_
  replace hf := bd_o hf
  obtain ⟨r2, h1, qh1, hf⟩ := hf
  refine cl_X27_1 F dX27_init_1 hO_h (zEx.rf h) ((zTy.up t_a0 (by decide))) ⟨Nat.le_of_ble_eq_true rfl, Nat.le_of_ble_eq_true rfl⟩ qh1 (Nat.le_of_ble_eq_true rfl) (fun hO_h1 Eh1 => ?_)
  have t_a0 := t_a0.ex Eh1
  refine w_aload_n F dX27_init_4 0 rfl ?_
  refine w_iload_n F dX27_init_5 1 rfl ?_
  replace hf := ck_o hf
  obtain ⟨c3, hf⟩ := hf
  replace hf := ck_o hf
  obtain ⟨c4, hf⟩ := hf
  refine z_newa (j := 3) (atype := .boolean) F hO_h1.1 ⟨Eh1.2.1, Eh1.2.2.1⟩ q1370 rfl rfl (by intro C z; cases z) rfl (fun _ => rfl) c3 rfl (by have z := c4.2; simp only [zLS] at z; show _ * 1 ≤ _; omega) (z_lim1 Eh1 c4) dX27_init_6 (fun ad_h6 hA_h6 => ?_)
  rw [← hA_h6 a0 (t_a0.1)]
  replace hf := nm_o hf
  obtain ⟨a5, ea5, hf⟩ := hf
  rw [← ea5]
  replace hf := nm_o hf
  obtain ⟨h6, eh6, hf⟩ := hf
  refine w_nh eh6 ?_
  have Eh6 : zEx h1 h6 := by rw [eh6]; exact zEx.ne
  have hO_h6 : zOk h6 := by rw [eh6]; exact hO_h1.ne (by decide) c4
  have t_a0 := t_a0.ex Eh6
  have t_a5 : zTy h6 a5 103 := by rw [eh6, ea5]; exact zTy.new (by decide)
  refine pf_X27_7 (x := (some a5)) F hnm dX27_init_8 hO_h6 (t_a0) ?_
  replace hf := nm_o hf
  obtain ⟨h7, eh7, hf⟩ := hf
  refine w_nh eh7 ?_
  have Eh7 : zEx h6 h7 := by rw [eh7]; exact zEx.sr
  have hO_h7 : zOk h7 := by rw [eh7]; exact hO_h6.srt (t_a0).1 (zTy.tg t_a0 (by decide)) (by decide) (zTo.of t_a5)
  have t_a0 := t_a0.ex Eh7
  have t_a5 := t_a5.ex Eh7
  obtain ⟨-, rfl⟩ := ret_o hf
  exact z_vreD F dX27_init_11 hO_h7 (((Eh1).tr Eh6).tr Eh7) ((zA.rf).tr Eh1 hA_h6)
theorem gf_X27_7 {p : Program} {l : Launch} {e : Env} {R : Room} {s : State} {m : MethodId} {args : Array Value} {below : List Frame} {meth : Method} {c : Code} {Q : State → Prop} {D : va_G} {tA : Nat → ClassId} {B nL c0 s0 : Nat} {ad : Nat → Nat} {kn : State → Prop} {cc : ByteArray} {ret : Option FieldType} {pc : Nat} {h : Hp} {lv : List (Nat × Value)} {st : List Value} {q : Nat} (F : ZF p s m args meth c D tA B nL kn RX27 cc ret) (hd : decode cc pc = .ok (.getfield 7, 3)) (hO : zOk h) (t : zTy h q 27) (kk : ZW p l e R s m args below meth c Q D tA B nL c0 s0 ad (pc + 3) h lv (va_re ad (zr h q 0) :: st)) : ZW p l e R s m args below meth c Q D tA B nL c0 s0 ad pc h lv (.ref (ad q) :: st) :=
  z_get (ci := 27) (k := 0) (t := 2) F rfl in_X27 (by decide) rfl (by decide) (Or.inl (F.ts _ q1366)) rfl hd t.1 (zTy.tg t (by decide)) kk
def X27_put (h : Hp) (a0 : Nat) (x1 : Int32) (x2 : Int64) : Option (Int32 × Hp) :=
  nm (zr h a0 0) fun o1 => nm (fun (h2 : Hp) (v3 : Int32) => dr o1 fun a5 => ck (0 ≤ x1.toInt ∧ x1.toInt < (zn h2 a5 : Int)) <| nm (zsi h2 a5 x1.toNatClampNeg (vp_nar .boolean v3)) fun h7 => some ((1 : Int32), h7)) fun j16_4 => if x2 = (0 : Int64) then (j16_4 h (0 : Int32)) else (j16_4 h (1 : Int32))
set_option maxHeartbeats 4000000 in
theorem mX27_put {l : Launch} {D : va_G} {tA : Nat → ClassId} {B : Nat} {kn : State → Prop} {h hE : Hp} {ad : Nat → Nat} {a0 : Nat} {x1 : Int32} {x2 : Int64} {r : Int32} (hkp : zKp D tA B kn) (hO_h : zOk h) (t_a0 : zTy h a0 27) (hf : X27_put h a0 x1 x2 = some (r, hE)) : zM l D tA B kn yX27_put (ws_ yX27_put cX27_put 4 (Option.some Jvm.ClassFile.FieldType.boolean)) 0 0 h ad [.ref (ad a0), .int x1, .long x2] hE (zQz D tA B h ad r hE) := by
  refine zM_of hkp (by decide +kernel) (Nat.le_of_ble_eq_true rfl) ?_
  intro p e s m args below meth c F hnm
  show ZW p l e (zRm 0 0 h) s m args below meth c (MQ below (zQz D tA B h ad r hE) args s (zc hE - zc h) (zs hE - zs h) (fun q => B ≤ q)) D tA B 4 (zc h) (zs h) ad 0 h [(0, .ref (ad a0)), (1, .int x1), (2, .long x2)] []
  replace hf := (X27_put.eq_1 h a0 x1 x2).symm.trans hf
  refine w_aload_n F dX27_put_0 0 rfl ?_
  refine gf_X27_7 F dX27_put_1 hO_h (t_a0) ?_
  replace hf := nm_o hf
  obtain ⟨o1, eo1, hf⟩ := hf
  refine w_no eo1 ?_
  have t_o1 : zTo h o1 103 := zTo.rd hO_h (t_a0.1) (zTy.tg t_a0 (by decide)) (t := 27) rfl eo1
  refine w_iload_n F dX27_put_4 1 rfl ?_
  refine w_lload_n F dX27_put_5 2 rfl ?_
  refine w_lconst (v := 0) F dX27_put_6 rfl ?_
  replace hf := nm_o hf
  obtain ⟨j16_4, ej16_4, hf⟩ := hf
  have Jj16_4 : ∀ (h2 : Hp) (v3 : Int32), zOk h2 → zEx h h2 → j16_4 h2 v3 = some (r, hE) → ZW p l e (zRm 0 0 h) s m args below meth c (MQ below (zQz D tA B h ad r hE) args s (zc hE - zc h) (zs hE - zs h) (fun q => B ≤ q)) D tA B 4 (zc h) (zs h) ad 16 h2 [] [.int v3, .int x1, va_re ad o1] := by
    clear hf
    intro h2 v3 hO_h2 hX_h2  hf
    have t_o1 := t_o1.ex hX_h2
    subst ej16_4
    replace hf := dr_o hf
    obtain ⟨a5, ea5, hf⟩ := hf
    subst ea5
    have t_a5 : zTy h2 a5 103 := t_o1 a5 rfl
    replace hf := ck_o hf
    obtain ⟨c6, hf⟩ := hf
    refine z_zast F dX27_put_16 t_a5.1 (zTy.tg t_a5 (by decide)) (vp_in_iff.mpr c6) ?_
    replace hf := nm_o hf
    obtain ⟨h7, eh7, hf⟩ := hf
    refine w_nh eh7 ?_
    have Eh7 : zEx h2 h7 := by rw [eh7]; exact zEx.si
    have hO_h7 : zOk h7 := by rw [eh7]; exact hO_h2.si
    have t_a5 := t_a5.ex Eh7
    refine w_iconst (v := 1) F dX27_put_17 rfl ?_
    obtain ⟨rfl, rfl⟩ := ret_o hf
    exact z_zret F dX27_put_18 rfl hO_h7 ((hX_h2).tr Eh7)
  refine w_lcmp_eq (tgt := 15) F dX27_put_7 dX27_put_8 (by decide) (fun c8 => ?_) (fun c8 => ?_)
  · replace hf := if_t c8 hf
    refine w_iconst (v := 0) F dX27_put_15 rfl ?_
    refine z_sub (lv' := []) [] rfl ?_
    exact Jj16_4 h (0 : Int32) hO_h (zEx.rf h)  hf
  · replace hf := if_f c8 hf
    refine w_iconst (v := 1) F dX27_put_11 rfl ?_
    refine w_goto (tgt := 16) F dX27_put_12 (by decide) ?_
    refine z_sub (lv' := []) [] rfl ?_
    exact Jj16_4 h (1 : Int32) hO_h (zEx.rf h)  hf
def X27_at (h : Hp) (a0 : Nat) (x1 : Int32) : Option (Int64 × Hp) :=
  nm (zr h a0 0) fun o1 => dr o1 fun a2 => ck (0 ≤ x1.toInt ∧ x1.toInt < (zn h a2 : Int)) <| if (zi h a2 x1.toNatClampNeg) = 0 then (some ((0 : Int64), h)) else (some ((1 : Int64), h))
set_option maxHeartbeats 4000000 in
theorem mX27_at {l : Launch} {D : va_G} {tA : Nat → ClassId} {B : Nat} {kn : State → Prop} {h hE : Hp} {ad : Nat → Nat} {a0 : Nat} {x1 : Int32} {r : Int64} (hkp : zKp D tA B kn) (hO_h : zOk h) (t_a0 : zTy h a0 27) (hf : X27_at h a0 x1 = some (r, hE)) : zM l D tA B kn yX27_at (ws_ yX27_at cX27_at 2 (Option.some Jvm.ClassFile.FieldType.long)) 0 0 h ad [.ref (ad a0), .int x1] hE (zQl D tA B h ad r hE) := by
  refine zM_of hkp (by decide +kernel) (Nat.le_of_ble_eq_true rfl) ?_
  intro p e s m args below meth c F hnm
  show ZW p l e (zRm 0 0 h) s m args below meth c (MQ below (zQl D tA B h ad r hE) args s (zc hE - zc h) (zs hE - zs h) (fun q => B ≤ q)) D tA B 2 (zc h) (zs h) ad 0 h [(0, .ref (ad a0)), (1, .int x1)] []
  replace hf := (X27_at.eq_1 h a0 x1).symm.trans hf
  refine w_aload_n F dX27_at_0 0 rfl ?_
  refine gf_X27_7 F dX27_at_1 hO_h (t_a0) ?_
  replace hf := nm_o hf
  obtain ⟨o1, eo1, hf⟩ := hf
  refine w_no eo1 ?_
  have t_o1 : zTo h o1 103 := zTo.rd hO_h (t_a0.1) (zTy.tg t_a0 (by decide)) (t := 27) rfl eo1
  refine w_iload_n F dX27_at_4 1 rfl ?_
  replace hf := dr_o hf
  obtain ⟨a2, ea2, hf⟩ := hf
  subst ea2
  have t_a2 : zTy h a2 103 := t_o1 a2 rfl
  replace hf := ck_o hf
  obtain ⟨c3, hf⟩ := hf
  refine z_zald F dX27_at_5 t_a2.1 (zTy.tg t_a2 (by decide)) (vp_in_iff.mpr c3) ?_
  refine w_if_eq (tgt := 13) F dX27_at_6 (by decide) (fun c4 => ?_) (fun c4 => ?_)
  · replace hf := if_t c4 hf
    refine w_lconst (v := 0) F dX27_at_13 rfl ?_
    obtain ⟨rfl, rfl⟩ := ret_o hf
    exact z_lret F dX27_at_14 hO_h (zEx.rf h)
  · replace hf := if_f c4 hf
    refine w_lconst (v := 1) F dX27_at_9 rfl ?_
    refine w_goto (tgt := 14) F dX27_at_10 (by decide) ?_
    obtain ⟨rfl, rfl⟩ := ret_o hf
    exact z_lret F dX27_at_14 hO_h (zEx.rf h)
def V22_put (h : Hp) (a0 : Nat) (x1 : Int32) (x2 : Int64) : Option (Int32 × Hp) :=
  if zt h a0 = 23 then X23_put h a0 x1 x2 else if zt h a0 = 24 then X24_put h a0 x1 x2 else if zt h a0 = 25 then X25_put h a0 x1 x2 else if zt h a0 = 26 then X26_put h a0 x1 x2 else if zt h a0 = 27 then X27_put h a0 x1 x2 else none
theorem V22_put_23 {h : Hp} {a0 : Nat} {x1 : Int32} {x2 : Int64} (ht : zt h a0 = 23) : V22_put h a0 x1 x2 = X23_put h a0 x1 x2 := by
  unfold V22_put
  rw [ht]
  rfl
theorem V22_put_24 {h : Hp} {a0 : Nat} {x1 : Int32} {x2 : Int64} (ht : zt h a0 = 24) : V22_put h a0 x1 x2 = X24_put h a0 x1 x2 := by
  unfold V22_put
  rw [ht]
  rfl
theorem V22_put_25 {h : Hp} {a0 : Nat} {x1 : Int32} {x2 : Int64} (ht : zt h a0 = 25) : V22_put h a0 x1 x2 = X25_put h a0 x1 x2 := by
  unfold V22_put
  rw [ht]
  rfl
theorem V22_put_26 {h : Hp} {a0 : Nat} {x1 : Int32} {x2 : Int64} (ht : zt h a0 = 26) : V22_put h a0 x1 x2 = X26_put h a0 x1 x2 := by
  unfold V22_put
  rw [ht]
  rfl
theorem V22_put_27 {h : Hp} {a0 : Nat} {x1 : Int32} {x2 : Int64} (ht : zt h a0 = 27) : V22_put h a0 x1 x2 = X27_put h a0 x1 x2 := by
  unfold V22_put
  rw [ht]
  rfl

def V22_at (h : Hp) (a0 : Nat) (x1 : Int32) : Option (Int64 × Hp) :=
  if zt h a0 = 23 then X23_at h a0 x1 else if zt h a0 = 24 then X24_at h a0 x1 else if zt h a0 = 25 then X25_at h a0 x1 else if zt h a0 = 26 then X26_at h a0 x1 else if zt h a0 = 27 then X27_at h a0 x1 else none
theorem V22_at_23 {h : Hp} {a0 : Nat} {x1 : Int32} (ht : zt h a0 = 23) : V22_at h a0 x1 = X23_at h a0 x1 := by
  unfold V22_at
  rw [ht]
  rfl
theorem V22_at_24 {h : Hp} {a0 : Nat} {x1 : Int32} (ht : zt h a0 = 24) : V22_at h a0 x1 = X24_at h a0 x1 := by
  unfold V22_at
  rw [ht]
  rfl
theorem V22_at_25 {h : Hp} {a0 : Nat} {x1 : Int32} (ht : zt h a0 = 25) : V22_at h a0 x1 = X25_at h a0 x1 := by
  unfold V22_at
  rw [ht]
  rfl
theorem V22_at_26 {h : Hp} {a0 : Nat} {x1 : Int32} (ht : zt h a0 = 26) : V22_at h a0 x1 = X26_at h a0 x1 := by
  unfold V22_at
  rw [ht]
  rfl
theorem V22_at_27 {h : Hp} {a0 : Nat} {x1 : Int32} (ht : zt h a0 = 27) : V22_at h a0 x1 = X27_at h a0 x1 := by
  unfold V22_at
  rw [ht]
  rfl

theorem cl_X0_126 {p : Program} {l : Launch} {e : Env} {s : State} {m : MethodId} {args : Array Value} {below : List Frame} {meth : Method} {c : Code} {Q : State → Prop} {D : va_G} {tA : Nat → ClassId} {B nL : Nat} {ad : Nat → Nat} {kn : State → Prop} {cc : ByteArray} {ret : Option FieldType} {pc : Nat} {h : Hp} {lv : List (Nat × Value)} {Fr Lo : Nat} {h0 h1 : Hp} {rest : List Value} {a0 : Nat} {x1 : Int32} {r : Int64} (F : ZF p s m args meth c D tA B nL kn RX0 cc ret) (hd : decode cc pc = .ok (.invokevirtual 126, 3)) (hO : zOk h) (hE : zEx h0 h) (t_a0 : zTy h a0 23) (hR : 0 + 1 ≤ (zRm Fr Lo h0).frames ∧ 16 + (2 + 11) + 0 ≤ (zRm Fr Lo h0).locals) (hf : X23_at h a0 x1 = some (r, h1)) (hr : (rest.map fun v => v.category).sum ≤ 16) (kk : zOk h1 → zEx h h1 → ZW p l e (zRm Fr Lo h0) s m args below meth c Q D tA B nL (zc h0) (zs h0) ad (pc + 3) h1 lv (.long r :: rest)) : ZW p l e (zRm Fr Lo h0) s m args below meth c Q D tA B nL (zc h0) (zs h0) ad pc h lv (.int x1 :: .ref (ad a0) :: rest) := 
  z_cl ⟨hE.2.1, hE.2.2.1⟩ (fun H locs ls hw hl => z_runV (q := a0) (ci := 23) F (mX23_at F.2.2.2.2.2.1 hO t_a0 hf) (zCw.of 1 F.ts q471 q130 (by decide +kernel) hR) (Or.inl q468) q469 q470 rfl (by decide) t_a0.1 (zTy.tg t_a0 (by decide)) rfl hr hd hw hl (z_fit hE hO)) kk
theorem cl_X0_366 {p : Program} {l : Launch} {e : Env} {s : State} {m : MethodId} {args : Array Value} {below : List Frame} {meth : Method} {c : Code} {Q : State → Prop} {D : va_G} {tA : Nat → ClassId} {B nL : Nat} {ad : Nat → Nat} {kn : State → Prop} {cc : ByteArray} {ret : Option FieldType} {pc : Nat} {h : Hp} {lv : List (Nat × Value)} {Fr Lo : Nat} {h0 h1 : Hp} {rest : List Value} {a0 : Nat} {r : Int32} (F : ZF p s m args meth c D tA B nL kn RX0 cc ret) (hd : decode cc pc = .ok (.invokevirtual 366, 3)) (hO : zOk h) (hE : zEx h0 h) (t_a0 : zTy h a0 23) (hR : 0 + 1 ≤ (zRm Fr Lo h0).frames ∧ 16 + (1 + 11) + 0 ≤ (zRm Fr Lo h0).locals) (hf : X23_size h a0 = some (r, h1)) (hr : (rest.map fun v => v.category).sum ≤ 16) (kk : zOk h1 → zEx h h1 → ZW p l e (zRm Fr Lo h0) s m args below meth c Q D tA B nL (zc h0) (zs h0) ad (pc + 3) h1 lv (.int r :: rest)) : ZW p l e (zRm Fr Lo h0) s m args below meth c Q D tA B nL (zc h0) (zs h0) ad pc h lv (.ref (ad a0) :: rest) := 
  z_ci ⟨hE.2.1, hE.2.2.1⟩ (fun H locs ls hw hl => z_runV (q := a0) (ci := 23) F (mX23_size F.2.2.2.2.2.1 hO t_a0 hf) (zCw.of 0 F.ts q983 q130 (by decide +kernel) hR) (Or.inl q980) q981 q982 rfl (by decide) t_a0.1 (zTy.tg t_a0 (by decide)) rfl hr hd hw hl (z_fit hE hO)) kk
theorem cl_X0_369 {p : Program} {l : Launch} {e : Env} {s : State} {m : MethodId} {args : Array Value} {below : List Frame} {meth : Method} {c : Code} {Q : State → Prop} {D : va_G} {tA : Nat → ClassId} {B nL : Nat} {ad : Nat → Nat} {kn : State → Prop} {cc : ByteArray} {ret : Option FieldType} {pc : Nat} {h : Hp} {lv : List (Nat × Value)} {Fr Lo : Nat} {h0 h1 : Hp} {rest : List Value} {x1 : Int32} {x2 : Int32} {r : Int32} (F : ZF p s m args meth c D tA B nL kn RX0 cc ret) (hd : decode cc pc = .ok (.invokevirtual 369, 3)) (hO : zOk h) (hE : zEx h0 h)  (hR : 203 + 1 ≤ (zRm Fr Lo h0).frames ∧ 16 + (5 + 11) + 6293 ≤ (zRm Fr Lo h0).locals) (hf : X0_goes h x1 x2 = some (r, h1)) (hr : (rest.map fun v => v.category).sum ≤ 16) (kk : zOk h1 → zEx h h1 → narrow .boolean (.int r) = .int r → ZW p l e (zRm Fr Lo h0) s m args below meth c Q D tA B nL (zc h0) (zs h0) ad (pc + 3) h1 lv (.int r :: rest)) : ZW p l e (zRm Fr Lo h0) s m args below meth c Q D tA B nL (zc h0) (zs h0) ad pc h lv (.int x2 :: .int x1 :: .ref (ad 0) :: rest) := 
  z_cz ⟨hE.2.1, hE.2.2.1⟩ (fun H locs ls hw hl => z_runV (q := 0) (ci := 0) F (mX0_goes F.2.2.2.2.2.1 hO  hf) (zCw.of 2 F.ts q991 q92 (by decide +kernel) hR) (Or.inl q988) q990 qs43 rfl (by decide) (zl_0 hO) (zt_0 hO) rfl hr hd hw hl (z_fit hE hO)) kk
theorem gf_X0_363 {p : Program} {l : Launch} {e : Env} {R : Room} {s : State} {m : MethodId} {args : Array Value} {below : List Frame} {meth : Method} {c : Code} {Q : State → Prop} {D : va_G} {tA : Nat → ClassId} {B nL c0 s0 : Nat} {ad : Nat → Nat} {kn : State → Prop} {cc : ByteArray} {ret : Option FieldType} {pc : Nat} {h : Hp} {lv : List (Nat × Value)} {st : List Value} (F : ZF p s m args meth c D tA B nL kn RX0 cc ret) (hd : decode cc pc = .ok (.getfield 363, 3)) (hO : zOk h) (kk : ZW p l e R s m args below meth c Q D tA B nL c0 s0 ad (pc + 3) h lv (.int (zi h 0 22) :: st)) : ZW p l e R s m args below meth c Q D tA B nL c0 s0 ad pc h lv (.ref (ad 0) :: st) :=
  z_get (ci := 0) (k := 22) (t := 0) F rfl in_X0 (by decide) rfl (by decide) (Or.inl (F.ts _ q199)) rfl hd (zl_0 hO) (zt_0 hO) kk
theorem pf_X0_363 {p : Program} {l : Launch} {e : Env} {R : Room} {s : State} {m : MethodId} {args : Array Value} {below : List Frame} {meth : Method} {c : Code} {Q : State → Prop} {D : va_G} {tA : Nat → ClassId} {B nL c0 s0 : Nat} {ad : Nat → Nat} {kn : State → Prop} {cc : ByteArray} {ret : Option FieldType} {pc : Nat} {h : Hp} {lv : List (Nat × Value)} {st : List Value} {x : Int32} (F : ZF p s m args meth c D tA B nL kn RX0 cc ret) (hd : decode cc pc = .ok (.putfield 363, 3)) (hO : zOk h) (kk : ZW p l e R s m args below meth c Q D tA B nL c0 s0 ad (pc + 3) (zsi h 0 22 x) lv st) : ZW p l e R s m args below meth c Q D tA B nL c0 s0 ad pc h lv (.int x :: .ref (ad 0) :: st) := 
  z_put (ci := 0) (k := 22) (t := 0) (ty := .int) (h' := zsi h 0 22 x) F rfl in_X0 tyX0_ok nmX0 (by decide) rfl (by decide) (Or.inl (F.ts _ q199)) rfl rfl rfl rfl rfl hd rfl rfl rfl rfl (fun q' _ hq' => zen_si hq') zfv_si.1 zfv_si.2 (zl_0 hO) (zt_0 hO) kk
def X0_goThrough_b46 (x1 : Option Nat) (k46_14 : Hp → Int32 → Option (Unit × Hp)) (h12 : Hp) (v13 : Int32) : Option (Unit × Hp) :=
  dr x1 fun a15 => bd (X23_size h12 a15) fun r17 h16 => if r17 ≤ ((2 : Int32) * v13) then (some ((), h16)) else (if 0 ≤ (zi h16 0 22) then (some ((), h16)) else (bd (X23_size h16 a15) fun r21 h20 => nm (fun (h22 : Hp)  => nm (v13 + (1 : Int32) : Int32) fun v24 => k46_14 h22 v24) fun j105_23 => nm (fun (h25 : Hp)  => nm (zsi h25 0 22 v13) fun h27 => j105_23 h27 ) fun j100_26 => if r21 ≤ (((2 : Int32) * v13) + (1 : Int32)) then (j100_26 h20 ) else (bd (X23_at h20 a15 ((2 : Int32) * v13)) fun r30 h29 => bd (X23_at h29 a15 (((2 : Int32) * v13) + (1 : Int32))) fun r32 h31 => bd (X0_goes h31 r30.toInt32 r32.toInt32) fun r34 h33 => if r34 = 0 then (j100_26 h33 ) else (j105_23 h33 ))))
def X0_goThrough (h : Hp) (x1 : Option Nat) : Option (Unit × Hp) :=
  bd (X0_findValues h ) fun _ h1 => bd (X0_everybody h1 ) fun r4 h3 => nm (zsi h3 0 19 r4) fun h5 => nm (zsi h5 0 20 (0 : Int32)) fun h6 => nm (zsi h6 0 21 (0 : Int32)) fun h7 => nm (zsj h7 0 24 (1 : Int64)) fun h8 => nm (zsj h8 0 25 (1 : Int64)) fun h9 => nm (zsi h9 0 22 (-2 : Int32)) fun h10 => nm (zsi h10 0 23 (-2 : Int32)) fun h11 => zfix (fun _ _ => none) (X0_goThrough_b46 x1) zFU h11 (0 : Int32)
set_option maxHeartbeats 4000000 in
theorem mX0_goThrough {l : Launch} {D : va_G} {tA : Nat → ClassId} {B : Nat} {kn : State → Prop} {h hE : Hp} {ad : Nat → Nat} {x1 : Option Nat} (hkp : zKp D tA B kn) (hO_h : zOk h) (t_x1 : zTo h x1 23) (hf : X0_goThrough h x1 = some ((), hE)) : zM l D tA B kn yX0_goThrough (ws_ yX0_goThrough cX0_goThrough 3 (Option.none : Option Jvm.ClassFile.FieldType)) 207 6431 h ad [.ref (ad 0), va_re ad x1] hE (zQv D tA B h ad hE) := by
  refine zM_of hkp (by decide +kernel) (by cases x1 <;> exact Nat.le_of_ble_eq_true rfl) ?_
  intro p e s m args below meth c F hnm
  rw [show lv_args 0 [.ref (ad 0), va_re ad x1] = [(0, .ref (ad 0)), (1, va_re ad x1)] from by cases x1 <;> rfl]
  show ZW p l e (zRm 207 6431 h) s m args below meth c (MQ below (zQv D tA B h ad hE) args s (zc hE - zc h) (zs hE - zs h) (fun q => B ≤ q)) D tA B 3 (zc h) (zs h) ad 0 h [(0, .ref (ad 0)), (1, va_re ad x1)] []
  replace hf := (X0_goThrough.eq_1 h x1).symm.trans hf
  refine w_aload_n F dX0_goThrough_0 0 rfl ?_
  replace hf := bd_o hf
  obtain ⟨r2, h1, qh1, hf⟩ := hf
  refine cl_X0_279 F dX0_goThrough_1 hO_h (zEx.rf h) ⟨Nat.le_of_ble_eq_true rfl, Nat.le_of_ble_eq_true rfl⟩ qh1 (Nat.le_of_ble_eq_true rfl) (fun hO_h1 Eh1 => ?_)
  have t_x1 := t_x1.ex Eh1
  refine w_aload_n F dX0_goThrough_4 0 rfl ?_
  refine w_aload_n F dX0_goThrough_5 0 rfl ?_
  replace hf := bd_o hf
  obtain ⟨r4, h3, qh3, hf⟩ := hf
  refine cl_X0_102 F dX0_goThrough_6 hO_h1 Eh1 ⟨Nat.le_of_ble_eq_true rfl, Nat.le_of_ble_eq_true rfl⟩ qh3 (Nat.le_of_ble_eq_true rfl) (fun hO_h3 Eh3 => ?_)
  have t_x1 := t_x1.ex Eh3
  refine pf_X0_342 F dX0_goThrough_9 hO_h3 ?_
  replace hf := nm_o hf
  obtain ⟨h5, eh5, hf⟩ := hf
  refine w_nh eh5 ?_
  have Eh5 : zEx h3 h5 := by rw [eh5]; exact zEx.si
  have hO_h5 : zOk h5 := by rw [eh5]; exact hO_h3.si
  have t_x1 := t_x1.ex Eh5
  refine w_aload_n F dX0_goThrough_12 0 rfl ?_
  refine w_iconst (v := 0) F dX0_goThrough_13 rfl ?_
  refine pf_X0_345 F dX0_goThrough_14 hO_h5 ?_
  replace hf := nm_o hf
  obtain ⟨h6, eh6, hf⟩ := hf
  refine w_nh eh6 ?_
  have Eh6 : zEx h5 h6 := by rw [eh6]; exact zEx.si
  have hO_h6 : zOk h6 := by rw [eh6]; exact hO_h5.si
  have t_x1 := t_x1.ex Eh6
  refine w_aload_n F dX0_goThrough_17 0 rfl ?_
  refine w_iconst (v := 0) F dX0_goThrough_18 rfl ?_
  refine pf_X0_348 F dX0_goThrough_19 hO_h6 ?_
  replace hf := nm_o hf
  obtain ⟨h7, eh7, hf⟩ := hf
  refine w_nh eh7 ?_
  have Eh7 : zEx h6 h7 := by rw [eh7]; exact zEx.si
  have hO_h7 : zOk h7 := by rw [eh7]; exact hO_h6.si
  have t_x1 := t_x1.ex Eh7
  refine w_aload_n F dX0_goThrough_22 0 rfl ?_
  refine w_lconst (v := 1) F dX0_goThrough_23 rfl ?_
  refine pf_X0_354 F dX0_goThrough_24 hO_h7 ?_
  replace hf := nm_o hf
  obtain ⟨h8, eh8, hf⟩ := hf
  refine w_nh eh8 ?_
  have Eh8 : zEx h7 h8 := by rw [eh8]; exact zEx.sj
  have hO_h8 : zOk h8 := by rw [eh8]; exact hO_h7.sj
  have t_x1 := t_x1.ex Eh8
  refine w_aload_n F dX0_goThrough_27 0 rfl ?_
  refine w_lconst (v := 1) F dX0_goThrough_28 rfl ?_
  refine pf_X0_357 F dX0_goThrough_29 hO_h8 ?_
  replace hf := nm_o hf
  obtain ⟨h9, eh9, hf⟩ := hf
  refine w_nh eh9 ?_
  have Eh9 : zEx h8 h9 := by rw [eh9]; exact zEx.sj
  have hO_h9 : zOk h9 := by rw [eh9]; exact hO_h8.sj
  have t_x1 := t_x1.ex Eh9
  refine w_aload_n F dX0_goThrough_32 0 rfl ?_
  refine w_bipush (v := -2) F dX0_goThrough_33 rfl ?_
  refine pf_X0_363 F dX0_goThrough_35 hO_h9 ?_
  replace hf := nm_o hf
  obtain ⟨h10, eh10, hf⟩ := hf
  refine w_nh eh10 ?_
  have Eh10 : zEx h9 h10 := by rw [eh10]; exact zEx.si
  have hO_h10 : zOk h10 := by rw [eh10]; exact hO_h9.si
  have t_x1 := t_x1.ex Eh10
  refine w_aload_n F dX0_goThrough_38 0 rfl ?_
  refine w_bipush (v := -2) F dX0_goThrough_39 rfl ?_
  refine pf_X0_351 F dX0_goThrough_41 hO_h10 ?_
  replace hf := nm_o hf
  obtain ⟨h11, eh11, hf⟩ := hf
  refine w_nh eh11 ?_
  have Eh11 : zEx h10 h11 := by rw [eh11]; exact zEx.si
  have hO_h11 : zOk h11 := by rw [eh11]; exact hO_h10.si
  have t_x1 := t_x1.ex Eh11
  refine w_iconst (v := 0) F dX0_goThrough_44 rfl ?_
  refine w_istore_n (i := 2) (lv' := [(2, .int (0 : Int32)), (0, .ref (ad 0)), (1, va_re ad x1)]) F dX0_goThrough_45 rfl (by decide) (by cases x1 <;> rfl) ?_
  have L46_35 : ∀ (n : Nat) (h12 : Hp) (v13 : Int32), zOk h12 → zEx h11 h12 → zfix (fun _ _ => none) (X0_goThrough_b46 x1) n h12 v13 = some ((), hE) → ZW p l e (zRm 207 6431 h) s m args below meth c (MQ below (zQv D tA B h ad hE) args s (zc hE - zc h) (zs hE - zs h) (fun q => B ≤ q)) D tA B 3 (zc h) (zs h) ad 46 h12 [(0, .ref (ad 0)), (1, va_re ad x1), (2, .int v13)] [] := by
    clear hf
    intro n
    induction n with
    | zero =>
      intros
      rename_i hf
      cases hf
    | succ n ih =>
      intro h12 v13 hO_h12 hX_h12  hf
      have t_x1 := t_x1.ex hX_h12
      replace hf := (X0_goThrough_b46.eq_1 x1 (zfix (fun _ _ => none) (X0_goThrough_b46 x1) n) h12 v13).symm.trans hf
      refine w_iconst (v := 2) F dX0_goThrough_46 rfl ?_
      refine w_iload_n F dX0_goThrough_47 2 rfl ?_
      refine w_imul F dX0_goThrough_48 ?_
      refine w_aloado_n F dX0_goThrough_49 1 rfl ?_
      replace hf := dr_o hf
      obtain ⟨a15, ea15, hf⟩ := hf
      subst ea15
      have t_a15 : zTy h12 a15 23 := t_x1 a15 rfl
      replace hf := bd_o hf
      obtain ⟨r17, h16, qh16, hf⟩ := hf
      refine cl_X0_366 F dX0_goThrough_50 hO_h12 ((((((((((Eh1).tr Eh3).tr Eh5).tr Eh6).tr Eh7).tr Eh8).tr Eh9).tr Eh10).tr Eh11).tr hX_h12) (t_a15) ⟨Nat.le_of_ble_eq_true rfl, Nat.le_of_ble_eq_true rfl⟩ qh16 (Nat.le_of_ble_eq_true rfl) (fun hO_h16 Eh16 => ?_)
      have t_a15 := t_a15.ex Eh16
      refine w_icmp_ge (tgt := 111) F dX0_goThrough_53 (by decide) (fun c18 => ?_) (fun c18 => ?_)
      · replace hf := if_t c18 hf
        obtain ⟨-, rfl⟩ := ret_o hf
        exact z_vret F dX0_goThrough_111 hO_h16 (((((((((((Eh1).tr Eh3).tr Eh5).tr Eh6).tr Eh7).tr Eh8).tr Eh9).tr Eh10).tr Eh11).tr hX_h12).tr Eh16)
      · replace hf := if_f c18 hf
        refine w_aload_n F dX0_goThrough_56 0 rfl ?_
        refine gf_X0_363 F dX0_goThrough_57 hO_h16 ?_
        refine w_if_ge (tgt := 111) F dX0_goThrough_60 (by decide) (fun c19 => ?_) (fun c19 => ?_)
        · replace hf := if_t c19 hf
          obtain ⟨-, rfl⟩ := ret_o hf
          exact z_vret F dX0_goThrough_111 hO_h16 (((((((((((Eh1).tr Eh3).tr Eh5).tr Eh6).tr Eh7).tr Eh8).tr Eh9).tr Eh10).tr Eh11).tr hX_h12).tr Eh16)
        · replace hf := if_f c19 hf
          refine w_iconst (v := 2) F dX0_goThrough_63 rfl ?_
          refine w_iload_n F dX0_goThrough_64 2 rfl ?_
          refine w_imul F dX0_goThrough_65 ?_
          refine w_iconst (v := 1) F dX0_goThrough_66 rfl ?_
          refine w_iadd F dX0_goThrough_67 ?_
          refine w_aload_n F dX0_goThrough_68 1 rfl ?_
          replace hf := bd_o hf
          obtain ⟨r21, h20, qh20, hf⟩ := hf
          refine cl_X0_366 F dX0_goThrough_69 hO_h16 (((((((((((Eh1).tr Eh3).tr Eh5).tr Eh6).tr Eh7).tr Eh8).tr Eh9).tr Eh10).tr Eh11).tr hX_h12).tr Eh16) (t_a15) ⟨Nat.le_of_ble_eq_true rfl, Nat.le_of_ble_eq_true rfl⟩ qh20 (Nat.le_of_ble_eq_true rfl) (fun hO_h20 Eh20 => ?_)
          have t_a15 := t_a15.ex Eh20
          replace hf := nm_o hf
          obtain ⟨j105_23, ej105_23, hf⟩ := hf
          have Jj105_23 : ∀ (h22 : Hp) , zOk h22 → zEx h20 h22 → j105_23 h22  = some ((), hE) → ZW p l e (zRm 207 6431 h) s m args below meth c (MQ below (zQv D tA B h ad hE) args s (zc hE - zc h) (zs hE - zs h) (fun q => B ≤ q)) D tA B 3 (zc h) (zs h) ad 105 h22 [(0, .ref (ad 0)), (1, .ref (ad a15)), (2, .int v13)] [] := by
            clear hf
            intro h22 hO_h22 hX_h22  hf
            have t_a15 := t_a15.ex hX_h22
            subst ej105_23
            replace hf := nm_o hf
            obtain ⟨v24, ev24, hf⟩ := hf
            refine w_iinc (i := 2) (v := v24) (lv' := [(2, .int v24), (0, .ref (ad 0)), (1, .ref (ad a15))]) F dX0_goThrough_105 2 rfl (by rw [ev24]; rfl) (by decide) rfl ?_
            refine w_goto (tgt := 46) F dX0_goThrough_108 (by decide) ?_
            refine z_sub (lv' := [(0, .ref (ad 0)), (1, .ref (ad a15)), (2, .int v24)]) [1, 2, 0] rfl ?_
            exact ih h22 v24 hO_h22 ((((hX_h12).tr Eh16).tr Eh20).tr hX_h22)  hf
          replace hf := nm_o hf
          obtain ⟨j100_26, ej100_26, hf⟩ := hf
          have Jj100_26 : ∀ (h25 : Hp) , zOk h25 → zEx h20 h25 → j100_26 h25  = some ((), hE) → ZW p l e (zRm 207 6431 h) s m args below meth c (MQ below (zQv D tA B h ad hE) args s (zc hE - zc h) (zs hE - zs h) (fun q => B ≤ q)) D tA B 3 (zc h) (zs h) ad 100 h25 [(0, .ref (ad 0)), (1, .ref (ad a15)), (2, .int v13)] [] := by
            clear hf
            intro h25 hO_h25 hX_h25  hf
            have t_a15 := t_a15.ex hX_h25
            subst ej100_26
            refine w_aload_n F dX0_goThrough_100 0 rfl ?_
            refine w_iload_n F dX0_goThrough_101 2 rfl ?_
            refine pf_X0_363 F dX0_goThrough_102 hO_h25 ?_
            replace hf := nm_o hf
            obtain ⟨h27, eh27, hf⟩ := hf
            refine w_nh eh27 ?_
            have Eh27 : zEx h25 h27 := by rw [eh27]; exact zEx.si
            have hO_h27 : zOk h27 := by rw [eh27]; exact hO_h25.si
            have t_a15 := t_a15.ex Eh27
            exact Jj105_23 h27  hO_h27 ((hX_h25).tr Eh27)  hf
          refine w_icmp_ge (tgt := 100) F dX0_goThrough_72 (by decide) (fun c28 => ?_) (fun c28 => ?_)
          · replace hf := if_t c28 hf
            exact Jj100_26 h20  hO_h20 (zEx.rf h20)  hf
          · replace hf := if_f c28 hf
            refine w_aload_n F dX0_goThrough_75 0 rfl ?_
            refine w_aload_n F dX0_goThrough_76 1 rfl ?_
            refine w_iconst (v := 2) F dX0_goThrough_77 rfl ?_
            refine w_iload_n F dX0_goThrough_78 2 rfl ?_
            refine w_imul F dX0_goThrough_79 ?_
            replace hf := bd_o hf
            obtain ⟨r30, h29, qh29, hf⟩ := hf
            refine cl_X0_126 F dX0_goThrough_80 hO_h20 ((((((((((((Eh1).tr Eh3).tr Eh5).tr Eh6).tr Eh7).tr Eh8).tr Eh9).tr Eh10).tr Eh11).tr hX_h12).tr Eh16).tr Eh20) (t_a15) ⟨Nat.le_of_ble_eq_true rfl, Nat.le_of_ble_eq_true rfl⟩ qh29 (Nat.le_of_ble_eq_true rfl) (fun hO_h29 Eh29 => ?_)
            have t_a15 := t_a15.ex Eh29
            refine w_l2i F dX0_goThrough_83 ?_
            refine w_aload_n F dX0_goThrough_84 1 rfl ?_
            refine w_iconst (v := 2) F dX0_goThrough_85 rfl ?_
            refine w_iload_n F dX0_goThrough_86 2 rfl ?_
            refine w_imul F dX0_goThrough_87 ?_
            refine w_iconst (v := 1) F dX0_goThrough_88 rfl ?_
            refine w_iadd F dX0_goThrough_89 ?_
            replace hf := bd_o hf
            obtain ⟨r32, h31, qh31, hf⟩ := hf
            refine cl_X0_126 F dX0_goThrough_90 hO_h29 (((((((((((((Eh1).tr Eh3).tr Eh5).tr Eh6).tr Eh7).tr Eh8).tr Eh9).tr Eh10).tr Eh11).tr hX_h12).tr Eh16).tr Eh20).tr Eh29) (t_a15) ⟨Nat.le_of_ble_eq_true rfl, Nat.le_of_ble_eq_true rfl⟩ qh31 (Nat.le_of_ble_eq_true rfl) (fun hO_h31 Eh31 => ?_)
            have t_a15 := t_a15.ex Eh31
            refine w_l2i F dX0_goThrough_93 ?_
            replace hf := bd_o hf
            obtain ⟨r34, h33, qh33, hf⟩ := hf
            refine cl_X0_369 F dX0_goThrough_94 hO_h31 ((((((((((((((Eh1).tr Eh3).tr Eh5).tr Eh6).tr Eh7).tr Eh8).tr Eh9).tr Eh10).tr Eh11).tr hX_h12).tr Eh16).tr Eh20).tr Eh29).tr Eh31) ⟨Nat.le_of_ble_eq_true rfl, Nat.le_of_ble_eq_true rfl⟩ qh33 (Nat.le_of_ble_eq_true rfl) (fun hO_h33 Eh33 hz_r34 => ?_)
            have t_a15 := t_a15.ex Eh33
            refine w_if_ne (tgt := 105) F dX0_goThrough_97 (by decide) (fun c35 => ?_) (fun c35 => ?_)
            · replace hf := if_f c35 hf
              exact Jj105_23 h33  hO_h33 (((Eh29).tr Eh31).tr Eh33)  hf
            · replace hf := if_t c35 hf
              exact Jj100_26 h33  hO_h33 (((Eh29).tr Eh31).tr Eh33)  hf
  refine z_sub (lv' := [(0, .ref (ad 0)), (1, va_re ad x1), (2, .int (0 : Int32))]) [1, 2, 0] rfl ?_
  exact L46_35 zFU h11 (0 : Int32) hO_h11 (zEx.rf h11)  hf
theorem cl_X0_452 {p : Program} {l : Launch} {e : Env} {s : State} {m : MethodId} {args : Array Value} {below : List Frame} {meth : Method} {c : Code} {Q : State → Prop} {D : va_G} {tA : Nat → ClassId} {B nL : Nat} {ad : Nat → Nat} {kn : State → Prop} {cc : ByteArray} {ret : Option FieldType} {pc : Nat} {h : Hp} {lv : List (Nat × Value)} {Fr Lo : Nat} {h0 h1 : Hp} {rest : List Value} {a0 : Nat} {x1 : Int32} (F : ZF p s m args meth c D tA B nL kn RX0 cc ret) (hd : decode cc pc = .ok (.invokespecial 452, 3)) (hO : zOk h) (hE : zEx h0 h) (t_a0 : zTy h a0 23) (hR : 3 + 1 ≤ (zRm Fr Lo h0).frames ∧ 16 + (2 + 11) + 84 ≤ (zRm Fr Lo h0).locals) (hf : X23_init h a0 x1 = some ((), h1)) (hr : (rest.map fun v => v.category).sum ≤ 16) (kk : zOk h1 → zEx h h1 → ∀ u, zA h ad u → ZW p l e (zRm Fr Lo h0) s m args below meth c Q D tA B nL (zc h0) (zs h0) u (pc + 3) h1 lv (rest)) : ZW p l e (zRm Fr Lo h0) s m args below meth c Q D tA B nL (zc h0) (zs h0) ad pc h lv (.int x1 :: .ref (ad a0) :: rest) := 
  z_dv ⟨hE.2.1, hE.2.2.1⟩ (fun H locs ls hw hl => z_runI F (mX23_init F.2.2.2.2.2.1 hO t_a0 hf) (zCw.of 1 F.ts q1320 q130 (by decide +kernel) hR) (Or.inl q1318) rfl q1319 rfl hr hd hw hl (z_fit hE hO)) kk
theorem cl_X0_457 {p : Program} {l : Launch} {e : Env} {s : State} {m : MethodId} {args : Array Value} {below : List Frame} {meth : Method} {c : Code} {Q : State → Prop} {D : va_G} {tA : Nat → ClassId} {B nL : Nat} {ad : Nat → Nat} {kn : State → Prop} {cc : ByteArray} {ret : Option FieldType} {pc : Nat} {h : Hp} {lv : List (Nat × Value)} {Fr Lo : Nat} {h0 h1 : Hp} {rest : List Value} {a0 : Nat} {x1 : Int32} (F : ZF p s m args meth c D tA B nL kn RX0 cc ret) (hd : decode cc pc = .ok (.invokespecial 457, 3)) (hO : zOk h) (hE : zEx h0 h) (t_a0 : zTy h a0 24) (hR : 3 + 1 ≤ (zRm Fr Lo h0).frames ∧ 16 + (2 + 11) + 84 ≤ (zRm Fr Lo h0).locals) (hf : X24_init h a0 x1 = some ((), h1)) (hr : (rest.map fun v => v.category).sum ≤ 16) (kk : zOk h1 → zEx h h1 → ∀ u, zA h ad u → ZW p l e (zRm Fr Lo h0) s m args below meth c Q D tA B nL (zc h0) (zs h0) u (pc + 3) h1 lv (rest)) : ZW p l e (zRm Fr Lo h0) s m args below meth c Q D tA B nL (zc h0) (zs h0) ad pc h lv (.int x1 :: .ref (ad a0) :: rest) := 
  z_dv ⟨hE.2.1, hE.2.2.1⟩ (fun H locs ls hw hl => z_runI F (mX24_init F.2.2.2.2.2.1 hO t_a0 hf) (zCw.of 1 F.ts q1333 q131 (by decide +kernel) hR) (Or.inl q1331) rfl q1332 rfl hr hd hw hl (z_fit hE hO)) kk
theorem cl_X0_460 {p : Program} {l : Launch} {e : Env} {s : State} {m : MethodId} {args : Array Value} {below : List Frame} {meth : Method} {c : Code} {Q : State → Prop} {D : va_G} {tA : Nat → ClassId} {B nL : Nat} {ad : Nat → Nat} {kn : State → Prop} {cc : ByteArray} {ret : Option FieldType} {pc : Nat} {h : Hp} {lv : List (Nat × Value)} {Fr Lo : Nat} {h0 h1 : Hp} {rest : List Value} {a0 : Nat} {x1 : Int32} (F : ZF p s m args meth c D tA B nL kn RX0 cc ret) (hd : decode cc pc = .ok (.invokespecial 460, 3)) (hO : zOk h) (hE : zEx h0 h) (t_a0 : zTy h a0 25) (hR : 3 + 1 ≤ (zRm Fr Lo h0).frames ∧ 16 + (2 + 11) + 84 ≤ (zRm Fr Lo h0).locals) (hf : X25_init h a0 x1 = some ((), h1)) (hr : (rest.map fun v => v.category).sum ≤ 16) (kk : zOk h1 → zEx h h1 → ∀ u, zA h ad u → ZW p l e (zRm Fr Lo h0) s m args below meth c Q D tA B nL (zc h0) (zs h0) u (pc + 3) h1 lv (rest)) : ZW p l e (zRm Fr Lo h0) s m args below meth c Q D tA B nL (zc h0) (zs h0) ad pc h lv (.int x1 :: .ref (ad a0) :: rest) := 
  z_dv ⟨hE.2.1, hE.2.2.1⟩ (fun H locs ls hw hl => z_runI F (mX25_init F.2.2.2.2.2.1 hO t_a0 hf) (zCw.of 1 F.ts q1344 q132 (by decide +kernel) hR) (Or.inl q1342) rfl q1343 rfl hr hd hw hl (z_fit hE hO)) kk
theorem cl_X0_463 {p : Program} {l : Launch} {e : Env} {s : State} {m : MethodId} {args : Array Value} {below : List Frame} {meth : Method} {c : Code} {Q : State → Prop} {D : va_G} {tA : Nat → ClassId} {B nL : Nat} {ad : Nat → Nat} {kn : State → Prop} {cc : ByteArray} {ret : Option FieldType} {pc : Nat} {h : Hp} {lv : List (Nat × Value)} {Fr Lo : Nat} {h0 h1 : Hp} {rest : List Value} {a0 : Nat} {x1 : Int32} (F : ZF p s m args meth c D tA B nL kn RX0 cc ret) (hd : decode cc pc = .ok (.invokespecial 463, 3)) (hO : zOk h) (hE : zEx h0 h) (t_a0 : zTy h a0 26) (hR : 3 + 1 ≤ (zRm Fr Lo h0).frames ∧ 16 + (2 + 11) + 84 ≤ (zRm Fr Lo h0).locals) (hf : X26_init h a0 x1 = some ((), h1)) (hr : (rest.map fun v => v.category).sum ≤ 16) (kk : zOk h1 → zEx h h1 → ∀ u, zA h ad u → ZW p l e (zRm Fr Lo h0) s m args below meth c Q D tA B nL (zc h0) (zs h0) u (pc + 3) h1 lv (rest)) : ZW p l e (zRm Fr Lo h0) s m args below meth c Q D tA B nL (zc h0) (zs h0) ad pc h lv (.int x1 :: .ref (ad a0) :: rest) := 
  z_dv ⟨hE.2.1, hE.2.2.1⟩ (fun H locs ls hw hl => z_runI F (mX26_init F.2.2.2.2.2.1 hO t_a0 hf) (zCw.of 1 F.ts q1354 q133 (by decide +kernel) hR) (Or.inl q1352) rfl q1353 rfl hr hd hw hl (z_fit hE hO)) kk
theorem cl_X0_466 {p : Program} {l : Launch} {e : Env} {s : State} {m : MethodId} {args : Array Value} {below : List Frame} {meth : Method} {c : Code} {Q : State → Prop} {D : va_G} {tA : Nat → ClassId} {B nL : Nat} {ad : Nat → Nat} {kn : State → Prop} {cc : ByteArray} {ret : Option FieldType} {pc : Nat} {h : Hp} {lv : List (Nat × Value)} {Fr Lo : Nat} {h0 h1 : Hp} {rest : List Value} {a0 : Nat} {x1 : Int32} (F : ZF p s m args meth c D tA B nL kn RX0 cc ret) (hd : decode cc pc = .ok (.invokespecial 466, 3)) (hO : zOk h) (hE : zEx h0 h) (t_a0 : zTy h a0 27) (hR : 3 + 1 ≤ (zRm Fr Lo h0).frames ∧ 16 + (2 + 11) + 84 ≤ (zRm Fr Lo h0).locals) (hf : X27_init h a0 x1 = some ((), h1)) (hr : (rest.map fun v => v.category).sum ≤ 16) (kk : zOk h1 → zEx h h1 → ∀ u, zA h ad u → ZW p l e (zRm Fr Lo h0) s m args below meth c Q D tA B nL (zc h0) (zs h0) u (pc + 3) h1 lv (rest)) : ZW p l e (zRm Fr Lo h0) s m args below meth c Q D tA B nL (zc h0) (zs h0) ad pc h lv (.int x1 :: .ref (ad a0) :: rest) := 
  z_dv ⟨hE.2.1, hE.2.2.1⟩ (fun H locs ls hw hl => z_runI F (mX27_init F.2.2.2.2.2.1 hO t_a0 hf) (zCw.of 1 F.ts q1364 q134 (by decide +kernel) hR) (Or.inl q1362) rfl q1363 rfl hr hd hw hl (z_fit hE hO)) kk
def X0_newRow (h : Hp) (x0 : Int32) (x1 : Int32) : Option (Option Nat × Hp) :=
  if x0 = (0 : Int32) then (ck (zc h + 1 ≤ zLC ∧ zs h + 1 ≤ zLS) <| nm (zx h) fun a3 => nm (zne h 23 0 1) fun h4 => bd (X23_init h4 a3 x1) fun _ h5 => some (some a3, h5)) else if x0 = (1 : Int32) then (ck (zc h + 1 ≤ zLC ∧ zs h + 1 ≤ zLS) <| nm (zx h) fun a9 => nm (zne h 24 0 1) fun h10 => bd (X24_init h10 a9 x1) fun _ h11 => some (some a9, h11)) else if x0 = (2 : Int32) then (ck (zc h + 1 ≤ zLC ∧ zs h + 1 ≤ zLS) <| nm (zx h) fun a15 => nm (zne h 25 0 1) fun h16 => bd (X25_init h16 a15 x1) fun _ h17 => some (some a15, h17)) else if x0 = (3 : Int32) then (ck (zc h + 1 ≤ zLC ∧ zs h + 1 ≤ zLS) <| nm (zx h) fun a21 => nm (zne h 26 0 1) fun h22 => bd (X26_init h22 a21 x1) fun _ h23 => some (some a21, h23)) else (ck (zc h + 1 ≤ zLC ∧ zs h + 1 ≤ zLS) <| nm (zx h) fun a26 => nm (zne h 27 0 1) fun h27 => bd (X27_init h27 a26 x1) fun _ h28 => some (some a26, h28))
set_option maxHeartbeats 4000000 in
theorem mX0_newRow {l : Launch} {D : va_G} {tA : Nat → ClassId} {B : Nat} {kn : State → Prop} {h hE : Hp} {ad : Nat → Nat} {x0 : Int32} {x1 : Int32} {r : Option Nat} (hkp : zKp D tA B kn) (hO_h : zOk h)  (hf : X0_newRow h x0 x1 = some (r, hE)) : zM l D tA B kn yX0_newRow (ws_ yX0_newRow cX0_newRow 2 (Option.some (Jvm.ClassFile.FieldType.object "ThreeSnowballs$Row"))) 4 113 h ad [.int x0, .int x1] hE (zRq D tA B h ad 53 r hE) := by
  refine zM_of hkp (by decide +kernel) (Nat.le_of_ble_eq_true rfl) ?_
  intro p e s m args below meth c F hnm
  show ZW p l e (zRm 4 113 h) s m args below meth c (MQ below (zRq D tA B h ad 53 r hE) args s (zc hE - zc h) (zs hE - zs h) (fun q => B ≤ q)) D tA B 2 (zc h) (zs h) ad 0 h [(0, .int x0), (1, .int x1)] []
  replace hf := (X0_newRow.eq_1 h x0 x1).symm.trans hf
  refine w_iload_n F dX0_newRow_0 0 rfl ?_
  by_cases c1 : x0 = (0 : Int32)
  · replace hf := if_t c1 hf
    refine w_tsw (v := 0) (off := 31) (tgt := 32) F dX0_newRow_1 c1 (by decide) (by decide) (by decide) ?_
    replace hf := ck_o hf
    obtain ⟨c2, hf⟩ := hf
    refine z_new (ci := 23) F hO_h.1 ⟨(zEx.rf h).2.1, (zEx.rf h).2.2.1⟩ rfl (by decide) in_X23 tyX23_ok (by decide) q467 q1317 q130 (z_lim1 (zEx.rf h) c2) dX0_newRow_32 (fun ad_h4 hA_h4 => ?_)
    replace hf := nm_o hf
    obtain ⟨a3, ea3, hf⟩ := hf
    rw [← ea3]
    replace hf := nm_o hf
    obtain ⟨h4, eh4, hf⟩ := hf
    refine w_nh eh4 ?_
    have Eh4 : zEx h h4 := by rw [eh4]; exact zEx.ne
    have hO_h4 : zOk h4 := by rw [eh4]; exact hO_h.ne (by decide) c2
    have t_a3 : zTy h4 a3 23 := by rw [eh4, ea3]; exact zTy.new (by decide)
    refine w_dup F dX0_newRow_35 rfl ?_
    refine w_iload_n F dX0_newRow_36 1 rfl ?_
    replace hf := bd_o hf
    obtain ⟨r6, h5, qh5, hf⟩ := hf
    refine cl_X0_452 F dX0_newRow_37 hO_h4 Eh4 (t_a3) ⟨Nat.le_of_ble_eq_true rfl, Nat.le_of_ble_eq_true rfl⟩ qh5 (Nat.le_of_ble_eq_true rfl) (fun hO_h5 Eh5 ad_h5 hA_h5 => ?_)
    rw [← hA_h5 a3 (t_a3.1)]
    have t_a3 := t_a3.ex Eh5
    obtain ⟨rfl, rfl⟩ := ret_o hf
    exact z_areD (o := some a3) F dX0_newRow_40 hO_h5 ((Eh4).tr Eh5) ((hA_h4).tr Eh4 hA_h5) (zTo.of (zTy.up t_a3 (by decide)))
  · replace hf := if_f c1 hf
    by_cases c7 : x0 = (1 : Int32)
    · replace hf := if_t c7 hf
      refine w_tsw (v := 1) (off := 40) (tgt := 41) F dX0_newRow_1 c7 (by decide) (by decide) (by decide) ?_
      replace hf := ck_o hf
      obtain ⟨c8, hf⟩ := hf
      refine z_new (ci := 24) F hO_h.1 ⟨(zEx.rf h).2.1, (zEx.rf h).2.2.1⟩ rfl (by decide) in_X24 tyX24_ok (by decide) q1329 q1330 q131 (z_lim1 (zEx.rf h) c8) dX0_newRow_41 (fun ad_h10 hA_h10 => ?_)
      replace hf := nm_o hf
      obtain ⟨a9, ea9, hf⟩ := hf
      rw [← ea9]
      replace hf := nm_o hf
      obtain ⟨h10, eh10, hf⟩ := hf
      refine w_nh eh10 ?_
      have Eh10 : zEx h h10 := by rw [eh10]; exact zEx.ne
      have hO_h10 : zOk h10 := by rw [eh10]; exact hO_h.ne (by decide) c8
      have t_a9 : zTy h10 a9 24 := by rw [eh10, ea9]; exact zTy.new (by decide)
      refine w_dup F dX0_newRow_44 rfl ?_
      refine w_iload_n F dX0_newRow_45 1 rfl ?_
      replace hf := bd_o hf
      obtain ⟨r12, h11, qh11, hf⟩ := hf
      refine cl_X0_457 F dX0_newRow_46 hO_h10 Eh10 (t_a9) ⟨Nat.le_of_ble_eq_true rfl, Nat.le_of_ble_eq_true rfl⟩ qh11 (Nat.le_of_ble_eq_true rfl) (fun hO_h11 Eh11 ad_h11 hA_h11 => ?_)
      rw [← hA_h11 a9 (t_a9.1)]
      have t_a9 := t_a9.ex Eh11
      obtain ⟨rfl, rfl⟩ := ret_o hf
      exact z_areD (o := some a9) F dX0_newRow_49 hO_h11 ((Eh10).tr Eh11) ((hA_h10).tr Eh10 hA_h11) (zTo.of (zTy.up t_a9 (by decide)))
    · replace hf := if_f c7 hf
      by_cases c13 : x0 = (2 : Int32)
      · replace hf := if_t c13 hf
        refine w_tsw (v := 2) (off := 49) (tgt := 50) F dX0_newRow_1 c13 (by decide) (by decide) (by decide) ?_
        replace hf := ck_o hf
        obtain ⟨c14, hf⟩ := hf
        refine z_new (ci := 25) F hO_h.1 ⟨(zEx.rf h).2.1, (zEx.rf h).2.2.1⟩ rfl (by decide) in_X25 tyX25_ok (by decide) q1340 q1341 q132 (z_lim1 (zEx.rf h) c14) dX0_newRow_50 (fun ad_h16 hA_h16 => ?_)
        replace hf := nm_o hf
        obtain ⟨a15, ea15, hf⟩ := hf
        rw [← ea15]
        replace hf := nm_o hf
        obtain ⟨h16, eh16, hf⟩ := hf
        refine w_nh eh16 ?_
        have Eh16 : zEx h h16 := by rw [eh16]; exact zEx.ne
        have hO_h16 : zOk h16 := by rw [eh16]; exact hO_h.ne (by decide) c14
        have t_a15 : zTy h16 a15 25 := by rw [eh16, ea15]; exact zTy.new (by decide)
        refine w_dup F dX0_newRow_53 rfl ?_
        refine w_iload_n F dX0_newRow_54 1 rfl ?_
        replace hf := bd_o hf
        obtain ⟨r18, h17, qh17, hf⟩ := hf
        refine cl_X0_460 F dX0_newRow_55 hO_h16 Eh16 (t_a15) ⟨Nat.le_of_ble_eq_true rfl, Nat.le_of_ble_eq_true rfl⟩ qh17 (Nat.le_of_ble_eq_true rfl) (fun hO_h17 Eh17 ad_h17 hA_h17 => ?_)
        rw [← hA_h17 a15 (t_a15.1)]
        have t_a15 := t_a15.ex Eh17
        obtain ⟨rfl, rfl⟩ := ret_o hf
        exact z_areD (o := some a15) F dX0_newRow_58 hO_h17 ((Eh16).tr Eh17) ((hA_h16).tr Eh16 hA_h17) (zTo.of (zTy.up t_a15 (by decide)))
      · replace hf := if_f c13 hf
        by_cases c19 : x0 = (3 : Int32)
        · replace hf := if_t c19 hf
          refine w_tsw (v := 3) (off := 58) (tgt := 59) F dX0_newRow_1 c19 (by decide) (by decide) (by decide) ?_
          replace hf := ck_o hf
          obtain ⟨c20, hf⟩ := hf
          refine z_new (ci := 26) F hO_h.1 ⟨(zEx.rf h).2.1, (zEx.rf h).2.2.1⟩ rfl (by decide) in_X26 tyX26_ok (by decide) q1350 q1351 q133 (z_lim1 (zEx.rf h) c20) dX0_newRow_59 (fun ad_h22 hA_h22 => ?_)
          replace hf := nm_o hf
          obtain ⟨a21, ea21, hf⟩ := hf
          rw [← ea21]
          replace hf := nm_o hf
          obtain ⟨h22, eh22, hf⟩ := hf
          refine w_nh eh22 ?_
          have Eh22 : zEx h h22 := by rw [eh22]; exact zEx.ne
          have hO_h22 : zOk h22 := by rw [eh22]; exact hO_h.ne (by decide) c20
          have t_a21 : zTy h22 a21 26 := by rw [eh22, ea21]; exact zTy.new (by decide)
          refine w_dup F dX0_newRow_62 rfl ?_
          refine w_iload_n F dX0_newRow_63 1 rfl ?_
          replace hf := bd_o hf
          obtain ⟨r24, h23, qh23, hf⟩ := hf
          refine cl_X0_463 F dX0_newRow_64 hO_h22 Eh22 (t_a21) ⟨Nat.le_of_ble_eq_true rfl, Nat.le_of_ble_eq_true rfl⟩ qh23 (Nat.le_of_ble_eq_true rfl) (fun hO_h23 Eh23 ad_h23 hA_h23 => ?_)
          rw [← hA_h23 a21 (t_a21.1)]
          have t_a21 := t_a21.ex Eh23
          obtain ⟨rfl, rfl⟩ := ret_o hf
          exact z_areD (o := some a21) F dX0_newRow_67 hO_h23 ((Eh22).tr Eh23) ((hA_h22).tr Eh22 hA_h23) (zTo.of (zTy.up t_a21 (by decide)))
        · replace hf := if_f c19 hf
          refine w_tswD (tgt := 68) F dX0_newRow_1 (zsw_out (zsw_cons (v := 0) c1 (zsw_cons (v := 1) c7 (zsw_cons (v := 2) c13 (zsw_cons (v := 3) c19 zsw_nil)))) (by decide)) (by decide) ?_
          replace hf := ck_o hf
          obtain ⟨c25, hf⟩ := hf
          refine z_new (ci := 27) F hO_h.1 ⟨(zEx.rf h).2.1, (zEx.rf h).2.2.1⟩ rfl (by decide) in_X27 tyX27_ok (by decide) q1360 q1361 q134 (z_lim1 (zEx.rf h) c25) dX0_newRow_68 (fun ad_h27 hA_h27 => ?_)
          replace hf := nm_o hf
          obtain ⟨a26, ea26, hf⟩ := hf
          rw [← ea26]
          replace hf := nm_o hf
          obtain ⟨h27, eh27, hf⟩ := hf
          refine w_nh eh27 ?_
          have Eh27 : zEx h h27 := by rw [eh27]; exact zEx.ne
          have hO_h27 : zOk h27 := by rw [eh27]; exact hO_h.ne (by decide) c25
          have t_a26 : zTy h27 a26 27 := by rw [eh27, ea26]; exact zTy.new (by decide)
          refine w_dup F dX0_newRow_71 rfl ?_
          refine w_iload_n F dX0_newRow_72 1 rfl ?_
          replace hf := bd_o hf
          obtain ⟨r29, h28, qh28, hf⟩ := hf
          refine cl_X0_466 F dX0_newRow_73 hO_h27 Eh27 (t_a26) ⟨Nat.le_of_ble_eq_true rfl, Nat.le_of_ble_eq_true rfl⟩ qh28 (Nat.le_of_ble_eq_true rfl) (fun hO_h28 Eh28 ad_h28 hA_h28 => ?_)
          rw [← hA_h28 a26 (t_a26.1)]
          have t_a26 := t_a26.ex Eh28
          obtain ⟨rfl, rfl⟩ := ret_o hf
          exact z_areD (o := some a26) F dX0_newRow_76 hO_h28 ((Eh27).tr Eh28) ((hA_h27).tr Eh27 hA_h28) (zTo.of (zTy.up t_a26 (by decide)))
