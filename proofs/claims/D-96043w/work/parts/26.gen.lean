def X23_atTi (h : Hp) (a0 : Nat) (x1 : Int32) : Option (Unit × Hp) :=
  nm (zr h a0 0) fun o1 => dr o1 fun a2 => ck (¬ (0 ≤ x1.toInt ∧ x1.toInt < (zn h a2 : Int))) <| ck (zn h a2 < 2 ^ 31 ∧ zc h + 3 ≤ zLC ∧ zs h + 222 ≤ zLS) <| nm (zga h 3 222) fun h5 => some ((), h5)
set_option maxHeartbeats 4000000 in
theorem tX23_atTi {l : Launch} {D : va_G} {tA : Nat → ClassId} {B : Nat} {kn : State → Prop} {h hE : Hp} {ad : Nat → Nat} {a0 : Nat} {x1 : Int32} (htr : l.stackTraces = false) (hO_h : zOk h) (t_a0 : zTy h a0 23) (hf : X23_atTi h a0 x1 = some ((), hE)) : zTm l D tA B kn yX23_at cX23_at 2 (Option.some Jvm.ClassFile.FieldType.long) 8 10272 h ad [.ref (ad a0), .int x1] (fun u => u = ad) "java/lang/ArrayIndexOutOfBoundsException" hE := by
  intro p e s m args below meth c F hnm htab
  show ZW p l e (zRm 8 10272 h) s m args below meth c (zQT D tA B h (fun u => u = ad) "java/lang/ArrayIndexOutOfBoundsException" hE below s) D tA B 2 (zc h) (zs h) ad 0 h [(0, .ref (ad a0)), (1, .int x1)] []
  replace hf := (X23_atTi.eq_1 h a0 x1).symm.trans hf
  refine w_aload_n F dX23_at_0 0 rfl ?_
  refine gf_X23_7 F dX23_at_1 hO_h (t_a0) ?_
  replace hf := nm_o hf
  obtain ⟨o1, eo1, hf⟩ := hf
  refine w_no eo1 ?_
  have t_o1 : zTo h o1 101 := zTo.rd hO_h (t_a0.1) (zTy.tg t_a0 (by decide)) (t := 23) rfl eo1
  refine w_iload_n F dX23_at_4 1 rfl ?_
  replace hf := dr_o hf
  obtain ⟨a2, ea2, hf⟩ := hf
  subst ea2
  have t_a2 : zTy h a2 101 := t_o1 a2 rfl
  replace hf := ck_o hf
  obtain ⟨c3, hf⟩ := hf
  replace hf := ck_o hf
  obtain ⟨c4, hf⟩ := hf
  refine z_aldX (j := 1) (t := 101) (ty := .byte) F htr rfl rfl (by decide) (by decide) dX23_at_5 t_a2.1 (zTy.tg t_a2 (by decide)) (fun z => c3 (vp_in_iff.mp z)) c4.1 ⟨(zEx.rf h).2.1, (zEx.rf h).2.2.1⟩ (by constructor <;> (simp only [zRm]; omega)) (zrm_c (zEx.rf h) c4.2) (Nat.le_of_ble_eq_true rfl) ?_
  replace hf := nm_o hf
  obtain ⟨h5, eh5, hf⟩ := hf
  rw [← eh5]
  have Eh5 : zEx h h5 := by rw [eh5]; exact zEx.ga
  have hO_h5 : zOk h5 := by rw [eh5]; exact hO_h.ga c4.2
  have t_a0 := t_a0.ex Eh5
  have t_a2 := t_a2.ex Eh5
  obtain ⟨-, rfl⟩ := ret_o hf
  exact z_out F htab rfl hO_h5 Eh5
def X23_putTi (h : Hp) (a0 : Nat) (x1 : Int32) (x2 : Int64) : Option (Unit × Hp) :=
  nm (zr h a0 0) fun o1 => nm (x2.toInt32.toInt8.toInt32 : Int32) fun v2 => dr o1 fun a3 => ck (¬ (0 ≤ x1.toInt ∧ x1.toInt < (zn h a3 : Int))) <| ck (zn h a3 < 2 ^ 31 ∧ zc h + 3 ≤ zLC ∧ zs h + 222 ≤ zLS) <| nm (zga h 3 222) fun h6 => some ((), h6)
set_option maxHeartbeats 4000000 in
theorem tX23_putTi {l : Launch} {D : va_G} {tA : Nat → ClassId} {B : Nat} {kn : State → Prop} {h hE : Hp} {ad : Nat → Nat} {a0 : Nat} {x1 : Int32} {x2 : Int64} (htr : l.stackTraces = false) (hO_h : zOk h) (t_a0 : zTy h a0 23) (hf : X23_putTi h a0 x1 x2 = some ((), hE)) : zTm l D tA B kn yX23_put cX23_put 4 (Option.some Jvm.ClassFile.FieldType.boolean) 8 10272 h ad [.ref (ad a0), .int x1, .long x2] (fun u => u = ad) "java/lang/ArrayIndexOutOfBoundsException" hE := by
  intro p e s m args below meth c F hnm htab
  show ZW p l e (zRm 8 10272 h) s m args below meth c (zQT D tA B h (fun u => u = ad) "java/lang/ArrayIndexOutOfBoundsException" hE below s) D tA B 4 (zc h) (zs h) ad 0 h [(0, .ref (ad a0)), (1, .int x1), (2, .long x2)] []
  replace hf := (X23_putTi.eq_1 h a0 x1 x2).symm.trans hf
  refine w_aload_n F dX23_put_0 0 rfl ?_
  refine gf_X23_7 F dX23_put_1 hO_h (t_a0) ?_
  replace hf := nm_o hf
  obtain ⟨o1, eo1, hf⟩ := hf
  refine w_no eo1 ?_
  have t_o1 : zTo h o1 101 := zTo.rd hO_h (t_a0.1) (zTy.tg t_a0 (by decide)) (t := 23) rfl eo1
  refine w_iload_n F dX23_put_4 1 rfl ?_
  refine w_lload_n F dX23_put_5 2 rfl ?_
  refine w_l2i F dX23_put_6 ?_
  refine w_i2b F dX23_put_7 ?_
  replace hf := nm_o hf
  obtain ⟨v2, ev2, hf⟩ := hf
  refine w_ni ev2 ?_
  replace hf := dr_o hf
  obtain ⟨a3, ea3, hf⟩ := hf
  subst ea3
  have t_a3 : zTy h a3 101 := t_o1 a3 rfl
  replace hf := ck_o hf
  obtain ⟨c4, hf⟩ := hf
  replace hf := ck_o hf
  obtain ⟨c5, hf⟩ := hf
  refine z_astX (j := 1) (t := 101) (ty := .byte) F htr rfl rfl (by decide) (by decide) dX23_put_8 t_a3.1 (zTy.tg t_a3 (by decide)) (fun z => c4 (vp_in_iff.mp z)) c5.1 ⟨(zEx.rf h).2.1, (zEx.rf h).2.2.1⟩ (by constructor <;> (simp only [zRm]; omega)) (zrm_c (zEx.rf h) c5.2) (Nat.le_of_ble_eq_true rfl) ?_
  replace hf := nm_o hf
  obtain ⟨h6, eh6, hf⟩ := hf
  rw [← eh6]
  have Eh6 : zEx h h6 := by rw [eh6]; exact zEx.ga
  have hO_h6 : zOk h6 := by rw [eh6]; exact hO_h.ga c5.2
  have t_a0 := t_a0.ex Eh6
  have t_a3 := t_a3.ex Eh6
  obtain ⟨-, rfl⟩ := ret_o hf
  exact z_out F htab rfl hO_h6 Eh6
def X23_initTn (h : Hp) (a0 : Nat) (x1 : Int32) : Option (Unit × Hp) :=
  bd (X22_init h a0) fun _ h1 => ck (x1 < 0) <| ck (zc h1 + 3 ≤ zLC ∧ zs h1 + 54 ≤ zLS) <| nm (zga h1 3 54) fun h5 => some ((), h5)
set_option maxHeartbeats 4000000 in
theorem tX23_initTn {l : Launch} {D : va_G} {tA : Nat → ClassId} {B : Nat} {kn : State → Prop} {h hE : Hp} {ad : Nat → Nat} {a0 : Nat} {x1 : Int32} (htr : l.stackTraces = false) (hO_h : zOk h) (t_a0 : zTy h a0 23) (hf : X23_initTn h a0 x1 = some ((), hE)) : zTm l D tA B kn yX23_init cX23_init 2 (Option.none : Option Jvm.ClassFile.FieldType) 8 10272 h ad [.ref (ad a0), .int x1] (fun u => u = ad) "java/lang/NegativeArraySizeException" hE := by
  intro p e s m args below meth c F hnm htab
  show ZW p l e (zRm 8 10272 h) s m args below meth c (zQT D tA B h (fun u => u = ad) "java/lang/NegativeArraySizeException" hE below s) D tA B 2 (zc h) (zs h) ad 0 h [(0, .ref (ad a0)), (1, .int x1)] []
  replace hf := (X23_initTn.eq_1 h a0 x1).symm.trans hf
  refine w_aload_n F dX23_init_0 0 rfl ?_
  replace hf := bd_o hf
  obtain ⟨r2, h1, qh1, hf⟩ := hf
  refine cl_X23_1 F dX23_init_1 hO_h (zEx.rf h) ((zTy.up t_a0 (by decide))) ⟨Nat.le_of_ble_eq_true rfl, Nat.le_of_ble_eq_true rfl⟩ qh1 (Nat.le_of_ble_eq_true rfl) (fun hO_h1 Eh1 => ?_)
  have t_a0 := t_a0.ex Eh1
  refine w_aload_n F dX23_init_4 0 rfl ?_
  refine w_iload_n F dX23_init_5 1 rfl ?_
  replace hf := ck_o hf
  obtain ⟨c3, hf⟩ := hf
  replace hf := ck_o hf
  obtain ⟨c4, hf⟩ := hf
  refine z_newaX F htr c3 dX23_init_6 ⟨Eh1.2.1, Eh1.2.2.1⟩ (by constructor <;> (simp only [zRm]; omega)) (zrm_c Eh1 c4) (Nat.le_of_ble_eq_true rfl) ?_
  replace hf := nm_o hf
  obtain ⟨h5, eh5, hf⟩ := hf
  rw [← eh5]
  have Eh5 : zEx h1 h5 := by rw [eh5]; exact zEx.ga
  have hO_h5 : zOk h5 := by rw [eh5]; exact hO_h1.ga c4
  have t_a0 := t_a0.ex Eh5
  obtain ⟨-, rfl⟩ := ret_o hf
  exact z_out F htab rfl hO_h5 ((Eh1).tr Eh5)
def X24_atTi (h : Hp) (a0 : Nat) (x1 : Int32) : Option (Unit × Hp) :=
  nm (zr h a0 0) fun o1 => dr o1 fun a2 => ck (¬ (0 ≤ x1.toInt ∧ x1.toInt < (zn h a2 : Int))) <| ck (zn h a2 < 2 ^ 31 ∧ zc h + 3 ≤ zLC ∧ zs h + 222 ≤ zLS) <| nm (zga h 3 222) fun h5 => some ((), h5)
set_option maxHeartbeats 4000000 in
theorem tX24_atTi {l : Launch} {D : va_G} {tA : Nat → ClassId} {B : Nat} {kn : State → Prop} {h hE : Hp} {ad : Nat → Nat} {a0 : Nat} {x1 : Int32} (htr : l.stackTraces = false) (hO_h : zOk h) (t_a0 : zTy h a0 24) (hf : X24_atTi h a0 x1 = some ((), hE)) : zTm l D tA B kn yX24_at cX24_at 2 (Option.some Jvm.ClassFile.FieldType.long) 8 10272 h ad [.ref (ad a0), .int x1] (fun u => u = ad) "java/lang/ArrayIndexOutOfBoundsException" hE := by
  intro p e s m args below meth c F hnm htab
  show ZW p l e (zRm 8 10272 h) s m args below meth c (zQT D tA B h (fun u => u = ad) "java/lang/ArrayIndexOutOfBoundsException" hE below s) D tA B 2 (zc h) (zs h) ad 0 h [(0, .ref (ad a0)), (1, .int x1)] []
  replace hf := (X24_atTi.eq_1 h a0 x1).symm.trans hf
  refine w_aload_n F dX24_at_0 0 rfl ?_
  refine gf_X24_7 F dX24_at_1 hO_h (t_a0) ?_
  replace hf := nm_o hf
  obtain ⟨o1, eo1, hf⟩ := hf
  refine w_no eo1 ?_
  have t_o1 : zTo h o1 102 := zTo.rd hO_h (t_a0.1) (zTy.tg t_a0 (by decide)) (t := 24) rfl eo1
  refine w_iload_n F dX24_at_4 1 rfl ?_
  replace hf := dr_o hf
  obtain ⟨a2, ea2, hf⟩ := hf
  subst ea2
  have t_a2 : zTy h a2 102 := t_o1 a2 rfl
  replace hf := ck_o hf
  obtain ⟨c3, hf⟩ := hf
  replace hf := ck_o hf
  obtain ⟨c4, hf⟩ := hf
  refine z_aldX (j := 2) (t := 102) (ty := .short) F htr rfl rfl (by decide) (by decide) dX24_at_5 t_a2.1 (zTy.tg t_a2 (by decide)) (fun z => c3 (vp_in_iff.mp z)) c4.1 ⟨(zEx.rf h).2.1, (zEx.rf h).2.2.1⟩ (by constructor <;> (simp only [zRm]; omega)) (zrm_c (zEx.rf h) c4.2) (Nat.le_of_ble_eq_true rfl) ?_
  replace hf := nm_o hf
  obtain ⟨h5, eh5, hf⟩ := hf
  rw [← eh5]
  have Eh5 : zEx h h5 := by rw [eh5]; exact zEx.ga
  have hO_h5 : zOk h5 := by rw [eh5]; exact hO_h.ga c4.2
  have t_a0 := t_a0.ex Eh5
  have t_a2 := t_a2.ex Eh5
  obtain ⟨-, rfl⟩ := ret_o hf
  exact z_out F htab rfl hO_h5 Eh5
def X24_putTi (h : Hp) (a0 : Nat) (x1 : Int32) (x2 : Int64) : Option (Unit × Hp) :=
  nm (zr h a0 0) fun o1 => nm (x2.toInt32.toInt16.toInt32 : Int32) fun v2 => dr o1 fun a3 => ck (¬ (0 ≤ x1.toInt ∧ x1.toInt < (zn h a3 : Int))) <| ck (zn h a3 < 2 ^ 31 ∧ zc h + 3 ≤ zLC ∧ zs h + 222 ≤ zLS) <| nm (zga h 3 222) fun h6 => some ((), h6)
set_option maxHeartbeats 4000000 in
theorem tX24_putTi {l : Launch} {D : va_G} {tA : Nat → ClassId} {B : Nat} {kn : State → Prop} {h hE : Hp} {ad : Nat → Nat} {a0 : Nat} {x1 : Int32} {x2 : Int64} (htr : l.stackTraces = false) (hO_h : zOk h) (t_a0 : zTy h a0 24) (hf : X24_putTi h a0 x1 x2 = some ((), hE)) : zTm l D tA B kn yX24_put cX24_put 4 (Option.some Jvm.ClassFile.FieldType.boolean) 8 10272 h ad [.ref (ad a0), .int x1, .long x2] (fun u => u = ad) "java/lang/ArrayIndexOutOfBoundsException" hE := by
  intro p e s m args below meth c F hnm htab
  show ZW p l e (zRm 8 10272 h) s m args below meth c (zQT D tA B h (fun u => u = ad) "java/lang/ArrayIndexOutOfBoundsException" hE below s) D tA B 4 (zc h) (zs h) ad 0 h [(0, .ref (ad a0)), (1, .int x1), (2, .long x2)] []
  replace hf := (X24_putTi.eq_1 h a0 x1 x2).symm.trans hf
  refine w_aload_n F dX24_put_0 0 rfl ?_
  refine gf_X24_7 F dX24_put_1 hO_h (t_a0) ?_
  replace hf := nm_o hf
  obtain ⟨o1, eo1, hf⟩ := hf
  refine w_no eo1 ?_
  have t_o1 : zTo h o1 102 := zTo.rd hO_h (t_a0.1) (zTy.tg t_a0 (by decide)) (t := 24) rfl eo1
  refine w_iload_n F dX24_put_4 1 rfl ?_
  refine w_lload_n F dX24_put_5 2 rfl ?_
  refine w_l2i F dX24_put_6 ?_
  refine w_i2s F dX24_put_7 ?_
  replace hf := nm_o hf
  obtain ⟨v2, ev2, hf⟩ := hf
  refine w_ni ev2 ?_
  replace hf := dr_o hf
  obtain ⟨a3, ea3, hf⟩ := hf
  subst ea3
  have t_a3 : zTy h a3 102 := t_o1 a3 rfl
  replace hf := ck_o hf
  obtain ⟨c4, hf⟩ := hf
  replace hf := ck_o hf
  obtain ⟨c5, hf⟩ := hf
  refine z_astX (j := 2) (t := 102) (ty := .short) F htr rfl rfl (by decide) (by decide) dX24_put_8 t_a3.1 (zTy.tg t_a3 (by decide)) (fun z => c4 (vp_in_iff.mp z)) c5.1 ⟨(zEx.rf h).2.1, (zEx.rf h).2.2.1⟩ (by constructor <;> (simp only [zRm]; omega)) (zrm_c (zEx.rf h) c5.2) (Nat.le_of_ble_eq_true rfl) ?_
  replace hf := nm_o hf
  obtain ⟨h6, eh6, hf⟩ := hf
  rw [← eh6]
  have Eh6 : zEx h h6 := by rw [eh6]; exact zEx.ga
  have hO_h6 : zOk h6 := by rw [eh6]; exact hO_h.ga c5.2
  have t_a0 := t_a0.ex Eh6
  have t_a3 := t_a3.ex Eh6
  obtain ⟨-, rfl⟩ := ret_o hf
  exact z_out F htab rfl hO_h6 Eh6
def X24_initTn (h : Hp) (a0 : Nat) (x1 : Int32) : Option (Unit × Hp) :=
  bd (X22_init h a0) fun _ h1 => ck (x1 < 0) <| ck (zc h1 + 3 ≤ zLC ∧ zs h1 + 54 ≤ zLS) <| nm (zga h1 3 54) fun h5 => some ((), h5)
set_option maxHeartbeats 4000000 in
theorem tX24_initTn {l : Launch} {D : va_G} {tA : Nat → ClassId} {B : Nat} {kn : State → Prop} {h hE : Hp} {ad : Nat → Nat} {a0 : Nat} {x1 : Int32} (htr : l.stackTraces = false) (hO_h : zOk h) (t_a0 : zTy h a0 24) (hf : X24_initTn h a0 x1 = some ((), hE)) : zTm l D tA B kn yX24_init cX24_init 2 (Option.none : Option Jvm.ClassFile.FieldType) 8 10272 h ad [.ref (ad a0), .int x1] (fun u => u = ad) "java/lang/NegativeArraySizeException" hE := by
  intro p e s m args below meth c F hnm htab
  show ZW p l e (zRm 8 10272 h) s m args below meth c (zQT D tA B h (fun u => u = ad) "java/lang/NegativeArraySizeException" hE below s) D tA B 2 (zc h) (zs h) ad 0 h [(0, .ref (ad a0)), (1, .int x1)] []
  replace hf := (X24_initTn.eq_1 h a0 x1).symm.trans hf
  refine w_aload_n F dX24_init_0 0 rfl ?_
  replace hf := bd_o hf
  obtain ⟨r2, h1, qh1, hf⟩ := hf
  refine cl_X24_1 F dX24_init_1 hO_h (zEx.rf h) ((zTy.up t_a0 (by decide))) ⟨Nat.le_of_ble_eq_true rfl, Nat.le_of_ble_eq_true rfl⟩ qh1 (Nat.le_of_ble_eq_true rfl) (fun hO_h1 Eh1 => ?_)
  have t_a0 := t_a0.ex Eh1
  refine w_aload_n F dX24_init_4 0 rfl ?_
  refine w_iload_n F dX24_init_5 1 rfl ?_
  replace hf := ck_o hf
  obtain ⟨c3, hf⟩ := hf
  replace hf := ck_o hf
  obtain ⟨c4, hf⟩ := hf
  refine z_newaX F htr c3 dX24_init_6 ⟨Eh1.2.1, Eh1.2.2.1⟩ (by constructor <;> (simp only [zRm]; omega)) (zrm_c Eh1 c4) (Nat.le_of_ble_eq_true rfl) ?_
  replace hf := nm_o hf
  obtain ⟨h5, eh5, hf⟩ := hf
  rw [← eh5]
  have Eh5 : zEx h1 h5 := by rw [eh5]; exact zEx.ga
  have hO_h5 : zOk h5 := by rw [eh5]; exact hO_h1.ga c4
  have t_a0 := t_a0.ex Eh5
  obtain ⟨-, rfl⟩ := ret_o hf
  exact z_out F htab rfl hO_h5 ((Eh1).tr Eh5)
def X25_atTi (h : Hp) (a0 : Nat) (x1 : Int32) : Option (Unit × Hp) :=
  nm (zr h a0 0) fun o1 => dr o1 fun a2 => ck (¬ (0 ≤ x1.toInt ∧ x1.toInt < (zn h a2 : Int))) <| ck (zn h a2 < 2 ^ 31 ∧ zc h + 3 ≤ zLC ∧ zs h + 222 ≤ zLS) <| nm (zga h 3 222) fun h5 => some ((), h5)
set_option maxHeartbeats 4000000 in
theorem tX25_atTi {l : Launch} {D : va_G} {tA : Nat → ClassId} {B : Nat} {kn : State → Prop} {h hE : Hp} {ad : Nat → Nat} {a0 : Nat} {x1 : Int32} (htr : l.stackTraces = false) (hO_h : zOk h) (t_a0 : zTy h a0 25) (hf : X25_atTi h a0 x1 = some ((), hE)) : zTm l D tA B kn yX25_at cX25_at 2 (Option.some Jvm.ClassFile.FieldType.long) 8 10272 h ad [.ref (ad a0), .int x1] (fun u => u = ad) "java/lang/ArrayIndexOutOfBoundsException" hE := by
  intro p e s m args below meth c F hnm htab
  show ZW p l e (zRm 8 10272 h) s m args below meth c (zQT D tA B h (fun u => u = ad) "java/lang/ArrayIndexOutOfBoundsException" hE below s) D tA B 2 (zc h) (zs h) ad 0 h [(0, .ref (ad a0)), (1, .int x1)] []
  replace hf := (X25_atTi.eq_1 h a0 x1).symm.trans hf
  refine w_aload_n F dX25_at_0 0 rfl ?_
  refine gf_X25_7 F dX25_at_1 hO_h (t_a0) ?_
  replace hf := nm_o hf
  obtain ⟨o1, eo1, hf⟩ := hf
  refine w_no eo1 ?_
  have t_o1 : zTo h o1 100 := zTo.rd hO_h (t_a0.1) (zTy.tg t_a0 (by decide)) (t := 25) rfl eo1
  refine w_iload_n F dX25_at_4 1 rfl ?_
  replace hf := dr_o hf
  obtain ⟨a2, ea2, hf⟩ := hf
  subst ea2
  have t_a2 : zTy h a2 100 := t_o1 a2 rfl
  replace hf := ck_o hf
  obtain ⟨c3, hf⟩ := hf
  replace hf := ck_o hf
  obtain ⟨c4, hf⟩ := hf
  refine z_aldX (j := 0) (t := 100) (ty := .int) F htr rfl rfl (by decide) (by decide) dX25_at_5 t_a2.1 (zTy.tg t_a2 (by decide)) (fun z => c3 (vp_in_iff.mp z)) c4.1 ⟨(zEx.rf h).2.1, (zEx.rf h).2.2.1⟩ (by constructor <;> (simp only [zRm]; omega)) (zrm_c (zEx.rf h) c4.2) (Nat.le_of_ble_eq_true rfl) ?_
  replace hf := nm_o hf
  obtain ⟨h5, eh5, hf⟩ := hf
  rw [← eh5]
  have Eh5 : zEx h h5 := by rw [eh5]; exact zEx.ga
  have hO_h5 : zOk h5 := by rw [eh5]; exact hO_h.ga c4.2
  have t_a0 := t_a0.ex Eh5
  have t_a2 := t_a2.ex Eh5
  obtain ⟨-, rfl⟩ := ret_o hf
  exact z_out F htab rfl hO_h5 Eh5
def X25_putTi (h : Hp) (a0 : Nat) (x1 : Int32) (x2 : Int64) : Option (Unit × Hp) :=
  nm (zr h a0 0) fun o1 => nm (x2.toInt32 : Int32) fun v2 => dr o1 fun a3 => ck (¬ (0 ≤ x1.toInt ∧ x1.toInt < (zn h a3 : Int))) <| ck (zn h a3 < 2 ^ 31 ∧ zc h + 3 ≤ zLC ∧ zs h + 222 ≤ zLS) <| nm (zga h 3 222) fun h6 => some ((), h6)
set_option maxHeartbeats 4000000 in
theorem tX25_putTi {l : Launch} {D : va_G} {tA : Nat → ClassId} {B : Nat} {kn : State → Prop} {h hE : Hp} {ad : Nat → Nat} {a0 : Nat} {x1 : Int32} {x2 : Int64} (htr : l.stackTraces = false) (hO_h : zOk h) (t_a0 : zTy h a0 25) (hf : X25_putTi h a0 x1 x2 = some ((), hE)) : zTm l D tA B kn yX25_put cX25_put 4 (Option.some Jvm.ClassFile.FieldType.boolean) 8 10272 h ad [.ref (ad a0), .int x1, .long x2] (fun u => u = ad) "java/lang/ArrayIndexOutOfBoundsException" hE := by
  intro p e s m args below meth c F hnm htab
  show ZW p l e (zRm 8 10272 h) s m args below meth c (zQT D tA B h (fun u => u = ad) "java/lang/ArrayIndexOutOfBoundsException" hE below s) D tA B 4 (zc h) (zs h) ad 0 h [(0, .ref (ad a0)), (1, .int x1), (2, .long x2)] []
  replace hf := (X25_putTi.eq_1 h a0 x1 x2).symm.trans hf
  refine w_aload_n F dX25_put_0 0 rfl ?_
  refine gf_X25_7 F dX25_put_1 hO_h (t_a0) ?_
  replace hf := nm_o hf
  obtain ⟨o1, eo1, hf⟩ := hf
  refine w_no eo1 ?_
  have t_o1 : zTo h o1 100 := zTo.rd hO_h (t_a0.1) (zTy.tg t_a0 (by decide)) (t := 25) rfl eo1
  refine w_iload_n F dX25_put_4 1 rfl ?_
  refine w_lload_n F dX25_put_5 2 rfl ?_
  refine w_l2i F dX25_put_6 ?_
  replace hf := nm_o hf
  obtain ⟨v2, ev2, hf⟩ := hf
  refine w_ni ev2 ?_
  replace hf := dr_o hf
  obtain ⟨a3, ea3, hf⟩ := hf
  subst ea3
  have t_a3 : zTy h a3 100 := t_o1 a3 rfl
  replace hf := ck_o hf
  obtain ⟨c4, hf⟩ := hf
  replace hf := ck_o hf
  obtain ⟨c5, hf⟩ := hf
  refine z_astX (j := 0) (t := 100) (ty := .int) F htr rfl rfl (by decide) (by decide) dX25_put_7 t_a3.1 (zTy.tg t_a3 (by decide)) (fun z => c4 (vp_in_iff.mp z)) c5.1 ⟨(zEx.rf h).2.1, (zEx.rf h).2.2.1⟩ (by constructor <;> (simp only [zRm]; omega)) (zrm_c (zEx.rf h) c5.2) (Nat.le_of_ble_eq_true rfl) ?_
  replace hf := nm_o hf
  obtain ⟨h6, eh6, hf⟩ := hf
  rw [← eh6]
  have Eh6 : zEx h h6 := by rw [eh6]; exact zEx.ga
  have hO_h6 : zOk h6 := by rw [eh6]; exact hO_h.ga c5.2
  have t_a0 := t_a0.ex Eh6
  have t_a3 := t_a3.ex Eh6
  obtain ⟨-, rfl⟩ := ret_o hf
  exact z_out F htab rfl hO_h6 Eh6
def X25_initTn (h : Hp) (a0 : Nat) (x1 : Int32) : Option (Unit × Hp) :=
  bd (X22_init h a0) fun _ h1 => ck (x1 < 0) <| ck (zc h1 + 3 ≤ zLC ∧ zs h1 + 54 ≤ zLS) <| nm (zga h1 3 54) fun h5 => some ((), h5)
set_option maxHeartbeats 4000000 in
theorem tX25_initTn {l : Launch} {D : va_G} {tA : Nat → ClassId} {B : Nat} {kn : State → Prop} {h hE : Hp} {ad : Nat → Nat} {a0 : Nat} {x1 : Int32} (htr : l.stackTraces = false) (hO_h : zOk h) (t_a0 : zTy h a0 25) (hf : X25_initTn h a0 x1 = some ((), hE)) : zTm l D tA B kn yX25_init cX25_init 2 (Option.none : Option Jvm.ClassFile.FieldType) 8 10272 h ad [.ref (ad a0), .int x1] (fun u => u = ad) "java/lang/NegativeArraySizeException" hE := by
  intro p e s m args below meth c F hnm htab
  show ZW p l e (zRm 8 10272 h) s m args below meth c (zQT D tA B h (fun u => u = ad) "java/lang/NegativeArraySizeException" hE below s) D tA B 2 (zc h) (zs h) ad 0 h [(0, .ref (ad a0)), (1, .int x1)] []
  replace hf := (X25_initTn.eq_1 h a0 x1).symm.trans hf
  refine w_aload_n F dX25_init_0 0 rfl ?_
  replace hf := bd_o hf
  obtain ⟨r2, h1, qh1, hf⟩ := hf
  refine cl_X25_1 F dX25_init_1 hO_h (zEx.rf h) ((zTy.up t_a0 (by decide))) ⟨Nat.le_of_ble_eq_true rfl, Nat.le_of_ble_eq_true rfl⟩ qh1 (Nat.le_of_ble_eq_true rfl) (fun hO_h1 Eh1 => ?_)
  have t_a0 := t_a0.ex Eh1
  refine w_aload_n F dX25_init_4 0 rfl ?_
  refine w_iload_n F dX25_init_5 1 rfl ?_
  replace hf := ck_o hf
  obtain ⟨c3, hf⟩ := hf
  replace hf := ck_o hf
  obtain ⟨c4, hf⟩ := hf
  refine z_newaX F htr c3 dX25_init_6 ⟨Eh1.2.1, Eh1.2.2.1⟩ (by constructor <;> (simp only [zRm]; omega)) (zrm_c Eh1 c4) (Nat.le_of_ble_eq_true rfl) ?_
  replace hf := nm_o hf
  obtain ⟨h5, eh5, hf⟩ := hf
  rw [← eh5]
  have Eh5 : zEx h1 h5 := by rw [eh5]; exact zEx.ga
  have hO_h5 : zOk h5 := by rw [eh5]; exact hO_h1.ga c4
  have t_a0 := t_a0.ex Eh5
  obtain ⟨-, rfl⟩ := ret_o hf
  exact z_out F htab rfl hO_h5 ((Eh1).tr Eh5)
def X26_atTi (h : Hp) (a0 : Nat) (x1 : Int32) : Option (Unit × Hp) :=
  nm (zr h a0 0) fun o1 => dr o1 fun a2 => ck (¬ (0 ≤ x1.toInt ∧ x1.toInt < (zn h a2 : Int))) <| ck (zn h a2 < 2 ^ 31 ∧ zc h + 3 ≤ zLC ∧ zs h + 222 ≤ zLS) <| nm (zga h 3 222) fun h5 => some ((), h5)
set_option maxHeartbeats 4000000 in
theorem tX26_atTi {l : Launch} {D : va_G} {tA : Nat → ClassId} {B : Nat} {kn : State → Prop} {h hE : Hp} {ad : Nat → Nat} {a0 : Nat} {x1 : Int32} (htr : l.stackTraces = false) (hO_h : zOk h) (t_a0 : zTy h a0 26) (hf : X26_atTi h a0 x1 = some ((), hE)) : zTm l D tA B kn yX26_at cX26_at 2 (Option.some Jvm.ClassFile.FieldType.long) 8 10272 h ad [.ref (ad a0), .int x1] (fun u => u = ad) "java/lang/ArrayIndexOutOfBoundsException" hE := by
  intro p e s m args below meth c F hnm htab
  show ZW p l e (zRm 8 10272 h) s m args below meth c (zQT D tA B h (fun u => u = ad) "java/lang/ArrayIndexOutOfBoundsException" hE below s) D tA B 2 (zc h) (zs h) ad 0 h [(0, .ref (ad a0)), (1, .int x1)] []
  replace hf := (X26_atTi.eq_1 h a0 x1).symm.trans hf
  refine w_aload_n F dX26_at_0 0 rfl ?_
  refine gf_X26_7 F dX26_at_1 hO_h (t_a0) ?_
  replace hf := nm_o hf
  obtain ⟨o1, eo1, hf⟩ := hf
  refine w_no eo1 ?_
  have t_o1 : zTo h o1 104 := zTo.rd hO_h (t_a0.1) (zTy.tg t_a0 (by decide)) (t := 26) rfl eo1
  refine w_iload_n F dX26_at_4 1 rfl ?_
  replace hf := dr_o hf
  obtain ⟨a2, ea2, hf⟩ := hf
  subst ea2
  have t_a2 : zTy h a2 104 := t_o1 a2 rfl
  replace hf := ck_o hf
  obtain ⟨c3, hf⟩ := hf
  replace hf := ck_o hf
  obtain ⟨c4, hf⟩ := hf
  refine z_aldX (j := 4) (t := 104) (ty := .long) F htr rfl rfl (by decide) (by decide) dX26_at_5 t_a2.1 (zTy.tg t_a2 (by decide)) (fun z => c3 (vp_in_iff.mp z)) c4.1 ⟨(zEx.rf h).2.1, (zEx.rf h).2.2.1⟩ (by constructor <;> (simp only [zRm]; omega)) (zrm_c (zEx.rf h) c4.2) (Nat.le_of_ble_eq_true rfl) ?_
  replace hf := nm_o hf
  obtain ⟨h5, eh5, hf⟩ := hf
  rw [← eh5]
  have Eh5 : zEx h h5 := by rw [eh5]; exact zEx.ga
  have hO_h5 : zOk h5 := by rw [eh5]; exact hO_h.ga c4.2
  have t_a0 := t_a0.ex Eh5
  have t_a2 := t_a2.ex Eh5
  obtain ⟨-, rfl⟩ := ret_o hf
  exact z_out F htab rfl hO_h5 Eh5
def X26_putTi (h : Hp) (a0 : Nat) (x1 : Int32) (x2 : Int64) : Option (Unit × Hp) :=
  nm (zr h a0 0) fun o1 => dr o1 fun a2 => ck (¬ (0 ≤ x1.toInt ∧ x1.toInt < (zn h a2 : Int))) <| ck (zn h a2 < 2 ^ 31 ∧ zc h + 3 ≤ zLC ∧ zs h + 222 ≤ zLS) <| nm (zga h 3 222) fun h5 => some ((), h5)
set_option maxHeartbeats 4000000 in
theorem tX26_putTi {l : Launch} {D : va_G} {tA : Nat → ClassId} {B : Nat} {kn : State → Prop} {h hE : Hp} {ad : Nat → Nat} {a0 : Nat} {x1 : Int32} {x2 : Int64} (htr : l.stackTraces = false) (hO_h : zOk h) (t_a0 : zTy h a0 26) (hf : X26_putTi h a0 x1 x2 = some ((), hE)) : zTm l D tA B kn yX26_put cX26_put 4 (Option.some Jvm.ClassFile.FieldType.boolean) 8 10272 h ad [.ref (ad a0), .int x1, .long x2] (fun u => u = ad) "java/lang/ArrayIndexOutOfBoundsException" hE := by
  intro p e s m args below meth c F hnm htab
  show ZW p l e (zRm 8 10272 h) s m args below meth c (zQT D tA B h (fun u => u = ad) "java/lang/ArrayIndexOutOfBoundsException" hE below s) D tA B 4 (zc h) (zs h) ad 0 h [(0, .ref (ad a0)), (1, .int x1), (2, .long x2)] []
  replace hf := (X26_putTi.eq_1 h a0 x1 x2).symm.trans hf
  refine w_aload_n F dX26_put_0 0 rfl ?_
  refine gf_X26_7 F dX26_put_1 hO_h (t_a0) ?_
  replace hf := nm_o hf
  obtain ⟨o1, eo1, hf⟩ := hf
  refine w_no eo1 ?_
  have t_o1 : zTo h o1 104 := zTo.rd hO_h (t_a0.1) (zTy.tg t_a0 (by decide)) (t := 26) rfl eo1
  refine w_iload_n F dX26_put_4 1 rfl ?_
  refine w_lload_n F dX26_put_5 2 rfl ?_
  replace hf := dr_o hf
  obtain ⟨a2, ea2, hf⟩ := hf
  subst ea2
  have t_a2 : zTy h a2 104 := t_o1 a2 rfl
  replace hf := ck_o hf
  obtain ⟨c3, hf⟩ := hf
  replace hf := ck_o hf
  obtain ⟨c4, hf⟩ := hf
  refine z_lastX F htr dX26_put_6 t_a2.1 (zTy.tg t_a2 (by decide)) (fun z => c3 (vp_in_iff.mp z)) c4.1 ⟨(zEx.rf h).2.1, (zEx.rf h).2.2.1⟩ (by constructor <;> (simp only [zRm]; omega)) (zrm_c (zEx.rf h) c4.2) (Nat.le_of_ble_eq_true rfl) ?_
  replace hf := nm_o hf
  obtain ⟨h5, eh5, hf⟩ := hf
  rw [← eh5]
  have Eh5 : zEx h h5 := by rw [eh5]; exact zEx.ga
  have hO_h5 : zOk h5 := by rw [eh5]; exact hO_h.ga c4.2
  have t_a0 := t_a0.ex Eh5
  have t_a2 := t_a2.ex Eh5
  obtain ⟨-, rfl⟩ := ret_o hf
  exact z_out F htab rfl hO_h5 Eh5
def X26_initTn (h : Hp) (a0 : Nat) (x1 : Int32) : Option (Unit × Hp) :=
  bd (X22_init h a0) fun _ h1 => ck (x1 < 0) <| ck (zc h1 + 3 ≤ zLC ∧ zs h1 + 54 ≤ zLS) <| nm (zga h1 3 54) fun h5 => some ((), h5)
set_option maxHeartbeats 4000000 in
theorem tX26_initTn {l : Launch} {D : va_G} {tA : Nat → ClassId} {B : Nat} {kn : State → Prop} {h hE : Hp} {ad : Nat → Nat} {a0 : Nat} {x1 : Int32} (htr : l.stackTraces = false) (hO_h : zOk h) (t_a0 : zTy h a0 26) (hf : X26_initTn h a0 x1 = some ((), hE)) : zTm l D tA B kn yX26_init cX26_init 2 (Option.none : Option Jvm.ClassFile.FieldType) 8 10272 h ad [.ref (ad a0), .int x1] (fun u => u = ad) "java/lang/NegativeArraySizeException" hE := by
  intro p e s m args below meth c F hnm htab
  show ZW p l e (zRm 8 10272 h) s m args below meth c (zQT D tA B h (fun u => u = ad) "java/lang/NegativeArraySizeException" hE below s) D tA B 2 (zc h) (zs h) ad 0 h [(0, .ref (ad a0)), (1, .int x1)] []
  replace hf := (X26_initTn.eq_1 h a0 x1).symm.trans hf
  refine w_aload_n F dX26_init_0 0 rfl ?_
  replace hf := bd_o hf
  obtain ⟨r2, h1, qh1, hf⟩ := hf
  refine cl_X26_1 F dX26_init_1 hO_h (zEx.rf h) ((zTy.up t_a0 (by decide))) ⟨Nat.le_of_ble_eq_true rfl, Nat.le_of_ble_eq_true rfl⟩ qh1 (Nat.le_of_ble_eq_true rfl) (fun hO_h1 Eh1 => ?_)
  have t_a0 := t_a0.ex Eh1
  refine w_aload_n F dX26_init_4 0 rfl ?_
  refine w_iload_n F dX26_init_5 1 rfl ?_
  replace hf := ck_o hf
  obtain ⟨c3, hf⟩ := hf
  replace hf := ck_o hf
  obtain ⟨c4, hf⟩ := hf
  refine z_newaX F htr c3 dX26_init_6 ⟨Eh1.2.1, Eh1.2.2.1⟩ (by constructor <;> (simp only [zRm]; omega)) (zrm_c Eh1 c4) (Nat.le_of_ble_eq_true rfl) ?_
  replace hf := nm_o hf
  obtain ⟨h5, eh5, hf⟩ := hf
  rw [← eh5]
  have Eh5 : zEx h1 h5 := by rw [eh5]; exact zEx.ga
  have hO_h5 : zOk h5 := by rw [eh5]; exact hO_h1.ga c4
  have t_a0 := t_a0.ex Eh5
  obtain ⟨-, rfl⟩ := ret_o hf
  exact z_out F htab rfl hO_h5 ((Eh1).tr Eh5)
def X27_atTi (h : Hp) (a0 : Nat) (x1 : Int32) : Option (Unit × Hp) :=
  nm (zr h a0 0) fun o1 => dr o1 fun a2 => ck (¬ (0 ≤ x1.toInt ∧ x1.toInt < (zn h a2 : Int))) <| ck (zn h a2 < 2 ^ 31 ∧ zc h + 3 ≤ zLC ∧ zs h + 222 ≤ zLS) <| nm (zga h 3 222) fun h5 => some ((), h5)
set_option maxHeartbeats 4000000 in
theorem tX27_atTi {l : Launch} {D : va_G} {tA : Nat → ClassId} {B : Nat} {kn : State → Prop} {h hE : Hp} {ad : Nat → Nat} {a0 : Nat} {x1 : Int32} (htr : l.stackTraces = false) (hO_h : zOk h) (t_a0 : zTy h a0 27) (hf : X27_atTi h a0 x1 = some ((), hE)) : zTm l D tA B kn yX27_at cX27_at 2 (Option.some Jvm.ClassFile.FieldType.long) 8 10272 h ad [.ref (ad a0), .int x1] (fun u => u = ad) "java/lang/ArrayIndexOutOfBoundsException" hE := by
  intro p e s m args below meth c F hnm htab
  show ZW p l e (zRm 8 10272 h) s m args below meth c (zQT D tA B h (fun u => u = ad) "java/lang/ArrayIndexOutOfBoundsException" hE below s) D tA B 2 (zc h) (zs h) ad 0 h [(0, .ref (ad a0)), (1, .int x1)] []
  replace hf := (X27_atTi.eq_1 h a0 x1).symm.trans hf
  refine w_aload_n F dX27_at_0 0 rfl ?_
  refine gf_X27_7 F dX27_at_1 hO_h (t_a0) ?_
  replace hf := nm_o hf
  obtain ⟨o1, eo1, hf⟩ := hf
  refine w_no eo1 ?_
  have t_o1 : zTo h o1 103 := zTo.rd hO_h (t_a0.1) (zTy.tg t_a0 (by decide)) (t := 27) rfl eo1
  refine w_iload_n F dX27_at_4 1 rfl ?_
  replace hf := dr_o hf
  obtain ⟨a2, ea2, hf⟩ := hf
  subst ea2
  have t_a2 : zTy h a2 103 := t_o1 a2 rfl
  replace hf := ck_o hf
  obtain ⟨c3, hf⟩ := hf
  replace hf := ck_o hf
  obtain ⟨c4, hf⟩ := hf
  refine z_aldX (j := 3) (t := 103) (ty := .boolean) F htr rfl rfl (by decide) (by decide) dX27_at_5 t_a2.1 (zTy.tg t_a2 (by decide)) (fun z => c3 (vp_in_iff.mp z)) c4.1 ⟨(zEx.rf h).2.1, (zEx.rf h).2.2.1⟩ (by constructor <;> (simp only [zRm]; omega)) (zrm_c (zEx.rf h) c4.2) (Nat.le_of_ble_eq_true rfl) ?_
  replace hf := nm_o hf
  obtain ⟨h5, eh5, hf⟩ := hf
  rw [← eh5]
  have Eh5 : zEx h h5 := by rw [eh5]; exact zEx.ga
  have hO_h5 : zOk h5 := by rw [eh5]; exact hO_h.ga c4.2
  have t_a0 := t_a0.ex Eh5
  have t_a2 := t_a2.ex Eh5
  obtain ⟨-, rfl⟩ := ret_o hf
  exact z_out F htab rfl hO_h5 Eh5
def X27_putTi (h : Hp) (a0 : Nat) (x1 : Int32) (x2 : Int64) : Option (Unit × Hp) :=
  nm (zr h a0 0) fun o1 => nm (fun (h2 : Hp) (v3 : Int32) => dr o1 fun a5 => ck (¬ (0 ≤ x1.toInt ∧ x1.toInt < (zn h2 a5 : Int))) <| ck (zn h2 a5 < 2 ^ 31 ∧ zc h2 + 3 ≤ zLC ∧ zs h2 + 222 ≤ zLS) <| nm (zga h2 3 222) fun h8 => some ((), h8)) fun j16_4 => if x2 = (0 : Int64) then (j16_4 h (0 : Int32)) else (j16_4 h (1 : Int32))
set_option maxHeartbeats 4000000 in
theorem tX27_putTi {l : Launch} {D : va_G} {tA : Nat → ClassId} {B : Nat} {kn : State → Prop} {h hE : Hp} {ad : Nat → Nat} {a0 : Nat} {x1 : Int32} {x2 : Int64} (htr : l.stackTraces = false) (hO_h : zOk h) (t_a0 : zTy h a0 27) (hf : X27_putTi h a0 x1 x2 = some ((), hE)) : zTm l D tA B kn yX27_put cX27_put 4 (Option.some Jvm.ClassFile.FieldType.boolean) 8 10272 h ad [.ref (ad a0), .int x1, .long x2] (fun u => u = ad) "java/lang/ArrayIndexOutOfBoundsException" hE := by
  intro p e s m args below meth c F hnm htab
  show ZW p l e (zRm 8 10272 h) s m args below meth c (zQT D tA B h (fun u => u = ad) "java/lang/ArrayIndexOutOfBoundsException" hE below s) D tA B 4 (zc h) (zs h) ad 0 h [(0, .ref (ad a0)), (1, .int x1), (2, .long x2)] []
  replace hf := (X27_putTi.eq_1 h a0 x1 x2).symm.trans hf
  refine w_aload_n F dX27_put_0 0 rfl ?_
  refine gf_X27_7 F dX27_put_1 hO_h (t_a0) ?_
  replace hf := nm_o hf
  obtain ⟨o1, eo1, hf⟩ := hf
  refine w_no eo1 ?_
  have t_o1 : zTo h o1 103 := zTo.rd hO_h (t_a0.1) (zTy.tg t_a0 (by decide)) (t := 27) rfl eo1
  refine w_iload_n F dX27_put_4 1 rfl ?_
  refine w_lload_n F dX27_put_5 2 rfl ?_
  refine w_lconst (v := 0) F dX27_put_6 rfl ?_
  replace hf := nm_o hf
  obtain ⟨j16_4, ej16_4, hf⟩ := hf
  have Jj16_4 : ∀ (h2 : Hp) (v3 : Int32), zOk h2 → zEx h h2 → j16_4 h2 v3 = some ((), hE) → ZW p l e (zRm 8 10272 h) s m args below meth c (zQT D tA B h (fun u => u = ad) "java/lang/ArrayIndexOutOfBoundsException" hE below s) D tA B 4 (zc h) (zs h) ad 16 h2 [] [.int v3, .int x1, va_re ad o1] := by
    clear hf
    intro h2 v3 hO_h2 hX_h2  hf
    have t_o1 := t_o1.ex hX_h2
    subst ej16_4
    replace hf := dr_o hf
    obtain ⟨a5, ea5, hf⟩ := hf
    subst ea5
    have t_a5 : zTy h2 a5 103 := t_o1 a5 rfl
    replace hf := ck_o hf
    obtain ⟨c6, hf⟩ := hf
    replace hf := ck_o hf
    obtain ⟨c7, hf⟩ := hf
    refine z_astX (j := 3) (t := 103) (ty := .boolean) F htr rfl rfl (by decide) (by decide) dX27_put_16 t_a5.1 (zTy.tg t_a5 (by decide)) (fun z => c6 (vp_in_iff.mp z)) c7.1 ⟨hX_h2.2.1, hX_h2.2.2.1⟩ (by constructor <;> (simp only [zRm]; omega)) (zrm_c hX_h2 c7.2) (Nat.le_of_ble_eq_true rfl) ?_
    replace hf := nm_o hf
    obtain ⟨h8, eh8, hf⟩ := hf
    rw [← eh8]
    have Eh8 : zEx h2 h8 := by rw [eh8]; exact zEx.ga
    have hO_h8 : zOk h8 := by rw [eh8]; exact hO_h2.ga c7.2
    have t_a5 := t_a5.ex Eh8
    obtain ⟨-, rfl⟩ := ret_o hf
    exact z_out F htab rfl hO_h8 ((hX_h2).tr Eh8)
  refine w_lcmp_eq (tgt := 15) F dX27_put_7 dX27_put_8 (by decide) (fun c9 => ?_) (fun c9 => ?_)
  · replace hf := if_t c9 hf
    refine w_iconst (v := 0) F dX27_put_15 rfl ?_
    refine z_sub (lv' := []) [] rfl ?_
    exact Jj16_4 h (0 : Int32) hO_h (zEx.rf h)  hf
  · replace hf := if_f c9 hf
    refine w_iconst (v := 1) F dX27_put_11 rfl ?_
    refine w_goto (tgt := 16) F dX27_put_12 (by decide) ?_
    refine z_sub (lv' := []) [] rfl ?_
    exact Jj16_4 h (1 : Int32) hO_h (zEx.rf h)  hf
def X27_initTn (h : Hp) (a0 : Nat) (x1 : Int32) : Option (Unit × Hp) :=
  bd (X22_init h a0) fun _ h1 => ck (x1 < 0) <| ck (zc h1 + 3 ≤ zLC ∧ zs h1 + 54 ≤ zLS) <| nm (zga h1 3 54) fun h5 => some ((), h5)
set_option maxHeartbeats 4000000 in
theorem tX27_initTn {l : Launch} {D : va_G} {tA : Nat → ClassId} {B : Nat} {kn : State → Prop} {h hE : Hp} {ad : Nat → Nat} {a0 : Nat} {x1 : Int32} (htr : l.stackTraces = false) (hO_h : zOk h) (t_a0 : zTy h a0 27) (hf : X27_initTn h a0 x1 = some ((), hE)) : zTm l D tA B kn yX27_init cX27_init 2 (Option.none : Option Jvm.ClassFile.FieldType) 8 10272 h ad [.ref (ad a0), .int x1] (fun u => u = ad) "java/lang/NegativeArraySizeException" hE := by
  intro p e s m args below meth c F hnm htab
  show ZW p l e (zRm 8 10272 h) s m args below meth c (zQT D tA B h (fun u => u = ad) "java/lang/NegativeArraySizeException" hE below s) D tA B 2 (zc h) (zs h) ad 0 h [(0, .ref (ad a0)), (1, .int x1)] []
  replace hf := (X27_initTn.eq_1 h a0 x1).symm.trans hf
  refine w_aload_n F dX27_init_0 0 rfl ?_
  replace hf := bd_o hf
  obtain ⟨r2, h1, qh1, hf⟩ := hf
  refine cl_X27_1 F dX27_init_1 hO_h (zEx.rf h) ((zTy.up t_a0 (by decide))) ⟨Nat.le_of_ble_eq_true rfl, Nat.le_of_ble_eq_true rfl⟩ qh1 (Nat.le_of_ble_eq_true rfl) (fun hO_h1 Eh1 => ?_)
  have t_a0 := t_a0.ex Eh1
  refine w_aload_n F dX27_init_4 0 rfl ?_
  refine w_iload_n F dX27_init_5 1 rfl ?_
  replace hf := ck_o hf
  obtain ⟨c3, hf⟩ := hf
  replace hf := ck_o hf
  obtain ⟨c4, hf⟩ := hf
  refine z_newaX F htr c3 dX27_init_6 ⟨Eh1.2.1, Eh1.2.2.1⟩ (by constructor <;> (simp only [zRm]; omega)) (zrm_c Eh1 c4) (Nat.le_of_ble_eq_true rfl) ?_
  replace hf := nm_o hf
  obtain ⟨h5, eh5, hf⟩ := hf
  rw [← eh5]
  have Eh5 : zEx h1 h5 := by rw [eh5]; exact zEx.ga
  have hO_h5 : zOk h5 := by rw [eh5]; exact hO_h1.ga c4
  have t_a0 := t_a0.ex Eh5
  obtain ⟨-, rfl⟩ := ret_o hf
  exact z_out F htab rfl hO_h5 ((Eh1).tr Eh5)
def V22_atTi (h : Hp) (a0 : Nat) (x1 : Int32) : Option (Unit × Hp) :=
  if zt h a0 = 23 then X23_atTi h a0 x1 else if zt h a0 = 24 then X24_atTi h a0 x1 else if zt h a0 = 25 then X25_atTi h a0 x1 else if zt h a0 = 26 then X26_atTi h a0 x1 else if zt h a0 = 27 then X27_atTi h a0 x1 else none
theorem V22_atTi_23 {h : Hp} {a0 : Nat} {x1 : Int32} (ht : zt h a0 = 23) : V22_atTi h a0 x1 = X23_atTi h a0 x1 := by
  unfold V22_atTi
  rw [ht]
  rfl
theorem V22_atTi_24 {h : Hp} {a0 : Nat} {x1 : Int32} (ht : zt h a0 = 24) : V22_atTi h a0 x1 = X24_atTi h a0 x1 := by
  unfold V22_atTi
  rw [ht]
  rfl
theorem V22_atTi_25 {h : Hp} {a0 : Nat} {x1 : Int32} (ht : zt h a0 = 25) : V22_atTi h a0 x1 = X25_atTi h a0 x1 := by
  unfold V22_atTi
  rw [ht]
  rfl
theorem V22_atTi_26 {h : Hp} {a0 : Nat} {x1 : Int32} (ht : zt h a0 = 26) : V22_atTi h a0 x1 = X26_atTi h a0 x1 := by
  unfold V22_atTi
  rw [ht]
  rfl
theorem V22_atTi_27 {h : Hp} {a0 : Nat} {x1 : Int32} (ht : zt h a0 = 27) : V22_atTi h a0 x1 = X27_atTi h a0 x1 := by
  unfold V22_atTi
  rw [ht]
  rfl

def V22_putTi (h : Hp) (a0 : Nat) (x1 : Int32) (x2 : Int64) : Option (Unit × Hp) :=
  if zt h a0 = 23 then X23_putTi h a0 x1 x2 else if zt h a0 = 24 then X24_putTi h a0 x1 x2 else if zt h a0 = 25 then X25_putTi h a0 x1 x2 else if zt h a0 = 26 then X26_putTi h a0 x1 x2 else if zt h a0 = 27 then X27_putTi h a0 x1 x2 else none
theorem V22_putTi_23 {h : Hp} {a0 : Nat} {x1 : Int32} {x2 : Int64} (ht : zt h a0 = 23) : V22_putTi h a0 x1 x2 = X23_putTi h a0 x1 x2 := by
  unfold V22_putTi
  rw [ht]
  rfl
theorem V22_putTi_24 {h : Hp} {a0 : Nat} {x1 : Int32} {x2 : Int64} (ht : zt h a0 = 24) : V22_putTi h a0 x1 x2 = X24_putTi h a0 x1 x2 := by
  unfold V22_putTi
  rw [ht]
  rfl
theorem V22_putTi_25 {h : Hp} {a0 : Nat} {x1 : Int32} {x2 : Int64} (ht : zt h a0 = 25) : V22_putTi h a0 x1 x2 = X25_putTi h a0 x1 x2 := by
  unfold V22_putTi
  rw [ht]
  rfl
theorem V22_putTi_26 {h : Hp} {a0 : Nat} {x1 : Int32} {x2 : Int64} (ht : zt h a0 = 26) : V22_putTi h a0 x1 x2 = X26_putTi h a0 x1 x2 := by
  unfold V22_putTi
  rw [ht]
  rfl
theorem V22_putTi_27 {h : Hp} {a0 : Nat} {x1 : Int32} {x2 : Int64} (ht : zt h a0 = 27) : V22_putTi h a0 x1 x2 = X27_putTi h a0 x1 x2 := by
  unfold V22_putTi
  rw [ht]
  rfl

theorem ct_X0_452n {p : Program} {l : Launch} {e : Env} {s : State} {m : MethodId} {args : Array Value} {below : List Frame} {meth : Method} {c : Code} {Q : State → Prop} {D : va_G} {tA : Nat → ClassId} {B nL : Nat} {ad : Nat → Nat} {kn : State → Prop} {cc : ByteArray} {ret : Option FieldType} {pc : Nat} {h : Hp} {lv : List (Nat × Value)} {Fr Lo : Nat} {h0 h1 : Hp} {rest : List Value} {a0 : Nat} {x1 : Int32} (F : ZF p s m args meth c D tA B nL kn RX0 cc ret) (htr : l.stackTraces = false) (hd : decode cc pc = .ok (.invokespecial 452, 3)) (hO : zOk h) (hE : zEx h0 h) (t_a0 : zTy h a0 23) (hR : 8 + 1 ≤ (zRm Fr Lo h0).frames ∧ 16 + (2 + 11) + 10272 ≤ (zRm Fr Lo h0).locals) (hf : X23_initTn h a0 x1 = some ((), h1)) (hr : (rest.map fun v => v.category).sum ≤ 16) (kk : ∀ u, (fun u => u = ad) u → zOk h1 → zEx h h1 → ZT p l e (zRm Fr Lo h0) s m args below meth c Q D tA B nL (zc h0) (zs h0) u "java/lang/NegativeArraySizeException" pc h1 lv) : ZW p l e (zRm Fr Lo h0) s m args below meth c Q D tA B nL (zc h0) (zs h0) ad pc h lv (.int x1 :: .ref (ad a0) :: rest) := 
  z_thrI F (tX23_initTn htr hO t_a0 hf) (zCw.of 1 F.ts q1320 q130 (by decide +kernel) hR) (by decide +kernel) (Nat.le_of_ble_eq_true rfl) q1318 rfl q1319 rfl hr hd ⟨hE.2.1, hE.2.2.1⟩ (z_fit hE hO) kk
theorem ct_X0_457n {p : Program} {l : Launch} {e : Env} {s : State} {m : MethodId} {args : Array Value} {below : List Frame} {meth : Method} {c : Code} {Q : State → Prop} {D : va_G} {tA : Nat → ClassId} {B nL : Nat} {ad : Nat → Nat} {kn : State → Prop} {cc : ByteArray} {ret : Option FieldType} {pc : Nat} {h : Hp} {lv : List (Nat × Value)} {Fr Lo : Nat} {h0 h1 : Hp} {rest : List Value} {a0 : Nat} {x1 : Int32} (F : ZF p s m args meth c D tA B nL kn RX0 cc ret) (htr : l.stackTraces = false) (hd : decode cc pc = .ok (.invokespecial 457, 3)) (hO : zOk h) (hE : zEx h0 h) (t_a0 : zTy h a0 24) (hR : 8 + 1 ≤ (zRm Fr Lo h0).frames ∧ 16 + (2 + 11) + 10272 ≤ (zRm Fr Lo h0).locals) (hf : X24_initTn h a0 x1 = some ((), h1)) (hr : (rest.map fun v => v.category).sum ≤ 16) (kk : ∀ u, (fun u => u = ad) u → zOk h1 → zEx h h1 → ZT p l e (zRm Fr Lo h0) s m args below meth c Q D tA B nL (zc h0) (zs h0) u "java/lang/NegativeArraySizeException" pc h1 lv) : ZW p l e (zRm Fr Lo h0) s m args below meth c Q D tA B nL (zc h0) (zs h0) ad pc h lv (.int x1 :: .ref (ad a0) :: rest) := 
  z_thrI F (tX24_initTn htr hO t_a0 hf) (zCw.of 1 F.ts q1333 q131 (by decide +kernel) hR) (by decide +kernel) (Nat.le_of_ble_eq_true rfl) q1331 rfl q1332 rfl hr hd ⟨hE.2.1, hE.2.2.1⟩ (z_fit hE hO) kk
theorem ct_X0_460n {p : Program} {l : Launch} {e : Env} {s : State} {m : MethodId} {args : Array Value} {below : List Frame} {meth : Method} {c : Code} {Q : State → Prop} {D : va_G} {tA : Nat → ClassId} {B nL : Nat} {ad : Nat → Nat} {kn : State → Prop} {cc : ByteArray} {ret : Option FieldType} {pc : Nat} {h : Hp} {lv : List (Nat × Value)} {Fr Lo : Nat} {h0 h1 : Hp} {rest : List Value} {a0 : Nat} {x1 : Int32} (F : ZF p s m args meth c D tA B nL kn RX0 cc ret) (htr : l.stackTraces = false) (hd : decode cc pc = .ok (.invokespecial 460, 3)) (hO : zOk h) (hE : zEx h0 h) (t_a0 : zTy h a0 25) (hR : 8 + 1 ≤ (zRm Fr Lo h0).frames ∧ 16 + (2 + 11) + 10272 ≤ (zRm Fr Lo h0).locals) (hf : X25_initTn h a0 x1 = some ((), h1)) (hr : (rest.map fun v => v.category).sum ≤ 16) (kk : ∀ u, (fun u => u = ad) u → zOk h1 → zEx h h1 → ZT p l e (zRm Fr Lo h0) s m args below meth c Q D tA B nL (zc h0) (zs h0) u "java/lang/NegativeArraySizeException" pc h1 lv) : ZW p l e (zRm Fr Lo h0) s m args below meth c Q D tA B nL (zc h0) (zs h0) ad pc h lv (.int x1 :: .ref (ad a0) :: rest) := 
  z_thrI F (tX25_initTn htr hO t_a0 hf) (zCw.of 1 F.ts q1344 q132 (by decide +kernel) hR) (by decide +kernel) (Nat.le_of_ble_eq_true rfl) q1342 rfl q1343 rfl hr hd ⟨hE.2.1, hE.2.2.1⟩ (z_fit hE hO) kk
theorem ct_X0_463n {p : Program} {l : Launch} {e : Env} {s : State} {m : MethodId} {args : Array Value} {below : List Frame} {meth : Method} {c : Code} {Q : State → Prop} {D : va_G} {tA : Nat → ClassId} {B nL : Nat} {ad : Nat → Nat} {kn : State → Prop} {cc : ByteArray} {ret : Option FieldType} {pc : Nat} {h : Hp} {lv : List (Nat × Value)} {Fr Lo : Nat} {h0 h1 : Hp} {rest : List Value} {a0 : Nat} {x1 : Int32} (F : ZF p s m args meth c D tA B nL kn RX0 cc ret) (htr : l.stackTraces = false) (hd : decode cc pc = .ok (.invokespecial 463, 3)) (hO : zOk h) (hE : zEx h0 h) (t_a0 : zTy h a0 26) (hR : 8 + 1 ≤ (zRm Fr Lo h0).frames ∧ 16 + (2 + 11) + 10272 ≤ (zRm Fr Lo h0).locals) (hf : X26_initTn h a0 x1 = some ((), h1)) (hr : (rest.map fun v => v.category).sum ≤ 16) (kk : ∀ u, (fun u => u = ad) u → zOk h1 → zEx h h1 → ZT p l e (zRm Fr Lo h0) s m args below meth c Q D tA B nL (zc h0) (zs h0) u "java/lang/NegativeArraySizeException" pc h1 lv) : ZW p l e (zRm Fr Lo h0) s m args below meth c Q D tA B nL (zc h0) (zs h0) ad pc h lv (.int x1 :: .ref (ad a0) :: rest) := 
  z_thrI F (tX26_initTn htr hO t_a0 hf) (zCw.of 1 F.ts q1354 q133 (by decide +kernel) hR) (by decide +kernel) (Nat.le_of_ble_eq_true rfl) q1352 rfl q1353 rfl hr hd ⟨hE.2.1, hE.2.2.1⟩ (z_fit hE hO) kk
theorem ct_X0_466n {p : Program} {l : Launch} {e : Env} {s : State} {m : MethodId} {args : Array Value} {below : List Frame} {meth : Method} {c : Code} {Q : State → Prop} {D : va_G} {tA : Nat → ClassId} {B nL : Nat} {ad : Nat → Nat} {kn : State → Prop} {cc : ByteArray} {ret : Option FieldType} {pc : Nat} {h : Hp} {lv : List (Nat × Value)} {Fr Lo : Nat} {h0 h1 : Hp} {rest : List Value} {a0 : Nat} {x1 : Int32} (F : ZF p s m args meth c D tA B nL kn RX0 cc ret) (htr : l.stackTraces = false) (hd : decode cc pc = .ok (.invokespecial 466, 3)) (hO : zOk h) (hE : zEx h0 h) (t_a0 : zTy h a0 27) (hR : 8 + 1 ≤ (zRm Fr Lo h0).frames ∧ 16 + (2 + 11) + 10272 ≤ (zRm Fr Lo h0).locals) (hf : X27_initTn h a0 x1 = some ((), h1)) (hr : (rest.map fun v => v.category).sum ≤ 16) (kk : ∀ u, (fun u => u = ad) u → zOk h1 → zEx h h1 → ZT p l e (zRm Fr Lo h0) s m args below meth c Q D tA B nL (zc h0) (zs h0) u "java/lang/NegativeArraySizeException" pc h1 lv) : ZW p l e (zRm Fr Lo h0) s m args below meth c Q D tA B nL (zc h0) (zs h0) ad pc h lv (.int x1 :: .ref (ad a0) :: rest) := 
  z_thrI F (tX27_initTn htr hO t_a0 hf) (zCw.of 1 F.ts q1364 q134 (by decide +kernel) hR) (by decide +kernel) (Nat.le_of_ble_eq_true rfl) q1362 rfl q1363 rfl hr hd ⟨hE.2.1, hE.2.2.1⟩ (z_fit hE hO) kk
def X0_newRowTn (h : Hp) (x0 : Int32) (x1 : Int32) : Option (Unit × Hp) :=
  if x0 = (0 : Int32) then (ck (zc h + 1 ≤ zLC ∧ zs h + 1 ≤ zLS) <| nm (zx h) fun a3 => nm (zne h 23 0 1) fun h4 => bd (X23_initTn h4 a3 x1) fun _ h5 => some ((), h5)) else if x0 = (1 : Int32) then (ck (zc h + 1 ≤ zLC ∧ zs h + 1 ≤ zLS) <| nm (zx h) fun a8 => nm (zne h 24 0 1) fun h9 => bd (X24_initTn h9 a8 x1) fun _ h10 => some ((), h10)) else if x0 = (2 : Int32) then (ck (zc h + 1 ≤ zLC ∧ zs h + 1 ≤ zLS) <| nm (zx h) fun a13 => nm (zne h 25 0 1) fun h14 => bd (X25_initTn h14 a13 x1) fun _ h15 => some ((), h15)) else if x0 = (3 : Int32) then (ck (zc h + 1 ≤ zLC ∧ zs h + 1 ≤ zLS) <| nm (zx h) fun a18 => nm (zne h 26 0 1) fun h19 => bd (X26_initTn h19 a18 x1) fun _ h20 => some ((), h20)) else (ck (zc h + 1 ≤ zLC ∧ zs h + 1 ≤ zLS) <| nm (zx h) fun a22 => nm (zne h 27 0 1) fun h23 => bd (X27_initTn h23 a22 x1) fun _ h24 => some ((), h24))
set_option maxHeartbeats 4000000 in
theorem tX0_newRowTn {l : Launch} {D : va_G} {tA : Nat → ClassId} {B : Nat} {kn : State → Prop} {h hE : Hp} {ad : Nat → Nat} {x0 : Int32} {x1 : Int32} (htr : l.stackTraces = false) (hO_h : zOk h)  (hf : X0_newRowTn h x0 x1 = some ((), hE)) : zTm l D tA B kn yX0_newRow cX0_newRow 2 (Option.some (Jvm.ClassFile.FieldType.object "ThreeSnowballs$Row")) 9 10301 h ad [.int x0, .int x1] (fun u => zA h ad u) "java/lang/NegativeArraySizeException" hE := by
  intro p e s m args below meth c F hnm htab
  show ZW p l e (zRm 9 10301 h) s m args below meth c (zQT D tA B h (fun u => zA h ad u) "java/lang/NegativeArraySizeException" hE below s) D tA B 2 (zc h) (zs h) ad 0 h [(0, .int x0), (1, .int x1)] []
  replace hf := (X0_newRowTn.eq_1 h x0 x1).symm.trans hf
  refine w_iload_n F dX0_newRow_0 0 rfl ?_
  by_cases c1 : x0 = (0 : Int32)
  · replace hf := if_t c1 hf
    refine w_tsw (v := 0) (off := 31) (tgt := 32) F dX0_newRow_1 c1 (by decide) (by decide) (by decide) ?_
    replace hf := ck_o hf
    obtain ⟨c2, hf⟩ := hf
    refine z_new (ci := 23) F hO_h.1 ⟨(zEx.rf h).2.1, (zEx.rf h).2.2.1⟩ rfl (by decide) in_X23 tyX23_ok (by decide) q467 q1317 q130 (z_lim1 (zEx.rf h) c2) dX0_newRow_32 (fun ad_h4 hA_h4 => ?_)
    replace hf := nm_o hf
    obtain ⟨a3, ea3, hf⟩ := hf
    rw [← ea3]
    replace hf := nm_o hf
    obtain ⟨h4, eh4, hf⟩ := hf
    refine w_nh eh4 ?_
    have Eh4 : zEx h h4 := by rw [eh4]; exact zEx.ne
    have hO_h4 : zOk h4 := by rw [eh4]; exact hO_h.ne (by decide) c2
    have t_a3 : zTy h4 a3 23 := by rw [eh4, ea3]; exact zTy.new (by decide)
    refine w_dup F dX0_newRow_35 rfl ?_
    refine w_iload_n F dX0_newRow_36 1 rfl ?_
    replace hf := bd_o hf
    obtain ⟨_, h5, qh5, hf⟩ := hf
    refine ct_X0_452n F htr dX0_newRow_37 hO_h4 Eh4 (t_a3) (by constructor <;> (simp only [zRm]; omega)) qh5 (Nat.le_of_ble_eq_true rfl) (fun ad_h5 hA_h5 hO_h5 Eh5 => ?_)
    replace hA_h5 := Eq.symm hA_h5
    subst hA_h5
    have t_a3 := t_a3.ex Eh5
    obtain ⟨-, rfl⟩ := ret_o hf
    exact z_out F htab hA_h4 hO_h5 ((Eh4).tr Eh5)
  · replace hf := if_f c1 hf
    by_cases c6 : x0 = (1 : Int32)
    · replace hf := if_t c6 hf
      refine w_tsw (v := 1) (off := 40) (tgt := 41) F dX0_newRow_1 c6 (by decide) (by decide) (by decide) ?_
      replace hf := ck_o hf
      obtain ⟨c7, hf⟩ := hf
      refine z_new (ci := 24) F hO_h.1 ⟨(zEx.rf h).2.1, (zEx.rf h).2.2.1⟩ rfl (by decide) in_X24 tyX24_ok (by decide) q1329 q1330 q131 (z_lim1 (zEx.rf h) c7) dX0_newRow_41 (fun ad_h9 hA_h9 => ?_)
      replace hf := nm_o hf
      obtain ⟨a8, ea8, hf⟩ := hf
      rw [← ea8]
      replace hf := nm_o hf
      obtain ⟨h9, eh9, hf⟩ := hf
      refine w_nh eh9 ?_
      have Eh9 : zEx h h9 := by rw [eh9]; exact zEx.ne
      have hO_h9 : zOk h9 := by rw [eh9]; exact hO_h.ne (by decide) c7
      have t_a8 : zTy h9 a8 24 := by rw [eh9, ea8]; exact zTy.new (by decide)
      refine w_dup F dX0_newRow_44 rfl ?_
      refine w_iload_n F dX0_newRow_45 1 rfl ?_
      replace hf := bd_o hf
      obtain ⟨_, h10, qh10, hf⟩ := hf
      refine ct_X0_457n F htr dX0_newRow_46 hO_h9 Eh9 (t_a8) (by constructor <;> (simp only [zRm]; omega)) qh10 (Nat.le_of_ble_eq_true rfl) (fun ad_h10 hA_h10 hO_h10 Eh10 => ?_)
      replace hA_h10 := Eq.symm hA_h10
      subst hA_h10
      have t_a8 := t_a8.ex Eh10
      obtain ⟨-, rfl⟩ := ret_o hf
      exact z_out F htab hA_h9 hO_h10 ((Eh9).tr Eh10)
    · replace hf := if_f c6 hf
      by_cases c11 : x0 = (2 : Int32)
      · replace hf := if_t c11 hf
        refine w_tsw (v := 2) (off := 49) (tgt := 50) F dX0_newRow_1 c11 (by decide) (by decide) (by decide) ?_
        replace hf := ck_o hf
        obtain ⟨c12, hf⟩ := hf
        refine z_new (ci := 25) F hO_h.1 ⟨(zEx.rf h).2.1, (zEx.rf h).2.2.1⟩ rfl (by decide) in_X25 tyX25_ok (by decide) q1340 q1341 q132 (z_lim1 (zEx.rf h) c12) dX0_newRow_50 (fun ad_h14 hA_h14 => ?_)
        replace hf := nm_o hf
        obtain ⟨a13, ea13, hf⟩ := hf
        rw [← ea13]
        replace hf := nm_o hf
        obtain ⟨h14, eh14, hf⟩ := hf
        refine w_nh eh14 ?_
        have Eh14 : zEx h h14 := by rw [eh14]; exact zEx.ne
        have hO_h14 : zOk h14 := by rw [eh14]; exact hO_h.ne (by decide) c12
        have t_a13 : zTy h14 a13 25 := by rw [eh14, ea13]; exact zTy.new (by decide)
        refine w_dup F dX0_newRow_53 rfl ?_
        refine w_iload_n F dX0_newRow_54 1 rfl ?_
        replace hf := bd_o hf
        obtain ⟨_, h15, qh15, hf⟩ := hf
        refine ct_X0_460n F htr dX0_newRow_55 hO_h14 Eh14 (t_a13) (by constructor <;> (simp only [zRm]; omega)) qh15 (Nat.le_of_ble_eq_true rfl) (fun ad_h15 hA_h15 hO_h15 Eh15 => ?_)
        replace hA_h15 := Eq.symm hA_h15
        subst hA_h15
        have t_a13 := t_a13.ex Eh15
        obtain ⟨-, rfl⟩ := ret_o hf
        exact z_out F htab hA_h14 hO_h15 ((Eh14).tr Eh15)
      · replace hf := if_f c11 hf
        by_cases c16 : x0 = (3 : Int32)
        · replace hf := if_t c16 hf
          refine w_tsw (v := 3) (off := 58) (tgt := 59) F dX0_newRow_1 c16 (by decide) (by decide) (by decide) ?_
          replace hf := ck_o hf
          obtain ⟨c17, hf⟩ := hf
          refine z_new (ci := 26) F hO_h.1 ⟨(zEx.rf h).2.1, (zEx.rf h).2.2.1⟩ rfl (by decide) in_X26 tyX26_ok (by decide) q1350 q1351 q133 (z_lim1 (zEx.rf h) c17) dX0_newRow_59 (fun ad_h19 hA_h19 => ?_)
          replace hf := nm_o hf
          obtain ⟨a18, ea18, hf⟩ := hf
          rw [← ea18]
          replace hf := nm_o hf
          obtain ⟨h19, eh19, hf⟩ := hf
          refine w_nh eh19 ?_
          have Eh19 : zEx h h19 := by rw [eh19]; exact zEx.ne
          have hO_h19 : zOk h19 := by rw [eh19]; exact hO_h.ne (by decide) c17
          have t_a18 : zTy h19 a18 26 := by rw [eh19, ea18]; exact zTy.new (by decide)
          refine w_dup F dX0_newRow_62 rfl ?_
          refine w_iload_n F dX0_newRow_63 1 rfl ?_
          replace hf := bd_o hf
          obtain ⟨_, h20, qh20, hf⟩ := hf
          refine ct_X0_463n F htr dX0_newRow_64 hO_h19 Eh19 (t_a18) (by constructor <;> (simp only [zRm]; omega)) qh20 (Nat.le_of_ble_eq_true rfl) (fun ad_h20 hA_h20 hO_h20 Eh20 => ?_)
          replace hA_h20 := Eq.symm hA_h20
          subst hA_h20
          have t_a18 := t_a18.ex Eh20
          obtain ⟨-, rfl⟩ := ret_o hf
          exact z_out F htab hA_h19 hO_h20 ((Eh19).tr Eh20)
        · replace hf := if_f c16 hf
          refine w_tswD (tgt := 68) F dX0_newRow_1 (zsw_out (zsw_cons (v := 0) c1 (zsw_cons (v := 1) c6 (zsw_cons (v := 2) c11 (zsw_cons (v := 3) c16 zsw_nil)))) (by decide)) (by decide) ?_
          replace hf := ck_o hf
          obtain ⟨c21, hf⟩ := hf
          refine z_new (ci := 27) F hO_h.1 ⟨(zEx.rf h).2.1, (zEx.rf h).2.2.1⟩ rfl (by decide) in_X27 tyX27_ok (by decide) q1360 q1361 q134 (z_lim1 (zEx.rf h) c21) dX0_newRow_68 (fun ad_h23 hA_h23 => ?_)
          replace hf := nm_o hf
          obtain ⟨a22, ea22, hf⟩ := hf
          rw [← ea22]
          replace hf := nm_o hf
          obtain ⟨h23, eh23, hf⟩ := hf
          refine w_nh eh23 ?_
          have Eh23 : zEx h h23 := by rw [eh23]; exact zEx.ne
          have hO_h23 : zOk h23 := by rw [eh23]; exact hO_h.ne (by decide) c21
          have t_a22 : zTy h23 a22 27 := by rw [eh23, ea22]; exact zTy.new (by decide)
          refine w_dup F dX0_newRow_71 rfl ?_
          refine w_iload_n F dX0_newRow_72 1 rfl ?_
          replace hf := bd_o hf
          obtain ⟨_, h24, qh24, hf⟩ := hf
          refine ct_X0_466n F htr dX0_newRow_73 hO_h23 Eh23 (t_a22) (by constructor <;> (simp only [zRm]; omega)) qh24 (Nat.le_of_ble_eq_true rfl) (fun ad_h24 hA_h24 hO_h24 Eh24 => ?_)
          replace hA_h24 := Eq.symm hA_h24
          subst hA_h24
          have t_a22 := t_a22.ex Eh24
          obtain ⟨-, rfl⟩ := ret_o hf
          exact z_out F htab hA_h23 hO_h24 ((Eh23).tr Eh24)
theorem ky_X23_8 {p : Program} {l : Launch} {e : Env} {R : Room} {s : State} {m : MethodId} {args : Array Value} {below : List Frame} {meth : Method} {c : Code} {Q : State → Prop} {D : va_G} {tA : Nat → ClassId} {B nL c0 s0 : Nat} {ad : Nat → Nat} {kn : State → Prop} {cc : ByteArray} {ret : Option FieldType} {pc : Nat} {h : Hp} {lv : List (Nat × Value)} {st : List Value} {o : Option Nat} (F : ZF p s m args meth c D tA B nL kn RX23 cc ret) (hd : decode cc pc = .ok (.checkcast 8, 3)) (t : zTo h o 53) (hcs : zcs 23 h o = true) (kk : ZW p l e R s m args below meth c Q D tA B nL c0 s0 ad (pc + 3) h lv (va_re ad o :: st)) : ZW p l e R s m args below meth c Q D tA B nL c0 s0 ad pc h lv (va_re ad o :: st) := by
  cases o with
  | none => exact z_cast0 F hd kk
  | some a =>
    have hm : zt h a ∈ [23, 24, 25, 26, 27] := (t a rfl).fam (by decide)
    simp only [List.mem_cons, List.not_mem_nil, or_false] at hm
    rcases hm with ht | ht | ht | ht | ht
    · exact z_castY (ci := 23) (nm := "ThreeSnowballs$ByteRow") F rfl (by decide) (t a rfl).1 ht q1431 (Or.inl rfl) hd kk
    · exact absurd hcs (by show ¬ zsub 23 (zt h a) = true; rw [ht]; decide)
    · exact absurd hcs (by show ¬ zsub 23 (zt h a) = true; rw [ht]; decide)
    · exact absurd hcs (by show ¬ zsub 23 (zt h a) = true; rw [ht]; decide)
    · exact absurd hcs (by show ¬ zsub 23 (zt h a) = true; rw [ht]; decide)
theorem kn_X23_8 {p : Program} {l : Launch} {e : Env} {R : Room} {s : State} {m : MethodId} {args : Array Value} {below : List Frame} {meth : Method} {c : Code} {Q : State → Prop} {D : va_G} {tA : Nat → ClassId} {B nL c0 s0 : Nat} {ad : Nat → Nat} {kn : State → Prop} {cc : ByteArray} {ret : Option FieldType} {pc : Nat} {h : Hp} {lv : List (Nat × Value)} {st : List Value} {o : Option Nat} (F : ZF p s m args meth c D tA B nL kn RX23 cc ret) (htr : l.stackTraces = false) (hd : decode cc pc = .ok (.checkcast 8, 3)) (t : zTo h o 53) (hcs : zcs 23 h o = false) (hm2 : c0 ≤ zc h ∧ s0 ≤ zs h) (hR : 8 ≤ R.frames ∧ 10272 ≤ R.locals) (hRc : (zc h - c0) + 3 ≤ R.cells ∧ (zs h - s0) + 1210 ≤ R.slots) (hst : (st.map fun v => v.category).sum ≤ 15) (kk : ZT p l e R s m args below meth c Q D tA B nL c0 s0 ad "java/lang/ClassCastException" pc (zga h 3 1210) lv) : ZW p l e R s m args below meth c Q D tA B nL c0 s0 ad pc h lv (va_re ad o :: st) := by
  cases o with
  | none => cases hcs
  | some a =>
    have hm : zt h a ∈ [23, 24, 25, 26, 27] := (t a rfl).fam (by decide)
    simp only [List.mem_cons, List.not_mem_nil, or_false] at hm
    rcases hm with ht | ht | ht | ht | ht
    · exact absurd hcs (by show ¬ zsub 23 (zt h a) = false; rw [ht]; decide)
    · exact z_castX (ci := 24) (nm := "ThreeSnowballs$ByteRow") F htr rfl (by decide) (t a rfl).1 ht q1431 (by decide +kernel) (by decide +kernel) (by decide +kernel) hd hm2 hR hRc hst kk
    · exact z_castX (ci := 25) (nm := "ThreeSnowballs$ByteRow") F htr rfl (by decide) (t a rfl).1 ht q1431 (by decide +kernel) (by decide +kernel) (by decide +kernel) hd hm2 hR hRc hst kk
    · exact z_castX (ci := 26) (nm := "ThreeSnowballs$ByteRow") F htr rfl (by decide) (t a rfl).1 ht q1431 (by decide +kernel) (by decide +kernel) (by decide +kernel) hd hm2 hR hRc hst kk
    · exact z_castX (ci := 27) (nm := "ThreeSnowballs$ByteRow") F htr rfl (by decide) (t a rfl).1 ht q1431 (by decide +kernel) (by decide +kernel) (by decide +kernel) hd hm2 hR hRc hst kk
def X23_copy (h : Hp) (a0 : Nat) (x1 : Int32) (x2 : Option Nat) (x3 : Int32) (x4 : Int32) : Option (Unit × Hp) :=
  nm (zr h a0 0) fun o1 => ck (zcs 23 h x2 = true) <| dr x2 fun a3 => nm (zr h a3 0) fun o4 => dr o4 fun a5 => dr o1 fun a6 => ck ((¬ x1 < 0 ∧ ¬ x3 < 0 ∧ ¬ x4 < 0 ∧ x1.toInt + x4.toInt ≤ zn h a6 ∧ x3.toInt + x4.toInt ≤ zn h a5) ∧ zcf .byte h a6 x1.toNatClampNeg x4.toNatClampNeg = true) <| nm (zai h a5 (va_cpy (zi h a6) (zi h a5) x1.toNatClampNeg x3.toNatClampNeg x4.toNatClampNeg)) fun h8 => some ((), h8)
set_option maxHeartbeats 4000000 in
theorem mX23_copy {l : Launch} {D : va_G} {tA : Nat → ClassId} {B : Nat} {kn : State → Prop} {h hE : Hp} {ad : Nat → Nat} {a0 : Nat} {x1 : Int32} {x2 : Option Nat} {x3 : Int32} {x4 : Int32} (hkp : zKp D tA B kn) (hO_h : zOk h) (t_a0 : zTy h a0 23) (t_x2 : zTo h x2 53) (hf : X23_copy h a0 x1 x2 x3 x4 = some ((), hE)) : zM l D tA B kn yX23_copy (ws_ yX23_copy cX23_copy 5 (Option.none : Option Jvm.ClassFile.FieldType)) 10 10372 h ad [.ref (ad a0), .int x1, va_re ad x2, .int x3, .int x4] hE (zQv D tA B h ad hE) := by
  refine zM_of hkp (by decide +kernel) (by cases x2 <;> exact Nat.le_of_ble_eq_true rfl) ?_
  intro p e s m args below meth c F hnm
  rw [show lv_args 0 [.ref (ad a0), .int x1, va_re ad x2, .int x3, .int x4] = [(0, .ref (ad a0)), (1, .int x1), (2, va_re ad x2), (3, .int x3), (4, .int x4)] from by cases x2 <;> rfl]
  show ZW p l e (zRm 10 10372 h) s m args below meth c (MQ below (zQv D tA B h ad hE) args s (zc hE - zc h) (zs hE - zs h) (fun q => B ≤ q)) D tA B 5 (zc h) (zs h) ad 0 h [(0, .ref (ad a0)), (1, .int x1), (2, va_re ad x2), (3, .int x3), (4, .int x4)] []
  replace hf := (X23_copy.eq_1 h a0 x1 x2 x3 x4).symm.trans hf
  refine w_aload_n F dX23_copy_0 0 rfl ?_
  refine gf_X23_7 F dX23_copy_1 hO_h (t_a0) ?_
  replace hf := nm_o hf
  obtain ⟨o1, eo1, hf⟩ := hf
  refine w_no eo1 ?_
  have t_o1 : zTo h o1 101 := zTo.rd hO_h (t_a0.1) (zTy.tg t_a0 (by decide)) (t := 23) rfl eo1
  refine w_iload_n F dX23_copy_4 1 rfl ?_
  refine w_aloado_n F dX23_copy_5 2 rfl ?_
  replace hf := ck_o hf
  obtain ⟨c2, hf⟩ := hf
  refine ky_X23_8 (o := x2) F dX23_copy_6 t_x2 c2 ?_
  have t_x2 : zTo h x2 23 := zcs_t t_x2 c2
  replace hf := dr_o hf
  obtain ⟨a3, ea3, hf⟩ := hf
  subst ea3
  have t_a3 : zTy h a3 23 := t_x2 a3 rfl
  refine gf_X23_7 F dX23_copy_9 hO_h (t_a3) ?_
  replace hf := nm_o hf
  obtain ⟨o4, eo4, hf⟩ := hf
  refine w_no eo4 ?_
  have t_o4 : zTo h o4 101 := zTo.rd hO_h (t_a3.1) (zTy.tg t_a3 (by decide)) (t := 23) rfl eo4
  refine w_iload_n F dX23_copy_12 3 rfl ?_
  refine w_iload F dX23_copy_13 4 rfl ?_
  replace hf := dr_o hf
  obtain ⟨a5, ea5, hf⟩ := hf
  subst ea5
  have t_a5 : zTy h a5 101 := t_o4 a5 rfl
  replace hf := dr_o hf
  obtain ⟨a6, ea6, hf⟩ := hf
  subst ea6
  have t_a6 : zTy h a6 101 := t_o1 a6 rfl
  replace hf := ck_o hf
  obtain ⟨c7, hf⟩ := hf
  refine z_acI (j := 1) (t := 101) (ty := .byte) F rfl rfl (by decide) rfl q1432 q1427 q1426 q135 dX23_copy_15 t_a6.1 (zTy.tg t_a6 (by decide)) t_a5.1 (zTy.tg t_a5 (by decide)) c7.1 c7.2 (by constructor <;> (simp only [zRm]; omega)) (Nat.le_of_ble_eq_true rfl) ?_
  replace hf := nm_o hf
  obtain ⟨h8, eh8, hf⟩ := hf
  refine w_nh eh8 ?_
  have Eh8 : zEx h h8 := by rw [eh8]; exact zEx.ai
  have hO_h8 : zOk h8 := by rw [eh8]; exact hO_h.ai
  have t_a0 := t_a0.ex Eh8
  have t_a3 := t_a3.ex Eh8
  have t_a5 := t_a5.ex Eh8
  have t_a6 := t_a6.ex Eh8
  obtain ⟨-, rfl⟩ := ret_o hf
  exact z_vret F dX23_copy_18 hO_h8 Eh8
def X23_copyTc (h : Hp) (a0 : Nat) (x1 : Int32) (x2 : Option Nat) (x3 : Int32) (x4 : Int32) : Option (Unit × Hp) :=
  nm (zr h a0 0) fun o1 => ck (zcs 23 h x2 = false) <| ck (zc h + 3 ≤ zLC ∧ zs h + 1210 ≤ zLS) <| nm (zga h 3 1210) fun h4 => some ((), h4)
set_option maxHeartbeats 4000000 in
theorem tX23_copyTc {l : Launch} {D : va_G} {tA : Nat → ClassId} {B : Nat} {kn : State → Prop} {h hE : Hp} {ad : Nat → Nat} {a0 : Nat} {x1 : Int32} {x2 : Option Nat} {x3 : Int32} {x4 : Int32} (htr : l.stackTraces = false) (hO_h : zOk h) (t_a0 : zTy h a0 23) (t_x2 : zTo h x2 53) (hf : X23_copyTc h a0 x1 x2 x3 x4 = some ((), hE)) : zTm l D tA B kn yX23_copy cX23_copy 5 (Option.none : Option Jvm.ClassFile.FieldType) 10 10372 h ad [.ref (ad a0), .int x1, va_re ad x2, .int x3, .int x4] (fun u => u = ad) "java/lang/ClassCastException" hE := by
  intro p e s m args below meth c F hnm htab
  rw [show lv_args 0 [.ref (ad a0), .int x1, va_re ad x2, .int x3, .int x4] = [(0, .ref (ad a0)), (1, .int x1), (2, va_re ad x2), (3, .int x3), (4, .int x4)] from by cases x2 <;> rfl]
  show ZW p l e (zRm 10 10372 h) s m args below meth c (zQT D tA B h (fun u => u = ad) "java/lang/ClassCastException" hE below s) D tA B 5 (zc h) (zs h) ad 0 h [(0, .ref (ad a0)), (1, .int x1), (2, va_re ad x2), (3, .int x3), (4, .int x4)] []
  replace hf := (X23_copyTc.eq_1 h a0 x1 x2 x3 x4).symm.trans hf
  refine w_aload_n F dX23_copy_0 0 rfl ?_
  refine gf_X23_7 F dX23_copy_1 hO_h (t_a0) ?_
  replace hf := nm_o hf
  obtain ⟨o1, eo1, hf⟩ := hf
  refine w_no eo1 ?_
  have t_o1 : zTo h o1 101 := zTo.rd hO_h (t_a0.1) (zTy.tg t_a0 (by decide)) (t := 23) rfl eo1
  refine w_iload_n F dX23_copy_4 1 rfl ?_
  refine w_aloado_n F dX23_copy_5 2 rfl ?_
  replace hf := ck_o hf
  obtain ⟨c2, hf⟩ := hf
  replace hf := ck_o hf
  obtain ⟨c3, hf⟩ := hf
  refine kn_X23_8 (o := x2) F htr dX23_copy_6 t_x2 c2 ⟨(zEx.rf h).2.1, (zEx.rf h).2.2.1⟩ (by constructor <;> (simp only [zRm]; omega)) (zrm_c (zEx.rf h) c3) (by simp only [List.map_cons, List.map_nil, zcat]; exact Nat.le_of_ble_eq_true rfl) ?_
  replace hf := nm_o hf
  obtain ⟨h4, eh4, hf⟩ := hf
  rw [← eh4]
  have Eh4 : zEx h h4 := by rw [eh4]; exact zEx.ga
  have hO_h4 : zOk h4 := by rw [eh4]; exact hO_h.ga c3
  have t_a0 := t_a0.ex Eh4
  have t_x2 := t_x2.ex Eh4
  have t_o1 := t_o1.ex Eh4
  obtain ⟨-, rfl⟩ := ret_o hf
  exact z_out F htab rfl hO_h4 Eh4
def X23_copyTi (h : Hp) (a0 : Nat) (x1 : Int32) (x2 : Option Nat) (x3 : Int32) (x4 : Int32) : Option (Unit × Hp) :=
  nm (zr h a0 0) fun o1 => ck (zcs 23 h x2 = true) <| dr x2 fun a3 => nm (zr h a3 0) fun o4 => dr o4 fun a5 => dr o1 fun a6 => ck (x1 < 0 ∨ x3 < 0 ∨ x4 < 0 ∨ x1.toInt + x4.toInt > zn h a6 ∨ x3.toInt + x4.toInt > zn h a5) <| ck (zn h a6 < 2 ^ 31 ∧ zn h a5 < 2 ^ 31 ∧ zc h + 3 ≤ zLC ∧ zs h + 490 ≤ zLS) <| nm (zga h 3 490) fun h9 => some ((), h9)
set_option maxHeartbeats 4000000 in
theorem tX23_copyTi {l : Launch} {D : va_G} {tA : Nat → ClassId} {B : Nat} {kn : State → Prop} {h hE : Hp} {ad : Nat → Nat} {a0 : Nat} {x1 : Int32} {x2 : Option Nat} {x3 : Int32} {x4 : Int32} (htr : l.stackTraces = false) (hO_h : zOk h) (t_a0 : zTy h a0 23) (t_x2 : zTo h x2 53) (hf : X23_copyTi h a0 x1 x2 x3 x4 = some ((), hE)) : zTm l D tA B kn yX23_copy cX23_copy 5 (Option.none : Option Jvm.ClassFile.FieldType) 10 10372 h ad [.ref (ad a0), .int x1, va_re ad x2, .int x3, .int x4] (fun u => u = ad) "java/lang/ArrayIndexOutOfBoundsException" hE := by
  intro p e s m args below meth c F hnm htab
  rw [show lv_args 0 [.ref (ad a0), .int x1, va_re ad x2, .int x3, .int x4] = [(0, .ref (ad a0)), (1, .int x1), (2, va_re ad x2), (3, .int x3), (4, .int x4)] from by cases x2 <;> rfl]
  show ZW p l e (zRm 10 10372 h) s m args below meth c (zQT D tA B h (fun u => u = ad) "java/lang/ArrayIndexOutOfBoundsException" hE below s) D tA B 5 (zc h) (zs h) ad 0 h [(0, .ref (ad a0)), (1, .int x1), (2, va_re ad x2), (3, .int x3), (4, .int x4)] []
  replace hf := (X23_copyTi.eq_1 h a0 x1 x2 x3 x4).symm.trans hf
  refine w_aload_n F dX23_copy_0 0 rfl ?_
  refine gf_X23_7 F dX23_copy_1 hO_h (t_a0) ?_
  replace hf := nm_o hf
  obtain ⟨o1, eo1, hf⟩ := hf
  refine w_no eo1 ?_
  have t_o1 : zTo h o1 101 := zTo.rd hO_h (t_a0.1) (zTy.tg t_a0 (by decide)) (t := 23) rfl eo1
  refine w_iload_n F dX23_copy_4 1 rfl ?_
  refine w_aloado_n F dX23_copy_5 2 rfl ?_
  replace hf := ck_o hf
  obtain ⟨c2, hf⟩ := hf
  refine ky_X23_8 (o := x2) F dX23_copy_6 t_x2 c2 ?_
  have t_x2 : zTo h x2 23 := zcs_t t_x2 c2
  replace hf := dr_o hf
  obtain ⟨a3, ea3, hf⟩ := hf
  subst ea3
  have t_a3 : zTy h a3 23 := t_x2 a3 rfl
  refine gf_X23_7 F dX23_copy_9 hO_h (t_a3) ?_
  replace hf := nm_o hf
  obtain ⟨o4, eo4, hf⟩ := hf
  refine w_no eo4 ?_
  have t_o4 : zTo h o4 101 := zTo.rd hO_h (t_a3.1) (zTy.tg t_a3 (by decide)) (t := 23) rfl eo4
  refine w_iload_n F dX23_copy_12 3 rfl ?_
  refine w_iload F dX23_copy_13 4 rfl ?_
  replace hf := dr_o hf
  obtain ⟨a5, ea5, hf⟩ := hf
  subst ea5
  have t_a5 : zTy h a5 101 := t_o4 a5 rfl
  replace hf := dr_o hf
  obtain ⟨a6, ea6, hf⟩ := hf
  subst ea6
  have t_a6 : zTy h a6 101 := t_o1 a6 rfl
  replace hf := ck_o hf
  obtain ⟨c7, hf⟩ := hf
  replace hf := ck_o hf
  obtain ⟨c8, hf⟩ := hf
  refine z_acX (j := 1) (t := 101) (ty := .byte) F htr rfl rfl (by decide) q1432 q1427 q1426 q135 dX23_copy_15 t_a6.1 (zTy.tg t_a6 (by decide)) t_a5.1 (zTy.tg t_a5 (by decide)) c7 c8.1 c8.2.1 ⟨(zEx.rf h).2.1, (zEx.rf h).2.2.1⟩ (by constructor <;> (simp only [zRm]; omega)) (zrm_c (zEx.rf h) c8.2.2) (Nat.le_of_ble_eq_true rfl) ?_
  replace hf := nm_o hf
  obtain ⟨h9, eh9, hf⟩ := hf
  rw [← eh9]
  have Eh9 : zEx h h9 := by rw [eh9]; exact zEx.ga
  have hO_h9 : zOk h9 := by rw [eh9]; exact hO_h.ga c8.2.2
  have t_a0 := t_a0.ex Eh9
  have t_a3 := t_a3.ex Eh9
  have t_a5 := t_a5.ex Eh9
  have t_a6 := t_a6.ex Eh9
  obtain ⟨-, rfl⟩ := ret_o hf
  exact z_out F htab rfl hO_h9 Eh9
theorem ky_X24_8 {p : Program} {l : Launch} {e : Env} {R : Room} {s : State} {m : MethodId} {args : Array Value} {below : List Frame} {meth : Method} {c : Code} {Q : State → Prop} {D : va_G} {tA : Nat → ClassId} {B nL c0 s0 : Nat} {ad : Nat → Nat} {kn : State → Prop} {cc : ByteArray} {ret : Option FieldType} {pc : Nat} {h : Hp} {lv : List (Nat × Value)} {st : List Value} {o : Option Nat} (F : ZF p s m args meth c D tA B nL kn RX24 cc ret) (hd : decode cc pc = .ok (.checkcast 8, 3)) (t : zTo h o 53) (hcs : zcs 24 h o = true) (kk : ZW p l e R s m args below meth c Q D tA B nL c0 s0 ad (pc + 3) h lv (va_re ad o :: st)) : ZW p l e R s m args below meth c Q D tA B nL c0 s0 ad pc h lv (va_re ad o :: st) := by
  cases o with
  | none => exact z_cast0 F hd kk
  | some a =>
    have hm : zt h a ∈ [23, 24, 25, 26, 27] := (t a rfl).fam (by decide)
    simp only [List.mem_cons, List.not_mem_nil, or_false] at hm
    rcases hm with ht | ht | ht | ht | ht
    · exact absurd hcs (by show ¬ zsub 24 (zt h a) = true; rw [ht]; decide)
    · exact z_castY (ci := 24) (nm := "ThreeSnowballs$ShortRow") F rfl (by decide) (t a rfl).1 ht q1446 (Or.inl rfl) hd kk
    · exact absurd hcs (by show ¬ zsub 24 (zt h a) = true; rw [ht]; decide)
    · exact absurd hcs (by show ¬ zsub 24 (zt h a) = true; rw [ht]; decide)
    · exact absurd hcs (by show ¬ zsub 24 (zt h a) = true; rw [ht]; decide)
theorem kn_X24_8 {p : Program} {l : Launch} {e : Env} {R : Room} {s : State} {m : MethodId} {args : Array Value} {below : List Frame} {meth : Method} {c : Code} {Q : State → Prop} {D : va_G} {tA : Nat → ClassId} {B nL c0 s0 : Nat} {ad : Nat → Nat} {kn : State → Prop} {cc : ByteArray} {ret : Option FieldType} {pc : Nat} {h : Hp} {lv : List (Nat × Value)} {st : List Value} {o : Option Nat} (F : ZF p s m args meth c D tA B nL kn RX24 cc ret) (htr : l.stackTraces = false) (hd : decode cc pc = .ok (.checkcast 8, 3)) (t : zTo h o 53) (hcs : zcs 24 h o = false) (hm2 : c0 ≤ zc h ∧ s0 ≤ zs h) (hR : 8 ≤ R.frames ∧ 10272 ≤ R.locals) (hRc : (zc h - c0) + 3 ≤ R.cells ∧ (zs h - s0) + 1210 ≤ R.slots) (hst : (st.map fun v => v.category).sum ≤ 15) (kk : ZT p l e R s m args below meth c Q D tA B nL c0 s0 ad "java/lang/ClassCastException" pc (zga h 3 1210) lv) : ZW p l e R s m args below meth c Q D tA B nL c0 s0 ad pc h lv (va_re ad o :: st) := by
  cases o with
  | none => cases hcs
  | some a =>
    have hm : zt h a ∈ [23, 24, 25, 26, 27] := (t a rfl).fam (by decide)
    simp only [List.mem_cons, List.not_mem_nil, or_false] at hm
    rcases hm with ht | ht | ht | ht | ht
    · exact z_castX (ci := 23) (nm := "ThreeSnowballs$ShortRow") F htr rfl (by decide) (t a rfl).1 ht q1446 (by decide +kernel) (by decide +kernel) (by decide +kernel) hd hm2 hR hRc hst kk
    · exact absurd hcs (by show ¬ zsub 24 (zt h a) = false; rw [ht]; decide)
    · exact z_castX (ci := 25) (nm := "ThreeSnowballs$ShortRow") F htr rfl (by decide) (t a rfl).1 ht q1446 (by decide +kernel) (by decide +kernel) (by decide +kernel) hd hm2 hR hRc hst kk
    · exact z_castX (ci := 26) (nm := "ThreeSnowballs$ShortRow") F htr rfl (by decide) (t a rfl).1 ht q1446 (by decide +kernel) (by decide +kernel) (by decide +kernel) hd hm2 hR hRc hst kk
    · exact z_castX (ci := 27) (nm := "ThreeSnowballs$ShortRow") F htr rfl (by decide) (t a rfl).1 ht q1446 (by decide +kernel) (by decide +kernel) (by decide +kernel) hd hm2 hR hRc hst kk
def X24_copy (h : Hp) (a0 : Nat) (x1 : Int32) (x2 : Option Nat) (x3 : Int32) (x4 : Int32) : Option (Unit × Hp) :=
  nm (zr h a0 0) fun o1 => ck (zcs 24 h x2 = true) <| dr x2 fun a3 => nm (zr h a3 0) fun o4 => dr o4 fun a5 => dr o1 fun a6 => ck ((¬ x1 < 0 ∧ ¬ x3 < 0 ∧ ¬ x4 < 0 ∧ x1.toInt + x4.toInt ≤ zn h a6 ∧ x3.toInt + x4.toInt ≤ zn h a5) ∧ zcf .short h a6 x1.toNatClampNeg x4.toNatClampNeg = true) <| nm (zai h a5 (va_cpy (zi h a6) (zi h a5) x1.toNatClampNeg x3.toNatClampNeg x4.toNatClampNeg)) fun h8 => some ((), h8)
set_option maxHeartbeats 4000000 in
theorem mX24_copy {l : Launch} {D : va_G} {tA : Nat → ClassId} {B : Nat} {kn : State → Prop} {h hE : Hp} {ad : Nat → Nat} {a0 : Nat} {x1 : Int32} {x2 : Option Nat} {x3 : Int32} {x4 : Int32} (hkp : zKp D tA B kn) (hO_h : zOk h) (t_a0 : zTy h a0 24) (t_x2 : zTo h x2 53) (hf : X24_copy h a0 x1 x2 x3 x4 = some ((), hE)) : zM l D tA B kn yX24_copy (ws_ yX24_copy cX24_copy 5 (Option.none : Option Jvm.ClassFile.FieldType)) 10 10372 h ad [.ref (ad a0), .int x1, va_re ad x2, .int x3, .int x4] hE (zQv D tA B h ad hE) := by
  refine zM_of hkp (by decide +kernel) (by cases x2 <;> exact Nat.le_of_ble_eq_true rfl) ?_
  intro p e s m args below meth c F hnm
  rw [show lv_args 0 [.ref (ad a0), .int x1, va_re ad x2, .int x3, .int x4] = [(0, .ref (ad a0)), (1, .int x1), (2, va_re ad x2), (3, .int x3), (4, .int x4)] from by cases x2 <;> rfl]
  show ZW p l e (zRm 10 10372 h) s m args below meth c (MQ below (zQv D tA B h ad hE) args s (zc hE - zc h) (zs hE - zs h) (fun q => B ≤ q)) D tA B 5 (zc h) (zs h) ad 0 h [(0, .ref (ad a0)), (1, .int x1), (2, va_re ad x2), (3, .int x3), (4, .int x4)] []
  replace hf := (X24_copy.eq_1 h a0 x1 x2 x3 x4).symm.trans hf
  refine w_aload_n F dX24_copy_0 0 rfl ?_
  refine gf_X24_7 F dX24_copy_1 hO_h (t_a0) ?_
  replace hf := nm_o hf
  obtain ⟨o1, eo1, hf⟩ := hf
  refine w_no eo1 ?_
  have t_o1 : zTo h o1 102 := zTo.rd hO_h (t_a0.1) (zTy.tg t_a0 (by decide)) (t := 24) rfl eo1
  refine w_iload_n F dX24_copy_4 1 rfl ?_
  refine w_aloado_n F dX24_copy_5 2 rfl ?_
  replace hf := ck_o hf
  obtain ⟨c2, hf⟩ := hf
  refine ky_X24_8 (o := x2) F dX24_copy_6 t_x2 c2 ?_
  have t_x2 : zTo h x2 24 := zcs_t t_x2 c2
  replace hf := dr_o hf
  obtain ⟨a3, ea3, hf⟩ := hf
  subst ea3
  have t_a3 : zTy h a3 24 := t_x2 a3 rfl
  refine gf_X24_7 F dX24_copy_9 hO_h (t_a3) ?_
  replace hf := nm_o hf
  obtain ⟨o4, eo4, hf⟩ := hf
  refine w_no eo4 ?_
  have t_o4 : zTo h o4 102 := zTo.rd hO_h (t_a3.1) (zTy.tg t_a3 (by decide)) (t := 24) rfl eo4
  refine w_iload_n F dX24_copy_12 3 rfl ?_
  refine w_iload F dX24_copy_13 4 rfl ?_
  replace hf := dr_o hf
  obtain ⟨a5, ea5, hf⟩ := hf
  subst ea5
  have t_a5 : zTy h a5 102 := t_o4 a5 rfl
  replace hf := dr_o hf
  obtain ⟨a6, ea6, hf⟩ := hf
  subst ea6
  have t_a6 : zTy h a6 102 := t_o1 a6 rfl
  replace hf := ck_o hf
  obtain ⟨c7, hf⟩ := hf
  refine z_acI (j := 2) (t := 102) (ty := .short) F rfl rfl (by decide) rfl q1447 q1427 q1426 q135 dX24_copy_15 t_a6.1 (zTy.tg t_a6 (by decide)) t_a5.1 (zTy.tg t_a5 (by decide)) c7.1 c7.2 (by constructor <;> (simp only [zRm]; omega)) (Nat.le_of_ble_eq_true rfl) ?_
  replace hf := nm_o hf
  obtain ⟨h8, eh8, hf⟩ := hf
  refine w_nh eh8 ?_
  have Eh8 : zEx h h8 := by rw [eh8]; exact zEx.ai
  have hO_h8 : zOk h8 := by rw [eh8]; exact hO_h.ai
  have t_a0 := t_a0.ex Eh8
  have t_a3 := t_a3.ex Eh8
  have t_a5 := t_a5.ex Eh8
  have t_a6 := t_a6.ex Eh8
  obtain ⟨-, rfl⟩ := ret_o hf
  exact z_vret F dX24_copy_18 hO_h8 Eh8
def X24_copyTc (h : Hp) (a0 : Nat) (x1 : Int32) (x2 : Option Nat) (x3 : Int32) (x4 : Int32) : Option (Unit × Hp) :=
  nm (zr h a0 0) fun o1 => ck (zcs 24 h x2 = false) <| ck (zc h + 3 ≤ zLC ∧ zs h + 1210 ≤ zLS) <| nm (zga h 3 1210) fun h4 => some ((), h4)
set_option maxHeartbeats 4000000 in
theorem tX24_copyTc {l : Launch} {D : va_G} {tA : Nat → ClassId} {B : Nat} {kn : State → Prop} {h hE : Hp} {ad : Nat → Nat} {a0 : Nat} {x1 : Int32} {x2 : Option Nat} {x3 : Int32} {x4 : Int32} (htr : l.stackTraces = false) (hO_h : zOk h) (t_a0 : zTy h a0 24) (t_x2 : zTo h x2 53) (hf : X24_copyTc h a0 x1 x2 x3 x4 = some ((), hE)) : zTm l D tA B kn yX24_copy cX24_copy 5 (Option.none : Option Jvm.ClassFile.FieldType) 10 10372 h ad [.ref (ad a0), .int x1, va_re ad x2, .int x3, .int x4] (fun u => u = ad) "java/lang/ClassCastException" hE := by
  intro p e s m args below meth c F hnm htab
  rw [show lv_args 0 [.ref (ad a0), .int x1, va_re ad x2, .int x3, .int x4] = [(0, .ref (ad a0)), (1, .int x1), (2, va_re ad x2), (3, .int x3), (4, .int x4)] from by cases x2 <;> rfl]
  show ZW p l e (zRm 10 10372 h) s m args below meth c (zQT D tA B h (fun u => u = ad) "java/lang/ClassCastException" hE below s) D tA B 5 (zc h) (zs h) ad 0 h [(0, .ref (ad a0)), (1, .int x1), (2, va_re ad x2), (3, .int x3), (4, .int x4)] []
  replace hf := (X24_copyTc.eq_1 h a0 x1 x2 x3 x4).symm.trans hf
  refine w_aload_n F dX24_copy_0 0 rfl ?_
  refine gf_X24_7 F dX24_copy_1 hO_h (t_a0) ?_
  replace hf := nm_o hf
  obtain ⟨o1, eo1, hf⟩ := hf
  refine w_no eo1 ?_
  have t_o1 : zTo h o1 102 := zTo.rd hO_h (t_a0.1) (zTy.tg t_a0 (by decide)) (t := 24) rfl eo1
  refine w_iload_n F dX24_copy_4 1 rfl ?_
  refine w_aloado_n F dX24_copy_5 2 rfl ?_
  replace hf := ck_o hf
  obtain ⟨c2, hf⟩ := hf
  replace hf := ck_o hf
  obtain ⟨c3, hf⟩ := hf
  refine kn_X24_8 (o := x2) F htr dX24_copy_6 t_x2 c2 ⟨(zEx.rf h).2.1, (zEx.rf h).2.2.1⟩ (by constructor <;> (simp only [zRm]; omega)) (zrm_c (zEx.rf h) c3) (by simp only [List.map_cons, List.map_nil, zcat]; exact Nat.le_of_ble_eq_true rfl) ?_
  replace hf := nm_o hf
  obtain ⟨h4, eh4, hf⟩ := hf
  rw [← eh4]
  have Eh4 : zEx h h4 := by rw [eh4]; exact zEx.ga
  have hO_h4 : zOk h4 := by rw [eh4]; exact hO_h.ga c3
  have t_a0 := t_a0.ex Eh4
  have t_x2 := t_x2.ex Eh4
  have t_o1 := t_o1.ex Eh4
  obtain ⟨-, rfl⟩ := ret_o hf
  exact z_out F htab rfl hO_h4 Eh4
def X24_copyTi (h : Hp) (a0 : Nat) (x1 : Int32) (x2 : Option Nat) (x3 : Int32) (x4 : Int32) : Option (Unit × Hp) :=
  nm (zr h a0 0) fun o1 => ck (zcs 24 h x2 = true) <| dr x2 fun a3 => nm (zr h a3 0) fun o4 => dr o4 fun a5 => dr o1 fun a6 => ck (x1 < 0 ∨ x3 < 0 ∨ x4 < 0 ∨ x1.toInt + x4.toInt > zn h a6 ∨ x3.toInt + x4.toInt > zn h a5) <| ck (zn h a6 < 2 ^ 31 ∧ zn h a5 < 2 ^ 31 ∧ zc h + 3 ≤ zLC ∧ zs h + 490 ≤ zLS) <| nm (zga h 3 490) fun h9 => some ((), h9)
set_option maxHeartbeats 4000000 in
theorem tX24_copyTi {l : Launch} {D : va_G} {tA : Nat → ClassId} {B : Nat} {kn : State → Prop} {h hE : Hp} {ad : Nat → Nat} {a0 : Nat} {x1 : Int32} {x2 : Option Nat} {x3 : Int32} {x4 : Int32} (htr : l.stackTraces = false) (hO_h : zOk h) (t_a0 : zTy h a0 24) (t_x2 : zTo h x2 53) (hf : X24_copyTi h a0 x1 x2 x3 x4 = some ((), hE)) : zTm l D tA B kn yX24_copy cX24_copy 5 (Option.none : Option Jvm.ClassFile.FieldType) 10 10372 h ad [.ref (ad a0), .int x1, va_re ad x2, .int x3, .int x4] (fun u => u = ad) "java/lang/ArrayIndexOutOfBoundsException" hE := by
  intro p e s m args below meth c F hnm htab
  rw [show lv_args 0 [.ref (ad a0), .int x1, va_re ad x2, .int x3, .int x4] = [(0, .ref (ad a0)), (1, .int x1), (2, va_re ad x2), (3, .int x3), (4, .int x4)] from by cases x2 <;> rfl]
  show ZW p l e (zRm 10 10372 h) s m args below meth c (zQT D tA B h (fun u => u = ad) "java/lang/ArrayIndexOutOfBoundsException" hE below s) D tA B 5 (zc h) (zs h) ad 0 h [(0, .ref (ad a0)), (1, .int x1), (2, va_re ad x2), (3, .int x3), (4, .int x4)] []
  replace hf := (X24_copyTi.eq_1 h a0 x1 x2 x3 x4).symm.trans hf
  refine w_aload_n F dX24_copy_0 0 rfl ?_
  refine gf_X24_7 F dX24_copy_1 hO_h (t_a0) ?_
  replace hf := nm_o hf
  obtain ⟨o1, eo1, hf⟩ := hf
  refine w_no eo1 ?_
  have t_o1 : zTo h o1 102 := zTo.rd hO_h (t_a0.1) (zTy.tg t_a0 (by decide)) (t := 24) rfl eo1
  refine w_iload_n F dX24_copy_4 1 rfl ?_
  refine w_aloado_n F dX24_copy_5 2 rfl ?_
  replace hf := ck_o hf
  obtain ⟨c2, hf⟩ := hf
  refine ky_X24_8 (o := x2) F dX24_copy_6 t_x2 c2 ?_
  have t_x2 : zTo h x2 24 := zcs_t t_x2 c2
  replace hf := dr_o hf
  obtain ⟨a3, ea3, hf⟩ := hf
  subst ea3
  have t_a3 : zTy h a3 24 := t_x2 a3 rfl
  refine gf_X24_7 F dX24_copy_9 hO_h (t_a3) ?_
  replace hf := nm_o hf
  obtain ⟨o4, eo4, hf⟩ := hf
  refine w_no eo4 ?_
  have t_o4 : zTo h o4 102 := zTo.rd hO_h (t_a3.1) (zTy.tg t_a3 (by decide)) (t := 24) rfl eo4
  refine w_iload_n F dX24_copy_12 3 rfl ?_
  refine w_iload F dX24_copy_13 4 rfl ?_
  replace hf := dr_o hf
  obtain ⟨a5, ea5, hf⟩ := hf
  subst ea5
  have t_a5 : zTy h a5 102 := t_o4 a5 rfl
  replace hf := dr_o hf
  obtain ⟨a6, ea6, hf⟩ := hf
  subst ea6
  have t_a6 : zTy h a6 102 := t_o1 a6 rfl
  replace hf := ck_o hf
  obtain ⟨c7, hf⟩ := hf
  replace hf := ck_o hf
  obtain ⟨c8, hf⟩ := hf
  refine z_acX (j := 2) (t := 102) (ty := .short) F htr rfl rfl (by decide) q1447 q1427 q1426 q135 dX24_copy_15 t_a6.1 (zTy.tg t_a6 (by decide)) t_a5.1 (zTy.tg t_a5 (by decide)) c7 c8.1 c8.2.1 ⟨(zEx.rf h).2.1, (zEx.rf h).2.2.1⟩ (by constructor <;> (simp only [zRm]; omega)) (zrm_c (zEx.rf h) c8.2.2) (Nat.le_of_ble_eq_true rfl) ?_
  replace hf := nm_o hf
  obtain ⟨h9, eh9, hf⟩ := hf
  rw [← eh9]
  have Eh9 : zEx h h9 := by rw [eh9]; exact zEx.ga
  have hO_h9 : zOk h9 := by rw [eh9]; exact hO_h.ga c8.2.2
  have t_a0 := t_a0.ex Eh9
  have t_a3 := t_a3.ex Eh9
  have t_a5 := t_a5.ex Eh9
  have t_a6 := t_a6.ex Eh9
  obtain ⟨-, rfl⟩ := ret_o hf
  exact z_out F htab rfl hO_h9 Eh9
theorem ky_X25_8 {p : Program} {l : Launch} {e : Env} {R : Room} {s : State} {m : MethodId} {args : Array Value} {below : List Frame} {meth : Method} {c : Code} {Q : State → Prop} {D : va_G} {tA : Nat → ClassId} {B nL c0 s0 : Nat} {ad : Nat → Nat} {kn : State → Prop} {cc : ByteArray} {ret : Option FieldType} {pc : Nat} {h : Hp} {lv : List (Nat × Value)} {st : List Value} {o : Option Nat} (F : ZF p s m args meth c D tA B nL kn RX25 cc ret) (hd : decode cc pc = .ok (.checkcast 8, 3)) (t : zTo h o 53) (hcs : zcs 25 h o = true) (kk : ZW p l e R s m args below meth c Q D tA B nL c0 s0 ad (pc + 3) h lv (va_re ad o :: st)) : ZW p l e R s m args below meth c Q D tA B nL c0 s0 ad pc h lv (va_re ad o :: st) := by
  cases o with
  | none => exact z_cast0 F hd kk
  | some a =>
    have hm : zt h a ∈ [23, 24, 25, 26, 27] := (t a rfl).fam (by decide)
    simp only [List.mem_cons, List.not_mem_nil, or_false] at hm
    rcases hm with ht | ht | ht | ht | ht
    · exact absurd hcs (by show ¬ zsub 25 (zt h a) = true; rw [ht]; decide)
    · exact absurd hcs (by show ¬ zsub 25 (zt h a) = true; rw [ht]; decide)
    · exact z_castY (ci := 25) (nm := "ThreeSnowballs$IntRow") F rfl (by decide) (t a rfl).1 ht q1436 (Or.inl rfl) hd kk
    · exact absurd hcs (by show ¬ zsub 25 (zt h a) = true; rw [ht]; decide)
    · exact absurd hcs (by show ¬ zsub 25 (zt h a) = true; rw [ht]; decide)
theorem kn_X25_8 {p : Program} {l : Launch} {e : Env} {R : Room} {s : State} {m : MethodId} {args : Array Value} {below : List Frame} {meth : Method} {c : Code} {Q : State → Prop} {D : va_G} {tA : Nat → ClassId} {B nL c0 s0 : Nat} {ad : Nat → Nat} {kn : State → Prop} {cc : ByteArray} {ret : Option FieldType} {pc : Nat} {h : Hp} {lv : List (Nat × Value)} {st : List Value} {o : Option Nat} (F : ZF p s m args meth c D tA B nL kn RX25 cc ret) (htr : l.stackTraces = false) (hd : decode cc pc = .ok (.checkcast 8, 3)) (t : zTo h o 53) (hcs : zcs 25 h o = false) (hm2 : c0 ≤ zc h ∧ s0 ≤ zs h) (hR : 8 ≤ R.frames ∧ 10272 ≤ R.locals) (hRc : (zc h - c0) + 3 ≤ R.cells ∧ (zs h - s0) + 1210 ≤ R.slots) (hst : (st.map fun v => v.category).sum ≤ 15) (kk : ZT p l e R s m args below meth c Q D tA B nL c0 s0 ad "java/lang/ClassCastException" pc (zga h 3 1210) lv) : ZW p l e R s m args below meth c Q D tA B nL c0 s0 ad pc h lv (va_re ad o :: st) := by
  cases o with
  | none => cases hcs
  | some a =>
    have hm : zt h a ∈ [23, 24, 25, 26, 27] := (t a rfl).fam (by decide)
    simp only [List.mem_cons, List.not_mem_nil, or_false] at hm
    rcases hm with ht | ht | ht | ht | ht
    · exact z_castX (ci := 23) (nm := "ThreeSnowballs$IntRow") F htr rfl (by decide) (t a rfl).1 ht q1436 (by decide +kernel) (by decide +kernel) (by decide +kernel) hd hm2 hR hRc hst kk
    · exact z_castX (ci := 24) (nm := "ThreeSnowballs$IntRow") F htr rfl (by decide) (t a rfl).1 ht q1436 (by decide +kernel) (by decide +kernel) (by decide +kernel) hd hm2 hR hRc hst kk
    · exact absurd hcs (by show ¬ zsub 25 (zt h a) = false; rw [ht]; decide)
    · exact z_castX (ci := 26) (nm := "ThreeSnowballs$IntRow") F htr rfl (by decide) (t a rfl).1 ht q1436 (by decide +kernel) (by decide +kernel) (by decide +kernel) hd hm2 hR hRc hst kk
    · exact z_castX (ci := 27) (nm := "ThreeSnowballs$IntRow") F htr rfl (by decide) (t a rfl).1 ht q1436 (by decide +kernel) (by decide +kernel) (by decide +kernel) hd hm2 hR hRc hst kk
def X25_copy (h : Hp) (a0 : Nat) (x1 : Int32) (x2 : Option Nat) (x3 : Int32) (x4 : Int32) : Option (Unit × Hp) :=
  nm (zr h a0 0) fun o1 => ck (zcs 25 h x2 = true) <| dr x2 fun a3 => nm (zr h a3 0) fun o4 => dr o4 fun a5 => dr o1 fun a6 => ck ((¬ x1 < 0 ∧ ¬ x3 < 0 ∧ ¬ x4 < 0 ∧ x1.toInt + x4.toInt ≤ zn h a6 ∧ x3.toInt + x4.toInt ≤ zn h a5) ∧ zcf .int h a6 x1.toNatClampNeg x4.toNatClampNeg = true) <| nm (zai h a5 (va_cpy (zi h a6) (zi h a5) x1.toNatClampNeg x3.toNatClampNeg x4.toNatClampNeg)) fun h8 => some ((), h8)
set_option maxHeartbeats 4000000 in
theorem mX25_copy {l : Launch} {D : va_G} {tA : Nat → ClassId} {B : Nat} {kn : State → Prop} {h hE : Hp} {ad : Nat → Nat} {a0 : Nat} {x1 : Int32} {x2 : Option Nat} {x3 : Int32} {x4 : Int32} (hkp : zKp D tA B kn) (hO_h : zOk h) (t_a0 : zTy h a0 25) (t_x2 : zTo h x2 53) (hf : X25_copy h a0 x1 x2 x3 x4 = some ((), hE)) : zM l D tA B kn yX25_copy (ws_ yX25_copy cX25_copy 5 (Option.none : Option Jvm.ClassFile.FieldType)) 10 10372 h ad [.ref (ad a0), .int x1, va_re ad x2, .int x3, .int x4] hE (zQv D tA B h ad hE) := by
  refine zM_of hkp (by decide +kernel) (by cases x2 <;> exact Nat.le_of_ble_eq_true rfl) ?_
  intro p e s m args below meth c F hnm
  rw [show lv_args 0 [.ref (ad a0), .int x1, va_re ad x2, .int x3, .int x4] = [(0, .ref (ad a0)), (1, .int x1), (2, va_re ad x2), (3, .int x3), (4, .int x4)] from by cases x2 <;> rfl]
  show ZW p l e (zRm 10 10372 h) s m args below meth c (MQ below (zQv D tA B h ad hE) args s (zc hE - zc h) (zs hE - zs h) (fun q => B ≤ q)) D tA B 5 (zc h) (zs h) ad 0 h [(0, .ref (ad a0)), (1, .int x1), (2, va_re ad x2), (3, .int x3), (4, .int x4)] []
  replace hf := (X25_copy.eq_1 h a0 x1 x2 x3 x4).symm.trans hf
  refine w_aload_n F dX25_copy_0 0 rfl ?_
  refine gf_X25_7 F dX25_copy_1 hO_h (t_a0) ?_
  replace hf := nm_o hf
  obtain ⟨o1, eo1, hf⟩ := hf
  refine w_no eo1 ?_
  have t_o1 : zTo h o1 100 := zTo.rd hO_h (t_a0.1) (zTy.tg t_a0 (by decide)) (t := 25) rfl eo1
  refine w_iload_n F dX25_copy_4 1 rfl ?_
  refine w_aloado_n F dX25_copy_5 2 rfl ?_
  replace hf := ck_o hf
  obtain ⟨c2, hf⟩ := hf
  refine ky_X25_8 (o := x2) F dX25_copy_6 t_x2 c2 ?_
  have t_x2 : zTo h x2 25 := zcs_t t_x2 c2
  replace hf := dr_o hf
  obtain ⟨a3, ea3, hf⟩ := hf
  subst ea3
  have t_a3 : zTy h a3 25 := t_x2 a3 rfl
  refine gf_X25_7 F dX25_copy_9 hO_h (t_a3) ?_
  replace hf := nm_o hf
  obtain ⟨o4, eo4, hf⟩ := hf
  refine w_no eo4 ?_
  have t_o4 : zTo h o4 100 := zTo.rd hO_h (t_a3.1) (zTy.tg t_a3 (by decide)) (t := 25) rfl eo4
  refine w_iload_n F dX25_copy_12 3 rfl ?_
  refine w_iload F dX25_copy_13 4 rfl ?_
  replace hf := dr_o hf
  obtain ⟨a5, ea5, hf⟩ := hf
  subst ea5
  have t_a5 : zTy h a5 100 := t_o4 a5 rfl
  replace hf := dr_o hf
  obtain ⟨a6, ea6, hf⟩ := hf
  subst ea6
  have t_a6 : zTy h a6 100 := t_o1 a6 rfl
  replace hf := ck_o hf
  obtain ⟨c7, hf⟩ := hf
  refine z_acI (j := 0) (t := 100) (ty := .int) F rfl rfl (by decide) rfl q1437 q1427 q1426 q135 dX25_copy_15 t_a6.1 (zTy.tg t_a6 (by decide)) t_a5.1 (zTy.tg t_a5 (by decide)) c7.1 c7.2 (by constructor <;> (simp only [zRm]; omega)) (Nat.le_of_ble_eq_true rfl) ?_
  replace hf := nm_o hf
  obtain ⟨h8, eh8, hf⟩ := hf
  refine w_nh eh8 ?_
  have Eh8 : zEx h h8 := by rw [eh8]; exact zEx.ai
  have hO_h8 : zOk h8 := by rw [eh8]; exact hO_h.ai
  have t_a0 := t_a0.ex Eh8
  have t_a3 := t_a3.ex Eh8
  have t_a5 := t_a5.ex Eh8
  have t_a6 := t_a6.ex Eh8
  obtain ⟨-, rfl⟩ := ret_o hf
  exact z_vret F dX25_copy_18 hO_h8 Eh8
def X25_copyTc (h : Hp) (a0 : Nat) (x1 : Int32) (x2 : Option Nat) (x3 : Int32) (x4 : Int32) : Option (Unit × Hp) :=
  nm (zr h a0 0) fun o1 => ck (zcs 25 h x2 = false) <| ck (zc h + 3 ≤ zLC ∧ zs h + 1210 ≤ zLS) <| nm (zga h 3 1210) fun h4 => some ((), h4)
set_option maxHeartbeats 4000000 in
theorem tX25_copyTc {l : Launch} {D : va_G} {tA : Nat → ClassId} {B : Nat} {kn : State → Prop} {h hE : Hp} {ad : Nat → Nat} {a0 : Nat} {x1 : Int32} {x2 : Option Nat} {x3 : Int32} {x4 : Int32} (htr : l.stackTraces = false) (hO_h : zOk h) (t_a0 : zTy h a0 25) (t_x2 : zTo h x2 53) (hf : X25_copyTc h a0 x1 x2 x3 x4 = some ((), hE)) : zTm l D tA B kn yX25_copy cX25_copy 5 (Option.none : Option Jvm.ClassFile.FieldType) 10 10372 h ad [.ref (ad a0), .int x1, va_re ad x2, .int x3, .int x4] (fun u => u = ad) "java/lang/ClassCastException" hE := by
  intro p e s m args below meth c F hnm htab
  rw [show lv_args 0 [.ref (ad a0), .int x1, va_re ad x2, .int x3, .int x4] = [(0, .ref (ad a0)), (1, .int x1), (2, va_re ad x2), (3, .int x3), (4, .int x4)] from by cases x2 <;> rfl]
  show ZW p l e (zRm 10 10372 h) s m args below meth c (zQT D tA B h (fun u => u = ad) "java/lang/ClassCastException" hE below s) D tA B 5 (zc h) (zs h) ad 0 h [(0, .ref (ad a0)), (1, .int x1), (2, va_re ad x2), (3, .int x3), (4, .int x4)] []
  replace hf := (X25_copyTc.eq_1 h a0 x1 x2 x3 x4).symm.trans hf
  refine w_aload_n F dX25_copy_0 0 rfl ?_
  refine gf_X25_7 F dX25_copy_1 hO_h (t_a0) ?_
  replace hf := nm_o hf
  obtain ⟨o1, eo1, hf⟩ := hf
  refine w_no eo1 ?_
  have t_o1 : zTo h o1 100 := zTo.rd hO_h (t_a0.1) (zTy.tg t_a0 (by decide)) (t := 25) rfl eo1
  refine w_iload_n F dX25_copy_4 1 rfl ?_
  refine w_aloado_n F dX25_copy_5 2 rfl ?_
  replace hf := ck_o hf
  obtain ⟨c2, hf⟩ := hf
  replace hf := ck_o hf
  obtain ⟨c3, hf⟩ := hf
  refine kn_X25_8 (o := x2) F htr dX25_copy_6 t_x2 c2 ⟨(zEx.rf h).2.1, (zEx.rf h).2.2.1⟩ (by constructor <;> (simp only [zRm]; omega)) (zrm_c (zEx.rf h) c3) (by simp only [List.map_cons, List.map_nil, zcat]; exact Nat.le_of_ble_eq_true rfl) ?_
  replace hf := nm_o hf
  obtain ⟨h4, eh4, hf⟩ := hf
  rw [← eh4]
  have Eh4 : zEx h h4 := by rw [eh4]; exact zEx.ga
  have hO_h4 : zOk h4 := by rw [eh4]; exact hO_h.ga c3
  have t_a0 := t_a0.ex Eh4
  have t_x2 := t_x2.ex Eh4
  have t_o1 := t_o1.ex Eh4
  obtain ⟨-, rfl⟩ := ret_o hf
  exact z_out F htab rfl hO_h4 Eh4
def X25_copyTi (h : Hp) (a0 : Nat) (x1 : Int32) (x2 : Option Nat) (x3 : Int32) (x4 : Int32) : Option (Unit × Hp) :=
  nm (zr h a0 0) fun o1 => ck (zcs 25 h x2 = true) <| dr x2 fun a3 => nm (zr h a3 0) fun o4 => dr o4 fun a5 => dr o1 fun a6 => ck (x1 < 0 ∨ x3 < 0 ∨ x4 < 0 ∨ x1.toInt + x4.toInt > zn h a6 ∨ x3.toInt + x4.toInt > zn h a5) <| ck (zn h a6 < 2 ^ 31 ∧ zn h a5 < 2 ^ 31 ∧ zc h + 3 ≤ zLC ∧ zs h + 490 ≤ zLS) <| nm (zga h 3 490) fun h9 => some ((), h9)
set_option maxHeartbeats 4000000 in
theorem tX25_copyTi {l : Launch} {D : va_G} {tA : Nat → ClassId} {B : Nat} {kn : State → Prop} {h hE : Hp} {ad : Nat → Nat} {a0 : Nat} {x1 : Int32} {x2 : Option Nat} {x3 : Int32} {x4 : Int32} (htr : l.stackTraces = false) (hO_h : zOk h) (t_a0 : zTy h a0 25) (t_x2 : zTo h x2 53) (hf : X25_copyTi h a0 x1 x2 x3 x4 = some ((), hE)) : zTm l D tA B kn yX25_copy cX25_copy 5 (Option.none : Option Jvm.ClassFile.FieldType) 10 10372 h ad [.ref (ad a0), .int x1, va_re ad x2, .int x3, .int x4] (fun u => u = ad) "java/lang/ArrayIndexOutOfBoundsException" hE := by
  intro p e s m args below meth c F hnm htab
  rw [show lv_args 0 [.ref (ad a0), .int x1, va_re ad x2, .int x3, .int x4] = [(0, .ref (ad a0)), (1, .int x1), (2, va_re ad x2), (3, .int x3), (4, .int x4)] from by cases x2 <;> rfl]
  show ZW p l e (zRm 10 10372 h) s m args below meth c (zQT D tA B h (fun u => u = ad) "java/lang/ArrayIndexOutOfBoundsException" hE below s) D tA B 5 (zc h) (zs h) ad 0 h [(0, .ref (ad a0)), (1, .int x1), (2, va_re ad x2), (3, .int x3), (4, .int x4)] []
  replace hf := (X25_copyTi.eq_1 h a0 x1 x2 x3 x4).symm.trans hf
  refine w_aload_n F dX25_copy_0 0 rfl ?_
  refine gf_X25_7 F dX25_copy_1 hO_h (t_a0) ?_
  replace hf := nm_o hf
  obtain ⟨o1, eo1, hf⟩ := hf
  refine w_no eo1 ?_
  have t_o1 : zTo h o1 100 := zTo.rd hO_h (t_a0.1) (zTy.tg t_a0 (by decide)) (t := 25) rfl eo1
  refine w_iload_n F dX25_copy_4 1 rfl ?_
  refine w_aloado_n F dX25_copy_5 2 rfl ?_
  replace hf := ck_o hf
  obtain ⟨c2, hf⟩ := hf
  refine ky_X25_8 (o := x2) F dX25_copy_6 t_x2 c2 ?_
  have t_x2 : zTo h x2 25 := zcs_t t_x2 c2
  replace hf := dr_o hf
  obtain ⟨a3, ea3, hf⟩ := hf
  subst ea3
  have t_a3 : zTy h a3 25 := t_x2 a3 rfl
  refine gf_X25_7 F dX25_copy_9 hO_h (t_a3) ?_
  replace hf := nm_o hf
  obtain ⟨o4, eo4, hf⟩ := hf
  refine w_no eo4 ?_
  have t_o4 : zTo h o4 100 := zTo.rd hO_h (t_a3.1) (zTy.tg t_a3 (by decide)) (t := 25) rfl eo4
  refine w_iload_n F dX25_copy_12 3 rfl ?_
  refine w_iload F dX25_copy_13 4 rfl ?_
  replace hf := dr_o hf
  obtain ⟨a5, ea5, hf⟩ := hf
  subst ea5
  have t_a5 : zTy h a5 100 := t_o4 a5 rfl
  replace hf := dr_o hf
  obtain ⟨a6, ea6, hf⟩ := hf
  subst ea6
  have t_a6 : zTy h a6 100 := t_o1 a6 rfl
  replace hf := ck_o hf
  obtain ⟨c7, hf⟩ := hf
  replace hf := ck_o hf
  obtain ⟨c8, hf⟩ := hf
  refine z_acX (j := 0) (t := 100) (ty := .int) F htr rfl rfl (by decide) q1437 q1427 q1426 q135 dX25_copy_15 t_a6.1 (zTy.tg t_a6 (by decide)) t_a5.1 (zTy.tg t_a5 (by decide)) c7 c8.1 c8.2.1 ⟨(zEx.rf h).2.1, (zEx.rf h).2.2.1⟩ (by constructor <;> (simp only [zRm]; omega)) (zrm_c (zEx.rf h) c8.2.2) (Nat.le_of_ble_eq_true rfl) ?_
  replace hf := nm_o hf
  obtain ⟨h9, eh9, hf⟩ := hf
  rw [← eh9]
  have Eh9 : zEx h h9 := by rw [eh9]; exact zEx.ga
  have hO_h9 : zOk h9 := by rw [eh9]; exact hO_h.ga c8.2.2
  have t_a0 := t_a0.ex Eh9
  have t_a3 := t_a3.ex Eh9
  have t_a5 := t_a5.ex Eh9
  have t_a6 := t_a6.ex Eh9
  obtain ⟨-, rfl⟩ := ret_o hf
  exact z_out F htab rfl hO_h9 Eh9
theorem ky_X26_8 {p : Program} {l : Launch} {e : Env} {R : Room} {s : State} {m : MethodId} {args : Array Value} {below : List Frame} {meth : Method} {c : Code} {Q : State → Prop} {D : va_G} {tA : Nat → ClassId} {B nL c0 s0 : Nat} {ad : Nat → Nat} {kn : State → Prop} {cc : ByteArray} {ret : Option FieldType} {pc : Nat} {h : Hp} {lv : List (Nat × Value)} {st : List Value} {o : Option Nat} (F : ZF p s m args meth c D tA B nL kn RX26 cc ret) (hd : decode cc pc = .ok (.checkcast 8, 3)) (t : zTo h o 53) (hcs : zcs 26 h o = true) (kk : ZW p l e R s m args below meth c Q D tA B nL c0 s0 ad (pc + 3) h lv (va_re ad o :: st)) : ZW p l e R s m args below meth c Q D tA B nL c0 s0 ad pc h lv (va_re ad o :: st) := by
  cases o with
  | none => exact z_cast0 F hd kk
  | some a =>
    have hm : zt h a ∈ [23, 24, 25, 26, 27] := (t a rfl).fam (by decide)
    simp only [List.mem_cons, List.not_mem_nil, or_false] at hm
    rcases hm with ht | ht | ht | ht | ht
    · exact absurd hcs (by show ¬ zsub 26 (zt h a) = true; rw [ht]; decide)
    · exact absurd hcs (by show ¬ zsub 26 (zt h a) = true; rw [ht]; decide)
    · exact absurd hcs (by show ¬ zsub 26 (zt h a) = true; rw [ht]; decide)
    · exact z_castY (ci := 26) (nm := "ThreeSnowballs$LongRow") F rfl (by decide) (t a rfl).1 ht q1441 (Or.inl rfl) hd kk
    · exact absurd hcs (by show ¬ zsub 26 (zt h a) = true; rw [ht]; decide)
theorem kn_X26_8 {p : Program} {l : Launch} {e : Env} {R : Room} {s : State} {m : MethodId} {args : Array Value} {below : List Frame} {meth : Method} {c : Code} {Q : State → Prop} {D : va_G} {tA : Nat → ClassId} {B nL c0 s0 : Nat} {ad : Nat → Nat} {kn : State → Prop} {cc : ByteArray} {ret : Option FieldType} {pc : Nat} {h : Hp} {lv : List (Nat × Value)} {st : List Value} {o : Option Nat} (F : ZF p s m args meth c D tA B nL kn RX26 cc ret) (htr : l.stackTraces = false) (hd : decode cc pc = .ok (.checkcast 8, 3)) (t : zTo h o 53) (hcs : zcs 26 h o = false) (hm2 : c0 ≤ zc h ∧ s0 ≤ zs h) (hR : 8 ≤ R.frames ∧ 10272 ≤ R.locals) (hRc : (zc h - c0) + 3 ≤ R.cells ∧ (zs h - s0) + 1210 ≤ R.slots) (hst : (st.map fun v => v.category).sum ≤ 15) (kk : ZT p l e R s m args below meth c Q D tA B nL c0 s0 ad "java/lang/ClassCastException" pc (zga h 3 1210) lv) : ZW p l e R s m args below meth c Q D tA B nL c0 s0 ad pc h lv (va_re ad o :: st) := by
  cases o with
  | none => cases hcs
  | some a =>
    have hm : zt h a ∈ [23, 24, 25, 26, 27] := (t a rfl).fam (by decide)
    simp only [List.mem_cons, List.not_mem_nil, or_false] at hm
    rcases hm with ht | ht | ht | ht | ht
    · exact z_castX (ci := 23) (nm := "ThreeSnowballs$LongRow") F htr rfl (by decide) (t a rfl).1 ht q1441 (by decide +kernel) (by decide +kernel) (by decide +kernel) hd hm2 hR hRc hst kk
    · exact z_castX (ci := 24) (nm := "ThreeSnowballs$LongRow") F htr rfl (by decide) (t a rfl).1 ht q1441 (by decide +kernel) (by decide +kernel) (by decide +kernel) hd hm2 hR hRc hst kk
    · exact z_castX (ci := 25) (nm := "ThreeSnowballs$LongRow") F htr rfl (by decide) (t a rfl).1 ht q1441 (by decide +kernel) (by decide +kernel) (by decide +kernel) hd hm2 hR hRc hst kk
    · exact absurd hcs (by show ¬ zsub 26 (zt h a) = false; rw [ht]; decide)
    · exact z_castX (ci := 27) (nm := "ThreeSnowballs$LongRow") F htr rfl (by decide) (t a rfl).1 ht q1441 (by decide +kernel) (by decide +kernel) (by decide +kernel) hd hm2 hR hRc hst kk
def X26_copy (h : Hp) (a0 : Nat) (x1 : Int32) (x2 : Option Nat) (x3 : Int32) (x4 : Int32) : Option (Unit × Hp) :=
  nm (zr h a0 0) fun o1 => ck (zcs 26 h x2 = true) <| dr x2 fun a3 => nm (zr h a3 0) fun o4 => dr o4 fun a5 => dr o1 fun a6 => ck (¬ x1 < 0 ∧ ¬ x3 < 0 ∧ ¬ x4 < 0 ∧ x1.toInt + x4.toInt ≤ zn h a6 ∧ x3.toInt + x4.toInt ≤ zn h a5) <| nm (zaj h a5 (va_cpy (zj h a6) (zj h a5) x1.toNatClampNeg x3.toNatClampNeg x4.toNatClampNeg)) fun h8 => some ((), h8)
set_option maxHeartbeats 4000000 in
theorem mX26_copy {l : Launch} {D : va_G} {tA : Nat → ClassId} {B : Nat} {kn : State → Prop} {h hE : Hp} {ad : Nat → Nat} {a0 : Nat} {x1 : Int32} {x2 : Option Nat} {x3 : Int32} {x4 : Int32} (hkp : zKp D tA B kn) (hO_h : zOk h) (t_a0 : zTy h a0 26) (t_x2 : zTo h x2 53) (hf : X26_copy h a0 x1 x2 x3 x4 = some ((), hE)) : zM l D tA B kn yX26_copy (ws_ yX26_copy cX26_copy 5 (Option.none : Option Jvm.ClassFile.FieldType)) 10 10372 h ad [.ref (ad a0), .int x1, va_re ad x2, .int x3, .int x4] hE (zQv D tA B h ad hE) := by
  refine zM_of hkp (by decide +kernel) (by cases x2 <;> exact Nat.le_of_ble_eq_true rfl) ?_
  intro p e s m args below meth c F hnm
  rw [show lv_args 0 [.ref (ad a0), .int x1, va_re ad x2, .int x3, .int x4] = [(0, .ref (ad a0)), (1, .int x1), (2, va_re ad x2), (3, .int x3), (4, .int x4)] from by cases x2 <;> rfl]
  show ZW p l e (zRm 10 10372 h) s m args below meth c (MQ below (zQv D tA B h ad hE) args s (zc hE - zc h) (zs hE - zs h) (fun q => B ≤ q)) D tA B 5 (zc h) (zs h) ad 0 h [(0, .ref (ad a0)), (1, .int x1), (2, va_re ad x2), (3, .int x3), (4, .int x4)] []
  replace hf := (X26_copy.eq_1 h a0 x1 x2 x3 x4).symm.trans hf
  refine w_aload_n F dX26_copy_0 0 rfl ?_
  refine gf_X26_7 F dX26_copy_1 hO_h (t_a0) ?_
  replace hf := nm_o hf
  obtain ⟨o1, eo1, hf⟩ := hf
  refine w_no eo1 ?_
  have t_o1 : zTo h o1 104 := zTo.rd hO_h (t_a0.1) (zTy.tg t_a0 (by decide)) (t := 26) rfl eo1
  refine w_iload_n F dX26_copy_4 1 rfl ?_
  refine w_aloado_n F dX26_copy_5 2 rfl ?_
  replace hf := ck_o hf
  obtain ⟨c2, hf⟩ := hf
  refine ky_X26_8 (o := x2) F dX26_copy_6 t_x2 c2 ?_
  have t_x2 : zTo h x2 26 := zcs_t t_x2 c2
  replace hf := dr_o hf
  obtain ⟨a3, ea3, hf⟩ := hf
  subst ea3
  have t_a3 : zTy h a3 26 := t_x2 a3 rfl
  refine gf_X26_7 F dX26_copy_9 hO_h (t_a3) ?_
  replace hf := nm_o hf
  obtain ⟨o4, eo4, hf⟩ := hf
  refine w_no eo4 ?_
  have t_o4 : zTo h o4 104 := zTo.rd hO_h (t_a3.1) (zTy.tg t_a3 (by decide)) (t := 26) rfl eo4
  refine w_iload_n F dX26_copy_12 3 rfl ?_
  refine w_iload F dX26_copy_13 4 rfl ?_
  replace hf := dr_o hf
  obtain ⟨a5, ea5, hf⟩ := hf
  subst ea5
  have t_a5 : zTy h a5 104 := t_o4 a5 rfl
  replace hf := dr_o hf
  obtain ⟨a6, ea6, hf⟩ := hf
  subst ea6
  have t_a6 : zTy h a6 104 := t_o1 a6 rfl
  replace hf := ck_o hf
  obtain ⟨c7, hf⟩ := hf
  refine z_acJ F q1442 q1427 q1426 q135 dX26_copy_15 t_a6.1 (zTy.tg t_a6 (by decide)) t_a5.1 (zTy.tg t_a5 (by decide)) c7 (by constructor <;> (simp only [zRm]; omega)) (Nat.le_of_ble_eq_true rfl) ?_
  replace hf := nm_o hf
  obtain ⟨h8, eh8, hf⟩ := hf
  refine w_nh eh8 ?_
  have Eh8 : zEx h h8 := by rw [eh8]; exact zEx.aj
  have hO_h8 : zOk h8 := by rw [eh8]; exact hO_h.aj
  have t_a0 := t_a0.ex Eh8
  have t_a3 := t_a3.ex Eh8
  have t_a5 := t_a5.ex Eh8
  have t_a6 := t_a6.ex Eh8
  obtain ⟨-, rfl⟩ := ret_o hf
  exact z_vret F dX26_copy_18 hO_h8 Eh8
def X26_copyTc (h : Hp) (a0 : Nat) (x1 : Int32) (x2 : Option Nat) (x3 : Int32) (x4 : Int32) : Option (Unit × Hp) :=
  nm (zr h a0 0) fun o1 => ck (zcs 26 h x2 = false) <| ck (zc h + 3 ≤ zLC ∧ zs h + 1210 ≤ zLS) <| nm (zga h 3 1210) fun h4 => some ((), h4)
set_option maxHeartbeats 4000000 in
theorem tX26_copyTc {l : Launch} {D : va_G} {tA : Nat → ClassId} {B : Nat} {kn : State → Prop} {h hE : Hp} {ad : Nat → Nat} {a0 : Nat} {x1 : Int32} {x2 : Option Nat} {x3 : Int32} {x4 : Int32} (htr : l.stackTraces = false) (hO_h : zOk h) (t_a0 : zTy h a0 26) (t_x2 : zTo h x2 53) (hf : X26_copyTc h a0 x1 x2 x3 x4 = some ((), hE)) : zTm l D tA B kn yX26_copy cX26_copy 5 (Option.none : Option Jvm.ClassFile.FieldType) 10 10372 h ad [.ref (ad a0), .int x1, va_re ad x2, .int x3, .int x4] (fun u => u = ad) "java/lang/ClassCastException" hE := by
  intro p e s m args below meth c F hnm htab
  rw [show lv_args 0 [.ref (ad a0), .int x1, va_re ad x2, .int x3, .int x4] = [(0, .ref (ad a0)), (1, .int x1), (2, va_re ad x2), (3, .int x3), (4, .int x4)] from by cases x2 <;> rfl]
  show ZW p l e (zRm 10 10372 h) s m args below meth c (zQT D tA B h (fun u => u = ad) "java/lang/ClassCastException" hE below s) D tA B 5 (zc h) (zs h) ad 0 h [(0, .ref (ad a0)), (1, .int x1), (2, va_re ad x2), (3, .int x3), (4, .int x4)] []
  replace hf := (X26_copyTc.eq_1 h a0 x1 x2 x3 x4).symm.trans hf
  refine w_aload_n F dX26_copy_0 0 rfl ?_
  refine gf_X26_7 F dX26_copy_1 hO_h (t_a0) ?_
  replace hf := nm_o hf
  obtain ⟨o1, eo1, hf⟩ := hf
  refine w_no eo1 ?_
  have t_o1 : zTo h o1 104 := zTo.rd hO_h (t_a0.1) (zTy.tg t_a0 (by decide)) (t := 26) rfl eo1
  refine w_iload_n F dX26_copy_4 1 rfl ?_
  refine w_aloado_n F dX26_copy_5 2 rfl ?_
  replace hf := ck_o hf
  obtain ⟨c2, hf⟩ := hf
  replace hf := ck_o hf
  obtain ⟨c3, hf⟩ := hf
  refine kn_X26_8 (o := x2) F htr dX26_copy_6 t_x2 c2 ⟨(zEx.rf h).2.1, (zEx.rf h).2.2.1⟩ (by constructor <;> (simp only [zRm]; omega)) (zrm_c (zEx.rf h) c3) (by simp only [List.map_cons, List.map_nil, zcat]; exact Nat.le_of_ble_eq_true rfl) ?_
  replace hf := nm_o hf
  obtain ⟨h4, eh4, hf⟩ := hf
  rw [← eh4]
  have Eh4 : zEx h h4 := by rw [eh4]; exact zEx.ga
  have hO_h4 : zOk h4 := by rw [eh4]; exact hO_h.ga c3
  have t_a0 := t_a0.ex Eh4
  have t_x2 := t_x2.ex Eh4
  have t_o1 := t_o1.ex Eh4
  obtain ⟨-, rfl⟩ := ret_o hf
  exact z_out F htab rfl hO_h4 Eh4
def X26_copyTi (h : Hp) (a0 : Nat) (x1 : Int32) (x2 : Option Nat) (x3 : Int32) (x4 : Int32) : Option (Unit × Hp) :=
  nm (zr h a0 0) fun o1 => ck (zcs 26 h x2 = true) <| dr x2 fun a3 => nm (zr h a3 0) fun o4 => dr o4 fun a5 => dr o1 fun a6 => ck (x1 < 0 ∨ x3 < 0 ∨ x4 < 0 ∨ x1.toInt + x4.toInt > zn h a6 ∨ x3.toInt + x4.toInt > zn h a5) <| ck (zn h a6 < 2 ^ 31 ∧ zn h a5 < 2 ^ 31 ∧ zc h + 3 ≤ zLC ∧ zs h + 490 ≤ zLS) <| nm (zga h 3 490) fun h9 => some ((), h9)
set_option maxHeartbeats 4000000 in
theorem tX26_copyTi {l : Launch} {D : va_G} {tA : Nat → ClassId} {B : Nat} {kn : State → Prop} {h hE : Hp} {ad : Nat → Nat} {a0 : Nat} {x1 : Int32} {x2 : Option Nat} {x3 : Int32} {x4 : Int32} (htr : l.stackTraces = false) (hO_h : zOk h) (t_a0 : zTy h a0 26) (t_x2 : zTo h x2 53) (hf : X26_copyTi h a0 x1 x2 x3 x4 = some ((), hE)) : zTm l D tA B kn yX26_copy cX26_copy 5 (Option.none : Option Jvm.ClassFile.FieldType) 10 10372 h ad [.ref (ad a0), .int x1, va_re ad x2, .int x3, .int x4] (fun u => u = ad) "java/lang/ArrayIndexOutOfBoundsException" hE := by
  intro p e s m args below meth c F hnm htab
  rw [show lv_args 0 [.ref (ad a0), .int x1, va_re ad x2, .int x3, .int x4] = [(0, .ref (ad a0)), (1, .int x1), (2, va_re ad x2), (3, .int x3), (4, .int x4)] from by cases x2 <;> rfl]
  show ZW p l e (zRm 10 10372 h) s m args below meth c (zQT D tA B h (fun u => u = ad) "java/lang/ArrayIndexOutOfBoundsException" hE below s) D tA B 5 (zc h) (zs h) ad 0 h [(0, .ref (ad a0)), (1, .int x1), (2, va_re ad x2), (3, .int x3), (4, .int x4)] []
  replace hf := (X26_copyTi.eq_1 h a0 x1 x2 x3 x4).symm.trans hf
  refine w_aload_n F dX26_copy_0 0 rfl ?_
  refine gf_X26_7 F dX26_copy_1 hO_h (t_a0) ?_
  replace hf := nm_o hf
  obtain ⟨o1, eo1, hf⟩ := hf
  refine w_no eo1 ?_
  have t_o1 : zTo h o1 104 := zTo.rd hO_h (t_a0.1) (zTy.tg t_a0 (by decide)) (t := 26) rfl eo1
  refine w_iload_n F dX26_copy_4 1 rfl ?_
  refine w_aloado_n F dX26_copy_5 2 rfl ?_
  replace hf := ck_o hf
  obtain ⟨c2, hf⟩ := hf
  refine ky_X26_8 (o := x2) F dX26_copy_6 t_x2 c2 ?_
  have t_x2 : zTo h x2 26 := zcs_t t_x2 c2
  replace hf := dr_o hf
  obtain ⟨a3, ea3, hf⟩ := hf
  subst ea3
  have t_a3 : zTy h a3 26 := t_x2 a3 rfl
  refine gf_X26_7 F dX26_copy_9 hO_h (t_a3) ?_
  replace hf := nm_o hf
  obtain ⟨o4, eo4, hf⟩ := hf
  refine w_no eo4 ?_
  have t_o4 : zTo h o4 104 := zTo.rd hO_h (t_a3.1) (zTy.tg t_a3 (by decide)) (t := 26) rfl eo4
  refine w_iload_n F dX26_copy_12 3 rfl ?_
  refine w_iload F dX26_copy_13 4 rfl ?_
  replace hf := dr_o hf
  obtain ⟨a5, ea5, hf⟩ := hf
  subst ea5
  have t_a5 : zTy h a5 104 := t_o4 a5 rfl
  replace hf := dr_o hf
  obtain ⟨a6, ea6, hf⟩ := hf
  subst ea6
  have t_a6 : zTy h a6 104 := t_o1 a6 rfl
  replace hf := ck_o hf
  obtain ⟨c7, hf⟩ := hf
  replace hf := ck_o hf
  obtain ⟨c8, hf⟩ := hf
  refine z_acX (j := 4) (t := 104) (ty := .long) F htr rfl rfl (by decide) q1442 q1427 q1426 q135 dX26_copy_15 t_a6.1 (zTy.tg t_a6 (by decide)) t_a5.1 (zTy.tg t_a5 (by decide)) c7 c8.1 c8.2.1 ⟨(zEx.rf h).2.1, (zEx.rf h).2.2.1⟩ (by constructor <;> (simp only [zRm]; omega)) (zrm_c (zEx.rf h) c8.2.2) (Nat.le_of_ble_eq_true rfl) ?_
  replace hf := nm_o hf
  obtain ⟨h9, eh9, hf⟩ := hf
  rw [← eh9]
  have Eh9 : zEx h h9 := by rw [eh9]; exact zEx.ga
  have hO_h9 : zOk h9 := by rw [eh9]; exact hO_h.ga c8.2.2
  have t_a0 := t_a0.ex Eh9
  have t_a3 := t_a3.ex Eh9
  have t_a5 := t_a5.ex Eh9
  have t_a6 := t_a6.ex Eh9
  obtain ⟨-, rfl⟩ := ret_o hf
  exact z_out F htab rfl hO_h9 Eh9
theorem ky_X27_8 {p : Program} {l : Launch} {e : Env} {R : Room} {s : State} {m : MethodId} {args : Array Value} {below : List Frame} {meth : Method} {c : Code} {Q : State → Prop} {D : va_G} {tA : Nat → ClassId} {B nL c0 s0 : Nat} {ad : Nat → Nat} {kn : State → Prop} {cc : ByteArray} {ret : Option FieldType} {pc : Nat} {h : Hp} {lv : List (Nat × Value)} {st : List Value} {o : Option Nat} (F : ZF p s m args meth c D tA B nL kn RX27 cc ret) (hd : decode cc pc = .ok (.checkcast 8, 3)) (t : zTo h o 53) (hcs : zcs 27 h o = true) (kk : ZW p l e R s m args below meth c Q D tA B nL c0 s0 ad (pc + 3) h lv (va_re ad o :: st)) : ZW p l e R s m args below meth c Q D tA B nL c0 s0 ad pc h lv (va_re ad o :: st) := by
  cases o with
  | none => exact z_cast0 F hd kk
  | some a =>
    have hm : zt h a ∈ [23, 24, 25, 26, 27] := (t a rfl).fam (by decide)
    simp only [List.mem_cons, List.not_mem_nil, or_false] at hm
    rcases hm with ht | ht | ht | ht | ht
    · exact absurd hcs (by show ¬ zsub 27 (zt h a) = true; rw [ht]; decide)
    · exact absurd hcs (by show ¬ zsub 27 (zt h a) = true; rw [ht]; decide)
    · exact absurd hcs (by show ¬ zsub 27 (zt h a) = true; rw [ht]; decide)
    · exact absurd hcs (by show ¬ zsub 27 (zt h a) = true; rw [ht]; decide)
    · exact z_castY (ci := 27) (nm := "ThreeSnowballs$BooleanRow") F rfl (by decide) (t a rfl).1 ht q1424 (Or.inl rfl) hd kk
theorem kn_X27_8 {p : Program} {l : Launch} {e : Env} {R : Room} {s : State} {m : MethodId} {args : Array Value} {below : List Frame} {meth : Method} {c : Code} {Q : State → Prop} {D : va_G} {tA : Nat → ClassId} {B nL c0 s0 : Nat} {ad : Nat → Nat} {kn : State → Prop} {cc : ByteArray} {ret : Option FieldType} {pc : Nat} {h : Hp} {lv : List (Nat × Value)} {st : List Value} {o : Option Nat} (F : ZF p s m args meth c D tA B nL kn RX27 cc ret) (htr : l.stackTraces = false) (hd : decode cc pc = .ok (.checkcast 8, 3)) (t : zTo h o 53) (hcs : zcs 27 h o = false) (hm2 : c0 ≤ zc h ∧ s0 ≤ zs h) (hR : 8 ≤ R.frames ∧ 10272 ≤ R.locals) (hRc : (zc h - c0) + 3 ≤ R.cells ∧ (zs h - s0) + 1210 ≤ R.slots) (hst : (st.map fun v => v.category).sum ≤ 15) (kk : ZT p l e R s m args below meth c Q D tA B nL c0 s0 ad "java/lang/ClassCastException" pc (zga h 3 1210) lv) : ZW p l e R s m args below meth c Q D tA B nL c0 s0 ad pc h lv (va_re ad o :: st) := by
  cases o with
  | none => cases hcs
  | some a =>
    have hm : zt h a ∈ [23, 24, 25, 26, 27] := (t a rfl).fam (by decide)
    simp only [List.mem_cons, List.not_mem_nil, or_false] at hm
    rcases hm with ht | ht | ht | ht | ht
    · exact z_castX (ci := 23) (nm := "ThreeSnowballs$BooleanRow") F htr rfl (by decide) (t a rfl).1 ht q1424 (by decide +kernel) (by decide +kernel) (by decide +kernel) hd hm2 hR hRc hst kk
    · exact z_castX (ci := 24) (nm := "ThreeSnowballs$BooleanRow") F htr rfl (by decide) (t a rfl).1 ht q1424 (by decide +kernel) (by decide +kernel) (by decide +kernel) hd hm2 hR hRc hst kk
    · exact z_castX (ci := 25) (nm := "ThreeSnowballs$BooleanRow") F htr rfl (by decide) (t a rfl).1 ht q1424 (by decide +kernel) (by decide +kernel) (by decide +kernel) hd hm2 hR hRc hst kk
    · exact z_castX (ci := 26) (nm := "ThreeSnowballs$BooleanRow") F htr rfl (by decide) (t a rfl).1 ht q1424 (by decide +kernel) (by decide +kernel) (by decide +kernel) hd hm2 hR hRc hst kk
    · exact absurd hcs (by show ¬ zsub 27 (zt h a) = false; rw [ht]; decide)
def X27_copy (h : Hp) (a0 : Nat) (x1 : Int32) (x2 : Option Nat) (x3 : Int32) (x4 : Int32) : Option (Unit × Hp) :=
  nm (zr h a0 0) fun o1 => ck (zcs 27 h x2 = true) <| dr x2 fun a3 => nm (zr h a3 0) fun o4 => dr o4 fun a5 => dr o1 fun a6 => ck ((¬ x1 < 0 ∧ ¬ x3 < 0 ∧ ¬ x4 < 0 ∧ x1.toInt + x4.toInt ≤ zn h a6 ∧ x3.toInt + x4.toInt ≤ zn h a5) ∧ zcf .boolean h a6 x1.toNatClampNeg x4.toNatClampNeg = true) <| nm (zai h a5 (va_cpy (zi h a6) (zi h a5) x1.toNatClampNeg x3.toNatClampNeg x4.toNatClampNeg)) fun h8 => some ((), h8)
set_option maxHeartbeats 4000000 in
theorem mX27_copy {l : Launch} {D : va_G} {tA : Nat → ClassId} {B : Nat} {kn : State → Prop} {h hE : Hp} {ad : Nat → Nat} {a0 : Nat} {x1 : Int32} {x2 : Option Nat} {x3 : Int32} {x4 : Int32} (hkp : zKp D tA B kn) (hO_h : zOk h) (t_a0 : zTy h a0 27) (t_x2 : zTo h x2 53) (hf : X27_copy h a0 x1 x2 x3 x4 = some ((), hE)) : zM l D tA B kn yX27_copy (ws_ yX27_copy cX27_copy 5 (Option.none : Option Jvm.ClassFile.FieldType)) 10 10372 h ad [.ref (ad a0), .int x1, va_re ad x2, .int x3, .int x4] hE (zQv D tA B h ad hE) := by
  refine zM_of hkp (by decide +kernel) (by cases x2 <;> exact Nat.le_of_ble_eq_true rfl) ?_
  intro p e s m args below meth c F hnm
  rw [show lv_args 0 [.ref (ad a0), .int x1, va_re ad x2, .int x3, .int x4] = [(0, .ref (ad a0)), (1, .int x1), (2, va_re ad x2), (3, .int x3), (4, .int x4)] from by cases x2 <;> rfl]
  show ZW p l e (zRm 10 10372 h) s m args below meth c (MQ below (zQv D tA B h ad hE) args s (zc hE - zc h) (zs hE - zs h) (fun q => B ≤ q)) D tA B 5 (zc h) (zs h) ad 0 h [(0, .ref (ad a0)), (1, .int x1), (2, va_re ad x2), (3, .int x3), (4, .int x4)] []
  replace hf := (X27_copy.eq_1 h a0 x1 x2 x3 x4).symm.trans hf
  refine w_aload_n F dX27_copy_0 0 rfl ?_
  refine gf_X27_7 F dX27_copy_1 hO_h (t_a0) ?_
  replace hf := nm_o hf
  obtain ⟨o1, eo1, hf⟩ := hf
  refine w_no eo1 ?_
  have t_o1 : zTo h o1 103 := zTo.rd hO_h (t_a0.1) (zTy.tg t_a0 (by decide)) (t := 27) rfl eo1
  refine w_iload_n F dX27_copy_4 1 rfl ?_
  refine w_aloado_n F dX27_copy_5 2 rfl ?_
  replace hf := ck_o hf
  obtain ⟨c2, hf⟩ := hf
  refine ky_X27_8 (o := x2) F dX27_copy_6 t_x2 c2 ?_
  have t_x2 : zTo h x2 27 := zcs_t t_x2 c2
  replace hf := dr_o hf
  obtain ⟨a3, ea3, hf⟩ := hf
  subst ea3
  have t_a3 : zTy h a3 27 := t_x2 a3 rfl
  refine gf_X27_7 F dX27_copy_9 hO_h (t_a3) ?_
  replace hf := nm_o hf
  obtain ⟨o4, eo4, hf⟩ := hf
  refine w_no eo4 ?_
  have t_o4 : zTo h o4 103 := zTo.rd hO_h (t_a3.1) (zTy.tg t_a3 (by decide)) (t := 27) rfl eo4
  refine w_iload_n F dX27_copy_12 3 rfl ?_
  refine w_iload F dX27_copy_13 4 rfl ?_
  replace hf := dr_o hf
  obtain ⟨a5, ea5, hf⟩ := hf
  subst ea5
  have t_a5 : zTy h a5 103 := t_o4 a5 rfl
  replace hf := dr_o hf
  obtain ⟨a6, ea6, hf⟩ := hf
  subst ea6
  have t_a6 : zTy h a6 103 := t_o1 a6 rfl
  replace hf := ck_o hf
  obtain ⟨c7, hf⟩ := hf
  refine z_acI (j := 3) (t := 103) (ty := .boolean) F rfl rfl (by decide) rfl q1425 q1427 q1426 q135 dX27_copy_15 t_a6.1 (zTy.tg t_a6 (by decide)) t_a5.1 (zTy.tg t_a5 (by decide)) c7.1 c7.2 (by constructor <;> (simp only [zRm]; omega)) (Nat.le_of_ble_eq_true rfl) ?_
  replace hf := nm_o hf
  obtain ⟨h8, eh8, hf⟩ := hf
  refine w_nh eh8 ?_
  have Eh8 : zEx h h8 := by rw [eh8]; exact zEx.ai
  have hO_h8 : zOk h8 := by rw [eh8]; exact hO_h.ai
  have t_a0 := t_a0.ex Eh8
  have t_a3 := t_a3.ex Eh8
  have t_a5 := t_a5.ex Eh8
  have t_a6 := t_a6.ex Eh8
  obtain ⟨-, rfl⟩ := ret_o hf
  exact z_vret F dX27_copy_18 hO_h8 Eh8
def X27_copyTc (h : Hp) (a0 : Nat) (x1 : Int32) (x2 : Option Nat) (x3 : Int32) (x4 : Int32) : Option (Unit × Hp) :=
  nm (zr h a0 0) fun o1 => ck (zcs 27 h x2 = false) <| ck (zc h + 3 ≤ zLC ∧ zs h + 1210 ≤ zLS) <| nm (zga h 3 1210) fun h4 => some ((), h4)
set_option maxHeartbeats 4000000 in
theorem tX27_copyTc {l : Launch} {D : va_G} {tA : Nat → ClassId} {B : Nat} {kn : State → Prop} {h hE : Hp} {ad : Nat → Nat} {a0 : Nat} {x1 : Int32} {x2 : Option Nat} {x3 : Int32} {x4 : Int32} (htr : l.stackTraces = false) (hO_h : zOk h) (t_a0 : zTy h a0 27) (t_x2 : zTo h x2 53) (hf : X27_copyTc h a0 x1 x2 x3 x4 = some ((), hE)) : zTm l D tA B kn yX27_copy cX27_copy 5 (Option.none : Option Jvm.ClassFile.FieldType) 10 10372 h ad [.ref (ad a0), .int x1, va_re ad x2, .int x3, .int x4] (fun u => u = ad) "java/lang/ClassCastException" hE := by
  intro p e s m args below meth c F hnm htab
  rw [show lv_args 0 [.ref (ad a0), .int x1, va_re ad x2, .int x3, .int x4] = [(0, .ref (ad a0)), (1, .int x1), (2, va_re ad x2), (3, .int x3), (4, .int x4)] from by cases x2 <;> rfl]
  show ZW p l e (zRm 10 10372 h) s m args below meth c (zQT D tA B h (fun u => u = ad) "java/lang/ClassCastException" hE below s) D tA B 5 (zc h) (zs h) ad 0 h [(0, .ref (ad a0)), (1, .int x1), (2, va_re ad x2), (3, .int x3), (4, .int x4)] []
  replace hf := (X27_copyTc.eq_1 h a0 x1 x2 x3 x4).symm.trans hf
  refine w_aload_n F dX27_copy_0 0 rfl ?_
  refine gf_X27_7 F dX27_copy_1 hO_h (t_a0) ?_
  replace hf := nm_o hf
  obtain ⟨o1, eo1, hf⟩ := hf
  refine w_no eo1 ?_
  have t_o1 : zTo h o1 103 := zTo.rd hO_h (t_a0.1) (zTy.tg t_a0 (by decide)) (t := 27) rfl eo1
  refine w_iload_n F dX27_copy_4 1 rfl ?_
  refine w_aloado_n F dX27_copy_5 2 rfl ?_
  replace hf := ck_o hf
  obtain ⟨c2, hf⟩ := hf
  replace hf := ck_o hf
  obtain ⟨c3, hf⟩ := hf
  refine kn_X27_8 (o := x2) F htr dX27_copy_6 t_x2 c2 ⟨(zEx.rf h).2.1, (zEx.rf h).2.2.1⟩ (by constructor <;> (simp only [zRm]; omega)) (zrm_c (zEx.rf h) c3) (by simp only [List.map_cons, List.map_nil, zcat]; exact Nat.le_of_ble_eq_true rfl) ?_
  replace hf := nm_o hf
  obtain ⟨h4, eh4, hf⟩ := hf
  rw [← eh4]
  have Eh4 : zEx h h4 := by rw [eh4]; exact zEx.ga
  have hO_h4 : zOk h4 := by rw [eh4]; exact hO_h.ga c3
  have t_a0 := t_a0.ex Eh4
  have t_x2 := t_x2.ex Eh4
  have t_o1 := t_o1.ex Eh4
  obtain ⟨-, rfl⟩ := ret_o hf
  exact z_out F htab rfl hO_h4 Eh4
def X27_copyTi (h : Hp) (a0 : Nat) (x1 : Int32) (x2 : Option Nat) (x3 : Int32) (x4 : Int32) : Option (Unit × Hp) :=
  nm (zr h a0 0) fun o1 => ck (zcs 27 h x2 = true) <| dr x2 fun a3 => nm (zr h a3 0) fun o4 => dr o4 fun a5 => dr o1 fun a6 => ck (x1 < 0 ∨ x3 < 0 ∨ x4 < 0 ∨ x1.toInt + x4.toInt > zn h a6 ∨ x3.toInt + x4.toInt > zn h a5) <| ck (zn h a6 < 2 ^ 31 ∧ zn h a5 < 2 ^ 31 ∧ zc h + 3 ≤ zLC ∧ zs h + 490 ≤ zLS) <| nm (zga h 3 490) fun h9 => some ((), h9)
set_option maxHeartbeats 4000000 in
theorem tX27_copyTi {l : Launch} {D : va_G} {tA : Nat → ClassId} {B : Nat} {kn : State → Prop} {h hE : Hp} {ad : Nat → Nat} {a0 : Nat} {x1 : Int32} {x2 : Option Nat} {x3 : Int32} {x4 : Int32} (htr : l.stackTraces = false) (hO_h : zOk h) (t_a0 : zTy h a0 27) (t_x2 : zTo h x2 53) (hf : X27_copyTi h a0 x1 x2 x3 x4 = some ((), hE)) : zTm l D tA B kn yX27_copy cX27_copy 5 (Option.none : Option Jvm.ClassFile.FieldType) 10 10372 h ad [.ref (ad a0), .int x1, va_re ad x2, .int x3, .int x4] (fun u => u = ad) "java/lang/ArrayIndexOutOfBoundsException" hE := by
  intro p e s m args below meth c F hnm htab
  rw [show lv_args 0 [.ref (ad a0), .int x1, va_re ad x2, .int x3, .int x4] = [(0, .ref (ad a0)), (1, .int x1), (2, va_re ad x2), (3, .int x3), (4, .int x4)] from by cases x2 <;> rfl]
  show ZW p l e (zRm 10 10372 h) s m args below meth c (zQT D tA B h (fun u => u = ad) "java/lang/ArrayIndexOutOfBoundsException" hE below s) D tA B 5 (zc h) (zs h) ad 0 h [(0, .ref (ad a0)), (1, .int x1), (2, va_re ad x2), (3, .int x3), (4, .int x4)] []
  replace hf := (X27_copyTi.eq_1 h a0 x1 x2 x3 x4).symm.trans hf
  refine w_aload_n F dX27_copy_0 0 rfl ?_
  refine gf_X27_7 F dX27_copy_1 hO_h (t_a0) ?_
  replace hf := nm_o hf
  obtain ⟨o1, eo1, hf⟩ := hf
  refine w_no eo1 ?_
  have t_o1 : zTo h o1 103 := zTo.rd hO_h (t_a0.1) (zTy.tg t_a0 (by decide)) (t := 27) rfl eo1
  refine w_iload_n F dX27_copy_4 1 rfl ?_
  refine w_aloado_n F dX27_copy_5 2 rfl ?_
  replace hf := ck_o hf
  obtain ⟨c2, hf⟩ := hf
  refine ky_X27_8 (o := x2) F dX27_copy_6 t_x2 c2 ?_
  have t_x2 : zTo h x2 27 := zcs_t t_x2 c2
  replace hf := dr_o hf
  obtain ⟨a3, ea3, hf⟩ := hf
  subst ea3
  have t_a3 : zTy h a3 27 := t_x2 a3 rfl
  refine gf_X27_7 F dX27_copy_9 hO_h (t_a3) ?_
  replace hf := nm_o hf
  obtain ⟨o4, eo4, hf⟩ := hf
  refine w_no eo4 ?_
  have t_o4 : zTo h o4 103 := zTo.rd hO_h (t_a3.1) (zTy.tg t_a3 (by decide)) (t := 27) rfl eo4
  refine w_iload_n F dX27_copy_12 3 rfl ?_
  refine w_iload F dX27_copy_13 4 rfl ?_
  replace hf := dr_o hf
  obtain ⟨a5, ea5, hf⟩ := hf
  subst ea5
  have t_a5 : zTy h a5 103 := t_o4 a5 rfl
  replace hf := dr_o hf
  obtain ⟨a6, ea6, hf⟩ := hf
  subst ea6
  have t_a6 : zTy h a6 103 := t_o1 a6 rfl
  replace hf := ck_o hf
  obtain ⟨c7, hf⟩ := hf
  replace hf := ck_o hf
  obtain ⟨c8, hf⟩ := hf
  refine z_acX (j := 3) (t := 103) (ty := .boolean) F htr rfl rfl (by decide) q1425 q1427 q1426 q135 dX27_copy_15 t_a6.1 (zTy.tg t_a6 (by decide)) t_a5.1 (zTy.tg t_a5 (by decide)) c7 c8.1 c8.2.1 ⟨(zEx.rf h).2.1, (zEx.rf h).2.2.1⟩ (by constructor <;> (simp only [zRm]; omega)) (zrm_c (zEx.rf h) c8.2.2) (Nat.le_of_ble_eq_true rfl) ?_
  replace hf := nm_o hf
  obtain ⟨h9, eh9, hf⟩ := hf
  rw [← eh9]
  have Eh9 : zEx h h9 := by rw [eh9]; exact zEx.ga
  have hO_h9 : zOk h9 := by rw [eh9]; exact hO_h.ga c8.2.2
  have t_a0 := t_a0.ex Eh9
  have t_a3 := t_a3.ex Eh9
  have t_a5 := t_a5.ex Eh9
  have t_a6 := t_a6.ex Eh9
  obtain ⟨-, rfl⟩ := ret_o hf
  exact z_out F htab rfl hO_h9 Eh9
def V22_copy (h : Hp) (a0 : Nat) (x1 : Int32) (x2 : Option Nat) (x3 : Int32) (x4 : Int32) : Option (Unit × Hp) :=
  if zt h a0 = 23 then X23_copy h a0 x1 x2 x3 x4 else if zt h a0 = 24 then X24_copy h a0 x1 x2 x3 x4 else if zt h a0 = 25 then X25_copy h a0 x1 x2 x3 x4 else if zt h a0 = 26 then X26_copy h a0 x1 x2 x3 x4 else if zt h a0 = 27 then X27_copy h a0 x1 x2 x3 x4 else none
theorem V22_copy_23 {h : Hp} {a0 : Nat} {x1 : Int32} {x2 : Option Nat} {x3 : Int32} {x4 : Int32} (ht : zt h a0 = 23) : V22_copy h a0 x1 x2 x3 x4 = X23_copy h a0 x1 x2 x3 x4 := by
  unfold V22_copy
  rw [ht]
  rfl
theorem V22_copy_24 {h : Hp} {a0 : Nat} {x1 : Int32} {x2 : Option Nat} {x3 : Int32} {x4 : Int32} (ht : zt h a0 = 24) : V22_copy h a0 x1 x2 x3 x4 = X24_copy h a0 x1 x2 x3 x4 := by
  unfold V22_copy
  rw [ht]
  rfl
theorem V22_copy_25 {h : Hp} {a0 : Nat} {x1 : Int32} {x2 : Option Nat} {x3 : Int32} {x4 : Int32} (ht : zt h a0 = 25) : V22_copy h a0 x1 x2 x3 x4 = X25_copy h a0 x1 x2 x3 x4 := by
  unfold V22_copy
  rw [ht]
  rfl
theorem V22_copy_26 {h : Hp} {a0 : Nat} {x1 : Int32} {x2 : Option Nat} {x3 : Int32} {x4 : Int32} (ht : zt h a0 = 26) : V22_copy h a0 x1 x2 x3 x4 = X26_copy h a0 x1 x2 x3 x4 := by
  unfold V22_copy
  rw [ht]
  rfl
theorem V22_copy_27 {h : Hp} {a0 : Nat} {x1 : Int32} {x2 : Option Nat} {x3 : Int32} {x4 : Int32} (ht : zt h a0 = 27) : V22_copy h a0 x1 x2 x3 x4 = X27_copy h a0 x1 x2 x3 x4 := by
  unfold V22_copy
  rw [ht]
  rfl

def V22_copyTc (h : Hp) (a0 : Nat) (x1 : Int32) (x2 : Option Nat) (x3 : Int32) (x4 : Int32) : Option (Unit × Hp) :=
  if zt h a0 = 23 then X23_copyTc h a0 x1 x2 x3 x4 else if zt h a0 = 24 then X24_copyTc h a0 x1 x2 x3 x4 else if zt h a0 = 25 then X25_copyTc h a0 x1 x2 x3 x4 else if zt h a0 = 26 then X26_copyTc h a0 x1 x2 x3 x4 else if zt h a0 = 27 then X27_copyTc h a0 x1 x2 x3 x4 else none
theorem V22_copyTc_23 {h : Hp} {a0 : Nat} {x1 : Int32} {x2 : Option Nat} {x3 : Int32} {x4 : Int32} (ht : zt h a0 = 23) : V22_copyTc h a0 x1 x2 x3 x4 = X23_copyTc h a0 x1 x2 x3 x4 := by
  unfold V22_copyTc
  rw [ht]
  rfl
theorem V22_copyTc_24 {h : Hp} {a0 : Nat} {x1 : Int32} {x2 : Option Nat} {x3 : Int32} {x4 : Int32} (ht : zt h a0 = 24) : V22_copyTc h a0 x1 x2 x3 x4 = X24_copyTc h a0 x1 x2 x3 x4 := by
  unfold V22_copyTc
  rw [ht]
  rfl
theorem V22_copyTc_25 {h : Hp} {a0 : Nat} {x1 : Int32} {x2 : Option Nat} {x3 : Int32} {x4 : Int32} (ht : zt h a0 = 25) : V22_copyTc h a0 x1 x2 x3 x4 = X25_copyTc h a0 x1 x2 x3 x4 := by
  unfold V22_copyTc
  rw [ht]
  rfl
theorem V22_copyTc_26 {h : Hp} {a0 : Nat} {x1 : Int32} {x2 : Option Nat} {x3 : Int32} {x4 : Int32} (ht : zt h a0 = 26) : V22_copyTc h a0 x1 x2 x3 x4 = X26_copyTc h a0 x1 x2 x3 x4 := by
  unfold V22_copyTc
  rw [ht]
  rfl
theorem V22_copyTc_27 {h : Hp} {a0 : Nat} {x1 : Int32} {x2 : Option Nat} {x3 : Int32} {x4 : Int32} (ht : zt h a0 = 27) : V22_copyTc h a0 x1 x2 x3 x4 = X27_copyTc h a0 x1 x2 x3 x4 := by
  unfold V22_copyTc
  rw [ht]
  rfl

def V22_copyTi (h : Hp) (a0 : Nat) (x1 : Int32) (x2 : Option Nat) (x3 : Int32) (x4 : Int32) : Option (Unit × Hp) :=
  if zt h a0 = 23 then X23_copyTi h a0 x1 x2 x3 x4 else if zt h a0 = 24 then X24_copyTi h a0 x1 x2 x3 x4 else if zt h a0 = 25 then X25_copyTi h a0 x1 x2 x3 x4 else if zt h a0 = 26 then X26_copyTi h a0 x1 x2 x3 x4 else if zt h a0 = 27 then X27_copyTi h a0 x1 x2 x3 x4 else none
theorem V22_copyTi_23 {h : Hp} {a0 : Nat} {x1 : Int32} {x2 : Option Nat} {x3 : Int32} {x4 : Int32} (ht : zt h a0 = 23) : V22_copyTi h a0 x1 x2 x3 x4 = X23_copyTi h a0 x1 x2 x3 x4 := by
  unfold V22_copyTi
  rw [ht]
  rfl
theorem V22_copyTi_24 {h : Hp} {a0 : Nat} {x1 : Int32} {x2 : Option Nat} {x3 : Int32} {x4 : Int32} (ht : zt h a0 = 24) : V22_copyTi h a0 x1 x2 x3 x4 = X24_copyTi h a0 x1 x2 x3 x4 := by
  unfold V22_copyTi
  rw [ht]
  rfl
theorem V22_copyTi_25 {h : Hp} {a0 : Nat} {x1 : Int32} {x2 : Option Nat} {x3 : Int32} {x4 : Int32} (ht : zt h a0 = 25) : V22_copyTi h a0 x1 x2 x3 x4 = X25_copyTi h a0 x1 x2 x3 x4 := by
  unfold V22_copyTi
  rw [ht]
  rfl
theorem V22_copyTi_26 {h : Hp} {a0 : Nat} {x1 : Int32} {x2 : Option Nat} {x3 : Int32} {x4 : Int32} (ht : zt h a0 = 26) : V22_copyTi h a0 x1 x2 x3 x4 = X26_copyTi h a0 x1 x2 x3 x4 := by
  unfold V22_copyTi
  rw [ht]
  rfl
theorem V22_copyTi_27 {h : Hp} {a0 : Nat} {x1 : Int32} {x2 : Option Nat} {x3 : Int32} {x4 : Int32} (ht : zt h a0 = 27) : V22_copyTi h a0 x1 x2 x3 x4 = X27_copyTi h a0 x1 x2 x3 x4 := by
  unfold V22_copyTi
  rw [ht]
  rfl

theorem cl_X0_479 {p : Program} {l : Launch} {e : Env} {s : State} {m : MethodId} {args : Array Value} {below : List Frame} {meth : Method} {c : Code} {Q : State → Prop} {D : va_G} {tA : Nat → ClassId} {B nL : Nat} {ad : Nat → Nat} {kn : State → Prop} {cc : ByteArray} {ret : Option FieldType} {pc : Nat} {h : Hp} {lv : List (Nat × Value)} {Fr Lo : Nat} {h0 h1 : Hp} {rest : List Value} {a0 : Nat} {x1 : Int32} {r : Int64} (F : ZF p s m args meth c D tA B nL kn RX0 cc ret) (hd : decode cc pc = .ok (.invokevirtual 479, 3)) (hO : zOk h) (hE : zEx h0 h) (t_a0 : zTy h a0 53) (hR : 0 + 1 ≤ (zRm Fr Lo h0).frames ∧ 16 + (0 + 11) + 2 ≤ (zRm Fr Lo h0).locals) (hf : V22_at h a0 x1 = some (r, h1)) (hr : (rest.map fun v => v.category).sum ≤ 16) (kk : zOk h1 → zEx h h1 → ZW p l e (zRm Fr Lo h0) s m args below meth c Q D tA B nL (zc h0) (zs h0) ad (pc + 3) h1 lv (.long r :: rest)) : ZW p l e (zRm Fr Lo h0) s m args below meth c Q D tA B nL (zc h0) (zs h0) ad pc h lv (.int x1 :: .ref (ad a0) :: rest) := by
  have hm : zt h a0 ∈ [23, 24, 25, 26, 27] := t_a0.fam (by decide)
  simp only [List.mem_cons, List.not_mem_nil, or_false] at hm
  rcases hm with ht | ht | ht | ht | ht
  · exact z_cl ⟨hE.2.1, hE.2.2.1⟩ (fun H locs ls hw hl => z_runU (q := a0) (ci := 23) F (mX23_at F.2.2.2.2.2.1 hO (⟨t_a0.1, by rw [ht]; decide⟩)  (V22_at_23 ht ▸ hf)) (zCw.of (FF := 0) (LL := 0) 1 F.ts q471 q130 (by decide +kernel) (by have h1 := hR.1; have h2 := hR.2; constructor <;> (simp only [zRm] at h1 h2 ⊢; omega))) q1398 q1400 (va_Decl.abs (F.N _ (zNW_of q1399 rfl))) (by decide +kernel) q469 q1404 rfl rfl (by decide) t_a0.1 ht rfl hr hd hw hl (z_fit hE hO)) kk
  · exact z_cl ⟨hE.2.1, hE.2.2.1⟩ (fun H locs ls hw hl => z_runU (q := a0) (ci := 24) F (mX24_at F.2.2.2.2.2.1 hO (⟨t_a0.1, by rw [ht]; decide⟩)  (V22_at_24 ht ▸ hf)) (zCw.of (FF := 0) (LL := 0) 1 F.ts q1413 q131 (by decide +kernel) (by have h1 := hR.1; have h2 := hR.2; constructor <;> (simp only [zRm] at h1 h2 ⊢; omega))) q1398 q1400 (va_Decl.abs (F.N _ (zNW_of q1399 rfl))) (by decide +kernel) q1412 q1411 rfl rfl (by decide) t_a0.1 ht rfl hr hd hw hl (z_fit hE hO)) kk
  · exact z_cl ⟨hE.2.1, hE.2.2.1⟩ (fun H locs ls hw hl => z_runU (q := a0) (ci := 25) F (mX25_at F.2.2.2.2.2.1 hO (⟨t_a0.1, by rw [ht]; decide⟩)  (V22_at_25 ht ▸ hf)) (zCw.of (FF := 0) (LL := 0) 1 F.ts q1407 q132 (by decide +kernel) (by have h1 := hR.1; have h2 := hR.2; constructor <;> (simp only [zRm] at h1 h2 ⊢; omega))) q1398 q1400 (va_Decl.abs (F.N _ (zNW_of q1399 rfl))) (by decide +kernel) q1406 q1405 rfl rfl (by decide) t_a0.1 ht rfl hr hd hw hl (z_fit hE hO)) kk
  · exact z_cl ⟨hE.2.1, hE.2.2.1⟩ (fun H locs ls hw hl => z_runU (q := a0) (ci := 26) F (mX26_at F.2.2.2.2.2.1 hO (⟨t_a0.1, by rw [ht]; decide⟩)  (V22_at_26 ht ▸ hf)) (zCw.of (FF := 0) (LL := 0) 1 F.ts q1410 q133 (by decide +kernel) (by have h1 := hR.1; have h2 := hR.2; constructor <;> (simp only [zRm] at h1 h2 ⊢; omega))) q1398 q1400 (va_Decl.abs (F.N _ (zNW_of q1399 rfl))) (by decide +kernel) q1409 q1408 rfl rfl (by decide) t_a0.1 ht rfl hr hd hw hl (z_fit hE hO)) kk
  · exact z_cl ⟨hE.2.1, hE.2.2.1⟩ (fun H locs ls hw hl => z_runU (q := a0) (ci := 27) F (mX27_at F.2.2.2.2.2.1 hO (⟨t_a0.1, by rw [ht]; decide⟩)  (V22_at_27 ht ▸ hf)) (zCw.of (FF := 0) (LL := 0) 1 F.ts q1403 q134 (by decide +kernel) (by have h1 := hR.1; have h2 := hR.2; constructor <;> (simp only [zRm] at h1 h2 ⊢; omega))) q1398 q1400 (va_Decl.abs (F.N _ (zNW_of q1399 rfl))) (by decide +kernel) q1402 q1401 rfl rfl (by decide) t_a0.1 ht rfl hr hd hw hl (z_fit hE hO)) kk
theorem ky_X0_473 {p : Program} {l : Launch} {e : Env} {R : Room} {s : State} {m : MethodId} {args : Array Value} {below : List Frame} {meth : Method} {c : Code} {Q : State → Prop} {D : va_G} {tA : Nat → ClassId} {B nL c0 s0 : Nat} {ad : Nat → Nat} {kn : State → Prop} {cc : ByteArray} {ret : Option FieldType} {pc : Nat} {h : Hp} {lv : List (Nat × Value)} {st : List Value} {o : Option Nat} (F : ZF p s m args meth c D tA B nL kn RX0 cc ret) (hd : decode cc pc = .ok (.checkcast 473, 3)) (t : zTo h o 51) (hcs : zcs 53 h o = true) (kk : ZW p l e R s m args below meth c Q D tA B nL c0 s0 ad (pc + 3) h lv (va_re ad o :: st)) : ZW p l e R s m args below meth c Q D tA B nL c0 s0 ad pc h lv (va_re ad o :: st) := by
  cases o with
  | none => exact z_cast0 F hd kk
  | some a =>
    have hm : zt h a ∈ [14, 15, 16, 17, 18, 19, 20, 21, 23, 24, 25, 26, 27] := (t a rfl).fam (by decide)
    simp only [List.mem_cons, List.not_mem_nil, or_false] at hm
    rcases hm with ht | ht | ht | ht | ht | ht | ht | ht | ht | ht | ht | ht | ht
    · exact absurd hcs (by show ¬ zsub 53 (zt h a) = true; rw [ht]; decide)
    · exact absurd hcs (by show ¬ zsub 53 (zt h a) = true; rw [ht]; decide)
    · exact absurd hcs (by show ¬ zsub 53 (zt h a) = true; rw [ht]; decide)
    · exact absurd hcs (by show ¬ zsub 53 (zt h a) = true; rw [ht]; decide)
    · exact absurd hcs (by show ¬ zsub 53 (zt h a) = true; rw [ht]; decide)
    · exact absurd hcs (by show ¬ zsub 53 (zt h a) = true; rw [ht]; decide)
    · exact absurd hcs (by show ¬ zsub 53 (zt h a) = true; rw [ht]; decide)
    · exact absurd hcs (by show ¬ zsub 53 (zt h a) = true; rw [ht]; decide)
    · exact z_castY (ci := 23) (nm := "ThreeSnowballs$Row") F rfl (by decide) (t a rfl).1 ht q1375 (Or.inr (zNW_of q2065 rfl)) hd kk
    · exact z_castY (ci := 24) (nm := "ThreeSnowballs$Row") F rfl (by decide) (t a rfl).1 ht q1375 (Or.inr (zNW_of q2068 rfl)) hd kk
    · exact z_castY (ci := 25) (nm := "ThreeSnowballs$Row") F rfl (by decide) (t a rfl).1 ht q1375 (Or.inr (zNW_of q2066 rfl)) hd kk
    · exact z_castY (ci := 26) (nm := "ThreeSnowballs$Row") F rfl (by decide) (t a rfl).1 ht q1375 (Or.inr (zNW_of q2067 rfl)) hd kk
    · exact z_castY (ci := 27) (nm := "ThreeSnowballs$Row") F rfl (by decide) (t a rfl).1 ht q1375 (Or.inr (zNW_of q2064 rfl)) hd kk
theorem kn_X0_473 {p : Program} {l : Launch} {e : Env} {R : Room} {s : State} {m : MethodId} {args : Array Value} {below : List Frame} {meth : Method} {c : Code} {Q : State → Prop} {D : va_G} {tA : Nat → ClassId} {B nL c0 s0 : Nat} {ad : Nat → Nat} {kn : State → Prop} {cc : ByteArray} {ret : Option FieldType} {pc : Nat} {h : Hp} {lv : List (Nat × Value)} {st : List Value} {o : Option Nat} (F : ZF p s m args meth c D tA B nL kn RX0 cc ret) (htr : l.stackTraces = false) (hd : decode cc pc = .ok (.checkcast 473, 3)) (t : zTo h o 51) (hcs : zcs 53 h o = false) (hm2 : c0 ≤ zc h ∧ s0 ≤ zs h) (hR : 8 ≤ R.frames ∧ 10272 ≤ R.locals) (hRc : (zc h - c0) + 3 ≤ R.cells ∧ (zs h - s0) + 1210 ≤ R.slots) (hst : (st.map fun v => v.category).sum ≤ 15) (kk : ZT p l e R s m args below meth c Q D tA B nL c0 s0 ad "java/lang/ClassCastException" pc (zga h 3 1210) lv) : ZW p l e R s m args below meth c Q D tA B nL c0 s0 ad pc h lv (va_re ad o :: st) := by
  cases o with
  | none => cases hcs
  | some a =>
    have hm : zt h a ∈ [14, 15, 16, 17, 18, 19, 20, 21, 23, 24, 25, 26, 27] := (t a rfl).fam (by decide)
    simp only [List.mem_cons, List.not_mem_nil, or_false] at hm
    rcases hm with ht | ht | ht | ht | ht | ht | ht | ht | ht | ht | ht | ht | ht
    · exact z_castX (ci := 14) (nm := "ThreeSnowballs$Row") F htr rfl (by decide) (t a rfl).1 ht q1375 (by decide +kernel) (by decide +kernel) (by decide +kernel) hd hm2 hR hRc hst kk
    · exact z_castX (ci := 15) (nm := "ThreeSnowballs$Row") F htr rfl (by decide) (t a rfl).1 ht q1375 (by decide +kernel) (by decide +kernel) (by decide +kernel) hd hm2 hR hRc hst kk
    · exact z_castX (ci := 16) (nm := "ThreeSnowballs$Row") F htr rfl (by decide) (t a rfl).1 ht q1375 (by decide +kernel) (by decide +kernel) (by decide +kernel) hd hm2 hR hRc hst kk
    · exact z_castX (ci := 17) (nm := "ThreeSnowballs$Row") F htr rfl (by decide) (t a rfl).1 ht q1375 (by decide +kernel) (by decide +kernel) (by decide +kernel) hd hm2 hR hRc hst kk
    · exact z_castX (ci := 18) (nm := "ThreeSnowballs$Row") F htr rfl (by decide) (t a rfl).1 ht q1375 (by decide +kernel) (by decide +kernel) (by decide +kernel) hd hm2 hR hRc hst kk
    · exact z_castX (ci := 19) (nm := "ThreeSnowballs$Row") F htr rfl (by decide) (t a rfl).1 ht q1375 (by decide +kernel) (by decide +kernel) (by decide +kernel) hd hm2 hR hRc hst kk
    · exact z_castX (ci := 20) (nm := "ThreeSnowballs$Row") F htr rfl (by decide) (t a rfl).1 ht q1375 (by decide +kernel) (by decide +kernel) (by decide +kernel) hd hm2 hR hRc hst kk
    · exact z_castX (ci := 21) (nm := "ThreeSnowballs$Row") F htr rfl (by decide) (t a rfl).1 ht q1375 (by decide +kernel) (by decide +kernel) (by decide +kernel) hd hm2 hR hRc hst kk
    · exact absurd hcs (by show ¬ zsub 53 (zt h a) = false; rw [ht]; decide)
    · exact absurd hcs (by show ¬ zsub 53 (zt h a) = false; rw [ht]; decide)
    · exact absurd hcs (by show ¬ zsub 53 (zt h a) = false; rw [ht]; decide)
    · exact absurd hcs (by show ¬ zsub 53 (zt h a) = false; rw [ht]; decide)
    · exact absurd hcs (by show ¬ zsub 53 (zt h a) = false; rw [ht]; decide)
theorem nu_X0_479 {p : Program} {l : Launch} {e : Env} {R : Room} {s : State} {m : MethodId} {args : Array Value} {below : List Frame} {meth : Method} {c : Code} {Q : State → Prop} {D : va_G} {tA : Nat → ClassId} {B nL c0 s0 : Nat} {ad : Nat → Nat} {kn : State → Prop} {cc : ByteArray} {ret : Option FieldType} {pc : Nat} {h : Hp} {lv : List (Nat × Value)} {st : List Value} {n0 : Int32} (F : ZF p s m args meth c D tA B nL kn RX0 cc ret) (htr : l.stackTraces = false) (hd : decode cc pc = .ok (.invokevirtual 479, 3)) (hm : c0 ≤ zc h ∧ s0 ≤ zs h) (hR : 8 ≤ R.frames ∧ 10272 ≤ R.locals) (hRc : (zc h - c0) + 1 ≤ R.cells ∧ (zs h - s0) + 8 ≤ R.slots) (hst : (st.map fun v => v.category).sum ≤ 16) (kk : ZT p l e R s m args below meth c Q D tA B nL c0 s0 ad "java/lang/NullPointerException" pc (zga h 1 8) lv) : ZW p l e R s m args below meth c Q D tA B nL c0 s0 ad pc h lv (.int n0 :: .null :: st) :=
  z_nulU (n := 1) (As := [.int n0]) (owner := "ThreeSnowballs$Row") F htr q1398 q1400 (zNW_of q1399 rfl) (by decide +kernel) rfl hd hm hR hRc hst kk
theorem ct_X0_479i {p : Program} {l : Launch} {e : Env} {s : State} {m : MethodId} {args : Array Value} {below : List Frame} {meth : Method} {c : Code} {Q : State → Prop} {D : va_G} {tA : Nat → ClassId} {B nL : Nat} {ad : Nat → Nat} {kn : State → Prop} {cc : ByteArray} {ret : Option FieldType} {pc : Nat} {h : Hp} {lv : List (Nat × Value)} {Fr Lo : Nat} {h0 h1 : Hp} {rest : List Value} {a0 : Nat} {x1 : Int32} (F : ZF p s m args meth c D tA B nL kn RX0 cc ret) (htr : l.stackTraces = false) (hd : decode cc pc = .ok (.invokevirtual 479, 3)) (hO : zOk h) (hE : zEx h0 h) (t_a0 : zTy h a0 53) (hR : 8 + 1 ≤ (zRm Fr Lo h0).frames ∧ 16 + (0 + 11) + 10274 ≤ (zRm Fr Lo h0).locals) (hf : V22_atTi h a0 x1 = some ((), h1)) (hr : (rest.map fun v => v.category).sum ≤ 16) (kk : ∀ u, (fun u => u = ad) u → zOk h1 → zEx h h1 → ZT p l e (zRm Fr Lo h0) s m args below meth c Q D tA B nL (zc h0) (zs h0) u "java/lang/ArrayIndexOutOfBoundsException" pc h1 lv) : ZW p l e (zRm Fr Lo h0) s m args below meth c Q D tA B nL (zc h0) (zs h0) ad pc h lv (.int x1 :: .ref (ad a0) :: rest) := by
  have hm : zt h a0 ∈ [23, 24, 25, 26, 27] := t_a0.fam (by decide)
  simp only [List.mem_cons, List.not_mem_nil, or_false] at hm
  rcases hm with ht | ht | ht | ht | ht
  · exact z_thrU (q := a0) (ci := 23) F (tX23_atTi htr hO (⟨t_a0.1, by rw [ht]; decide⟩)  (V22_atTi_23 ht ▸ hf)) (zCw.of (FF := 8) (LL := 10272) 1 F.ts q471 q130 (by decide +kernel) (by have h1 := hR.1; have h2 := hR.2; constructor <;> (simp only [zRm] at h1 h2 ⊢; omega))) (by decide +kernel) (Nat.le_of_ble_eq_true rfl) q1398 q1400 (va_Decl.abs (F.N _ (zNW_of q1399 rfl))) (by decide +kernel) q469 q1404 rfl rfl (by decide) t_a0.1 ht rfl hr hd ⟨hE.2.1, hE.2.2.1⟩ (z_fit hE hO) kk
  · exact z_thrU (q := a0) (ci := 24) F (tX24_atTi htr hO (⟨t_a0.1, by rw [ht]; decide⟩)  (V22_atTi_24 ht ▸ hf)) (zCw.of (FF := 8) (LL := 10272) 1 F.ts q1413 q131 (by decide +kernel) (by have h1 := hR.1; have h2 := hR.2; constructor <;> (simp only [zRm] at h1 h2 ⊢; omega))) (by decide +kernel) (Nat.le_of_ble_eq_true rfl) q1398 q1400 (va_Decl.abs (F.N _ (zNW_of q1399 rfl))) (by decide +kernel) q1412 q1411 rfl rfl (by decide) t_a0.1 ht rfl hr hd ⟨hE.2.1, hE.2.2.1⟩ (z_fit hE hO) kk
  · exact z_thrU (q := a0) (ci := 25) F (tX25_atTi htr hO (⟨t_a0.1, by rw [ht]; decide⟩)  (V22_atTi_25 ht ▸ hf)) (zCw.of (FF := 8) (LL := 10272) 1 F.ts q1407 q132 (by decide +kernel) (by have h1 := hR.1; have h2 := hR.2; constructor <;> (simp only [zRm] at h1 h2 ⊢; omega))) (by decide +kernel) (Nat.le_of_ble_eq_true rfl) q1398 q1400 (va_Decl.abs (F.N _ (zNW_of q1399 rfl))) (by decide +kernel) q1406 q1405 rfl rfl (by decide) t_a0.1 ht rfl hr hd ⟨hE.2.1, hE.2.2.1⟩ (z_fit hE hO) kk
  · exact z_thrU (q := a0) (ci := 26) F (tX26_atTi htr hO (⟨t_a0.1, by rw [ht]; decide⟩)  (V22_atTi_26 ht ▸ hf)) (zCw.of (FF := 8) (LL := 10272) 1 F.ts q1410 q133 (by decide +kernel) (by have h1 := hR.1; have h2 := hR.2; constructor <;> (simp only [zRm] at h1 h2 ⊢; omega))) (by decide +kernel) (Nat.le_of_ble_eq_true rfl) q1398 q1400 (va_Decl.abs (F.N _ (zNW_of q1399 rfl))) (by decide +kernel) q1409 q1408 rfl rfl (by decide) t_a0.1 ht rfl hr hd ⟨hE.2.1, hE.2.2.1⟩ (z_fit hE hO) kk
  · exact z_thrU (q := a0) (ci := 27) F (tX27_atTi htr hO (⟨t_a0.1, by rw [ht]; decide⟩)  (V22_atTi_27 ht ▸ hf)) (zCw.of (FF := 8) (LL := 10272) 1 F.ts q1403 q134 (by decide +kernel) (by have h1 := hR.1; have h2 := hR.2; constructor <;> (simp only [zRm] at h1 h2 ⊢; omega))) (by decide +kernel) (Nat.le_of_ble_eq_true rfl) q1398 q1400 (va_Decl.abs (F.N _ (zNW_of q1399 rfl))) (by decide +kernel) q1402 q1401 rfl rfl (by decide) t_a0.1 ht rfl hr hd ⟨hE.2.1, hE.2.2.1⟩ (z_fit hE hO) kk
def X0_element (h : Hp) (x1 : Int32) (x2 : Int32) : Option (Int64 × Hp) :=
  bd (X0_isShelf h x1) fun r2 h1 => if r2 = 0 then (some ((-9223372036854775808 : Int64), h1)) else (ck (0 ≤ x1.toInt ∧ x1.toInt < 6) <| nm (zr h1 16 x1.toNatClampNeg) fun o5 => if zcs 53 h1 o5 = true then (oc o5 (ck (zc h1 + 1 ≤ zLC ∧ zs h1 + 8 ≤ zLS) <| nm (zga h1 1 8) fun h11 => some ((-9223372036854775808 : Int64), h11)) fun a13 => tc (V22_atTi h1 a13 x2) (fun h14 => some ((-9223372036854775808 : Int64), h14)) (bd (V22_at h1 a13 x2) fun r17 h16 => some (r17, h16))) else (ck (zc h1 + 3 ≤ zLC ∧ zs h1 + 1210 ≤ zLS) <| nm (zga h1 3 1210) fun h8 => some ((-9223372036854775808 : Int64), h8)))
set_option maxHeartbeats 4000000 in
theorem mX0_element {l : Launch} {D : va_G} {tA : Nat → ClassId} {B : Nat} {kn : State → Prop} {h hE : Hp} {ad : Nat → Nat} {x1 : Int32} {x2 : Int32} {r : Int64} (hkp : zKp D tA B kn) (htr : l.stackTraces = false) (hO_h : zOk h)  (hf : X0_element h x1 x2 = some (r, hE)) : zM l D tA B kn yX0_element (wsW yX0_element cX0_element 4 (Option.some Jvm.ClassFile.FieldType.long) [(11, 24, 25, 132), (11, 24, 30, 130), (11, 24, 35, 134)]) 9 10301 h ad [.ref (ad 0), .int x1, .int x2] hE (zQl D tA B h ad r hE) := by
  refine zMW_of hkp (by decide +kernel) (Nat.le_of_ble_eq_true rfl) ?_
  intro p e s m args below meth c F hnm htab
  show ZW p l e (zRm 9 10301 h) s m args below meth c (MQ below (zQl D tA B h ad r hE) args s (zc hE - zc h) (zs hE - zs h) (fun q => B ≤ q)) D tA B 4 (zc h) (zs h) ad 0 h [(0, .ref (ad 0)), (1, .int x1), (2, .int x2)] []
  replace hf := (X0_element.eq_1 h x1 x2).symm.trans hf
  refine w_iload_n F dX0_element_0 1 rfl ?_
  replace hf := bd_o hf
  obtain ⟨r2, h1, qh1, hf⟩ := hf
  refine cl_X0_120 F dX0_element_1 hO_h (zEx.rf h) ⟨Nat.le_of_ble_eq_true rfl, Nat.le_of_ble_eq_true rfl⟩ qh1 (Nat.le_of_ble_eq_true rfl) (fun hO_h1 Eh1 hz_r2 => ?_)
  refine w_if_ne (tgt := 11) F dX0_element_4 (by decide) (fun c3 => ?_) (fun c3 => ?_)
  · replace hf := if_f c3 hf
    refine w_aload_n F dX0_element_11 0 rfl ?_
    refine gf_X0_91 F dX0_element_12 hO_h1 ?_
    refine w_iload_n F dX0_element_15 1 rfl ?_
    replace hf := ck_o hf
    obtain ⟨c4, hf⟩ := hf
    refine z_aald (j := 8) F rfl (t := 108) rfl dX0_element_16 (zl_16 hO_h1) (zt_16 hO_h1) (by rw [zn_16 hO_h1]; exact vp_in_iff.mpr c4) (by decide) ?_
    replace hf := nm_o hf
    obtain ⟨o5, eo5, hf⟩ := hf
    refine w_no eo5 ?_
    have t_o5 : zTo h1 o5 51 := zTo.rd hO_h1 (zl_16 hO_h1) (zt_16 hO_h1) (t := 108) rfl eo5
    by_cases c6 : zcs 53 h1 o5 = true
    · replace hf := if_t c6 hf
      refine ky_X0_473 (o := o5) F dX0_element_17 t_o5 c6 ?_
      have t_o5 : zTo h1 o5 53 := zcs_t t_o5 c6
      refine w_iload_n F dX0_element_20 2 rfl ?_
      replace hf := oc_o hf
      rcases hf with ⟨ea13, hf⟩ | ⟨a13, ea13, hf⟩
      · subst ea13
        replace hf := ck_o hf
        obtain ⟨c10, hf⟩ := hf
        refine nu_X0_479 F htr dX0_element_21 ⟨Eh1.2.1, Eh1.2.2.1⟩ (by constructor <;> (simp only [zRm]; omega)) (zrm_c Eh1 c10) (Nat.le_of_ble_eq_true rfl) ?_
        replace hf := nm_o hf
        obtain ⟨h11, eh11, hf⟩ := hf
        rw [← eh11]
        have Eh11 : zEx h1 h11 := by rw [eh11]; exact zEx.ga
        have hO_h11 : zOk h11 := by rw [eh11]; exact hO_h1.ga c10
        refine z_catch (X := "java/lang/NullPointerException") (C := "java/lang/NullPointerException") (pre := []) (a := 11) (b := 24) (hpc := 25) (ct := 132) F htab rfl zps_nil (by decide) (by decide) q420 (zNW_of q442 rfl) (fun e12 => ?_)
        refine w_astore_n (i := 3) (lv' := [(3, .ref e12), (0, .ref (ad 0)), (1, .int x1), (2, .int x2)]) F dX0_element_25 rfl (by decide) rfl ?_
        refine w_ldc2 (v := -9223372036854775808) F dX0_element_26 q795 ?_
        obtain ⟨rfl, rfl⟩ := ret_o hf
        exact z_lret F dX0_element_29 hO_h11 ((Eh1).tr Eh11)
      · subst ea13
        have t_a13 : zTy h1 a13 53 := t_o5 a13 rfl
        replace hf := tc_o hf
        rcases hf with ⟨h14, qh14, hf⟩ | ⟨-, hf⟩
        · refine ct_X0_479i F htr dX0_element_21 hO_h1 Eh1 (t_a13) (by constructor <;> (simp only [zRm]; omega)) qh14 (Nat.le_of_ble_eq_true rfl) (fun ad_h14 hA_h14 hO_h14 Eh14 => ?_)
          replace hA_h14 := Eq.symm hA_h14
          subst hA_h14
          have t_a13 := t_a13.ex Eh14
          refine z_catch (X := "java/lang/ArrayIndexOutOfBoundsException") (C := "java/lang/IndexOutOfBoundsException") (pre := [(11, 24, 25, 132), (11, 24, 30, 130)]) (a := 11) (b := 24) (hpc := 35) (ct := 134) F htab rfl (zps_no (by decide) q420 (by decide +kernel) (zps_no (by decide) q336 (by decide +kernel) zps_nil)) (by decide) (by decide) q445 (zNW_of q2063 rfl) (fun e15 => ?_)
          refine w_astore_n (i := 3) (lv' := [(3, .ref e15), (0, .ref (ad 0)), (1, .int x1), (2, .int x2)]) F dX0_element_35 rfl (by decide) rfl ?_
          refine w_ldc2 (v := -9223372036854775808) F dX0_element_36 q795 ?_
          obtain ⟨rfl, rfl⟩ := ret_o hf
          exact z_lret F dX0_element_39 hO_h14 ((Eh1).tr Eh14)
        · replace hf := bd_o hf
          obtain ⟨r17, h16, qh16, hf⟩ := hf
          refine cl_X0_479 F dX0_element_21 hO_h1 Eh1 (t_a13) ⟨Nat.le_of_ble_eq_true rfl, Nat.le_of_ble_eq_true rfl⟩ qh16 (Nat.le_of_ble_eq_true rfl) (fun hO_h16 Eh16 => ?_)
          have t_a13 := t_a13.ex Eh16
          obtain ⟨rfl, rfl⟩ := ret_o hf
          exact z_lret F dX0_element_24 hO_h16 ((Eh1).tr Eh16)
    · replace hf := if_f c6 hf
      replace c6 := Bool.eq_false_iff.mpr c6
      replace hf := ck_o hf
      obtain ⟨c7, hf⟩ := hf
      refine kn_X0_473 (o := o5) F htr dX0_element_17 t_o5 c6 ⟨Eh1.2.1, Eh1.2.2.1⟩ (by constructor <;> (simp only [zRm]; omega)) (zrm_c Eh1 c7) (Nat.le_of_ble_eq_true rfl) ?_
      replace hf := nm_o hf
      obtain ⟨h8, eh8, hf⟩ := hf
      rw [← eh8]
      have Eh8 : zEx h1 h8 := by rw [eh8]; exact zEx.ga
      have hO_h8 : zOk h8 := by rw [eh8]; exact hO_h1.ga c7
      have t_o5 := t_o5.ex Eh8
      refine z_catch (X := "java/lang/ClassCastException") (C := "java/lang/ClassCastException") (pre := [(11, 24, 25, 132)]) (a := 11) (b := 24) (hpc := 30) (ct := 130) F htab rfl (zps_no (by decide) q420 (by decide +kernel) zps_nil) (by decide) (by decide) q336 (zNW_of q398 rfl) (fun e9 => ?_)
      refine w_astore_n (i := 3) (lv' := [(3, .ref e9), (0, .ref (ad 0)), (1, .int x1), (2, .int x2)]) F dX0_element_30 rfl (by decide) rfl ?_
      refine w_ldc2 (v := -9223372036854775808) F dX0_element_31 q795 ?_
      obtain ⟨rfl, rfl⟩ := ret_o hf
      exact z_lret F dX0_element_34 hO_h8 ((Eh1).tr Eh8)
  · replace hf := if_t c3 hf
    refine w_ldc2 (v := -9223372036854775808) F dX0_element_7 q795 ?_
    obtain ⟨rfl, rfl⟩ := ret_o hf
    exact z_lret F dX0_element_10 hO_h1 Eh1
theorem cl_X0_475 {p : Program} {l : Launch} {e : Env} {s : State} {m : MethodId} {args : Array Value} {below : List Frame} {meth : Method} {c : Code} {Q : State → Prop} {D : va_G} {tA : Nat → ClassId} {B nL : Nat} {ad : Nat → Nat} {kn : State → Prop} {cc : ByteArray} {ret : Option FieldType} {pc : Nat} {h : Hp} {lv : List (Nat × Value)} {Fr Lo : Nat} {h0 h1 : Hp} {rest : List Value} {a0 : Nat} {x1 : Int32} {x2 : Int64} {r : Int32} (F : ZF p s m args meth c D tA B nL kn RX0 cc ret) (hd : decode cc pc = .ok (.invokevirtual 475, 3)) (hO : zOk h) (hE : zEx h0 h) (t_a0 : zTy h a0 53) (hR : 0 + 1 ≤ (zRm Fr Lo h0).frames ∧ 16 + (0 + 11) + 4 ≤ (zRm Fr Lo h0).locals) (hf : V22_put h a0 x1 x2 = some (r, h1)) (hr : (rest.map fun v => v.category).sum ≤ 16) (kk : zOk h1 → zEx h h1 → narrow .boolean (.int r) = .int r → ZW p l e (zRm Fr Lo h0) s m args below meth c Q D tA B nL (zc h0) (zs h0) ad (pc + 3) h1 lv (.int r :: rest)) : ZW p l e (zRm Fr Lo h0) s m args below meth c Q D tA B nL (zc h0) (zs h0) ad pc h lv (.long x2 :: .int x1 :: .ref (ad a0) :: rest) := by
  have hm : zt h a0 ∈ [23, 24, 25, 26, 27] := t_a0.fam (by decide)
  simp only [List.mem_cons, List.not_mem_nil, or_false] at hm
  rcases hm with ht | ht | ht | ht | ht
  · exact z_cz ⟨hE.2.1, hE.2.2.1⟩ (fun H locs ls hw hl => z_runU (q := a0) (ci := 23) F (mX23_put F.2.2.2.2.2.1 hO (⟨t_a0.1, by rw [ht]; decide⟩)  (V22_put_23 ht ▸ hf)) (zCw.of (FF := 0) (LL := 0) 2 F.ts q1384 q130 (by decide +kernel) (by have h1 := hR.1; have h2 := hR.2; constructor <;> (simp only [zRm] at h1 h2 ⊢; omega))) q1376 q1378 (va_Decl.abs (F.N _ (zNW_of q1377 rfl))) (by decide +kernel) q1383 q1382 rfl rfl (by decide) t_a0.1 ht rfl hr hd hw hl (z_fit hE hO)) kk
  · exact z_cz ⟨hE.2.1, hE.2.2.1⟩ (fun H locs ls hw hl => z_runU (q := a0) (ci := 24) F (mX24_put F.2.2.2.2.2.1 hO (⟨t_a0.1, by rw [ht]; decide⟩)  (V22_put_24 ht ▸ hf)) (zCw.of (FF := 0) (LL := 0) 2 F.ts q1393 q131 (by decide +kernel) (by have h1 := hR.1; have h2 := hR.2; constructor <;> (simp only [zRm] at h1 h2 ⊢; omega))) q1376 q1378 (va_Decl.abs (F.N _ (zNW_of q1377 rfl))) (by decide +kernel) q1392 q1391 rfl rfl (by decide) t_a0.1 ht rfl hr hd hw hl (z_fit hE hO)) kk
  · exact z_cz ⟨hE.2.1, hE.2.2.1⟩ (fun H locs ls hw hl => z_runU (q := a0) (ci := 25) F (mX25_put F.2.2.2.2.2.1 hO (⟨t_a0.1, by rw [ht]; decide⟩)  (V22_put_25 ht ▸ hf)) (zCw.of (FF := 0) (LL := 0) 2 F.ts q1387 q132 (by decide +kernel) (by have h1 := hR.1; have h2 := hR.2; constructor <;> (simp only [zRm] at h1 h2 ⊢; omega))) q1376 q1378 (va_Decl.abs (F.N _ (zNW_of q1377 rfl))) (by decide +kernel) q1386 q1385 rfl rfl (by decide) t_a0.1 ht rfl hr hd hw hl (z_fit hE hO)) kk
  · exact z_cz ⟨hE.2.1, hE.2.2.1⟩ (fun H locs ls hw hl => z_runU (q := a0) (ci := 26) F (mX26_put F.2.2.2.2.2.1 hO (⟨t_a0.1, by rw [ht]; decide⟩)  (V22_put_26 ht ▸ hf)) (zCw.of (FF := 0) (LL := 0) 2 F.ts q1390 q133 (by decide +kernel) (by have h1 := hR.1; have h2 := hR.2; constructor <;> (simp only [zRm] at h1 h2 ⊢; omega))) q1376 q1378 (va_Decl.abs (F.N _ (zNW_of q1377 rfl))) (by decide +kernel) q1389 q1388 rfl rfl (by decide) t_a0.1 ht rfl hr hd hw hl (z_fit hE hO)) kk
  · exact z_cz ⟨hE.2.1, hE.2.2.1⟩ (fun H locs ls hw hl => z_runU (q := a0) (ci := 27) F (mX27_put F.2.2.2.2.2.1 hO (⟨t_a0.1, by rw [ht]; decide⟩)  (V22_put_27 ht ▸ hf)) (zCw.of (FF := 0) (LL := 0) 2 F.ts q1381 q134 (by decide +kernel) (by have h1 := hR.1; have h2 := hR.2; constructor <;> (simp only [zRm] at h1 h2 ⊢; omega))) q1376 q1378 (va_Decl.abs (F.N _ (zNW_of q1377 rfl))) (by decide +kernel) q1380 q1379 rfl rfl (by decide) t_a0.1 ht rfl hr hd hw hl (z_fit hE hO)) kk
theorem nu_X0_475 {p : Program} {l : Launch} {e : Env} {R : Room} {s : State} {m : MethodId} {args : Array Value} {below : List Frame} {meth : Method} {c : Code} {Q : State → Prop} {D : va_G} {tA : Nat → ClassId} {B nL c0 s0 : Nat} {ad : Nat → Nat} {kn : State → Prop} {cc : ByteArray} {ret : Option FieldType} {pc : Nat} {h : Hp} {lv : List (Nat × Value)} {st : List Value} {n0 : Int32} {n1 : Int64} (F : ZF p s m args meth c D tA B nL kn RX0 cc ret) (htr : l.stackTraces = false) (hd : decode cc pc = .ok (.invokevirtual 475, 3)) (hm : c0 ≤ zc h ∧ s0 ≤ zs h) (hR : 8 ≤ R.frames ∧ 10272 ≤ R.locals) (hRc : (zc h - c0) + 1 ≤ R.cells ∧ (zs h - s0) + 8 ≤ R.slots) (hst : (st.map fun v => v.category).sum ≤ 16) (kk : ZT p l e R s m args below meth c Q D tA B nL c0 s0 ad "java/lang/NullPointerException" pc (zga h 1 8) lv) : ZW p l e R s m args below meth c Q D tA B nL c0 s0 ad pc h lv (.long n1 :: .int n0 :: .null :: st) :=
  z_nulU (n := 2) (As := [.int n0, .long n1]) (owner := "ThreeSnowballs$Row") F htr q1376 q1378 (zNW_of q1377 rfl) (by decide +kernel) rfl hd hm hR hRc hst kk
theorem ct_X0_475i {p : Program} {l : Launch} {e : Env} {s : State} {m : MethodId} {args : Array Value} {below : List Frame} {meth : Method} {c : Code} {Q : State → Prop} {D : va_G} {tA : Nat → ClassId} {B nL : Nat} {ad : Nat → Nat} {kn : State → Prop} {cc : ByteArray} {ret : Option FieldType} {pc : Nat} {h : Hp} {lv : List (Nat × Value)} {Fr Lo : Nat} {h0 h1 : Hp} {rest : List Value} {a0 : Nat} {x1 : Int32} {x2 : Int64} (F : ZF p s m args meth c D tA B nL kn RX0 cc ret) (htr : l.stackTraces = false) (hd : decode cc pc = .ok (.invokevirtual 475, 3)) (hO : zOk h) (hE : zEx h0 h) (t_a0 : zTy h a0 53) (hR : 8 + 1 ≤ (zRm Fr Lo h0).frames ∧ 16 + (0 + 11) + 10276 ≤ (zRm Fr Lo h0).locals) (hf : V22_putTi h a0 x1 x2 = some ((), h1)) (hr : (rest.map fun v => v.category).sum ≤ 16) (kk : ∀ u, (fun u => u = ad) u → zOk h1 → zEx h h1 → ZT p l e (zRm Fr Lo h0) s m args below meth c Q D tA B nL (zc h0) (zs h0) u "java/lang/ArrayIndexOutOfBoundsException" pc h1 lv) : ZW p l e (zRm Fr Lo h0) s m args below meth c Q D tA B nL (zc h0) (zs h0) ad pc h lv (.long x2 :: .int x1 :: .ref (ad a0) :: rest) := by
  have hm : zt h a0 ∈ [23, 24, 25, 26, 27] := t_a0.fam (by decide)
  simp only [List.mem_cons, List.not_mem_nil, or_false] at hm
  rcases hm with ht | ht | ht | ht | ht
  · exact z_thrU (q := a0) (ci := 23) F (tX23_putTi htr hO (⟨t_a0.1, by rw [ht]; decide⟩)  (V22_putTi_23 ht ▸ hf)) (zCw.of (FF := 8) (LL := 10272) 2 F.ts q1384 q130 (by decide +kernel) (by have h1 := hR.1; have h2 := hR.2; constructor <;> (simp only [zRm] at h1 h2 ⊢; omega))) (by decide +kernel) (Nat.le_of_ble_eq_true rfl) q1376 q1378 (va_Decl.abs (F.N _ (zNW_of q1377 rfl))) (by decide +kernel) q1383 q1382 rfl rfl (by decide) t_a0.1 ht rfl hr hd ⟨hE.2.1, hE.2.2.1⟩ (z_fit hE hO) kk
  · exact z_thrU (q := a0) (ci := 24) F (tX24_putTi htr hO (⟨t_a0.1, by rw [ht]; decide⟩)  (V22_putTi_24 ht ▸ hf)) (zCw.of (FF := 8) (LL := 10272) 2 F.ts q1393 q131 (by decide +kernel) (by have h1 := hR.1; have h2 := hR.2; constructor <;> (simp only [zRm] at h1 h2 ⊢; omega))) (by decide +kernel) (Nat.le_of_ble_eq_true rfl) q1376 q1378 (va_Decl.abs (F.N _ (zNW_of q1377 rfl))) (by decide +kernel) q1392 q1391 rfl rfl (by decide) t_a0.1 ht rfl hr hd ⟨hE.2.1, hE.2.2.1⟩ (z_fit hE hO) kk
  · exact z_thrU (q := a0) (ci := 25) F (tX25_putTi htr hO (⟨t_a0.1, by rw [ht]; decide⟩)  (V22_putTi_25 ht ▸ hf)) (zCw.of (FF := 8) (LL := 10272) 2 F.ts q1387 q132 (by decide +kernel) (by have h1 := hR.1; have h2 := hR.2; constructor <;> (simp only [zRm] at h1 h2 ⊢; omega))) (by decide +kernel) (Nat.le_of_ble_eq_true rfl) q1376 q1378 (va_Decl.abs (F.N _ (zNW_of q1377 rfl))) (by decide +kernel) q1386 q1385 rfl rfl (by decide) t_a0.1 ht rfl hr hd ⟨hE.2.1, hE.2.2.1⟩ (z_fit hE hO) kk
  · exact z_thrU (q := a0) (ci := 26) F (tX26_putTi htr hO (⟨t_a0.1, by rw [ht]; decide⟩)  (V22_putTi_26 ht ▸ hf)) (zCw.of (FF := 8) (LL := 10272) 2 F.ts q1390 q133 (by decide +kernel) (by have h1 := hR.1; have h2 := hR.2; constructor <;> (simp only [zRm] at h1 h2 ⊢; omega))) (by decide +kernel) (Nat.le_of_ble_eq_true rfl) q1376 q1378 (va_Decl.abs (F.N _ (zNW_of q1377 rfl))) (by decide +kernel) q1389 q1388 rfl rfl (by decide) t_a0.1 ht rfl hr hd ⟨hE.2.1, hE.2.2.1⟩ (z_fit hE hO) kk
  · exact z_thrU (q := a0) (ci := 27) F (tX27_putTi htr hO (⟨t_a0.1, by rw [ht]; decide⟩)  (V22_putTi_27 ht ▸ hf)) (zCw.of (FF := 8) (LL := 10272) 2 F.ts q1381 q134 (by decide +kernel) (by have h1 := hR.1; have h2 := hR.2; constructor <;> (simp only [zRm] at h1 h2 ⊢; omega))) (by decide +kernel) (Nat.le_of_ble_eq_true rfl) q1376 q1378 (va_Decl.abs (F.N _ (zNW_of q1377 rfl))) (by decide +kernel) q1380 q1379 rfl rfl (by decide) t_a0.1 ht rfl hr hd ⟨hE.2.1, hE.2.2.1⟩ (z_fit hE hO) kk
def X0_put (h : Hp) (x1 : Int32) (x2 : Int32) (x3 : Int64) : Option (Int32 × Hp) :=
  bd (X0_isShelf h x1) fun r2 h1 => if r2 = 0 then (some ((-1 : Int32), h1)) else (ck (0 ≤ x1.toInt ∧ x1.toInt < 6) <| nm (zr h1 16 x1.toNatClampNeg) fun o5 => if zcs 53 h1 o5 = true then (oc o5 (ck (zc h1 + 1 ≤ zLC ∧ zs h1 + 8 ≤ zLS) <| nm (zga h1 1 8) fun h11 => some ((-11 : Int32), h11)) fun a13 => tc (V22_putTi h1 a13 x2 x3) (fun h14 => some ((-13 : Int32), h14)) (bd (V22_put h1 a13 x2 x3) fun r17 h16 => if r17 = 0 then (some ((-1 : Int32), h16)) else (some ((1 : Int32), h16)))) else (ck (zc h1 + 3 ≤ zLC ∧ zs h1 + 1210 ≤ zLS) <| nm (zga h1 3 1210) fun h8 => some ((-12 : Int32), h8)))
set_option maxHeartbeats 4000000 in
theorem mX0_put {l : Launch} {D : va_G} {tA : Nat → ClassId} {B : Nat} {kn : State → Prop} {h hE : Hp} {ad : Nat → Nat} {x1 : Int32} {x2 : Int32} {x3 : Int64} {r : Int32} (hkp : zKp D tA B kn) (htr : l.stackTraces = false) (hO_h : zOk h)  (hf : X0_put h x1 x2 x3 = some (r, hE)) : zM l D tA B kn yX0_put (wsW yX0_put cX0_put 6 (Option.some Jvm.ClassFile.FieldType.int) [(9, 31, 32, 132), (9, 31, 37, 130), (9, 31, 42, 134)]) 9 10303 h ad [.ref (ad 0), .int x1, .int x2, .long x3] hE (zQi D tA B h ad r hE) := by
  refine zMW_of hkp (by decide +kernel) (Nat.le_of_ble_eq_true rfl) ?_
  intro p e s m args below meth c F hnm htab
  show ZW p l e (zRm 9 10303 h) s m args below meth c (MQ below (zQi D tA B h ad r hE) args s (zc hE - zc h) (zs hE - zs h) (fun q => B ≤ q)) D tA B 6 (zc h) (zs h) ad 0 h [(0, .ref (ad 0)), (1, .int x1), (2, .int x2), (3, .long x3)] []
  replace hf := (X0_put.eq_1 h x1 x2 x3).symm.trans hf
  refine w_iload_n F dX0_put_0 1 rfl ?_
  replace hf := bd_o hf
  obtain ⟨r2, h1, qh1, hf⟩ := hf
  refine cl_X0_120 F dX0_put_1 hO_h (zEx.rf h) ⟨Nat.le_of_ble_eq_true rfl, Nat.le_of_ble_eq_true rfl⟩ qh1 (Nat.le_of_ble_eq_true rfl) (fun hO_h1 Eh1 hz_r2 => ?_)
  refine w_if_ne (tgt := 9) F dX0_put_4 (by decide) (fun c3 => ?_) (fun c3 => ?_)
  · replace hf := if_f c3 hf
    refine w_aload_n F dX0_put_9 0 rfl ?_
    refine gf_X0_91 F dX0_put_10 hO_h1 ?_
    refine w_iload_n F dX0_put_13 1 rfl ?_
    replace hf := ck_o hf
    obtain ⟨c4, hf⟩ := hf
    refine z_aald (j := 8) F rfl (t := 108) rfl dX0_put_14 (zl_16 hO_h1) (zt_16 hO_h1) (by rw [zn_16 hO_h1]; exact vp_in_iff.mpr c4) (by decide) ?_
    replace hf := nm_o hf
    obtain ⟨o5, eo5, hf⟩ := hf
    refine w_no eo5 ?_
    have t_o5 : zTo h1 o5 51 := zTo.rd hO_h1 (zl_16 hO_h1) (zt_16 hO_h1) (t := 108) rfl eo5
    by_cases c6 : zcs 53 h1 o5 = true
    · replace hf := if_t c6 hf
      refine ky_X0_473 (o := o5) F dX0_put_15 t_o5 c6 ?_
      have t_o5 : zTo h1 o5 53 := zcs_t t_o5 c6
      refine w_iload_n F dX0_put_18 2 rfl ?_
      refine w_lload_n F dX0_put_19 3 rfl ?_
      replace hf := oc_o hf
      rcases hf with ⟨ea13, hf⟩ | ⟨a13, ea13, hf⟩
      · subst ea13
        replace hf := ck_o hf
        obtain ⟨c10, hf⟩ := hf
        refine nu_X0_475 F htr dX0_put_20 ⟨Eh1.2.1, Eh1.2.2.1⟩ (by constructor <;> (simp only [zRm]; omega)) (zrm_c Eh1 c10) (Nat.le_of_ble_eq_true rfl) ?_
        replace hf := nm_o hf
        obtain ⟨h11, eh11, hf⟩ := hf
        rw [← eh11]
        have Eh11 : zEx h1 h11 := by rw [eh11]; exact zEx.ga
        have hO_h11 : zOk h11 := by rw [eh11]; exact hO_h1.ga c10
        refine z_catch (X := "java/lang/NullPointerException") (C := "java/lang/NullPointerException") (pre := []) (a := 9) (b := 31) (hpc := 32) (ct := 132) F htab rfl zps_nil (by decide) (by decide) q420 (zNW_of q442 rfl) (fun e12 => ?_)
        refine w_astore (i := 5) (lv' := [(5, .ref e12), (0, .ref (ad 0)), (1, .int x1), (2, .int x2), (3, .long x3)]) F dX0_put_32 (by decide) rfl ?_
        refine w_bipush (v := -11) F dX0_put_34 rfl ?_
        obtain ⟨rfl, rfl⟩ := ret_o hf
        exact z_iret F dX0_put_36 hO_h11 ((Eh1).tr Eh11)
      · subst ea13
        have t_a13 : zTy h1 a13 53 := t_o5 a13 rfl
        replace hf := tc_o hf
        rcases hf with ⟨h14, qh14, hf⟩ | ⟨-, hf⟩
        · refine ct_X0_475i F htr dX0_put_20 hO_h1 Eh1 (t_a13) (by constructor <;> (simp only [zRm]; omega)) qh14 (Nat.le_of_ble_eq_true rfl) (fun ad_h14 hA_h14 hO_h14 Eh14 => ?_)
          replace hA_h14 := Eq.symm hA_h14
          subst hA_h14
          have t_a13 := t_a13.ex Eh14
          refine z_catch (X := "java/lang/ArrayIndexOutOfBoundsException") (C := "java/lang/IndexOutOfBoundsException") (pre := [(9, 31, 32, 132), (9, 31, 37, 130)]) (a := 9) (b := 31) (hpc := 42) (ct := 134) F htab rfl (zps_no (by decide) q420 (by decide +kernel) (zps_no (by decide) q336 (by decide +kernel) zps_nil)) (by decide) (by decide) q445 (zNW_of q2063 rfl) (fun e15 => ?_)
          refine w_astore (i := 5) (lv' := [(5, .ref e15), (0, .ref (ad 0)), (1, .int x1), (2, .int x2), (3, .long x3)]) F dX0_put_42 (by decide) rfl ?_
          refine w_bipush (v := -13) F dX0_put_44 rfl ?_
          obtain ⟨rfl, rfl⟩ := ret_o hf
          exact z_iret F dX0_put_46 hO_h14 ((Eh1).tr Eh14)
        · replace hf := bd_o hf
          obtain ⟨r17, h16, qh16, hf⟩ := hf
          refine cl_X0_475 F dX0_put_20 hO_h1 Eh1 (t_a13) ⟨Nat.le_of_ble_eq_true rfl, Nat.le_of_ble_eq_true rfl⟩ qh16 (Nat.le_of_ble_eq_true rfl) (fun hO_h16 Eh16 hz_r17 => ?_)
          have t_a13 := t_a13.ex Eh16
          refine w_if_eq (tgt := 30) F dX0_put_23 (by decide) (fun c18 => ?_) (fun c18 => ?_)
          · replace hf := if_t c18 hf
            refine w_iconst (v := -1) F dX0_put_30 rfl ?_
            obtain ⟨rfl, rfl⟩ := ret_o hf
            exact z_iret F dX0_put_31 hO_h16 ((Eh1).tr Eh16)
          · replace hf := if_f c18 hf
            refine w_iconst (v := 1) F dX0_put_26 rfl ?_
            refine w_goto (tgt := 31) F dX0_put_27 (by decide) ?_
            obtain ⟨rfl, rfl⟩ := ret_o hf
            exact z_iret F dX0_put_31 hO_h16 ((Eh1).tr Eh16)
    · replace hf := if_f c6 hf
      replace c6 := Bool.eq_false_iff.mpr c6
      replace hf := ck_o hf
      obtain ⟨c7, hf⟩ := hf
      refine kn_X0_473 (o := o5) F htr dX0_put_15 t_o5 c6 ⟨Eh1.2.1, Eh1.2.2.1⟩ (by constructor <;> (simp only [zRm]; omega)) (zrm_c Eh1 c7) (Nat.le_of_ble_eq_true rfl) ?_
      replace hf := nm_o hf
      obtain ⟨h8, eh8, hf⟩ := hf
      rw [← eh8]
      have Eh8 : zEx h1 h8 := by rw [eh8]; exact zEx.ga
      have hO_h8 : zOk h8 := by rw [eh8]; exact hO_h1.ga c7
      have t_o5 := t_o5.ex Eh8
      refine z_catch (X := "java/lang/ClassCastException") (C := "java/lang/ClassCastException") (pre := [(9, 31, 32, 132)]) (a := 9) (b := 31) (hpc := 37) (ct := 130) F htab rfl (zps_no (by decide) q420 (by decide +kernel) zps_nil) (by decide) (by decide) q336 (zNW_of q398 rfl) (fun e9 => ?_)
      refine w_astore (i := 5) (lv' := [(5, .ref e9), (0, .ref (ad 0)), (1, .int x1), (2, .int x2), (3, .long x3)]) F dX0_put_37 (by decide) rfl ?_
      refine w_bipush (v := -12) F dX0_put_39 rfl ?_
      obtain ⟨rfl, rfl⟩ := ret_o hf
      exact z_iret F dX0_put_41 hO_h8 ((Eh1).tr Eh8)
  · replace hf := if_t c3 hf
    refine w_iconst (v := -1) F dX0_put_7 rfl ?_
    obtain ⟨rfl, rfl⟩ := ret_o hf
    exact z_iret F dX0_put_8 hO_h1 Eh1
theorem cl_X0_484 {p : Program} {l : Launch} {e : Env} {s : State} {m : MethodId} {args : Array Value} {below : List Frame} {meth : Method} {c : Code} {Q : State → Prop} {D : va_G} {tA : Nat → ClassId} {B nL : Nat} {ad : Nat → Nat} {kn : State → Prop} {cc : ByteArray} {ret : Option FieldType} {pc : Nat} {h : Hp} {lv : List (Nat × Value)} {Fr Lo : Nat} {h0 h1 : Hp} {rest : List Value} {a0 : Nat} {x1 : Int32} {r : Int32} (F : ZF p s m args meth c D tA B nL kn RX0 cc ret) (hd : decode cc pc = .ok (.invokevirtual 484, 3)) (hO : zOk h) (hE : zEx h0 h) (t_a0 : zTy h a0 52) (hR : 3 + 1 ≤ (zRm Fr Lo h0).frames ∧ 16 + (0 + 11) + 88 ≤ (zRm Fr Lo h0).locals) (hf : V14_isUnder h a0 x1 = some (r, h1)) (hr : (rest.map fun v => v.category).sum ≤ 16) (kk : zOk h1 → zEx h h1 → narrow .boolean (.int r) = .int r → ZW p l e (zRm Fr Lo h0) s m args below meth c Q D tA B nL (zc h0) (zs h0) ad (pc + 3) h1 lv (.int r :: rest)) : ZW p l e (zRm Fr Lo h0) s m args below meth c Q D tA B nL (zc h0) (zs h0) ad pc h lv (.int x1 :: .ref (ad a0) :: rest) := by
  have hm : zt h a0 ∈ [14, 15, 16, 17, 18, 19, 20, 21] := t_a0.fam (by decide)
  simp only [List.mem_cons, List.not_mem_nil, or_false] at hm
  rcases hm with ht | ht | ht | ht | ht | ht | ht | ht
  · exact z_cz ⟨hE.2.1, hE.2.2.1⟩ (fun H locs ls hw hl => z_runU (q := a0) (ci := 14) F (mX14_isUnder F.2.2.2.2.2.1 hO (⟨t_a0.1, by rw [ht]; decide⟩)  (V14_isUnder_14 ht ▸ hf)) (zCw.of (FF := 1) (LL := 28) 1 F.ts q1475 q120 (by decide +kernel) (by have h1 := hR.1; have h2 := hR.2; constructor <;> (simp only [zRm] at h1 h2 ⊢; omega))) q1452 q1455 (va_Decl.of (F.ts _ q1453) (F.ts _ q1475)) (by decide +kernel) q1453 q1454 rfl rfl (by decide) t_a0.1 ht rfl hr hd hw hl (z_fit hE hO)) kk
  · exact z_cz ⟨hE.2.1, hE.2.2.1⟩ (fun H locs ls hw hl => z_runU (q := a0) (ci := 15) F (mX15_isUnder F.2.2.2.2.2.1 hO (⟨t_a0.1, by rw [ht]; decide⟩)  (V14_isUnder_15 ht ▸ hf)) (zCw.of (FF := 2) (LL := 57) 1 F.ts q1461 q121 (by decide +kernel) (by have h1 := hR.1; have h2 := hR.2; constructor <;> (simp only [zRm] at h1 h2 ⊢; omega))) q1452 q1455 (va_Decl.of (F.ts _ q1453) (F.ts _ q1475)) (by decide +kernel) q1460 q1472 rfl rfl (by decide) t_a0.1 ht rfl hr hd hw hl (z_fit hE hO)) kk
  · exact z_cz ⟨hE.2.1, hE.2.2.1⟩ (fun H locs ls hw hl => z_runU (q := a0) (ci := 16) F (mX16_isUnder F.2.2.2.2.2.1 hO (⟨t_a0.1, by rw [ht]; decide⟩)  (V14_isUnder_16 ht ▸ hf)) (zCw.of (FF := 2) (LL := 57) 1 F.ts q1465 q122 (by decide +kernel) (by have h1 := hR.1; have h2 := hR.2; constructor <;> (simp only [zRm] at h1 h2 ⊢; omega))) q1452 q1455 (va_Decl.of (F.ts _ q1453) (F.ts _ q1475)) (by decide +kernel) q1464 q1463 rfl rfl (by decide) t_a0.1 ht rfl hr hd hw hl (z_fit hE hO)) kk
  · exact z_cz ⟨hE.2.1, hE.2.2.1⟩ (fun H locs ls hw hl => z_runU (q := a0) (ci := 17) F (mX17_isUnder F.2.2.2.2.2.1 hO (⟨t_a0.1, by rw [ht]; decide⟩)  (V14_isUnder_17 ht ▸ hf)) (zCw.of (FF := 3) (LL := 86) 1 F.ts q1470 q123 (by decide +kernel) (by have h1 := hR.1; have h2 := hR.2; constructor <;> (simp only [zRm] at h1 h2 ⊢; omega))) q1452 q1455 (va_Decl.of (F.ts _ q1453) (F.ts _ q1475)) (by decide +kernel) q1469 q1474 rfl rfl (by decide) t_a0.1 ht rfl hr hd hw hl (z_fit hE hO)) kk
  · exact z_cz ⟨hE.2.1, hE.2.2.1⟩ (fun H locs ls hw hl => z_runU (q := a0) (ci := 18) F (mX18_isUnder F.2.2.2.2.2.1 hO (⟨t_a0.1, by rw [ht]; decide⟩)  (V14_isUnder_18 ht ▸ hf)) (zCw.of (FF := 3) (LL := 86) 1 F.ts q1458 q124 (by decide +kernel) (by have h1 := hR.1; have h2 := hR.2; constructor <;> (simp only [zRm] at h1 h2 ⊢; omega))) q1452 q1455 (va_Decl.of (F.ts _ q1453) (F.ts _ q1475)) (by decide +kernel) q1457 q1456 rfl rfl (by decide) t_a0.1 ht rfl hr hd hw hl (z_fit hE hO)) kk
  · exact z_cz ⟨hE.2.1, hE.2.2.1⟩ (fun H locs ls hw hl => z_runU (q := a0) (ci := 19) F (mX17_isUnder F.2.2.2.2.2.1 hO (⟨t_a0.1, by rw [ht]; decide⟩)  (V14_isUnder_19 ht ▸ hf)) (zCw.of (FF := 3) (LL := 86) 1 F.ts q1470 q123 (by decide +kernel) (by have h1 := hR.1; have h2 := hR.2; constructor <;> (simp only [zRm] at h1 h2 ⊢; omega))) q1452 q1455 (va_Decl.of (F.ts _ q1453) (F.ts _ q1475)) (by decide +kernel) q1469 q1468 rfl rfl (by decide) t_a0.1 ht rfl hr hd hw hl (z_fit hE hO)) kk
  · exact z_cz ⟨hE.2.1, hE.2.2.1⟩ (fun H locs ls hw hl => z_runU (q := a0) (ci := 20) F (mX14_isUnder F.2.2.2.2.2.1 hO (⟨t_a0.1, by rw [ht]; decide⟩)  (V14_isUnder_20 ht ▸ hf)) (zCw.of (FF := 1) (LL := 28) 1 F.ts q1475 q120 (by decide +kernel) (by have h1 := hR.1; have h2 := hR.2; constructor <;> (simp only [zRm] at h1 h2 ⊢; omega))) q1452 q1455 (va_Decl.of (F.ts _ q1453) (F.ts _ q1475)) (by decide +kernel) q1453 q1473 rfl rfl (by decide) t_a0.1 ht rfl hr hd hw hl (z_fit hE hO)) kk
  · exact z_cz ⟨hE.2.1, hE.2.2.1⟩ (fun H locs ls hw hl => z_runU (q := a0) (ci := 21) F (mX18_isUnder F.2.2.2.2.2.1 hO (⟨t_a0.1, by rw [ht]; decide⟩)  (V14_isUnder_21 ht ▸ hf)) (zCw.of (FF := 3) (LL := 86) 1 F.ts q1458 q124 (by decide +kernel) (by have h1 := hR.1; have h2 := hR.2; constructor <;> (simp only [zRm] at h1 h2 ⊢; omega))) q1452 q1455 (va_Decl.of (F.ts _ q1453) (F.ts _ q1475)) (by decide +kernel) q1457 q1467 rfl rfl (by decide) t_a0.1 ht rfl hr hd hw hl (z_fit hE hO)) kk
theorem cl_X0_487 {p : Program} {l : Launch} {e : Env} {s : State} {m : MethodId} {args : Array Value} {below : List Frame} {meth : Method} {c : Code} {Q : State → Prop} {D : va_G} {tA : Nat → ClassId} {B nL : Nat} {ad : Nat → Nat} {kn : State → Prop} {cc : ByteArray} {ret : Option FieldType} {pc : Nat} {h : Hp} {lv : List (Nat × Value)} {Fr Lo : Nat} {h0 h1 : Hp} {rest : List Value} {a0 : Nat} {r : Int32} (F : ZF p s m args meth c D tA B nL kn RX0 cc ret) (hd : decode cc pc = .ok (.invokevirtual 487, 3)) (hO : zOk h) (hE : zEx h0 h) (t_a0 : zTy h a0 52) (hR : 0 + 1 ≤ (zRm Fr Lo h0).frames ∧ 16 + (0 + 11) + 1 ≤ (zRm Fr Lo h0).locals) (hf : V14_kind h a0 = some (r, h1)) (hr : (rest.map fun v => v.category).sum ≤ 16) (kk : zOk h1 → zEx h h1 → ZW p l e (zRm Fr Lo h0) s m args below meth c Q D tA B nL (zc h0) (zs h0) ad (pc + 3) h1 lv (.int r :: rest)) : ZW p l e (zRm Fr Lo h0) s m args below meth c Q D tA B nL (zc h0) (zs h0) ad pc h lv (.ref (ad a0) :: rest) := by
  have hm : zt h a0 ∈ [14, 15, 16, 17, 18, 19, 20, 21] := t_a0.fam (by decide)
  simp only [List.mem_cons, List.not_mem_nil, or_false] at hm
  rcases hm with ht | ht | ht | ht | ht | ht | ht | ht
  · exact z_ci ⟨hE.2.1, hE.2.2.1⟩ (fun H locs ls hw hl => z_runU (q := a0) (ci := 14) F (mX14_kind F.2.2.2.2.2.1 hO (⟨t_a0.1, by rw [ht]; decide⟩)  (V14_kind_14 ht ▸ hf)) (zCw.of (FF := 0) (LL := 0) 0 F.ts q1501 q120 (by decide +kernel) (by have h1 := hR.1; have h2 := hR.2; constructor <;> (simp only [zRm] at h1 h2 ⊢; omega))) q1502 q1479 (va_Decl.of (F.ts _ q1477) (F.ts _ q1501)) (by decide +kernel) q1477 q1478 rfl rfl (by decide) t_a0.1 ht rfl hr hd hw hl (z_fit hE hO)) kk
  · exact z_ci ⟨hE.2.1, hE.2.2.1⟩ (fun H locs ls hw hl => z_runU (q := a0) (ci := 15) F (mX15_kind F.2.2.2.2.2.1 hO (⟨t_a0.1, by rw [ht]; decide⟩)  (V14_kind_15 ht ▸ hf)) (zCw.of (FF := 0) (LL := 0) 0 F.ts q1494 q121 (by decide +kernel) (by have h1 := hR.1; have h2 := hR.2; constructor <;> (simp only [zRm] at h1 h2 ⊢; omega))) q1502 q1479 (va_Decl.of (F.ts _ q1477) (F.ts _ q1501)) (by decide +kernel) q1493 q1492 rfl rfl (by decide) t_a0.1 ht rfl hr hd hw hl (z_fit hE hO)) kk
  · exact z_ci ⟨hE.2.1, hE.2.2.1⟩ (fun H locs ls hw hl => z_runU (q := a0) (ci := 16) F (mX16_kind F.2.2.2.2.2.1 hO (⟨t_a0.1, by rw [ht]; decide⟩)  (V14_kind_16 ht ▸ hf)) (zCw.of (FF := 0) (LL := 0) 0 F.ts q1485 q122 (by decide +kernel) (by have h1 := hR.1; have h2 := hR.2; constructor <;> (simp only [zRm] at h1 h2 ⊢; omega))) q1502 q1479 (va_Decl.of (F.ts _ q1477) (F.ts _ q1501)) (by decide +kernel) q1484 q1483 rfl rfl (by decide) t_a0.1 ht rfl hr hd hw hl (z_fit hE hO)) kk
  · exact z_ci ⟨hE.2.1, hE.2.2.1⟩ (fun H locs ls hw hl => z_runU (q := a0) (ci := 17) F (mX17_kind F.2.2.2.2.2.1 hO (⟨t_a0.1, by rw [ht]; decide⟩)  (V14_kind_17 ht ▸ hf)) (zCw.of (FF := 0) (LL := 0) 0 F.ts q1500 q123 (by decide +kernel) (by have h1 := hR.1; have h2 := hR.2; constructor <;> (simp only [zRm] at h1 h2 ⊢; omega))) q1502 q1479 (va_Decl.of (F.ts _ q1477) (F.ts _ q1501)) (by decide +kernel) q1499 q1498 rfl rfl (by decide) t_a0.1 ht rfl hr hd hw hl (z_fit hE hO)) kk
  · exact z_ci ⟨hE.2.1, hE.2.2.1⟩ (fun H locs ls hw hl => z_runU (q := a0) (ci := 18) F (mX18_kind F.2.2.2.2.2.1 hO (⟨t_a0.1, by rw [ht]; decide⟩)  (V14_kind_18 ht ▸ hf)) (zCw.of (FF := 0) (LL := 0) 0 F.ts q1482 q124 (by decide +kernel) (by have h1 := hR.1; have h2 := hR.2; constructor <;> (simp only [zRm] at h1 h2 ⊢; omega))) q1502 q1479 (va_Decl.of (F.ts _ q1477) (F.ts _ q1501)) (by decide +kernel) q1481 q1480 rfl rfl (by decide) t_a0.1 ht rfl hr hd hw hl (z_fit hE hO)) kk
  · exact z_ci ⟨hE.2.1, hE.2.2.1⟩ (fun H locs ls hw hl => z_runU (q := a0) (ci := 19) F (mX19_kind F.2.2.2.2.2.1 hO (⟨t_a0.1, by rw [ht]; decide⟩)  (V14_kind_19 ht ▸ hf)) (zCw.of (FF := 0) (LL := 0) 0 F.ts q1491 q125 (by decide +kernel) (by have h1 := hR.1; have h2 := hR.2; constructor <;> (simp only [zRm] at h1 h2 ⊢; omega))) q1502 q1479 (va_Decl.of (F.ts _ q1477) (F.ts _ q1501)) (by decide +kernel) q1490 q1489 rfl rfl (by decide) t_a0.1 ht rfl hr hd hw hl (z_fit hE hO)) kk
  · exact z_ci ⟨hE.2.1, hE.2.2.1⟩ (fun H locs ls hw hl => z_runU (q := a0) (ci := 20) F (mX20_kind F.2.2.2.2.2.1 hO (⟨t_a0.1, by rw [ht]; decide⟩)  (V14_kind_20 ht ▸ hf)) (zCw.of (FF := 0) (LL := 0) 0 F.ts q1497 q126 (by decide +kernel) (by have h1 := hR.1; have h2 := hR.2; constructor <;> (simp only [zRm] at h1 h2 ⊢; omega))) q1502 q1479 (va_Decl.of (F.ts _ q1477) (F.ts _ q1501)) (by decide +kernel) q1496 q1495 rfl rfl (by decide) t_a0.1 ht rfl hr hd hw hl (z_fit hE hO)) kk
  · exact z_ci ⟨hE.2.1, hE.2.2.1⟩ (fun H locs ls hw hl => z_runU (q := a0) (ci := 21) F (mX21_kind F.2.2.2.2.2.1 hO (⟨t_a0.1, by rw [ht]; decide⟩)  (V14_kind_21 ht ▸ hf)) (zCw.of (FF := 0) (LL := 0) 0 F.ts q1488 q127 (by decide +kernel) (by have h1 := hR.1; have h2 := hR.2; constructor <;> (simp only [zRm] at h1 h2 ⊢; omega))) q1502 q1479 (va_Decl.of (F.ts _ q1477) (F.ts _ q1501)) (by decide +kernel) q1487 q1486 rfl rfl (by decide) t_a0.1 ht rfl hr hd hw hl (z_fit hE hO)) kk
theorem ky_X0_83 {p : Program} {l : Launch} {e : Env} {R : Room} {s : State} {m : MethodId} {args : Array Value} {below : List Frame} {meth : Method} {c : Code} {Q : State → Prop} {D : va_G} {tA : Nat → ClassId} {B nL c0 s0 : Nat} {ad : Nat → Nat} {kn : State → Prop} {cc : ByteArray} {ret : Option FieldType} {pc : Nat} {h : Hp} {lv : List (Nat × Value)} {st : List Value} {o : Option Nat} (F : ZF p s m args meth c D tA B nL kn RX0 cc ret) (hd : decode cc pc = .ok (.checkcast 83, 3)) (t : zTo h o 51) (hcs : zcs 52 h o = true) (kk : ZW p l e R s m args below meth c Q D tA B nL c0 s0 ad (pc + 3) h lv (va_re ad o :: st)) : ZW p l e R s m args below meth c Q D tA B nL c0 s0 ad pc h lv (va_re ad o :: st) := by
  cases o with
  | none => exact z_cast0 F hd kk
  | some a =>
    have hm : zt h a ∈ [14, 15, 16, 17, 18, 19, 20, 21, 23, 24, 25, 26, 27] := (t a rfl).fam (by decide)
    simp only [List.mem_cons, List.not_mem_nil, or_false] at hm
    rcases hm with ht | ht | ht | ht | ht | ht | ht | ht | ht | ht | ht | ht | ht
    · exact z_castY (ci := 14) (nm := "ThreeSnowballs$Thrower") F rfl (by decide) (t a rfl).1 ht q171 (Or.inl rfl) hd kk
    · exact z_castY (ci := 15) (nm := "ThreeSnowballs$Thrower") F rfl (by decide) (t a rfl).1 ht q171 (Or.inr (zNW_of q2073 rfl)) hd kk
    · exact z_castY (ci := 16) (nm := "ThreeSnowballs$Thrower") F rfl (by decide) (t a rfl).1 ht q171 (Or.inr (zNW_of q2070 rfl)) hd kk
    · exact z_castY (ci := 17) (nm := "ThreeSnowballs$Thrower") F rfl (by decide) (t a rfl).1 ht q171 (Or.inr (zNW_of q2075 rfl)) hd kk
    · exact z_castY (ci := 18) (nm := "ThreeSnowballs$Thrower") F rfl (by decide) (t a rfl).1 ht q171 (Or.inr (zNW_of q2069 rfl)) hd kk
    · exact z_castY (ci := 19) (nm := "ThreeSnowballs$Thrower") F rfl (by decide) (t a rfl).1 ht q171 (Or.inr (zNW_of q2072 rfl)) hd kk
    · exact z_castY (ci := 20) (nm := "ThreeSnowballs$Thrower") F rfl (by decide) (t a rfl).1 ht q171 (Or.inr (zNW_of q2074 rfl)) hd kk
    · exact z_castY (ci := 21) (nm := "ThreeSnowballs$Thrower") F rfl (by decide) (t a rfl).1 ht q171 (Or.inr (zNW_of q2071 rfl)) hd kk
    · exact absurd hcs (by show ¬ zsub 52 (zt h a) = true; rw [ht]; decide)
    · exact absurd hcs (by show ¬ zsub 52 (zt h a) = true; rw [ht]; decide)
    · exact absurd hcs (by show ¬ zsub 52 (zt h a) = true; rw [ht]; decide)
    · exact absurd hcs (by show ¬ zsub 52 (zt h a) = true; rw [ht]; decide)
    · exact absurd hcs (by show ¬ zsub 52 (zt h a) = true; rw [ht]; decide)
theorem kn_X0_83 {p : Program} {l : Launch} {e : Env} {R : Room} {s : State} {m : MethodId} {args : Array Value} {below : List Frame} {meth : Method} {c : Code} {Q : State → Prop} {D : va_G} {tA : Nat → ClassId} {B nL c0 s0 : Nat} {ad : Nat → Nat} {kn : State → Prop} {cc : ByteArray} {ret : Option FieldType} {pc : Nat} {h : Hp} {lv : List (Nat × Value)} {st : List Value} {o : Option Nat} (F : ZF p s m args meth c D tA B nL kn RX0 cc ret) (htr : l.stackTraces = false) (hd : decode cc pc = .ok (.checkcast 83, 3)) (t : zTo h o 51) (hcs : zcs 52 h o = false) (hm2 : c0 ≤ zc h ∧ s0 ≤ zs h) (hR : 8 ≤ R.frames ∧ 10272 ≤ R.locals) (hRc : (zc h - c0) + 3 ≤ R.cells ∧ (zs h - s0) + 1210 ≤ R.slots) (hst : (st.map fun v => v.category).sum ≤ 15) (kk : ZT p l e R s m args below meth c Q D tA B nL c0 s0 ad "java/lang/ClassCastException" pc (zga h 3 1210) lv) : ZW p l e R s m args below meth c Q D tA B nL c0 s0 ad pc h lv (va_re ad o :: st) := by
  cases o with
  | none => cases hcs
  | some a =>
    have hm : zt h a ∈ [14, 15, 16, 17, 18, 19, 20, 21, 23, 24, 25, 26, 27] := (t a rfl).fam (by decide)
    simp only [List.mem_cons, List.not_mem_nil, or_false] at hm
    rcases hm with ht | ht | ht | ht | ht | ht | ht | ht | ht | ht | ht | ht | ht
    · exact absurd hcs (by show ¬ zsub 52 (zt h a) = false; rw [ht]; decide)
    · exact absurd hcs (by show ¬ zsub 52 (zt h a) = false; rw [ht]; decide)
    · exact absurd hcs (by show ¬ zsub 52 (zt h a) = false; rw [ht]; decide)
    · exact absurd hcs (by show ¬ zsub 52 (zt h a) = false; rw [ht]; decide)
    · exact absurd hcs (by show ¬ zsub 52 (zt h a) = false; rw [ht]; decide)
    · exact absurd hcs (by show ¬ zsub 52 (zt h a) = false; rw [ht]; decide)
    · exact absurd hcs (by show ¬ zsub 52 (zt h a) = false; rw [ht]; decide)
    · exact absurd hcs (by show ¬ zsub 52 (zt h a) = false; rw [ht]; decide)
    · exact z_castX (ci := 23) (nm := "ThreeSnowballs$Thrower") F htr rfl (by decide) (t a rfl).1 ht q171 (by decide +kernel) (by decide +kernel) (by decide +kernel) hd hm2 hR hRc hst kk
    · exact z_castX (ci := 24) (nm := "ThreeSnowballs$Thrower") F htr rfl (by decide) (t a rfl).1 ht q171 (by decide +kernel) (by decide +kernel) (by decide +kernel) hd hm2 hR hRc hst kk
    · exact z_castX (ci := 25) (nm := "ThreeSnowballs$Thrower") F htr rfl (by decide) (t a rfl).1 ht q171 (by decide +kernel) (by decide +kernel) (by decide +kernel) hd hm2 hR hRc hst kk
    · exact z_castX (ci := 26) (nm := "ThreeSnowballs$Thrower") F htr rfl (by decide) (t a rfl).1 ht q171 (by decide +kernel) (by decide +kernel) (by decide +kernel) hd hm2 hR hRc hst kk
    · exact z_castX (ci := 27) (nm := "ThreeSnowballs$Thrower") F htr rfl (by decide) (t a rfl).1 ht q171 (by decide +kernel) (by decide +kernel) (by decide +kernel) hd hm2 hR hRc hst kk
theorem nu_X0_484 {p : Program} {l : Launch} {e : Env} {R : Room} {s : State} {m : MethodId} {args : Array Value} {below : List Frame} {meth : Method} {c : Code} {Q : State → Prop} {D : va_G} {tA : Nat → ClassId} {B nL c0 s0 : Nat} {ad : Nat → Nat} {kn : State → Prop} {cc : ByteArray} {ret : Option FieldType} {pc : Nat} {h : Hp} {lv : List (Nat × Value)} {st : List Value} {n0 : Int32} (F : ZF p s m args meth c D tA B nL kn RX0 cc ret) (htr : l.stackTraces = false) (hd : decode cc pc = .ok (.invokevirtual 484, 3)) (hm : c0 ≤ zc h ∧ s0 ≤ zs h) (hR : 8 ≤ R.frames ∧ 10272 ≤ R.locals) (hRc : (zc h - c0) + 1 ≤ R.cells ∧ (zs h - s0) + 8 ≤ R.slots) (hst : (st.map fun v => v.category).sum ≤ 16) (kk : ZT p l e R s m args below meth c Q D tA B nL c0 s0 ad "java/lang/NullPointerException" pc (zga h 1 8) lv) : ZW p l e R s m args below meth c Q D tA B nL c0 s0 ad pc h lv (.int n0 :: .null :: st) :=
  z_nulV (n := 1) (As := [.int n0]) (C := "ThreeSnowballs$Thrower") F htr q1452 q1453 q1454 q1475 (by decide +kernel) rfl hd hm hR hRc hst kk
def X0_taken (h : Hp) (x1 : Int32) (x2 : Int32) : Option (Int32 × Hp) :=
  bd (X0_isShelf h x1) fun r2 h1 => if r2 = 0 then (some ((-1 : Int32), h1)) else (bd (X0_in h1 x2 (0 : Int32) (7 : Int32)) fun r5 h4 => if r5 = 0 then (some ((-1 : Int32), h4)) else (ck (0 ≤ x1.toInt ∧ x1.toInt < 6) <| nm (zr h4 16 x1.toNatClampNeg) fun o8 => if zcs 52 h4 o8 = true then (oc o8 (ck (zc h4 + 1 ≤ zLC ∧ zs h4 + 8 ≤ zLS) <| nm (zga h4 1 8) fun h14 => some ((-11 : Int32), h14)) fun a16 => bd (V14_isUnder h4 a16 x2) fun r18 h17 => if r18 = 0 then (some ((-12 : Int32), h17)) else (bd (V14_kind h17 a16) fun r21 h20 => some (r21, h20))) else (ck (zc h4 + 3 ≤ zLC ∧ zs h4 + 1210 ≤ zLS) <| nm (zga h4 3 1210) fun h11 => some ((-12 : Int32), h11))))
set_option maxHeartbeats 4000000 in
theorem mX0_taken {l : Launch} {D : va_G} {tA : Nat → ClassId} {B : Nat} {kn : State → Prop} {h hE : Hp} {ad : Nat → Nat} {x1 : Int32} {x2 : Int32} {r : Int32} (hkp : zKp D tA B kn) (htr : l.stackTraces = false) (hO_h : zOk h)  (hf : X0_taken h x1 x2 = some (r, hE)) : zM l D tA B kn yX0_taken (wsW yX0_taken cX0_taken 4 (Option.some Jvm.ClassFile.FieldType.int) [(19, 46, 47, 132), (19, 46, 51, 130)]) 8 10272 h ad [.ref (ad 0), .int x1, .int x2] hE (zQi D tA B h ad r hE) := by
  refine zMW_of hkp (by decide +kernel) (Nat.le_of_ble_eq_true rfl) ?_
  intro p e s m args below meth c F hnm htab
  show ZW p l e (zRm 8 10272 h) s m args below meth c (MQ below (zQi D tA B h ad r hE) args s (zc hE - zc h) (zs hE - zs h) (fun q => B ≤ q)) D tA B 4 (zc h) (zs h) ad 0 h [(0, .ref (ad 0)), (1, .int x1), (2, .int x2)] []
  replace hf := (X0_taken.eq_1 h x1 x2).symm.trans hf
  refine w_iload_n F dX0_taken_0 1 rfl ?_
  replace hf := bd_o hf
  obtain ⟨r2, h1, qh1, hf⟩ := hf
  refine cl_X0_120 F dX0_taken_1 hO_h (zEx.rf h) ⟨Nat.le_of_ble_eq_true rfl, Nat.le_of_ble_eq_true rfl⟩ qh1 (Nat.le_of_ble_eq_true rfl) (fun hO_h1 Eh1 hz_r2 => ?_)
  refine w_if_eq (tgt := 17) F dX0_taken_4 (by decide) (fun c3 => ?_) (fun c3 => ?_)
  · replace hf := if_t c3 hf
    refine w_iconst (v := -1) F dX0_taken_17 rfl ?_
    obtain ⟨rfl, rfl⟩ := ret_o hf
    exact z_iret F dX0_taken_18 hO_h1 Eh1
  · replace hf := if_f c3 hf
    refine w_iload_n F dX0_taken_7 2 rfl ?_
    refine w_iconst (v := 0) F dX0_taken_8 rfl ?_
    refine w_bipush (v := 7) F dX0_taken_9 rfl ?_
    replace hf := bd_o hf
    obtain ⟨r5, h4, qh4, hf⟩ := hf
    refine cl_X0_98 F dX0_taken_11 hO_h1 Eh1 ⟨Nat.le_of_ble_eq_true rfl, Nat.le_of_ble_eq_true rfl⟩ qh4 (Nat.le_of_ble_eq_true rfl) (fun hO_h4 Eh4 hz_r5 => ?_)
    refine w_if_ne (tgt := 19) F dX0_taken_14 (by decide) (fun c6 => ?_) (fun c6 => ?_)
    · replace hf := if_f c6 hf
      refine w_aload_n F dX0_taken_19 0 rfl ?_
      refine gf_X0_91 F dX0_taken_20 hO_h4 ?_
      refine w_iload_n F dX0_taken_23 1 rfl ?_
      replace hf := ck_o hf
      obtain ⟨c7, hf⟩ := hf
      refine z_aald (j := 8) F rfl (t := 108) rfl dX0_taken_24 (zl_16 hO_h4) (zt_16 hO_h4) (by rw [zn_16 hO_h4]; exact vp_in_iff.mpr c7) (by decide) ?_
      replace hf := nm_o hf
      obtain ⟨o8, eo8, hf⟩ := hf
      refine w_no eo8 ?_
      have t_o8 : zTo h4 o8 51 := zTo.rd hO_h4 (zl_16 hO_h4) (zt_16 hO_h4) (t := 108) rfl eo8
      by_cases c9 : zcs 52 h4 o8 = true
      · replace hf := if_t c9 hf
        refine ky_X0_83 (o := o8) F dX0_taken_25 t_o8 c9 ?_
        have t_o8 : zTo h4 o8 52 := zcs_t t_o8 c9
        refine w_astoreo_n (i := 3) (lv' := [(3, va_re ad o8), (0, .ref (ad 0)), (1, .int x1), (2, .int x2)]) F dX0_taken_28 rfl (by decide) rfl ?_
        refine w_aloado_n F dX0_taken_29 0 rfl ?_
        refine w_iload_n F dX0_taken_30 3 rfl ?_
        replace hf := oc_o hf
        rcases hf with ⟨ea16, hf⟩ | ⟨a16, ea16, hf⟩
        · subst ea16
          refine z_sub (lv' := [(0, .ref (ad 0)), (1, .int x1), (2, .int x2)]) [1, 2, 3] rfl ?_
          replace hf := ck_o hf
          obtain ⟨c13, hf⟩ := hf
          refine nu_X0_484 F htr dX0_taken_31 ⟨((Eh1).tr Eh4).2.1, ((Eh1).tr Eh4).2.2.1⟩ (by constructor <;> (simp only [zRm]; omega)) (zrm_c ((Eh1).tr Eh4) c13) (Nat.le_of_ble_eq_true rfl) ?_
          replace hf := nm_o hf
          obtain ⟨h14, eh14, hf⟩ := hf
          rw [← eh14]
          have Eh14 : zEx h4 h14 := by rw [eh14]; exact zEx.ga
          have hO_h14 : zOk h14 := by rw [eh14]; exact hO_h4.ga c13
          refine z_catch (X := "java/lang/NullPointerException") (C := "java/lang/NullPointerException") (pre := []) (a := 19) (b := 46) (hpc := 47) (ct := 132) F htab rfl zps_nil (by decide) (by decide) q420 (zNW_of q442 rfl) (fun e15 => ?_)
          refine w_astore_n (i := 3) (lv' := [(3, .ref e15), (0, .ref (ad 0)), (1, .int x1), (2, .int x2)]) F dX0_taken_47 rfl (by decide) rfl ?_
          refine w_bipush (v := -11) F dX0_taken_48 rfl ?_
          obtain ⟨rfl, rfl⟩ := ret_o hf
          exact z_iret F dX0_taken_50 hO_h14 (((Eh1).tr Eh4).tr Eh14)
        · subst ea16
          have t_a16 : zTy h4 a16 52 := t_o8 a16 rfl
          replace hf := bd_o hf
          obtain ⟨r18, h17, qh17, hf⟩ := hf
          refine cl_X0_484 F dX0_taken_31 hO_h4 ((Eh1).tr Eh4) (t_a16) ⟨Nat.le_of_ble_eq_true rfl, Nat.le_of_ble_eq_true rfl⟩ qh17 (Nat.le_of_ble_eq_true rfl) (fun hO_h17 Eh17 hz_r18 => ?_)
          have t_a16 := t_a16.ex Eh17
          refine w_if_eq (tgt := 44) F dX0_taken_34 (by decide) (fun c19 => ?_) (fun c19 => ?_)
          · replace hf := if_t c19 hf
            refine w_bipush (v := -12) F dX0_taken_44 rfl ?_
            obtain ⟨rfl, rfl⟩ := ret_o hf
            exact z_iret F dX0_taken_46 hO_h17 (((Eh1).tr Eh4).tr Eh17)
          · replace hf := if_f c19 hf
            refine w_aload_n F dX0_taken_37 0 rfl ?_
            replace hf := bd_o hf
            obtain ⟨r21, h20, qh20, hf⟩ := hf
            refine cl_X0_487 F dX0_taken_38 hO_h17 (((Eh1).tr Eh4).tr Eh17) (t_a16) ⟨Nat.le_of_ble_eq_true rfl, Nat.le_of_ble_eq_true rfl⟩ qh20 (Nat.le_of_ble_eq_true rfl) (fun hO_h20 Eh20 => ?_)
            have t_a16 := t_a16.ex Eh20
            refine w_goto (tgt := 46) F dX0_taken_41 (by decide) ?_
            obtain ⟨rfl, rfl⟩ := ret_o hf
            exact z_iret F dX0_taken_46 hO_h20 ((((Eh1).tr Eh4).tr Eh17).tr Eh20)
      · replace hf := if_f c9 hf
        replace c9 := Bool.eq_false_iff.mpr c9
        replace hf := ck_o hf
        obtain ⟨c10, hf⟩ := hf
        refine kn_X0_83 (o := o8) F htr dX0_taken_25 t_o8 c9 ⟨((Eh1).tr Eh4).2.1, ((Eh1).tr Eh4).2.2.1⟩ (by constructor <;> (simp only [zRm]; omega)) (zrm_c ((Eh1).tr Eh4) c10) (Nat.le_of_ble_eq_true rfl) ?_
        replace hf := nm_o hf
        obtain ⟨h11, eh11, hf⟩ := hf
        rw [← eh11]
        have Eh11 : zEx h4 h11 := by rw [eh11]; exact zEx.ga
        have hO_h11 : zOk h11 := by rw [eh11]; exact hO_h4.ga c10
        have t_o8 := t_o8.ex Eh11
        refine z_catch (X := "java/lang/ClassCastException") (C := "java/lang/ClassCastException") (pre := [(19, 46, 47, 132)]) (a := 19) (b := 46) (hpc := 51) (ct := 130) F htab rfl (zps_no (by decide) q420 (by decide +kernel) zps_nil) (by decide) (by decide) q336 (zNW_of q398 rfl) (fun e12 => ?_)
        refine w_astore_n (i := 3) (lv' := [(3, .ref e12), (0, .ref (ad 0)), (1, .int x1), (2, .int x2)]) F dX0_taken_51 rfl (by decide) rfl ?_
        refine w_bipush (v := -12) F dX0_taken_52 rfl ?_
        obtain ⟨rfl, rfl⟩ := ret_o hf
        exact z_iret F dX0_taken_54 hO_h11 (((Eh1).tr Eh4).tr Eh11)
    · replace hf := if_t c6 hf
      refine w_iconst (v := -1) F dX0_taken_17 rfl ?_
      obtain ⟨rfl, rfl⟩ := ret_o hf
      exact z_iret F dX0_taken_18 hO_h4 ((Eh1).tr Eh4)
theorem cl_X0_372 {p : Program} {l : Launch} {e : Env} {s : State} {m : MethodId} {args : Array Value} {below : List Frame} {meth : Method} {c : Code} {Q : State → Prop} {D : va_G} {tA : Nat → ClassId} {B nL : Nat} {ad : Nat → Nat} {kn : State → Prop} {cc : ByteArray} {ret : Option FieldType} {pc : Nat} {h : Hp} {lv : List (Nat × Value)} {Fr Lo : Nat} {h0 h1 : Hp} {rest : List Value} {x1 : Option Nat} (F : ZF p s m args meth c D tA B nL kn RX0 cc ret) (hd : decode cc pc = .ok (.invokevirtual 372, 3)) (hO : zOk h) (hE : zEx h0 h) (t_x1 : zTo h x1 23) (hR : 207 + 1 ≤ (zRm Fr Lo h0).frames ∧ 16 + (3 + 11) + 6431 ≤ (zRm Fr Lo h0).locals) (hf : X0_goThrough h x1 = some ((), h1)) (hr : (rest.map fun v => v.category).sum ≤ 16) (kk : zOk h1 → zEx h h1 → ZW p l e (zRm Fr Lo h0) s m args below meth c Q D tA B nL (zc h0) (zs h0) ad (pc + 3) h1 lv (rest)) : ZW p l e (zRm Fr Lo h0) s m args below meth c Q D tA B nL (zc h0) (zs h0) ad pc h lv (va_re ad x1 :: .ref (ad 0) :: rest) := 
  z_cv ⟨hE.2.1, hE.2.2.1⟩ (fun H locs ls hw hl => z_runV (q := 0) (ci := 0) F (mX0_goThrough F.2.2.2.2.2.1 hO t_x1 hf) (zCw.of 1 F.ts q987 q92 (by decide +kernel) hR) (Or.inl q984) q986 qs42 rfl (by decide) (zl_0 hO) (zt_0 hO) rfl hr hd hw hl (z_fit hE hO)) kk
theorem ky_X0_124 {p : Program} {l : Launch} {e : Env} {R : Room} {s : State} {m : MethodId} {args : Array Value} {below : List Frame} {meth : Method} {c : Code} {Q : State → Prop} {D : va_G} {tA : Nat → ClassId} {B nL c0 s0 : Nat} {ad : Nat → Nat} {kn : State → Prop} {cc : ByteArray} {ret : Option FieldType} {pc : Nat} {h : Hp} {lv : List (Nat × Value)} {st : List Value} {o : Option Nat} (F : ZF p s m args meth c D tA B nL kn RX0 cc ret) (hd : decode cc pc = .ok (.checkcast 124, 3)) (t : zTo h o 51) (hcs : zcs 23 h o = true) (kk : ZW p l e R s m args below meth c Q D tA B nL c0 s0 ad (pc + 3) h lv (va_re ad o :: st)) : ZW p l e R s m args below meth c Q D tA B nL c0 s0 ad pc h lv (va_re ad o :: st) := by
  cases o with
  | none => exact z_cast0 F hd kk
  | some a =>
    have hm : zt h a ∈ [14, 15, 16, 17, 18, 19, 20, 21, 23, 24, 25, 26, 27] := (t a rfl).fam (by decide)
    simp only [List.mem_cons, List.not_mem_nil, or_false] at hm
    rcases hm with ht | ht | ht | ht | ht | ht | ht | ht | ht | ht | ht | ht | ht
    · exact absurd hcs (by show ¬ zsub 23 (zt h a) = true; rw [ht]; decide)
    · exact absurd hcs (by show ¬ zsub 23 (zt h a) = true; rw [ht]; decide)
    · exact absurd hcs (by show ¬ zsub 23 (zt h a) = true; rw [ht]; decide)
    · exact absurd hcs (by show ¬ zsub 23 (zt h a) = true; rw [ht]; decide)
    · exact absurd hcs (by show ¬ zsub 23 (zt h a) = true; rw [ht]; decide)
    · exact absurd hcs (by show ¬ zsub 23 (zt h a) = true; rw [ht]; decide)
    · exact absurd hcs (by show ¬ zsub 23 (zt h a) = true; rw [ht]; decide)
    · exact absurd hcs (by show ¬ zsub 23 (zt h a) = true; rw [ht]; decide)
    · exact z_castY (ci := 23) (nm := "ThreeSnowballs$ByteRow") F rfl (by decide) (t a rfl).1 ht q467 (Or.inl rfl) hd kk
    · exact absurd hcs (by show ¬ zsub 23 (zt h a) = true; rw [ht]; decide)
    · exact absurd hcs (by show ¬ zsub 23 (zt h a) = true; rw [ht]; decide)
    · exact absurd hcs (by show ¬ zsub 23 (zt h a) = true; rw [ht]; decide)
    · exact absurd hcs (by show ¬ zsub 23 (zt h a) = true; rw [ht]; decide)
theorem kn_X0_124 {p : Program} {l : Launch} {e : Env} {R : Room} {s : State} {m : MethodId} {args : Array Value} {below : List Frame} {meth : Method} {c : Code} {Q : State → Prop} {D : va_G} {tA : Nat → ClassId} {B nL c0 s0 : Nat} {ad : Nat → Nat} {kn : State → Prop} {cc : ByteArray} {ret : Option FieldType} {pc : Nat} {h : Hp} {lv : List (Nat × Value)} {st : List Value} {o : Option Nat} (F : ZF p s m args meth c D tA B nL kn RX0 cc ret) (htr : l.stackTraces = false) (hd : decode cc pc = .ok (.checkcast 124, 3)) (t : zTo h o 51) (hcs : zcs 23 h o = false) (hm2 : c0 ≤ zc h ∧ s0 ≤ zs h) (hR : 8 ≤ R.frames ∧ 10272 ≤ R.locals) (hRc : (zc h - c0) + 3 ≤ R.cells ∧ (zs h - s0) + 1210 ≤ R.slots) (hst : (st.map fun v => v.category).sum ≤ 15) (kk : ZT p l e R s m args below meth c Q D tA B nL c0 s0 ad "java/lang/ClassCastException" pc (zga h 3 1210) lv) : ZW p l e R s m args below meth c Q D tA B nL c0 s0 ad pc h lv (va_re ad o :: st) := by
  cases o with
  | none => cases hcs
  | some a =>
    have hm : zt h a ∈ [14, 15, 16, 17, 18, 19, 20, 21, 23, 24, 25, 26, 27] := (t a rfl).fam (by decide)
    simp only [List.mem_cons, List.not_mem_nil, or_false] at hm
    rcases hm with ht | ht | ht | ht | ht | ht | ht | ht | ht | ht | ht | ht | ht
    · exact z_castX (ci := 14) (nm := "ThreeSnowballs$ByteRow") F htr rfl (by decide) (t a rfl).1 ht q467 (by decide +kernel) (by decide +kernel) (by decide +kernel) hd hm2 hR hRc hst kk
    · exact z_castX (ci := 15) (nm := "ThreeSnowballs$ByteRow") F htr rfl (by decide) (t a rfl).1 ht q467 (by decide +kernel) (by decide +kernel) (by decide +kernel) hd hm2 hR hRc hst kk
    · exact z_castX (ci := 16) (nm := "ThreeSnowballs$ByteRow") F htr rfl (by decide) (t a rfl).1 ht q467 (by decide +kernel) (by decide +kernel) (by decide +kernel) hd hm2 hR hRc hst kk
    · exact z_castX (ci := 17) (nm := "ThreeSnowballs$ByteRow") F htr rfl (by decide) (t a rfl).1 ht q467 (by decide +kernel) (by decide +kernel) (by decide +kernel) hd hm2 hR hRc hst kk
    · exact z_castX (ci := 18) (nm := "ThreeSnowballs$ByteRow") F htr rfl (by decide) (t a rfl).1 ht q467 (by decide +kernel) (by decide +kernel) (by decide +kernel) hd hm2 hR hRc hst kk
    · exact z_castX (ci := 19) (nm := "ThreeSnowballs$ByteRow") F htr rfl (by decide) (t a rfl).1 ht q467 (by decide +kernel) (by decide +kernel) (by decide +kernel) hd hm2 hR hRc hst kk
    · exact z_castX (ci := 20) (nm := "ThreeSnowballs$ByteRow") F htr rfl (by decide) (t a rfl).1 ht q467 (by decide +kernel) (by decide +kernel) (by decide +kernel) hd hm2 hR hRc hst kk
    · exact z_castX (ci := 21) (nm := "ThreeSnowballs$ByteRow") F htr rfl (by decide) (t a rfl).1 ht q467 (by decide +kernel) (by decide +kernel) (by decide +kernel) hd hm2 hR hRc hst kk
    · exact absurd hcs (by show ¬ zsub 23 (zt h a) = false; rw [ht]; decide)
    · exact z_castX (ci := 24) (nm := "ThreeSnowballs$ByteRow") F htr rfl (by decide) (t a rfl).1 ht q467 (by decide +kernel) (by decide +kernel) (by decide +kernel) hd hm2 hR hRc hst kk
    · exact z_castX (ci := 25) (nm := "ThreeSnowballs$ByteRow") F htr rfl (by decide) (t a rfl).1 ht q467 (by decide +kernel) (by decide +kernel) (by decide +kernel) hd hm2 hR hRc hst kk
    · exact z_castX (ci := 26) (nm := "ThreeSnowballs$ByteRow") F htr rfl (by decide) (t a rfl).1 ht q467 (by decide +kernel) (by decide +kernel) (by decide +kernel) hd hm2 hR hRc hst kk
    · exact z_castX (ci := 27) (nm := "ThreeSnowballs$ByteRow") F htr rfl (by decide) (t a rfl).1 ht q467 (by decide +kernel) (by decide +kernel) (by decide +kernel) hd hm2 hR hRc hst kk
theorem nu_X0_366 {p : Program} {l : Launch} {e : Env} {R : Room} {s : State} {m : MethodId} {args : Array Value} {below : List Frame} {meth : Method} {c : Code} {Q : State → Prop} {D : va_G} {tA : Nat → ClassId} {B nL c0 s0 : Nat} {ad : Nat → Nat} {kn : State → Prop} {cc : ByteArray} {ret : Option FieldType} {pc : Nat} {h : Hp} {lv : List (Nat × Value)} {st : List Value} (F : ZF p s m args meth c D tA B nL kn RX0 cc ret) (htr : l.stackTraces = false) (hd : decode cc pc = .ok (.invokevirtual 366, 3)) (hm : c0 ≤ zc h ∧ s0 ≤ zs h) (hR : 8 ≤ R.frames ∧ 10272 ≤ R.locals) (hRc : (zc h - c0) + 1 ≤ R.cells ∧ (zs h - s0) + 8 ≤ R.slots) (hst : (st.map fun v => v.category).sum ≤ 16) (kk : ZT p l e R s m args below meth c Q D tA B nL c0 s0 ad "java/lang/NullPointerException" pc (zga h 1 8) lv) : ZW p l e R s m args below meth c Q D tA B nL c0 s0 ad pc h lv (.null :: st) :=
  z_nulV (n := 0) (As := []) (C := "ThreeSnowballs$ByteRow") F htr q980 q981 q982 q983 (by decide +kernel) rfl hd hm hR hRc hst kk
def X0_judge (h : Hp) (x1 : Int32) (x2 : Int32) : Option (Int32 × Hp) :=
  bd (X0_isShelf h x1) fun r2 h1 => if r2 = 0 then (some ((-1 : Int32), h1)) else (bd (X0_in h1 x2 (0 : Int32) (1 : Int32)) fun r5 h4 => if r5 = 0 then (some ((-1 : Int32), h4)) else (ck (0 ≤ x1.toInt ∧ x1.toInt < 6) <| nm (zr h4 16 x1.toNatClampNeg) fun o8 => if zcs 23 h4 o8 = true then (oc o8 (ck (zc h4 + 1 ≤ zLC ∧ zs h4 + 8 ≤ zLS) <| nm (zga h4 1 8) fun h14 => some ((-11 : Int32), h14)) fun a16 => bd (X23_size h4 a16) fun r18 h17 => bd (X0_goThrough h17 (some a16)) fun _ h19 => if x2 = 0 then (some (zi h19 0 22, h19)) else (if (zi h19 0 22) < 0 then (some (zi h19 0 23, h19)) else (some ((-2 : Int32), h19)))) else (ck (zc h4 + 3 ≤ zLC ∧ zs h4 + 1210 ≤ zLS) <| nm (zga h4 3 1210) fun h11 => some ((-12 : Int32), h11))))
set_option maxHeartbeats 4000000 in
theorem mX0_judge {l : Launch} {D : va_G} {tA : Nat → ClassId} {B : Nat} {kn : State → Prop} {h hE : Hp} {ad : Nat → Nat} {x1 : Int32} {x2 : Int32} {r : Int32} (hkp : zKp D tA B kn) (htr : l.stackTraces = false) (hO_h : zOk h)  (hf : X0_judge h x1 x2 = some (r, hE)) : zM l D tA B kn yX0_judge (wsW yX0_judge cX0_judge 4 (Option.some Jvm.ClassFile.FieldType.int) [(18, 65, 66, 130), (18, 65, 70, 132)]) 208 10272 h ad [.ref (ad 0), .int x1, .int x2] hE (zQi D tA B h ad r hE) := by
  refine zMW_of hkp (by decide +kernel) (Nat.le_of_ble_eq_true rfl) ?_
  intro p e s m args below meth c F hnm htab
  show ZW p l e (zRm 208 10272 h) s m args below meth c (MQ below (zQi D tA B h ad r hE) args s (zc hE - zc h) (zs hE - zs h) (fun q => B ≤ q)) D tA B 4 (zc h) (zs h) ad 0 h [(0, .ref (ad 0)), (1, .int x1), (2, .int x2)] []
  replace hf := (X0_judge.eq_1 h x1 x2).symm.trans hf
  refine w_iload_n F dX0_judge_0 1 rfl ?_
  replace hf := bd_o hf
  obtain ⟨r2, h1, qh1, hf⟩ := hf
  refine cl_X0_120 F dX0_judge_1 hO_h (zEx.rf h) ⟨Nat.le_of_ble_eq_true rfl, Nat.le_of_ble_eq_true rfl⟩ qh1 (Nat.le_of_ble_eq_true rfl) (fun hO_h1 Eh1 hz_r2 => ?_)
  refine w_if_eq (tgt := 16) F dX0_judge_4 (by decide) (fun c3 => ?_) (fun c3 => ?_)
  · replace hf := if_t c3 hf
    refine w_iconst (v := -1) F dX0_judge_16 rfl ?_
    obtain ⟨rfl, rfl⟩ := ret_o hf
    exact z_iret F dX0_judge_17 hO_h1 Eh1
  · replace hf := if_f c3 hf
    refine w_iload_n F dX0_judge_7 2 rfl ?_
    refine w_iconst (v := 0) F dX0_judge_8 rfl ?_
    refine w_iconst (v := 1) F dX0_judge_9 rfl ?_
    replace hf := bd_o hf
    obtain ⟨r5, h4, qh4, hf⟩ := hf
    refine cl_X0_98 F dX0_judge_10 hO_h1 Eh1 ⟨Nat.le_of_ble_eq_true rfl, Nat.le_of_ble_eq_true rfl⟩ qh4 (Nat.le_of_ble_eq_true rfl) (fun hO_h4 Eh4 hz_r5 => ?_)
    refine w_if_ne (tgt := 18) F dX0_judge_13 (by decide) (fun c6 => ?_) (fun c6 => ?_)
    · replace hf := if_f c6 hf
      refine w_aload_n F dX0_judge_18 0 rfl ?_
      refine gf_X0_91 F dX0_judge_19 hO_h4 ?_
      refine w_iload_n F dX0_judge_22 1 rfl ?_
      replace hf := ck_o hf
      obtain ⟨c7, hf⟩ := hf
      refine z_aald (j := 8) F rfl (t := 108) rfl dX0_judge_23 (zl_16 hO_h4) (zt_16 hO_h4) (by rw [zn_16 hO_h4]; exact vp_in_iff.mpr c7) (by decide) ?_
      replace hf := nm_o hf
      obtain ⟨o8, eo8, hf⟩ := hf
      refine w_no eo8 ?_
      have t_o8 : zTo h4 o8 51 := zTo.rd hO_h4 (zl_16 hO_h4) (zt_16 hO_h4) (t := 108) rfl eo8
      by_cases c9 : zcs 23 h4 o8 = true
      · replace hf := if_t c9 hf
        refine ky_X0_124 (o := o8) F dX0_judge_24 t_o8 c9 ?_
        have t_o8 : zTo h4 o8 23 := zcs_t t_o8 c9
        refine w_astoreo_n (i := 3) (lv' := [(3, va_re ad o8), (0, .ref (ad 0)), (1, .int x1), (2, .int x2)]) F dX0_judge_27 rfl (by decide) rfl ?_
        refine w_aloado_n F dX0_judge_28 0 rfl ?_
        replace hf := oc_o hf
        rcases hf with ⟨ea16, hf⟩ | ⟨a16, ea16, hf⟩
        · subst ea16
          refine z_sub (lv' := [(0, .ref (ad 0)), (1, .int x1), (2, .int x2)]) [1, 2, 3] rfl ?_
          replace hf := ck_o hf
          obtain ⟨c13, hf⟩ := hf
          refine nu_X0_366 F htr dX0_judge_29 ⟨((Eh1).tr Eh4).2.1, ((Eh1).tr Eh4).2.2.1⟩ (by constructor <;> (simp only [zRm]; omega)) (zrm_c ((Eh1).tr Eh4) c13) (Nat.le_of_ble_eq_true rfl) ?_
          replace hf := nm_o hf
          obtain ⟨h14, eh14, hf⟩ := hf
          rw [← eh14]
          have Eh14 : zEx h4 h14 := by rw [eh14]; exact zEx.ga
          have hO_h14 : zOk h14 := by rw [eh14]; exact hO_h4.ga c13
          refine z_catch (X := "java/lang/NullPointerException") (C := "java/lang/NullPointerException") (pre := [(18, 65, 66, 130)]) (a := 18) (b := 65) (hpc := 70) (ct := 132) F htab rfl (zps_no (by decide) q336 (by decide +kernel) zps_nil) (by decide) (by decide) q420 (zNW_of q442 rfl) (fun e15 => ?_)
          refine w_astore_n (i := 3) (lv' := [(3, .ref e15), (0, .ref (ad 0)), (1, .int x1), (2, .int x2)]) F dX0_judge_70 rfl (by decide) rfl ?_
          refine w_bipush (v := -11) F dX0_judge_71 rfl ?_
          obtain ⟨rfl, rfl⟩ := ret_o hf
          exact z_iret F dX0_judge_73 hO_h14 (((Eh1).tr Eh4).tr Eh14)
        · subst ea16
          have t_a16 : zTy h4 a16 23 := t_o8 a16 rfl
          replace hf := bd_o hf
          obtain ⟨r18, h17, qh17, hf⟩ := hf
          refine cl_X0_366 F dX0_judge_29 hO_h4 ((Eh1).tr Eh4) (t_a16) ⟨Nat.le_of_ble_eq_true rfl, Nat.le_of_ble_eq_true rfl⟩ qh17 (Nat.le_of_ble_eq_true rfl) (fun hO_h17 Eh17 => ?_)
          have t_a16 := t_a16.ex Eh17
          refine w_pop F dX0_judge_32 rfl ?_
          refine w_aload_n F dX0_judge_33 1 rfl ?_
          refine w_aload_n F dX0_judge_34 0 rfl ?_
          replace hf := bd_o hf
          obtain ⟨r20, h19, qh19, hf⟩ := hf
          refine cl_X0_372 F dX0_judge_35 hO_h17 (((Eh1).tr Eh4).tr Eh17) (zTo.of t_a16) ⟨Nat.le_of_ble_eq_true rfl, Nat.le_of_ble_eq_true rfl⟩ qh19 (Nat.le_of_ble_eq_true rfl) (fun hO_h19 Eh19 => ?_)
          have t_a16 := t_a16.ex Eh19
          refine w_iload_n F dX0_judge_38 3 rfl ?_
          refine w_if_ne (tgt := 49) F dX0_judge_39 (by decide) (fun c21 => ?_) (fun c21 => ?_)
          · replace hf := if_f c21 hf
            refine w_aload_n F dX0_judge_49 1 rfl ?_
            refine gf_X0_363 F dX0_judge_50 hO_h19 ?_
            refine w_if_lt (tgt := 61) F dX0_judge_53 (by decide) (fun c22 => ?_) (fun c22 => ?_)
            · replace hf := if_t c22 hf
              refine w_aload_n F dX0_judge_61 1 rfl ?_
              refine gf_X0_351 F dX0_judge_62 hO_h19 ?_
              obtain ⟨rfl, rfl⟩ := ret_o hf
              exact z_iret F dX0_judge_65 hO_h19 ((((Eh1).tr Eh4).tr Eh17).tr Eh19)
            · replace hf := if_f c22 hf
              refine w_bipush (v := -2) F dX0_judge_56 rfl ?_
              refine w_goto (tgt := 65) F dX0_judge_58 (by decide) ?_
              obtain ⟨rfl, rfl⟩ := ret_o hf
              exact z_iret F dX0_judge_65 hO_h19 ((((Eh1).tr Eh4).tr Eh17).tr Eh19)
          · replace hf := if_t c21 hf
            refine w_aload_n F dX0_judge_42 1 rfl ?_
            refine gf_X0_363 F dX0_judge_43 hO_h19 ?_
            refine w_goto (tgt := 65) F dX0_judge_46 (by decide) ?_
            obtain ⟨rfl, rfl⟩ := ret_o hf
            exact z_iret F dX0_judge_65 hO_h19 ((((Eh1).tr Eh4).tr Eh17).tr Eh19)
      · replace hf := if_f c9 hf
        replace c9 := Bool.eq_false_iff.mpr c9
        replace hf := ck_o hf
        obtain ⟨c10, hf⟩ := hf
        refine kn_X0_124 (o := o8) F htr dX0_judge_24 t_o8 c9 ⟨((Eh1).tr Eh4).2.1, ((Eh1).tr Eh4).2.2.1⟩ (by constructor <;> (simp only [zRm]; omega)) (zrm_c ((Eh1).tr Eh4) c10) (Nat.le_of_ble_eq_true rfl) ?_
        replace hf := nm_o hf
        obtain ⟨h11, eh11, hf⟩ := hf
        rw [← eh11]
        have Eh11 : zEx h4 h11 := by rw [eh11]; exact zEx.ga
        have hO_h11 : zOk h11 := by rw [eh11]; exact hO_h4.ga c10
        have t_o8 := t_o8.ex Eh11
        refine z_catch (X := "java/lang/ClassCastException") (C := "java/lang/ClassCastException") (pre := []) (a := 18) (b := 65) (hpc := 66) (ct := 130) F htab rfl zps_nil (by decide) (by decide) q336 (zNW_of q398 rfl) (fun e12 => ?_)
        refine w_astore_n (i := 3) (lv' := [(3, .ref e12), (0, .ref (ad 0)), (1, .int x1), (2, .int x2)]) F dX0_judge_66 rfl (by decide) rfl ?_
        refine w_bipush (v := -12) F dX0_judge_67 rfl ?_
        obtain ⟨rfl, rfl⟩ := ret_o hf
        exact z_iret F dX0_judge_69 hO_h11 (((Eh1).tr Eh4).tr Eh11)
    · replace hf := if_t c6 hf
      refine w_iconst (v := -1) F dX0_judge_16 rfl ?_
      obtain ⟨rfl, rfl⟩ := ret_o hf
      exact z_iret F dX0_judge_17 hO_h4 ((Eh1).tr Eh4)
def X0_chance (h : Hp) (x1 : Int32) (x2 : Int32) : Option (Int64 × Hp) :=
  bd (X0_isShelf h x1) fun r2 h1 => if r2 = 0 then (some ((-9223372036854775808 : Int64), h1)) else (bd (X0_in h1 x2 (0 : Int32) (1 : Int32)) fun r5 h4 => if r5 = 0 then (some ((-9223372036854775808 : Int64), h4)) else (ck (0 ≤ x1.toInt ∧ x1.toInt < 6) <| nm (zr h4 16 x1.toNatClampNeg) fun o8 => if zcs 23 h4 o8 = true then (oc o8 (ck (zc h4 + 1 ≤ zLC ∧ zs h4 + 8 ≤ zLS) <| nm (zga h4 1 8) fun h14 => some ((-9223372036854775808 : Int64), h14)) fun a16 => bd (X23_size h4 a16) fun r18 h17 => bd (X0_goThrough h17 (some a16)) fun _ h19 => if (zi h19 0 22) < 0 then (bd (X0_part h19 (zj h19 0 24) (zj h19 0 25) x2) fun r23 h22 => some (r23, h22)) else (some (x2.toInt64, h19))) else (ck (zc h4 + 3 ≤ zLC ∧ zs h4 + 1210 ≤ zLS) <| nm (zga h4 3 1210) fun h11 => some ((-9223372036854775808 : Int64), h11))))
set_option maxHeartbeats 4000000 in
theorem mX0_chance {l : Launch} {D : va_G} {tA : Nat → ClassId} {B : Nat} {kn : State → Prop} {h hE : Hp} {ad : Nat → Nat} {x1 : Int32} {x2 : Int32} {r : Int64} (hkp : zKp D tA B kn) (htr : l.stackTraces = false) (hO_h : zOk h)  (hf : X0_chance h x1 x2 = some (r, hE)) : zM l D tA B kn yX0_chance (wsW yX0_chance cX0_chance 4 (Option.some Jvm.ClassFile.FieldType.long) [(20, 64, 65, 130), (20, 64, 70, 132)]) 208 10272 h ad [.ref (ad 0), .int x1, .int x2] hE (zQl D tA B h ad r hE) := by
  refine zMW_of hkp (by decide +kernel) (Nat.le_of_ble_eq_true rfl) ?_
  intro p e s m args below meth c F hnm htab
  show ZW p l e (zRm 208 10272 h) s m args below meth c (MQ below (zQl D tA B h ad r hE) args s (zc hE - zc h) (zs hE - zs h) (fun q => B ≤ q)) D tA B 4 (zc h) (zs h) ad 0 h [(0, .ref (ad 0)), (1, .int x1), (2, .int x2)] []
  replace hf := (X0_chance.eq_1 h x1 x2).symm.trans hf
  refine w_iload_n F dX0_chance_0 1 rfl ?_
  replace hf := bd_o hf
  obtain ⟨r2, h1, qh1, hf⟩ := hf
  refine cl_X0_120 F dX0_chance_1 hO_h (zEx.rf h) ⟨Nat.le_of_ble_eq_true rfl, Nat.le_of_ble_eq_true rfl⟩ qh1 (Nat.le_of_ble_eq_true rfl) (fun hO_h1 Eh1 hz_r2 => ?_)
  refine w_if_eq (tgt := 16) F dX0_chance_4 (by decide) (fun c3 => ?_) (fun c3 => ?_)
  · replace hf := if_t c3 hf
    refine w_ldc2 (v := -9223372036854775808) F dX0_chance_16 q795 ?_
    obtain ⟨rfl, rfl⟩ := ret_o hf
    exact z_lret F dX0_chance_19 hO_h1 Eh1
  · replace hf := if_f c3 hf
    refine w_iload_n F dX0_chance_7 2 rfl ?_
    refine w_iconst (v := 0) F dX0_chance_8 rfl ?_
    refine w_iconst (v := 1) F dX0_chance_9 rfl ?_
    replace hf := bd_o hf
    obtain ⟨r5, h4, qh4, hf⟩ := hf
    refine cl_X0_98 F dX0_chance_10 hO_h1 Eh1 ⟨Nat.le_of_ble_eq_true rfl, Nat.le_of_ble_eq_true rfl⟩ qh4 (Nat.le_of_ble_eq_true rfl) (fun hO_h4 Eh4 hz_r5 => ?_)
    refine w_if_ne (tgt := 20) F dX0_chance_13 (by decide) (fun c6 => ?_) (fun c6 => ?_)
    · replace hf := if_f c6 hf
      refine w_aload_n F dX0_chance_20 0 rfl ?_
      refine gf_X0_91 F dX0_chance_21 hO_h4 ?_
      refine w_iload_n F dX0_chance_24 1 rfl ?_
      replace hf := ck_o hf
      obtain ⟨c7, hf⟩ := hf
      refine z_aald (j := 8) F rfl (t := 108) rfl dX0_chance_25 (zl_16 hO_h4) (zt_16 hO_h4) (by rw [zn_16 hO_h4]; exact vp_in_iff.mpr c7) (by decide) ?_
      replace hf := nm_o hf
      obtain ⟨o8, eo8, hf⟩ := hf
      refine w_no eo8 ?_
      have t_o8 : zTo h4 o8 51 := zTo.rd hO_h4 (zl_16 hO_h4) (zt_16 hO_h4) (t := 108) rfl eo8
      by_cases c9 : zcs 23 h4 o8 = true
      · replace hf := if_t c9 hf
        refine ky_X0_124 (o := o8) F dX0_chance_26 t_o8 c9 ?_
        have t_o8 : zTo h4 o8 23 := zcs_t t_o8 c9
        refine w_astoreo_n (i := 3) (lv' := [(3, va_re ad o8), (0, .ref (ad 0)), (1, .int x1), (2, .int x2)]) F dX0_chance_29 rfl (by decide) rfl ?_
        refine w_aloado_n F dX0_chance_30 0 rfl ?_
        replace hf := oc_o hf
        rcases hf with ⟨ea16, hf⟩ | ⟨a16, ea16, hf⟩
        · subst ea16
          refine z_sub (lv' := [(0, .ref (ad 0)), (1, .int x1), (2, .int x2)]) [1, 2, 3] rfl ?_
          replace hf := ck_o hf
          obtain ⟨c13, hf⟩ := hf
          refine nu_X0_366 F htr dX0_chance_31 ⟨((Eh1).tr Eh4).2.1, ((Eh1).tr Eh4).2.2.1⟩ (by constructor <;> (simp only [zRm]; omega)) (zrm_c ((Eh1).tr Eh4) c13) (Nat.le_of_ble_eq_true rfl) ?_
          replace hf := nm_o hf
          obtain ⟨h14, eh14, hf⟩ := hf
          rw [← eh14]
          have Eh14 : zEx h4 h14 := by rw [eh14]; exact zEx.ga
          have hO_h14 : zOk h14 := by rw [eh14]; exact hO_h4.ga c13
          refine z_catch (X := "java/lang/NullPointerException") (C := "java/lang/NullPointerException") (pre := [(20, 64, 65, 130)]) (a := 20) (b := 64) (hpc := 70) (ct := 132) F htab rfl (zps_no (by decide) q336 (by decide +kernel) zps_nil) (by decide) (by decide) q420 (zNW_of q442 rfl) (fun e15 => ?_)
          refine w_astore_n (i := 3) (lv' := [(3, .ref e15), (0, .ref (ad 0)), (1, .int x1), (2, .int x2)]) F dX0_chance_70 rfl (by decide) rfl ?_
          refine w_ldc2 (v := -9223372036854775808) F dX0_chance_71 q795 ?_
          obtain ⟨rfl, rfl⟩ := ret_o hf
          exact z_lret F dX0_chance_74 hO_h14 (((Eh1).tr Eh4).tr Eh14)
        · subst ea16
          have t_a16 : zTy h4 a16 23 := t_o8 a16 rfl
          replace hf := bd_o hf
          obtain ⟨r18, h17, qh17, hf⟩ := hf
          refine cl_X0_366 F dX0_chance_31 hO_h4 ((Eh1).tr Eh4) (t_a16) ⟨Nat.le_of_ble_eq_true rfl, Nat.le_of_ble_eq_true rfl⟩ qh17 (Nat.le_of_ble_eq_true rfl) (fun hO_h17 Eh17 => ?_)
          have t_a16 := t_a16.ex Eh17
          refine w_pop F dX0_chance_34 rfl ?_
          refine w_aload_n F dX0_chance_35 1 rfl ?_
          refine w_aload_n F dX0_chance_36 0 rfl ?_
          replace hf := bd_o hf
          obtain ⟨r20, h19, qh19, hf⟩ := hf
          refine cl_X0_372 F dX0_chance_37 hO_h17 (((Eh1).tr Eh4).tr Eh17) (zTo.of t_a16) ⟨Nat.le_of_ble_eq_true rfl, Nat.le_of_ble_eq_true rfl⟩ qh19 (Nat.le_of_ble_eq_true rfl) (fun hO_h19 Eh19 => ?_)
          have t_a16 := t_a16.ex Eh19
          refine w_aload_n F dX0_chance_40 1 rfl ?_
          refine gf_X0_363 F dX0_chance_41 hO_h19 ?_
          refine w_if_lt (tgt := 52) F dX0_chance_44 (by decide) (fun c21 => ?_) (fun c21 => ?_)
          · replace hf := if_t c21 hf
            refine w_aload_n F dX0_chance_52 1 rfl ?_
            refine gf_X0_354 F dX0_chance_53 hO_h19 ?_
            refine w_aload_n F dX0_chance_56 1 rfl ?_
            refine gf_X0_357 F dX0_chance_57 hO_h19 ?_
            refine w_iload_n F dX0_chance_60 3 rfl ?_
            replace hf := bd_o hf
            obtain ⟨r23, h22, qh22, hf⟩ := hf
            refine cl_X0_308 F dX0_chance_61 hO_h19 ((((Eh1).tr Eh4).tr Eh17).tr Eh19) ⟨Nat.le_of_ble_eq_true rfl, Nat.le_of_ble_eq_true rfl⟩ qh22 (Nat.le_of_ble_eq_true rfl) (fun hO_h22 Eh22 => ?_)
            have t_a16 := t_a16.ex Eh22
            obtain ⟨rfl, rfl⟩ := ret_o hf
            exact z_lret F dX0_chance_64 hO_h22 (((((Eh1).tr Eh4).tr Eh17).tr Eh19).tr Eh22)
          · replace hf := if_f c21 hf
            refine w_iload_n F dX0_chance_47 3 rfl ?_
            refine w_i2l F dX0_chance_48 ?_
            refine w_goto (tgt := 64) F dX0_chance_49 (by decide) ?_
            obtain ⟨rfl, rfl⟩ := ret_o hf
            exact z_lret F dX0_chance_64 hO_h19 ((((Eh1).tr Eh4).tr Eh17).tr Eh19)
      · replace hf := if_f c9 hf
        replace c9 := Bool.eq_false_iff.mpr c9
        replace hf := ck_o hf
        obtain ⟨c10, hf⟩ := hf
        refine kn_X0_124 (o := o8) F htr dX0_chance_26 t_o8 c9 ⟨((Eh1).tr Eh4).2.1, ((Eh1).tr Eh4).2.2.1⟩ (by constructor <;> (simp only [zRm]; omega)) (zrm_c ((Eh1).tr Eh4) c10) (Nat.le_of_ble_eq_true rfl) ?_
        replace hf := nm_o hf
        obtain ⟨h11, eh11, hf⟩ := hf
        rw [← eh11]
        have Eh11 : zEx h4 h11 := by rw [eh11]; exact zEx.ga
        have hO_h11 : zOk h11 := by rw [eh11]; exact hO_h4.ga c10
        have t_o8 := t_o8.ex Eh11
        refine z_catch (X := "java/lang/ClassCastException") (C := "java/lang/ClassCastException") (pre := []) (a := 20) (b := 64) (hpc := 65) (ct := 130) F htab rfl zps_nil (by decide) (by decide) q336 (zNW_of q398 rfl) (fun e12 => ?_)
        refine w_astore_n (i := 3) (lv' := [(3, .ref e12), (0, .ref (ad 0)), (1, .int x1), (2, .int x2)]) F dX0_chance_65 rfl (by decide) rfl ?_
        refine w_ldc2 (v := -9223372036854775808) F dX0_chance_66 q795 ?_
        obtain ⟨rfl, rfl⟩ := ret_o hf
        exact z_lret F dX0_chance_69 hO_h11 (((Eh1).tr Eh4).tr Eh11)
    · replace hf := if_t c6 hf
      refine w_ldc2 (v := -9223372036854775808) F dX0_chance_16 q795 ?_
      obtain ⟨rfl, rfl⟩ := ret_o hf
      exact z_lret F dX0_chance_19 hO_h4 ((Eh1).tr Eh4)
theorem cl_X0_467 {p : Program} {l : Launch} {e : Env} {s : State} {m : MethodId} {args : Array Value} {below : List Frame} {meth : Method} {c : Code} {Q : State → Prop} {D : va_G} {tA : Nat → ClassId} {B nL : Nat} {ad : Nat → Nat} {kn : State → Prop} {cc : ByteArray} {ret : Option FieldType} {pc : Nat} {h : Hp} {lv : List (Nat × Value)} {Fr Lo : Nat} {h0 h1 : Hp} {rest : List Value} {x0 : Int32} {x1 : Int32} {r : Option Nat} (F : ZF p s m args meth c D tA B nL kn RX0 cc ret) (hd : decode cc pc = .ok (.invokestatic 467, 3)) (hO : zOk h) (hE : zEx h0 h)  (hR : 4 + 1 ≤ (zRm Fr Lo h0).frames ∧ 16 + (2 + 11) + 113 ≤ (zRm Fr Lo h0).locals) (hf : X0_newRow h x0 x1 = some (r, h1)) (hr : (rest.map fun v => v.category).sum ≤ 16) (kk : zOk h1 → zEx h h1 → zTo h1 r 53 → ∀ u, zA h ad u → ZW p l e (zRm Fr Lo h0) s m args below meth c Q D tA B nL (zc h0) (zs h0) u (pc + 3) h1 lv (va_re u r :: rest)) : ZW p l e (zRm Fr Lo h0) s m args below meth c Q D tA B nL (zc h0) (zs h0) ad pc h lv (.int x1 :: .int x0 :: rest) := 
  z_dq ⟨hE.2.1, hE.2.2.1⟩ (fun H locs ls hw hl => z_runS F (mX0_newRow F.2.2.2.2.2.1 hO  hf) (zCw.of 2 F.ts q1316 q92 (by decide +kernel) hR) (Or.inl q1314) q1315 rfl hr hd hw hl (z_fit hE hO)) kk
theorem ct_X0_467n {p : Program} {l : Launch} {e : Env} {s : State} {m : MethodId} {args : Array Value} {below : List Frame} {meth : Method} {c : Code} {Q : State → Prop} {D : va_G} {tA : Nat → ClassId} {B nL : Nat} {ad : Nat → Nat} {kn : State → Prop} {cc : ByteArray} {ret : Option FieldType} {pc : Nat} {h : Hp} {lv : List (Nat × Value)} {Fr Lo : Nat} {h0 h1 : Hp} {rest : List Value} {x0 : Int32} {x1 : Int32} (F : ZF p s m args meth c D tA B nL kn RX0 cc ret) (htr : l.stackTraces = false) (hd : decode cc pc = .ok (.invokestatic 467, 3)) (hO : zOk h) (hE : zEx h0 h)  (hR : 9 + 1 ≤ (zRm Fr Lo h0).frames ∧ 16 + (2 + 11) + 10301 ≤ (zRm Fr Lo h0).locals) (hf : X0_newRowTn h x0 x1 = some ((), h1)) (hr : (rest.map fun v => v.category).sum ≤ 16) (kk : ∀ u, (fun u => zA h ad u) u → zOk h1 → zEx h h1 → ZT p l e (zRm Fr Lo h0) s m args below meth c Q D tA B nL (zc h0) (zs h0) u "java/lang/NegativeArraySizeException" pc h1 lv) : ZW p l e (zRm Fr Lo h0) s m args below meth c Q D tA B nL (zc h0) (zs h0) ad pc h lv (.int x1 :: .int x0 :: rest) := 
  z_thrS F (tX0_newRowTn htr hO  hf) (zCw.of 2 F.ts q1316 q92 (by decide +kernel) hR) (by decide +kernel) (Nat.le_of_ble_eq_true rfl) q1314 q1315 rfl hr hd ⟨hE.2.1, hE.2.2.1⟩ (z_fit hE hO) kk
def X0_row (h : Hp) (x1 : Int32) (x2 : Int32) (x3 : Int32) : Option (Int32 × Hp) :=
  bd (X0_isShelf h x1) fun r2 h1 => if r2 = 0 then (some ((-1 : Int32), h1)) else (bd (X0_in h1 x2 (0 : Int32) (4 : Int32)) fun r5 h4 => if r5 = 0 then (some ((-1 : Int32), h4)) else (if x3 ≤ (60 : Int32) then (tc (X0_newRowTn h4 x2 x3) (fun h8 => some ((-14 : Int32), h8)) (bd (X0_newRow h4 x2 x3) fun r11 h10 => ck (0 ≤ x1.toInt ∧ x1.toInt < 6) <| nm (zsr h10 16 x1.toNatClampNeg r11) fun h13 => some ((1 : Int32), h13))) else (some ((-1 : Int32), h4))))
set_option maxHeartbeats 4000000 in
theorem mX0_row {l : Launch} {D : va_G} {tA : Nat → ClassId} {B : Nat} {kn : State → Prop} {h hE : Hp} {ad : Nat → Nat} {x1 : Int32} {x2 : Int32} {x3 : Int32} {r : Int32} (hkp : zKp D tA B kn) (htr : l.stackTraces = false) (hO_h : zOk h)  (hf : X0_row h x1 x2 x3 = some (r, hE)) : zM l D tA B kn yX0_row (wsW yX0_row cX0_row 5 (Option.some Jvm.ClassFile.FieldType.int) [(24, 35, 38, 471)]) 10 10330 h ad [.ref (ad 0), .int x1, .int x2, .int x3] hE (zRi D tA B h ad r hE) := by
  refine zMW_of hkp (by decide +kernel) (Nat.le_of_ble_eq_true rfl) ?_
  intro p e s m args below meth c F hnm htab
  show ZW p l e (zRm 10 10330 h) s m args below meth c (MQ below (zRi D tA B h ad r hE) args s (zc hE - zc h) (zs hE - zs h) (fun q => B ≤ q)) D tA B 5 (zc h) (zs h) ad 0 h [(0, .ref (ad 0)), (1, .int x1), (2, .int x2), (3, .int x3)] []
  replace hf := (X0_row.eq_1 h x1 x2 x3).symm.trans hf
  refine w_iload_n F dX0_row_0 1 rfl ?_
  replace hf := bd_o hf
  obtain ⟨r2, h1, qh1, hf⟩ := hf
  refine cl_X0_120 F dX0_row_1 hO_h (zEx.rf h) ⟨Nat.le_of_ble_eq_true rfl, Nat.le_of_ble_eq_true rfl⟩ qh1 (Nat.le_of_ble_eq_true rfl) (fun hO_h1 Eh1 hz_r2 => ?_)
  refine w_if_eq (tgt := 22) F dX0_row_4 (by decide) (fun c3 => ?_) (fun c3 => ?_)
  · replace hf := if_t c3 hf
    refine w_iconst (v := -1) F dX0_row_22 rfl ?_
    obtain ⟨rfl, rfl⟩ := ret_o hf
    exact z_ireD F dX0_row_23 hO_h1 Eh1 zA.rf
  · replace hf := if_f c3 hf
    refine w_iload_n F dX0_row_7 2 rfl ?_
    refine w_iconst (v := 0) F dX0_row_8 rfl ?_
    refine w_iconst (v := 4) F dX0_row_9 rfl ?_
    replace hf := bd_o hf
    obtain ⟨r5, h4, qh4, hf⟩ := hf
    refine cl_X0_98 F dX0_row_10 hO_h1 Eh1 ⟨Nat.le_of_ble_eq_true rfl, Nat.le_of_ble_eq_true rfl⟩ qh4 (Nat.le_of_ble_eq_true rfl) (fun hO_h4 Eh4 hz_r5 => ?_)
    refine w_if_eq (tgt := 22) F dX0_row_13 (by decide) (fun c6 => ?_) (fun c6 => ?_)
    · replace hf := if_t c6 hf
      refine w_iconst (v := -1) F dX0_row_22 rfl ?_
      obtain ⟨rfl, rfl⟩ := ret_o hf
      exact z_ireD F dX0_row_23 hO_h4 ((Eh1).tr Eh4) zA.rf
    · replace hf := if_f c6 hf
      refine w_iload_n F dX0_row_16 3 rfl ?_
      refine w_bipush (v := 60) F dX0_row_17 rfl ?_
      refine w_icmp_le (tgt := 24) F dX0_row_19 (by decide) (fun c7 => ?_) (fun c7 => ?_)
      · replace hf := if_t c7 hf
        refine w_aload_n F dX0_row_24 0 rfl ?_
        refine gf_X0_91 F dX0_row_25 hO_h4 ?_
        refine w_iload_n F dX0_row_28 1 rfl ?_
        refine w_iload_n F dX0_row_29 2 rfl ?_
        refine w_iload_n F dX0_row_30 3 rfl ?_
        replace hf := tc_o hf
        rcases hf with ⟨h8, qh8, hf⟩ | ⟨-, hf⟩
        · refine ct_X0_467n F htr dX0_row_31 hO_h4 ((Eh1).tr Eh4) (by constructor <;> (simp only [zRm]; omega)) qh8 (Nat.le_of_ble_eq_true rfl) (fun ad_h8 hA_h8 hO_h8 Eh8 => ?_)
          rw [← hA_h8 0 (zl_0 hO_h4)]
          refine z_catch (X := "java/lang/NegativeArraySizeException") (C := "java/lang/NegativeArraySizeException") (pre := []) (a := 24) (b := 35) (hpc := 38) (ct := 471) F htab rfl zps_nil (by decide) (by decide) q1300 (zNW_of q1312 rfl) (fun e9 => ?_)
          refine w_astore (i := 4) (lv' := [(4, .ref e9), (0, .ref (ad_h8 0)), (1, .int x1), (2, .int x2), (3, .int x3)]) F dX0_row_38 (by decide) rfl ?_
          refine w_bipush (v := -14) F dX0_row_40 rfl ?_
          obtain ⟨rfl, rfl⟩ := ret_o hf
          exact z_ireD F dX0_row_42 hO_h8 (((Eh1).tr Eh4).tr Eh8) ((zA.rf).tr ((Eh1).tr Eh4) hA_h8)
        · replace hf := bd_o hf
          obtain ⟨r11, h10, qh10, hf⟩ := hf
          refine cl_X0_467 F dX0_row_31 hO_h4 ((Eh1).tr Eh4) ⟨Nat.le_of_ble_eq_true rfl, Nat.le_of_ble_eq_true rfl⟩ qh10 (Nat.le_of_ble_eq_true rfl) (fun hO_h10 Eh10 t_r11 ad_h10 hA_h10 => ?_)
          rw [← hA_h10 0 (zl_0 hO_h4)]
          rw [← hA_h10 16 (zl_16 hO_h4)]
          replace hf := ck_o hf
          obtain ⟨c12, hf⟩ := hf
          refine ast_16 (x := r11) F dX0_row_34 hO_h10 (by rw [zn_16 hO_h10]; exact vp_in_iff.mpr c12) (zTo.up t_r11 (by decide)) ?_
          replace hf := nm_o hf
          obtain ⟨h13, eh13, hf⟩ := hf
          refine w_nh eh13 ?_
          have Eh13 : zEx h10 h13 := by rw [eh13]; exact zEx.sr
          have hO_h13 : zOk h13 := by rw [eh13]; exact hO_h10.srt (zl_16 hO_h10) (zt_16 hO_h10) (by decide) (show zTo h10 r11 51 from (zTo.up t_r11 (by decide)))
          have t_r11 := t_r11.ex Eh13
          refine w_goto (tgt := 43) F dX0_row_35 (by decide) ?_
          refine w_iconst (v := 1) F dX0_row_43 rfl ?_
          obtain ⟨rfl, rfl⟩ := ret_o hf
          exact z_ireD F dX0_row_44 hO_h13 ((((Eh1).tr Eh4).tr Eh10).tr Eh13) ((zA.rf).tr ((Eh1).tr Eh4) hA_h10)
      · replace hf := if_f c7 hf
        refine w_iconst (v := -1) F dX0_row_22 rfl ?_
        obtain ⟨rfl, rfl⟩ := ret_o hf
        exact z_ireD F dX0_row_23 hO_h4 ((Eh1).tr Eh4) zA.rf
theorem nu_X0_126 {p : Program} {l : Launch} {e : Env} {R : Room} {s : State} {m : MethodId} {args : Array Value} {below : List Frame} {meth : Method} {c : Code} {Q : State → Prop} {D : va_G} {tA : Nat → ClassId} {B nL c0 s0 : Nat} {ad : Nat → Nat} {kn : State → Prop} {cc : ByteArray} {ret : Option FieldType} {pc : Nat} {h : Hp} {lv : List (Nat × Value)} {st : List Value} {n0 : Int32} (F : ZF p s m args meth c D tA B nL kn RX0 cc ret) (htr : l.stackTraces = false) (hd : decode cc pc = .ok (.invokevirtual 126, 3)) (hm : c0 ≤ zc h ∧ s0 ≤ zs h) (hR : 8 ≤ R.frames ∧ 10272 ≤ R.locals) (hRc : (zc h - c0) + 1 ≤ R.cells ∧ (zs h - s0) + 8 ≤ R.slots) (hst : (st.map fun v => v.category).sum ≤ 16) (kk : ZT p l e R s m args below meth c Q D tA B nL c0 s0 ad "java/lang/NullPointerException" pc (zga h 1 8) lv) : ZW p l e R s m args below meth c Q D tA B nL c0 s0 ad pc h lv (.int n0 :: .null :: st) :=
  z_nulV (n := 1) (As := [.int n0]) (C := "ThreeSnowballs$ByteRow") F htr q468 q469 q470 q471 (by decide +kernel) rfl hd hm hR hRc hst kk
theorem ct_X0_126i {p : Program} {l : Launch} {e : Env} {s : State} {m : MethodId} {args : Array Value} {below : List Frame} {meth : Method} {c : Code} {Q : State → Prop} {D : va_G} {tA : Nat → ClassId} {B nL : Nat} {ad : Nat → Nat} {kn : State → Prop} {cc : ByteArray} {ret : Option FieldType} {pc : Nat} {h : Hp} {lv : List (Nat × Value)} {Fr Lo : Nat} {h0 h1 : Hp} {rest : List Value} {a0 : Nat} {x1 : Int32} (F : ZF p s m args meth c D tA B nL kn RX0 cc ret) (htr : l.stackTraces = false) (hd : decode cc pc = .ok (.invokevirtual 126, 3)) (hO : zOk h) (hE : zEx h0 h) (t_a0 : zTy h a0 23) (hR : 8 + 1 ≤ (zRm Fr Lo h0).frames ∧ 16 + (2 + 11) + 10272 ≤ (zRm Fr Lo h0).locals) (hf : X23_atTi h a0 x1 = some ((), h1)) (hr : (rest.map fun v => v.category).sum ≤ 16) (kk : ∀ u, (fun u => u = ad) u → zOk h1 → zEx h h1 → ZT p l e (zRm Fr Lo h0) s m args below meth c Q D tA B nL (zc h0) (zs h0) u "java/lang/ArrayIndexOutOfBoundsException" pc h1 lv) : ZW p l e (zRm Fr Lo h0) s m args below meth c Q D tA B nL (zc h0) (zs h0) ad pc h lv (.int x1 :: .ref (ad a0) :: rest) := 
  z_thrV (q := a0) (ci := 23) F (tX23_atTi htr hO t_a0 hf) (zCw.of 1 F.ts q471 q130 (by decide +kernel) hR) (by decide +kernel) (Nat.le_of_ble_eq_true rfl) q468 q469 q470 rfl (by decide) t_a0.1 (zTy.tg t_a0 (by decide)) rfl hr hd ⟨hE.2.1, hE.2.2.1⟩ (z_fit hE hO) kk
def X0_players_b35 (x2 : Int32) (x3 : Int32) (o8 : Option Nat) (k35_16 : Hp → Int32 → Int32 → Option (Int32 × Hp)) (h13 : Hp) (v14 : Int32) (v15 : Int32) : Option (Int32 × Hp) :=
  if x3 ≤ v15 then (some (v14, h13)) else (if (4 : Int32) ≤ (zi h13 0 3) then (some (v14, h13)) else (oc o8 (ck (zc h13 + 1 ≤ zLC ∧ zs h13 + 8 ≤ zLS) <| nm (zga h13 1 8) fun h20 => some (v14, h20)) fun a22 => tc (X23_atTi h13 a22 (x2 + ((2 : Int32) * v15))) (fun h23 => some (v14, h23)) (bd (X23_at h13 a22 (x2 + ((2 : Int32) * v15))) fun r26 h25 => nm (r26.toInt32 : Int32) fun v27 => tc (X23_atTi h25 a22 ((x2 + ((2 : Int32) * v15)) + (1 : Int32))) (fun h28 => some (v14, h28)) (bd (X23_at h25 a22 ((x2 + ((2 : Int32) * v15)) + (1 : Int32))) fun r31 h30 => nm (r31.toInt32 : Int32) fun v32 => bd (X0_isPlayerSo h30 v27 v32) fun r34 h33 => if r34 = 0 then (some (v14, h33)) else (bd (X0_addPlayer h33 v27 v32) fun r37 h36 => nm (v14 + (1 : Int32) : Int32) fun v38 => nm (v15 + (1 : Int32) : Int32) fun v39 => k35_16 h36 v38 v39)))))
def X0_players (h : Hp) (x1 : Int32) (x2 : Int32) (x3 : Int32) : Option (Int32 × Hp) :=
  bd (X0_isShelf h x1) fun r2 h1 => if r2 = 0 then (some ((-1 : Int32), h1)) else (bd (X0_in h1 x3 (1 : Int32) (4 : Int32)) fun r5 h4 => if r5 = 0 then (some ((-1 : Int32), h4)) else (ck (0 ≤ x1.toInt ∧ x1.toInt < 6) <| nm (zr h4 16 x1.toNatClampNeg) fun o8 => if zcs 23 h4 o8 = true then (zfix (fun _ _ _ => none) (X0_players_b35 x2 x3 o8) zFU h4 (0 : Int32) (0 : Int32)) else (ck (zc h4 + 3 ≤ zLC ∧ zs h4 + 1210 ≤ zLS) <| nm (zga h4 3 1210) fun h11 => some ((-12 : Int32), h11))))
set_option maxHeartbeats 4000000 in
theorem mX0_players {l : Launch} {D : va_G} {tA : Nat → ClassId} {B : Nat} {kn : State → Prop} {h hE : Hp} {ad : Nat → Nat} {x1 : Int32} {x2 : Int32} {x3 : Int32} {r : Int32} (hkp : zKp D tA B kn) (htr : l.stackTraces = false) (hO_h : zOk h)  (hf : X0_players h x1 x2 x3 = some (r, hE)) : zM l D tA B kn yX0_players (wsW yX0_players cX0_players 9 (Option.some Jvm.ClassFile.FieldType.int) [(21, 91, 113, 130), (92, 110, 113, 130), (21, 91, 118, 132), (92, 110, 118, 132), (21, 91, 123, 134), (92, 110, 123, 134)]) 9 10301 h ad [.ref (ad 0), .int x1, .int x2, .int x3] hE (zRi D tA B h ad r hE) := by
  refine zMW_of hkp (by decide +kernel) (Nat.le_of_ble_eq_true rfl) ?_
  intro p e s m args below meth c F hnm htab
  show ZW p l e (zRm 9 10301 h) s m args below meth c (MQ below (zRi D tA B h ad r hE) args s (zc hE - zc h) (zs hE - zs h) (fun q => B ≤ q)) D tA B 9 (zc h) (zs h) ad 0 h [(0, .ref (ad 0)), (1, .int x1), (2, .int x2), (3, .int x3)] []
  replace hf := (X0_players.eq_1 h x1 x2 x3).symm.trans hf
  refine w_iload_n F dX0_players_0 1 rfl ?_
  replace hf := bd_o hf
  obtain ⟨r2, h1, qh1, hf⟩ := hf
  refine cl_X0_120 F dX0_players_1 hO_h (zEx.rf h) ⟨Nat.le_of_ble_eq_true rfl, Nat.le_of_ble_eq_true rfl⟩ qh1 (Nat.le_of_ble_eq_true rfl) (fun hO_h1 Eh1 hz_r2 => ?_)
  refine w_if_eq (tgt := 16) F dX0_players_4 (by decide) (fun c3 => ?_) (fun c3 => ?_)
  · replace hf := if_t c3 hf
    refine w_iconst (v := -1) F dX0_players_16 rfl ?_
    obtain ⟨rfl, rfl⟩ := ret_o hf
    exact z_ireD F dX0_players_17 hO_h1 Eh1 zA.rf
  · replace hf := if_f c3 hf
    refine w_iload_n F dX0_players_7 3 rfl ?_
    refine w_iconst (v := 1) F dX0_players_8 rfl ?_
    refine w_iconst (v := 4) F dX0_players_9 rfl ?_
    replace hf := bd_o hf
    obtain ⟨r5, h4, qh4, hf⟩ := hf
    refine cl_X0_98 F dX0_players_10 hO_h1 Eh1 ⟨Nat.le_of_ble_eq_true rfl, Nat.le_of_ble_eq_true rfl⟩ qh4 (Nat.le_of_ble_eq_true rfl) (fun hO_h4 Eh4 hz_r5 => ?_)
    refine w_if_ne (tgt := 18) F dX0_players_13 (by decide) (fun c6 => ?_) (fun c6 => ?_)
    · replace hf := if_f c6 hf
      refine w_iconst (v := 0) F dX0_players_18 rfl ?_
      refine w_istore (i := 4) (lv' := [(4, .int (0 : Int32)), (0, .ref (ad 0)), (1, .int x1), (2, .int x2), (3, .int x3)]) F dX0_players_19 (by decide) rfl ?_
      refine w_aload_n F dX0_players_21 1 rfl ?_
      refine gf_X0_91 F dX0_players_22 hO_h4 ?_
      refine w_iload_n F dX0_players_25 2 rfl ?_
      replace hf := ck_o hf
      obtain ⟨c7, hf⟩ := hf
      refine z_aald (j := 8) F rfl (t := 108) rfl dX0_players_26 (zl_16 hO_h4) (zt_16 hO_h4) (by rw [zn_16 hO_h4]; exact vp_in_iff.mpr c7) (by decide) ?_
      replace hf := nm_o hf
      obtain ⟨o8, eo8, hf⟩ := hf
      refine w_no eo8 ?_
      have t_o8 : zTo h4 o8 51 := zTo.rd hO_h4 (zl_16 hO_h4) (zt_16 hO_h4) (t := 108) rfl eo8
      by_cases c9 : zcs 23 h4 o8 = true
      · replace hf := if_t c9 hf
        refine ky_X0_124 (o := o8) F dX0_players_27 t_o8 c9 ?_
        have t_o8 : zTo h4 o8 23 := zcs_t t_o8 c9
        refine w_astoreo (i := 5) (lv' := [(5, va_re ad o8), (4, .int (0 : Int32)), (0, .ref (ad 0)), (1, .int x1), (2, .int x2), (3, .int x3)]) F dX0_players_30 (by decide) rfl ?_
        refine w_iconst (v := 0) F dX0_players_32 rfl ?_
        refine w_istore (i := 6) (lv' := [(6, .int (0 : Int32)), (5, va_re ad o8), (4, .int (0 : Int32)), (0, .ref (ad 0)), (1, .int x1), (2, .int x2), (3, .int x3)]) F dX0_players_33 (by decide) (by cases o8 <;> rfl) ?_
        have L35_39 : ∀ (n : Nat) (h13 : Hp) (v14 : Int32) (v15 : Int32), ∀ ad_h13 : Nat → Nat, zOk h13 → zEx h4 h13 → zA h4 ad ad_h13 → zfix (fun _ _ _ => none) (X0_players_b35 x2 x3 o8) n h13 v14 v15 = some (r, hE) → ZW p l e (zRm 9 10301 h) s m args below meth c (MQ below (zRi D tA B h ad r hE) args s (zc hE - zc h) (zs hE - zs h) (fun q => B ≤ q)) D tA B 9 (zc h) (zs h) ad_h13 35 h13 [(0, .ref (ad_h13 0)), (2, .int x2), (3, .int x3), (4, .int v14), (5, va_re ad_h13 o8), (6, .int v15)] [] := by
          clear hf
          intro n
          induction n with
          | zero =>
            intros
            rename_i hf
            cases hf
          | succ n ih =>
            intro h13 v14 v15 ad_h13 hO_h13 hX_h13 hA_h13  hf
            have t_o8 := t_o8.ex hX_h13
            replace hf := (X0_players_b35.eq_1 x2 x3 o8 (zfix (fun _ _ _ => none) (X0_players_b35 x2 x3 o8) n) h13 v14 v15).symm.trans hf
            refine w_iload F dX0_players_35 5 rfl ?_
            refine w_iload_n F dX0_players_37 2 rfl ?_
            refine w_icmp_ge (tgt := 110) F dX0_players_38 (by decide) (fun c17 => ?_) (fun c17 => ?_)
            · replace hf := if_t c17 hf
              refine w_goto (tgt := 128) F dX0_players_110 (by decide) ?_
              refine w_iload F dX0_players_128 3 rfl ?_
              obtain ⟨rfl, rfl⟩ := ret_o hf
              exact z_ireD F dX0_players_130 hO_h13 (((Eh1).tr Eh4).tr hX_h13) ((zA.rf).tr ((Eh1).tr Eh4) hA_h13)
            · replace hf := if_f c17 hf
              refine w_aload_n F dX0_players_41 0 rfl ?_
              refine gf_X0_95 F dX0_players_42 hO_h13 ?_
              refine w_iconst (v := 4) F dX0_players_45 rfl ?_
              refine w_icmp_ge (tgt := 110) F dX0_players_46 (by decide) (fun c18 => ?_) (fun c18 => ?_)
              · replace hf := if_t c18 hf
                refine w_goto (tgt := 128) F dX0_players_110 (by decide) ?_
                refine w_iload F dX0_players_128 3 rfl ?_
                obtain ⟨rfl, rfl⟩ := ret_o hf
                exact z_ireD F dX0_players_130 hO_h13 (((Eh1).tr Eh4).tr hX_h13) ((zA.rf).tr ((Eh1).tr Eh4) hA_h13)
              · replace hf := if_f c18 hf
                refine w_aloado F dX0_players_49 4 rfl ?_
                refine w_iload_n F dX0_players_51 1 rfl ?_
                refine w_iconst (v := 2) F dX0_players_52 rfl ?_
                refine w_iload F dX0_players_53 5 rfl ?_
                refine w_imul F dX0_players_55 ?_
                refine w_iadd F dX0_players_56 ?_
                replace hf := oc_o hf
                rcases hf with ⟨ea22, hf⟩ | ⟨a22, ea22, hf⟩
                · subst ea22
                  refine z_sub (lv' := [(0, .ref (ad_h13 0)), (2, .int x2), (3, .int x3), (4, .int v14), (6, .int v15)]) [0, 1, 2, 3, 5] rfl ?_
                  replace hf := ck_o hf
                  obtain ⟨c19, hf⟩ := hf
                  refine nu_X0_126 F htr dX0_players_57 ⟨(((Eh1).tr Eh4).tr hX_h13).2.1, (((Eh1).tr Eh4).tr hX_h13).2.2.1⟩ (by constructor <;> (simp only [zRm]; omega)) (zrm_c (((Eh1).tr Eh4).tr hX_h13) c19) (Nat.le_of_ble_eq_true rfl) ?_
                  replace hf := nm_o hf
                  obtain ⟨h20, eh20, hf⟩ := hf
                  rw [← eh20]
                  have Eh20 : zEx h13 h20 := by rw [eh20]; exact zEx.ga
                  have hO_h20 : zOk h20 := by rw [eh20]; exact hO_h13.ga c19
                  refine z_catch (X := "java/lang/NullPointerException") (C := "java/lang/NullPointerException") (pre := [(21, 91, 113, 130), (92, 110, 113, 130)]) (a := 21) (b := 91) (hpc := 118) (ct := 132) F htab rfl (zps_no (by decide) q336 (by decide +kernel) (zps_out (by decide) zps_nil)) (by decide) (by decide) q420 (zNW_of q442 rfl) (fun e21 => ?_)
                  refine w_astore (i := 5) (lv' := [(5, .ref e21), (0, .ref (ad_h13 0)), (2, .int x2), (3, .int x3), (4, .int v14), (6, .int v15)]) F dX0_players_118 (by decide) rfl ?_
                  refine w_iload F dX0_players_120 4 rfl ?_
                  obtain ⟨rfl, rfl⟩ := ret_o hf
                  exact z_ireD F dX0_players_122 hO_h20 ((((Eh1).tr Eh4).tr hX_h13).tr Eh20) ((zA.rf).tr ((Eh1).tr Eh4) hA_h13)
                · subst ea22
                  have t_a22 : zTy h13 a22 23 := t_o8 a22 rfl
                  replace hf := tc_o hf
                  rcases hf with ⟨h23, qh23, hf⟩ | ⟨-, hf⟩
                  · refine ct_X0_126i F htr dX0_players_57 hO_h13 (((Eh1).tr Eh4).tr hX_h13) (t_a22) (by constructor <;> (simp only [zRm]; omega)) qh23 (Nat.le_of_ble_eq_true rfl) (fun ad_h23 hA_h23 hO_h23 Eh23 => ?_)
                    replace hA_h23 := Eq.symm hA_h23
                    subst hA_h23
                    have t_a22 := t_a22.ex Eh23
                    refine z_catch (X := "java/lang/ArrayIndexOutOfBoundsException") (C := "java/lang/IndexOutOfBoundsException") (pre := [(21, 91, 113, 130), (92, 110, 113, 130), (21, 91, 118, 132), (92, 110, 118, 132)]) (a := 21) (b := 91) (hpc := 123) (ct := 134) F htab rfl (zps_no (by decide) q336 (by decide +kernel) (zps_out (by decide) (zps_no (by decide) q420 (by decide +kernel) (zps_out (by decide) zps_nil)))) (by decide) (by decide) q445 (zNW_of q2063 rfl) (fun e24 => ?_)
                    refine w_astore (i := 5) (lv' := [(5, .ref e24), (0, .ref (ad_h13 0)), (2, .int x2), (3, .int x3), (4, .int v14), (6, .int v15)]) F dX0_players_123 (by decide) rfl ?_
                    refine w_iload F dX0_players_125 4 rfl ?_
                    obtain ⟨rfl, rfl⟩ := ret_o hf
                    exact z_ireD F dX0_players_127 hO_h23 ((((Eh1).tr Eh4).tr hX_h13).tr Eh23) ((zA.rf).tr ((Eh1).tr Eh4) hA_h13)
                  · replace hf := bd_o hf
                    obtain ⟨r26, h25, qh25, hf⟩ := hf
                    refine cl_X0_126 F dX0_players_57 hO_h13 (((Eh1).tr Eh4).tr hX_h13) (t_a22) ⟨Nat.le_of_ble_eq_true rfl, Nat.le_of_ble_eq_true rfl⟩ qh25 (Nat.le_of_ble_eq_true rfl) (fun hO_h25 Eh25 => ?_)
                    have t_a22 := t_a22.ex Eh25
                    refine w_l2i F dX0_players_60 ?_
                    replace hf := nm_o hf
                    obtain ⟨v27, ev27, hf⟩ := hf
                    refine w_ni ev27 ?_
                    refine w_istore (i := 7) (lv' := [(7, .int v27), (0, .ref (ad_h13 0)), (2, .int x2), (3, .int x3), (4, .int v14), (5, .ref (ad_h13 a22)), (6, .int v15)]) F dX0_players_61 (by decide) rfl ?_
                    refine w_aload F dX0_players_63 5 rfl ?_
                    refine w_iload_n F dX0_players_65 2 rfl ?_
                    refine w_iconst (v := 2) F dX0_players_66 rfl ?_
                    refine w_iload F dX0_players_67 6 rfl ?_
                    refine w_imul F dX0_players_69 ?_
                    refine w_iadd F dX0_players_70 ?_
                    refine w_iconst (v := 1) F dX0_players_71 rfl ?_
                    refine w_iadd F dX0_players_72 ?_
                    replace hf := tc_o hf
                    rcases hf with ⟨h28, qh28, hf⟩ | ⟨-, hf⟩
                    · refine ct_X0_126i F htr dX0_players_73 hO_h25 ((((Eh1).tr Eh4).tr hX_h13).tr Eh25) (t_a22) (by constructor <;> (simp only [zRm]; omega)) qh28 (Nat.le_of_ble_eq_true rfl) (fun ad_h28 hA_h28 hO_h28 Eh28 => ?_)
                      replace hA_h28 := Eq.symm hA_h28
                      subst hA_h28
                      have t_a22 := t_a22.ex Eh28
                      refine z_catch (X := "java/lang/ArrayIndexOutOfBoundsException") (C := "java/lang/IndexOutOfBoundsException") (pre := [(21, 91, 113, 130), (92, 110, 113, 130), (21, 91, 118, 132), (92, 110, 118, 132)]) (a := 21) (b := 91) (hpc := 123) (ct := 134) F htab rfl (zps_no (by decide) q336 (by decide +kernel) (zps_out (by decide) (zps_no (by decide) q420 (by decide +kernel) (zps_out (by decide) zps_nil)))) (by decide) (by decide) q445 (zNW_of q2063 rfl) (fun e29 => ?_)
                      refine w_astore (i := 5) (lv' := [(5, .ref e29), (7, .int v27), (0, .ref (ad_h13 0)), (2, .int x2), (3, .int x3), (4, .int v14), (6, .int v15)]) F dX0_players_123 (by decide) rfl ?_
                      refine w_iload F dX0_players_125 5 rfl ?_
                      obtain ⟨rfl, rfl⟩ := ret_o hf
                      exact z_ireD F dX0_players_127 hO_h28 (((((Eh1).tr Eh4).tr hX_h13).tr Eh25).tr Eh28) ((zA.rf).tr ((Eh1).tr Eh4) hA_h13)
                    · replace hf := bd_o hf
                      obtain ⟨r31, h30, qh30, hf⟩ := hf
                      refine cl_X0_126 F dX0_players_73 hO_h25 ((((Eh1).tr Eh4).tr hX_h13).tr Eh25) (t_a22) ⟨Nat.le_of_ble_eq_true rfl, Nat.le_of_ble_eq_true rfl⟩ qh30 (Nat.le_of_ble_eq_true rfl) (fun hO_h30 Eh30 => ?_)
                      have t_a22 := t_a22.ex Eh30
                      refine w_l2i F dX0_players_76 ?_
                      replace hf := nm_o hf
                      obtain ⟨v32, ev32, hf⟩ := hf
                      refine w_ni ev32 ?_
                      refine w_istore (i := 8) (lv' := [(8, .int v32), (7, .int v27), (0, .ref (ad_h13 0)), (2, .int x2), (3, .int x3), (4, .int v14), (5, .ref (ad_h13 a22)), (6, .int v15)]) F dX0_players_77 (by decide) rfl ?_
                      refine w_iload F dX0_players_79 1 rfl ?_
                      refine w_iload F dX0_players_81 0 rfl ?_
                      replace hf := bd_o hf
                      obtain ⟨r34, h33, qh33, hf⟩ := hf
                      refine cl_X0_112 F dX0_players_83 hO_h30 (((((Eh1).tr Eh4).tr hX_h13).tr Eh25).tr Eh30) ⟨Nat.le_of_ble_eq_true rfl, Nat.le_of_ble_eq_true rfl⟩ qh33 (Nat.le_of_ble_eq_true rfl) (fun hO_h33 Eh33 hz_r34 => ?_)
                      have t_a22 := t_a22.ex Eh33
                      refine w_if_ne (tgt := 92) F dX0_players_86 (by decide) (fun c35 => ?_) (fun c35 => ?_)
                      · replace hf := if_f c35 hf
                        refine w_aload_n F dX0_players_92 2 rfl ?_
                        refine w_iload F dX0_players_93 1 rfl ?_
                        refine w_iload F dX0_players_95 0 rfl ?_
                        replace hf := bd_o hf
                        obtain ⟨r37, h36, qh36, hf⟩ := hf
                        refine cl_X0_116 F dX0_players_97 hO_h33 ((((((Eh1).tr Eh4).tr hX_h13).tr Eh25).tr Eh30).tr Eh33) ⟨Nat.le_of_ble_eq_true rfl, Nat.le_of_ble_eq_true rfl⟩ qh36 (Nat.le_of_ble_eq_true rfl) (fun hO_h36 Eh36 ad_h36 hA_h36 => ?_)
                        rw [← hA_h36 0 (zl_0 hO_h33)]
                        rw [← hA_h36 a22 (t_a22.1)]
                        have t_a22 := t_a22.ex Eh36
                        refine w_pop F dX0_players_100 rfl ?_
                        replace hf := nm_o hf
                        obtain ⟨v38, ev38, hf⟩ := hf
                        refine w_iinc (i := 4) (v := v38) (lv' := [(4, .int v38), (8, .int v32), (7, .int v27), (0, .ref (ad_h36 0)), (2, .int x2), (3, .int x3), (5, .ref (ad_h36 a22)), (6, .int v15)]) F dX0_players_101 5 rfl (by rw [ev38]; rfl) (by decide) rfl ?_
                        replace hf := nm_o hf
                        obtain ⟨v39, ev39, hf⟩ := hf
                        refine w_iinc (i := 6) (v := v39) (lv' := [(6, .int v39), (4, .int v38), (8, .int v32), (7, .int v27), (0, .ref (ad_h36 0)), (2, .int x2), (3, .int x3), (5, .ref (ad_h36 a22))]) F dX0_players_104 7 rfl (by rw [ev39]; rfl) (by decide) rfl ?_
                        refine w_goto (tgt := 35) F dX0_players_107 (by decide) ?_
                        refine z_sub (lv' := [(0, .ref (ad_h36 0)), (2, .int x2), (3, .int x3), (4, .int v38), (5, .ref (ad_h36 a22)), (6, .int v39)]) [4, 5, 6, 1, 7, 0] rfl ?_
                        exact ih h36 v38 v39 ad_h36 hO_h36 (((((hX_h13).tr Eh25).tr Eh30).tr Eh33).tr Eh36) ((hA_h13).tr ((((hX_h13).tr Eh25).tr Eh30).tr Eh33) hA_h36)  hf
                      · replace hf := if_t c35 hf
                        refine w_iload F dX0_players_89 5 rfl ?_
                        obtain ⟨rfl, rfl⟩ := ret_o hf
                        exact z_ireD F dX0_players_91 hO_h33 ((((((Eh1).tr Eh4).tr hX_h13).tr Eh25).tr Eh30).tr Eh33) ((zA.rf).tr ((Eh1).tr Eh4) hA_h13)
        refine z_sub (lv' := [(0, .ref (ad 0)), (2, .int x2), (3, .int x3), (4, .int (0 : Int32)), (5, va_re ad o8), (6, .int (0 : Int32))]) [3, 5, 6, 2, 1, 0] rfl ?_
        exact L35_39 zFU h4 (0 : Int32) (0 : Int32) ad hO_h4 (zEx.rf h4) zA.rf  hf
      · replace hf := if_f c9 hf
        replace c9 := Bool.eq_false_iff.mpr c9
        replace hf := ck_o hf
        obtain ⟨c10, hf⟩ := hf
        refine kn_X0_124 (o := o8) F htr dX0_players_27 t_o8 c9 ⟨((Eh1).tr Eh4).2.1, ((Eh1).tr Eh4).2.2.1⟩ (by constructor <;> (simp only [zRm]; omega)) (zrm_c ((Eh1).tr Eh4) c10) (Nat.le_of_ble_eq_true rfl) ?_
        replace hf := nm_o hf
        obtain ⟨h11, eh11, hf⟩ := hf
        rw [← eh11]
        have Eh11 : zEx h4 h11 := by rw [eh11]; exact zEx.ga
        have hO_h11 : zOk h11 := by rw [eh11]; exact hO_h4.ga c10
        have t_o8 := t_o8.ex Eh11
        refine z_catch (X := "java/lang/ClassCastException") (C := "java/lang/ClassCastException") (pre := []) (a := 21) (b := 91) (hpc := 113) (ct := 130) F htab rfl zps_nil (by decide) (by decide) q336 (zNW_of q398 rfl) (fun e12 => ?_)
        refine w_astore (i := 5) (lv' := [(5, .ref e12), (4, .int (0 : Int32)), (0, .ref (ad 0)), (1, .int x1), (2, .int x2), (3, .int x3)]) F dX0_players_113 (by decide) rfl ?_
        refine w_bipush (v := -12) F dX0_players_115 rfl ?_
        obtain ⟨rfl, rfl⟩ := ret_o hf
        exact z_ireD F dX0_players_117 hO_h11 (((Eh1).tr Eh4).tr Eh11) zA.rf
    · replace hf := if_t c6 hf
      refine w_iconst (v := -1) F dX0_players_16 rfl ?_
      obtain ⟨rfl, rfl⟩ := ret_o hf
      exact z_ireD F dX0_players_17 hO_h4 ((Eh1).tr Eh4) zA.rf
theorem cl_X0_480 {p : Program} {l : Launch} {e : Env} {s : State} {m : MethodId} {args : Array Value} {below : List Frame} {meth : Method} {c : Code} {Q : State → Prop} {D : va_G} {tA : Nat → ClassId} {B nL : Nat} {ad : Nat → Nat} {kn : State → Prop} {cc : ByteArray} {ret : Option FieldType} {pc : Nat} {h : Hp} {lv : List (Nat × Value)} {Fr Lo : Nat} {h0 h1 : Hp} {rest : List Value} {a0 : Nat} {x1 : Int32} {x2 : Option Nat} {x3 : Int32} {x4 : Int32} (F : ZF p s m args meth c D tA B nL kn RX0 cc ret) (hd : decode cc pc = .ok (.invokevirtual 480, 3)) (hO : zOk h) (hE : zEx h0 h) (t_a0 : zTy h a0 53) (t_x2 : zTo h x2 53) (hR : 10 + 1 ≤ (zRm Fr Lo h0).frames ∧ 16 + (0 + 11) + 10377 ≤ (zRm Fr Lo h0).locals) (hf : V22_copy h a0 x1 x2 x3 x4 = some ((), h1)) (hr : (rest.map fun v => v.category).sum ≤ 16) (kk : zOk h1 → zEx h h1 → ZW p l e (zRm Fr Lo h0) s m args below meth c Q D tA B nL (zc h0) (zs h0) ad (pc + 3) h1 lv (rest)) : ZW p l e (zRm Fr Lo h0) s m args below meth c Q D tA B nL (zc h0) (zs h0) ad pc h lv (.int x4 :: .int x3 :: va_re ad x2 :: .int x1 :: .ref (ad a0) :: rest) := by
  have hm : zt h a0 ∈ [23, 24, 25, 26, 27] := t_a0.fam (by decide)
  simp only [List.mem_cons, List.not_mem_nil, or_false] at hm
  rcases hm with ht | ht | ht | ht | ht
  · exact z_cv ⟨hE.2.1, hE.2.2.1⟩ (fun H locs ls hw hl => z_runU (q := a0) (ci := 23) F (mX23_copy F.2.2.2.2.2.1 hO (⟨t_a0.1, by rw [ht]; decide⟩) t_x2 (V22_copy_23 ht ▸ hf)) (zCw.of (FF := 10) (LL := 10372) 4 F.ts q1430 q130 (by decide +kernel) (by have h1 := hR.1; have h2 := hR.2; constructor <;> (simp only [zRm] at h1 h2 ⊢; omega))) q1418 q1420 (va_Decl.abs (F.N _ (zNW_of q1419 rfl))) (by decide +kernel) q1429 q1428 rfl rfl (by decide) t_a0.1 ht rfl hr hd hw hl (z_fit hE hO)) kk
  · exact z_cv ⟨hE.2.1, hE.2.2.1⟩ (fun H locs ls hw hl => z_runU (q := a0) (ci := 24) F (mX24_copy F.2.2.2.2.2.1 hO (⟨t_a0.1, by rw [ht]; decide⟩) t_x2 (V22_copy_24 ht ▸ hf)) (zCw.of (FF := 10) (LL := 10372) 4 F.ts q1445 q131 (by decide +kernel) (by have h1 := hR.1; have h2 := hR.2; constructor <;> (simp only [zRm] at h1 h2 ⊢; omega))) q1418 q1420 (va_Decl.abs (F.N _ (zNW_of q1419 rfl))) (by decide +kernel) q1444 q1443 rfl rfl (by decide) t_a0.1 ht rfl hr hd hw hl (z_fit hE hO)) kk
  · exact z_cv ⟨hE.2.1, hE.2.2.1⟩ (fun H locs ls hw hl => z_runU (q := a0) (ci := 25) F (mX25_copy F.2.2.2.2.2.1 hO (⟨t_a0.1, by rw [ht]; decide⟩) t_x2 (V22_copy_25 ht ▸ hf)) (zCw.of (FF := 10) (LL := 10372) 4 F.ts q1435 q132 (by decide +kernel) (by have h1 := hR.1; have h2 := hR.2; constructor <;> (simp only [zRm] at h1 h2 ⊢; omega))) q1418 q1420 (va_Decl.abs (F.N _ (zNW_of q1419 rfl))) (by decide +kernel) q1434 q1433 rfl rfl (by decide) t_a0.1 ht rfl hr hd hw hl (z_fit hE hO)) kk
  · exact z_cv ⟨hE.2.1, hE.2.2.1⟩ (fun H locs ls hw hl => z_runU (q := a0) (ci := 26) F (mX26_copy F.2.2.2.2.2.1 hO (⟨t_a0.1, by rw [ht]; decide⟩) t_x2 (V22_copy_26 ht ▸ hf)) (zCw.of (FF := 10) (LL := 10372) 4 F.ts q1440 q133 (by decide +kernel) (by have h1 := hR.1; have h2 := hR.2; constructor <;> (simp only [zRm] at h1 h2 ⊢; omega))) q1418 q1420 (va_Decl.abs (F.N _ (zNW_of q1419 rfl))) (by decide +kernel) q1439 q1438 rfl rfl (by decide) t_a0.1 ht rfl hr hd hw hl (z_fit hE hO)) kk
  · exact z_cv ⟨hE.2.1, hE.2.2.1⟩ (fun H locs ls hw hl => z_runU (q := a0) (ci := 27) F (mX27_copy F.2.2.2.2.2.1 hO (⟨t_a0.1, by rw [ht]; decide⟩) t_x2 (V22_copy_27 ht ▸ hf)) (zCw.of (FF := 10) (LL := 10372) 4 F.ts q1423 q134 (by decide +kernel) (by have h1 := hR.1; have h2 := hR.2; constructor <;> (simp only [zRm] at h1 h2 ⊢; omega))) q1418 q1420 (va_Decl.abs (F.N _ (zNW_of q1419 rfl))) (by decide +kernel) q1422 q1421 rfl rfl (by decide) t_a0.1 ht rfl hr hd hw hl (z_fit hE hO)) kk
theorem ct_X0_480i {p : Program} {l : Launch} {e : Env} {s : State} {m : MethodId} {args : Array Value} {below : List Frame} {meth : Method} {c : Code} {Q : State → Prop} {D : va_G} {tA : Nat → ClassId} {B nL : Nat} {ad : Nat → Nat} {kn : State → Prop} {cc : ByteArray} {ret : Option FieldType} {pc : Nat} {h : Hp} {lv : List (Nat × Value)} {Fr Lo : Nat} {h0 h1 : Hp} {rest : List Value} {a0 : Nat} {x1 : Int32} {x2 : Option Nat} {x3 : Int32} {x4 : Int32} (F : ZF p s m args meth c D tA B nL kn RX0 cc ret) (htr : l.stackTraces = false) (hd : decode cc pc = .ok (.invokevirtual 480, 3)) (hO : zOk h) (hE : zEx h0 h) (t_a0 : zTy h a0 53) (t_x2 : zTo h x2 53) (hR : 10 + 1 ≤ (zRm Fr Lo h0).frames ∧ 16 + (0 + 11) + 10377 ≤ (zRm Fr Lo h0).locals) (hf : V22_copyTi h a0 x1 x2 x3 x4 = some ((), h1)) (hr : (rest.map fun v => v.category).sum ≤ 16) (kk : ∀ u, (fun u => u = ad) u → zOk h1 → zEx h h1 → ZT p l e (zRm Fr Lo h0) s m args below meth c Q D tA B nL (zc h0) (zs h0) u "java/lang/ArrayIndexOutOfBoundsException" pc h1 lv) : ZW p l e (zRm Fr Lo h0) s m args below meth c Q D tA B nL (zc h0) (zs h0) ad pc h lv (.int x4 :: .int x3 :: va_re ad x2 :: .int x1 :: .ref (ad a0) :: rest) := by
  have hm : zt h a0 ∈ [23, 24, 25, 26, 27] := t_a0.fam (by decide)
  simp only [List.mem_cons, List.not_mem_nil, or_false] at hm
  rcases hm with ht | ht | ht | ht | ht
  · exact z_thrU (q := a0) (ci := 23) F (tX23_copyTi htr hO (⟨t_a0.1, by rw [ht]; decide⟩) t_x2 (V22_copyTi_23 ht ▸ hf)) (zCw.of (FF := 10) (LL := 10372) 4 F.ts q1430 q130 (by decide +kernel) (by have h1 := hR.1; have h2 := hR.2; constructor <;> (simp only [zRm] at h1 h2 ⊢; omega))) (by decide +kernel) (by cases x2 <;> exact Nat.le_of_ble_eq_true rfl) q1418 q1420 (va_Decl.abs (F.N _ (zNW_of q1419 rfl))) (by decide +kernel) q1429 q1428 rfl rfl (by decide) t_a0.1 ht rfl hr hd ⟨hE.2.1, hE.2.2.1⟩ (z_fit hE hO) kk
  · exact z_thrU (q := a0) (ci := 24) F (tX24_copyTi htr hO (⟨t_a0.1, by rw [ht]; decide⟩) t_x2 (V22_copyTi_24 ht ▸ hf)) (zCw.of (FF := 10) (LL := 10372) 4 F.ts q1445 q131 (by decide +kernel) (by have h1 := hR.1; have h2 := hR.2; constructor <;> (simp only [zRm] at h1 h2 ⊢; omega))) (by decide +kernel) (by cases x2 <;> exact Nat.le_of_ble_eq_true rfl) q1418 q1420 (va_Decl.abs (F.N _ (zNW_of q1419 rfl))) (by decide +kernel) q1444 q1443 rfl rfl (by decide) t_a0.1 ht rfl hr hd ⟨hE.2.1, hE.2.2.1⟩ (z_fit hE hO) kk
  · exact z_thrU (q := a0) (ci := 25) F (tX25_copyTi htr hO (⟨t_a0.1, by rw [ht]; decide⟩) t_x2 (V22_copyTi_25 ht ▸ hf)) (zCw.of (FF := 10) (LL := 10372) 4 F.ts q1435 q132 (by decide +kernel) (by have h1 := hR.1; have h2 := hR.2; constructor <;> (simp only [zRm] at h1 h2 ⊢; omega))) (by decide +kernel) (by cases x2 <;> exact Nat.le_of_ble_eq_true rfl) q1418 q1420 (va_Decl.abs (F.N _ (zNW_of q1419 rfl))) (by decide +kernel) q1434 q1433 rfl rfl (by decide) t_a0.1 ht rfl hr hd ⟨hE.2.1, hE.2.2.1⟩ (z_fit hE hO) kk
  · exact z_thrU (q := a0) (ci := 26) F (tX26_copyTi htr hO (⟨t_a0.1, by rw [ht]; decide⟩) t_x2 (V22_copyTi_26 ht ▸ hf)) (zCw.of (FF := 10) (LL := 10372) 4 F.ts q1440 q133 (by decide +kernel) (by have h1 := hR.1; have h2 := hR.2; constructor <;> (simp only [zRm] at h1 h2 ⊢; omega))) (by decide +kernel) (by cases x2 <;> exact Nat.le_of_ble_eq_true rfl) q1418 q1420 (va_Decl.abs (F.N _ (zNW_of q1419 rfl))) (by decide +kernel) q1439 q1438 rfl rfl (by decide) t_a0.1 ht rfl hr hd ⟨hE.2.1, hE.2.2.1⟩ (z_fit hE hO) kk
  · exact z_thrU (q := a0) (ci := 27) F (tX27_copyTi htr hO (⟨t_a0.1, by rw [ht]; decide⟩) t_x2 (V22_copyTi_27 ht ▸ hf)) (zCw.of (FF := 10) (LL := 10372) 4 F.ts q1423 q134 (by decide +kernel) (by have h1 := hR.1; have h2 := hR.2; constructor <;> (simp only [zRm] at h1 h2 ⊢; omega))) (by decide +kernel) (by cases x2 <;> exact Nat.le_of_ble_eq_true rfl) q1418 q1420 (va_Decl.abs (F.N _ (zNW_of q1419 rfl))) (by decide +kernel) q1422 q1421 rfl rfl (by decide) t_a0.1 ht rfl hr hd ⟨hE.2.1, hE.2.2.1⟩ (z_fit hE hO) kk
theorem ct_X0_480c {p : Program} {l : Launch} {e : Env} {s : State} {m : MethodId} {args : Array Value} {below : List Frame} {meth : Method} {c : Code} {Q : State → Prop} {D : va_G} {tA : Nat → ClassId} {B nL : Nat} {ad : Nat → Nat} {kn : State → Prop} {cc : ByteArray} {ret : Option FieldType} {pc : Nat} {h : Hp} {lv : List (Nat × Value)} {Fr Lo : Nat} {h0 h1 : Hp} {rest : List Value} {a0 : Nat} {x1 : Int32} {x2 : Option Nat} {x3 : Int32} {x4 : Int32} (F : ZF p s m args meth c D tA B nL kn RX0 cc ret) (htr : l.stackTraces = false) (hd : decode cc pc = .ok (.invokevirtual 480, 3)) (hO : zOk h) (hE : zEx h0 h) (t_a0 : zTy h a0 53) (t_x2 : zTo h x2 53) (hR : 10 + 1 ≤ (zRm Fr Lo h0).frames ∧ 16 + (0 + 11) + 10377 ≤ (zRm Fr Lo h0).locals) (hf : V22_copyTc h a0 x1 x2 x3 x4 = some ((), h1)) (hr : (rest.map fun v => v.category).sum ≤ 16) (kk : ∀ u, (fun u => u = ad) u → zOk h1 → zEx h h1 → ZT p l e (zRm Fr Lo h0) s m args below meth c Q D tA B nL (zc h0) (zs h0) u "java/lang/ClassCastException" pc h1 lv) : ZW p l e (zRm Fr Lo h0) s m args below meth c Q D tA B nL (zc h0) (zs h0) ad pc h lv (.int x4 :: .int x3 :: va_re ad x2 :: .int x1 :: .ref (ad a0) :: rest) := by
  have hm : zt h a0 ∈ [23, 24, 25, 26, 27] := t_a0.fam (by decide)
  simp only [List.mem_cons, List.not_mem_nil, or_false] at hm
  rcases hm with ht | ht | ht | ht | ht
  · exact z_thrU (q := a0) (ci := 23) F (tX23_copyTc htr hO (⟨t_a0.1, by rw [ht]; decide⟩) t_x2 (V22_copyTc_23 ht ▸ hf)) (zCw.of (FF := 10) (LL := 10372) 4 F.ts q1430 q130 (by decide +kernel) (by have h1 := hR.1; have h2 := hR.2; constructor <;> (simp only [zRm] at h1 h2 ⊢; omega))) (by decide +kernel) (by cases x2 <;> exact Nat.le_of_ble_eq_true rfl) q1418 q1420 (va_Decl.abs (F.N _ (zNW_of q1419 rfl))) (by decide +kernel) q1429 q1428 rfl rfl (by decide) t_a0.1 ht rfl hr hd ⟨hE.2.1, hE.2.2.1⟩ (z_fit hE hO) kk
  · exact z_thrU (q := a0) (ci := 24) F (tX24_copyTc htr hO (⟨t_a0.1, by rw [ht]; decide⟩) t_x2 (V22_copyTc_24 ht ▸ hf)) (zCw.of (FF := 10) (LL := 10372) 4 F.ts q1445 q131 (by decide +kernel) (by have h1 := hR.1; have h2 := hR.2; constructor <;> (simp only [zRm] at h1 h2 ⊢; omega))) (by decide +kernel) (by cases x2 <;> exact Nat.le_of_ble_eq_true rfl) q1418 q1420 (va_Decl.abs (F.N _ (zNW_of q1419 rfl))) (by decide +kernel) q1444 q1443 rfl rfl (by decide) t_a0.1 ht rfl hr hd ⟨hE.2.1, hE.2.2.1⟩ (z_fit hE hO) kk
  · exact z_thrU (q := a0) (ci := 25) F (tX25_copyTc htr hO (⟨t_a0.1, by rw [ht]; decide⟩) t_x2 (V22_copyTc_25 ht ▸ hf)) (zCw.of (FF := 10) (LL := 10372) 4 F.ts q1435 q132 (by decide +kernel) (by have h1 := hR.1; have h2 := hR.2; constructor <;> (simp only [zRm] at h1 h2 ⊢; omega))) (by decide +kernel) (by cases x2 <;> exact Nat.le_of_ble_eq_true rfl) q1418 q1420 (va_Decl.abs (F.N _ (zNW_of q1419 rfl))) (by decide +kernel) q1434 q1433 rfl rfl (by decide) t_a0.1 ht rfl hr hd ⟨hE.2.1, hE.2.2.1⟩ (z_fit hE hO) kk
  · exact z_thrU (q := a0) (ci := 26) F (tX26_copyTc htr hO (⟨t_a0.1, by rw [ht]; decide⟩) t_x2 (V22_copyTc_26 ht ▸ hf)) (zCw.of (FF := 10) (LL := 10372) 4 F.ts q1440 q133 (by decide +kernel) (by have h1 := hR.1; have h2 := hR.2; constructor <;> (simp only [zRm] at h1 h2 ⊢; omega))) (by decide +kernel) (by cases x2 <;> exact Nat.le_of_ble_eq_true rfl) q1418 q1420 (va_Decl.abs (F.N _ (zNW_of q1419 rfl))) (by decide +kernel) q1439 q1438 rfl rfl (by decide) t_a0.1 ht rfl hr hd ⟨hE.2.1, hE.2.2.1⟩ (z_fit hE hO) kk
  · exact z_thrU (q := a0) (ci := 27) F (tX27_copyTc htr hO (⟨t_a0.1, by rw [ht]; decide⟩) t_x2 (V22_copyTc_27 ht ▸ hf)) (zCw.of (FF := 10) (LL := 10372) 4 F.ts q1423 q134 (by decide +kernel) (by have h1 := hR.1; have h2 := hR.2; constructor <;> (simp only [zRm] at h1 h2 ⊢; omega))) (by decide +kernel) (by cases x2 <;> exact Nat.le_of_ble_eq_true rfl) q1418 q1420 (va_Decl.abs (F.N _ (zNW_of q1419 rfl))) (by decide +kernel) q1422 q1421 rfl rfl (by decide) t_a0.1 ht rfl hr hd ⟨hE.2.1, hE.2.2.1⟩ (z_fit hE hO) kk
def X0_shift (h : Hp) (x1 : Int32) (x2 : Int32) (x3 : Int32) (x4 : Int32) (x5 : Int32) : Option (Int32 × Hp) :=
  bd (X0_isShelf h x1) fun r2 h1 => if r2 = 0 then (some ((-1 : Int32), h1)) else (bd (X0_isShelf h1 x3) fun r5 h4 => if r5 = 0 then (some ((-1 : Int32), h4)) else (ck (0 ≤ x1.toInt ∧ x1.toInt < 6) <| nm (zr h4 16 x1.toNatClampNeg) fun o8 => oc o8 (some ((-11 : Int32), h4)) fun a9 => ck (0 ≤ x3.toInt ∧ x3.toInt < 6) <| nm (zr h4 16 x3.toNatClampNeg) fun o11 => oc o11 (some ((-11 : Int32), h4)) fun a12 => ck (0 ≤ x1.toInt ∧ x1.toInt < 6) <| nm (zr h4 16 x1.toNatClampNeg) fun o14 => if zcs 53 h4 o14 = true then (ck (0 ≤ x3.toInt ∧ x3.toInt < 6) <| nm (zr h4 16 x3.toNatClampNeg) fun o20 => if zcs 53 h4 o20 = true then (dr o14 fun a25 => tc (V22_copyTc h4 a25 x2 o20 x4 x5) (fun h26 => some ((-12 : Int32), h26)) (tc (V22_copyTi h4 a25 x2 o20 x4 x5) (fun h28 => some ((-13 : Int32), h28)) (bd (V22_copy h4 a25 x2 o20 x4 x5) fun _ h30 => some (x5, h30)))) else (ck (zc h4 + 3 ≤ zLC ∧ zs h4 + 1210 ≤ zLS) <| nm (zga h4 3 1210) fun h23 => some ((-12 : Int32), h23))) else (ck (zc h4 + 3 ≤ zLC ∧ zs h4 + 1210 ≤ zLS) <| nm (zga h4 3 1210) fun h17 => some ((-12 : Int32), h17))))
set_option maxHeartbeats 4000000 in
theorem mX0_shift {l : Launch} {D : va_G} {tA : Nat → ClassId} {B : Nat} {kn : State → Prop} {h hE : Hp} {ad : Nat → Nat} {x1 : Int32} {x2 : Int32} {x3 : Int32} {x4 : Int32} {x5 : Int32} {r : Int32} (hkp : zKp D tA B kn) (htr : l.stackTraces = false) (hO_h : zOk h)  (hf : X0_shift h x1 x2 x3 x4 x5 = some (r, hE)) : zM l D tA B kn yX0_shift (wsW yX0_shift cX0_shift 7 (Option.some Jvm.ClassFile.FieldType.int) [(37, 63, 66, 130), (37, 63, 71, 134)]) 11 10404 h ad [.ref (ad 0), .int x1, .int x2, .int x3, .int x4, .int x5] hE (zQi D tA B h ad r hE) := by
  refine zMW_of hkp (by decide +kernel) (Nat.le_of_ble_eq_true rfl) ?_
  intro p e s m args below meth c F hnm htab
  show ZW p l e (zRm 11 10404 h) s m args below meth c (MQ below (zQi D tA B h ad r hE) args s (zc hE - zc h) (zs hE - zs h) (fun q => B ≤ q)) D tA B 7 (zc h) (zs h) ad 0 h [(0, .ref (ad 0)), (1, .int x1), (2, .int x2), (3, .int x3), (4, .int x4), (5, .int x5)] []
  replace hf := (X0_shift.eq_1 h x1 x2 x3 x4 x5).symm.trans hf
  refine w_iload_n F dX0_shift_0 1 rfl ?_
  replace hf := bd_o hf
  obtain ⟨r2, h1, qh1, hf⟩ := hf
  refine cl_X0_120 F dX0_shift_1 hO_h (zEx.rf h) ⟨Nat.le_of_ble_eq_true rfl, Nat.le_of_ble_eq_true rfl⟩ qh1 (Nat.le_of_ble_eq_true rfl) (fun hO_h1 Eh1 hz_r2 => ?_)
  refine w_if_eq (tgt := 14) F dX0_shift_4 (by decide) (fun c3 => ?_) (fun c3 => ?_)
  · replace hf := if_t c3 hf
    refine w_iconst (v := -1) F dX0_shift_14 rfl ?_
    obtain ⟨rfl, rfl⟩ := ret_o hf
    exact z_iret F dX0_shift_15 hO_h1 Eh1
  · replace hf := if_f c3 hf
    refine w_iload_n F dX0_shift_7 3 rfl ?_
    replace hf := bd_o hf
    obtain ⟨r5, h4, qh4, hf⟩ := hf
    refine cl_X0_120 F dX0_shift_8 hO_h1 Eh1 ⟨Nat.le_of_ble_eq_true rfl, Nat.le_of_ble_eq_true rfl⟩ qh4 (Nat.le_of_ble_eq_true rfl) (fun hO_h4 Eh4 hz_r5 => ?_)
    refine w_if_ne (tgt := 16) F dX0_shift_11 (by decide) (fun c6 => ?_) (fun c6 => ?_)
    · replace hf := if_f c6 hf
      refine w_aload_n F dX0_shift_16 0 rfl ?_
      refine gf_X0_91 F dX0_shift_17 hO_h4 ?_
      refine w_iload_n F dX0_shift_20 1 rfl ?_
      replace hf := ck_o hf
      obtain ⟨c7, hf⟩ := hf
      refine z_aald (j := 8) F rfl (t := 108) rfl dX0_shift_21 (zl_16 hO_h4) (zt_16 hO_h4) (by rw [zn_16 hO_h4]; exact vp_in_iff.mpr c7) (by decide) ?_
      replace hf := nm_o hf
      obtain ⟨o8, eo8, hf⟩ := hf
      refine w_no eo8 ?_
      have t_o8 : zTo h4 o8 51 := zTo.rd hO_h4 (zl_16 hO_h4) (zt_16 hO_h4) (t := 108) rfl eo8
      refine w_ifnull (tgt := 34) F dX0_shift_22 (by decide) (fun c33 => ?_) (fun a9 c33 => ?_)
      · replace hf := oc_n c33 hf
        refine w_bipush (v := -11) F dX0_shift_34 rfl ?_
        obtain ⟨rfl, rfl⟩ := ret_o hf
        exact z_iret F dX0_shift_36 hO_h4 ((Eh1).tr Eh4)
      · replace hf := oc_s c33 hf
        subst c33
        have t_a9 : zTy h4 a9 51 := t_o8 a9 rfl
        refine w_aload_n F dX0_shift_25 0 rfl ?_
        refine gf_X0_91 F dX0_shift_26 hO_h4 ?_
        refine w_iload_n F dX0_shift_29 3 rfl ?_
        replace hf := ck_o hf
        obtain ⟨c10, hf⟩ := hf
        refine z_aald (j := 8) F rfl (t := 108) rfl dX0_shift_30 (zl_16 hO_h4) (zt_16 hO_h4) (by rw [zn_16 hO_h4]; exact vp_in_iff.mpr c10) (by decide) ?_
        replace hf := nm_o hf
        obtain ⟨o11, eo11, hf⟩ := hf
        refine w_no eo11 ?_
        have t_o11 : zTo h4 o11 51 := zTo.rd hO_h4 (zl_16 hO_h4) (zt_16 hO_h4) (t := 108) rfl eo11
        refine w_ifnonnull (tgt := 37) F dX0_shift_31 (by decide) (fun a12 c32 => ?_) (fun c32 => ?_)
        · replace hf := oc_s c32 hf
          subst c32
          have t_a12 : zTy h4 a12 51 := t_o11 a12 rfl
          refine w_aload_n F dX0_shift_37 0 rfl ?_
          refine gf_X0_91 F dX0_shift_38 hO_h4 ?_
          refine w_iload_n F dX0_shift_41 1 rfl ?_
          replace hf := ck_o hf
          obtain ⟨c13, hf⟩ := hf
          refine z_aald (j := 8) F rfl (t := 108) rfl dX0_shift_42 (zl_16 hO_h4) (zt_16 hO_h4) (by rw [zn_16 hO_h4]; exact vp_in_iff.mpr c13) (by decide) ?_
          replace hf := nm_o hf
          obtain ⟨o14, eo14, hf⟩ := hf
          refine w_no eo14 ?_
          have t_o14 : zTo h4 o14 51 := zTo.rd hO_h4 (zl_16 hO_h4) (zt_16 hO_h4) (t := 108) rfl eo14
          by_cases c15 : zcs 53 h4 o14 = true
          · replace hf := if_t c15 hf
            refine ky_X0_473 (o := o14) F dX0_shift_43 t_o14 c15 ?_
            have t_o14 : zTo h4 o14 53 := zcs_t t_o14 c15
            refine w_iload_n F dX0_shift_46 2 rfl ?_
            refine w_aload_n F dX0_shift_47 0 rfl ?_
            refine gf_X0_91 F dX0_shift_48 hO_h4 ?_
            refine w_iload_n F dX0_shift_51 3 rfl ?_
            replace hf := ck_o hf
            obtain ⟨c19, hf⟩ := hf
            refine z_aald (j := 8) F rfl (t := 108) rfl dX0_shift_52 (zl_16 hO_h4) (zt_16 hO_h4) (by rw [zn_16 hO_h4]; exact vp_in_iff.mpr c19) (by decide) ?_
            replace hf := nm_o hf
            obtain ⟨o20, eo20, hf⟩ := hf
            refine w_no eo20 ?_
            have t_o20 : zTo h4 o20 51 := zTo.rd hO_h4 (zl_16 hO_h4) (zt_16 hO_h4) (t := 108) rfl eo20
            by_cases c21 : zcs 53 h4 o20 = true
            · replace hf := if_t c21 hf
              refine ky_X0_473 (o := o20) F dX0_shift_53 t_o20 c21 ?_
              have t_o20 : zTo h4 o20 53 := zcs_t t_o20 c21
              refine w_iload F dX0_shift_56 4 rfl ?_
              refine w_iload F dX0_shift_58 5 rfl ?_
              replace hf := dr_o hf
              obtain ⟨a25, ea25, hf⟩ := hf
              subst ea25
              have t_a25 : zTy h4 a25 53 := t_o14 a25 rfl
              replace hf := tc_o hf
              rcases hf with ⟨h26, qh26, hf⟩ | ⟨-, hf⟩
              · refine ct_X0_480c F htr dX0_shift_60 hO_h4 ((Eh1).tr Eh4) (t_a25) t_o20 (by constructor <;> (simp only [zRm]; omega)) qh26 (Nat.le_of_ble_eq_true rfl) (fun ad_h26 hA_h26 hO_h26 Eh26 => ?_)
                replace hA_h26 := Eq.symm hA_h26
                subst hA_h26
                have t_a9 := t_a9.ex Eh26
                have t_a12 := t_a12.ex Eh26
                have t_o20 := t_o20.ex Eh26
                have t_a25 := t_a25.ex Eh26
                refine z_catch (X := "java/lang/ClassCastException") (C := "java/lang/ClassCastException") (pre := []) (a := 37) (b := 63) (hpc := 66) (ct := 130) F htab rfl zps_nil (by decide) (by decide) q336 (zNW_of q398 rfl) (fun e27 => ?_)
                refine w_astore (i := 6) (lv' := [(6, .ref e27), (0, .ref (ad 0)), (1, .int x1), (2, .int x2), (3, .int x3), (4, .int x4), (5, .int x5)]) F dX0_shift_66 (by decide) rfl ?_
                refine w_bipush (v := -12) F dX0_shift_68 rfl ?_
                obtain ⟨rfl, rfl⟩ := ret_o hf
                exact z_iret F dX0_shift_70 hO_h26 (((Eh1).tr Eh4).tr Eh26)
              · replace hf := tc_o hf
                rcases hf with ⟨h28, qh28, hf⟩ | ⟨-, hf⟩
                · refine ct_X0_480i F htr dX0_shift_60 hO_h4 ((Eh1).tr Eh4) (t_a25) t_o20 (by constructor <;> (simp only [zRm]; omega)) qh28 (Nat.le_of_ble_eq_true rfl) (fun ad_h28 hA_h28 hO_h28 Eh28 => ?_)
                  replace hA_h28 := Eq.symm hA_h28
                  subst hA_h28
                  have t_a9 := t_a9.ex Eh28
                  have t_a12 := t_a12.ex Eh28
                  have t_o20 := t_o20.ex Eh28
                  have t_a25 := t_a25.ex Eh28
                  refine z_catch (X := "java/lang/ArrayIndexOutOfBoundsException") (C := "java/lang/IndexOutOfBoundsException") (pre := [(37, 63, 66, 130)]) (a := 37) (b := 63) (hpc := 71) (ct := 134) F htab rfl (zps_no (by decide) q336 (by decide +kernel) zps_nil) (by decide) (by decide) q445 (zNW_of q2063 rfl) (fun e29 => ?_)
                  refine w_astore (i := 6) (lv' := [(6, .ref e29), (0, .ref (ad 0)), (1, .int x1), (2, .int x2), (3, .int x3), (4, .int x4), (5, .int x5)]) F dX0_shift_71 (by decide) rfl ?_
                  refine w_bipush (v := -13) F dX0_shift_73 rfl ?_
                  obtain ⟨rfl, rfl⟩ := ret_o hf
                  exact z_iret F dX0_shift_75 hO_h28 (((Eh1).tr Eh4).tr Eh28)
                · replace hf := bd_o hf
                  obtain ⟨r31, h30, qh30, hf⟩ := hf
                  refine cl_X0_480 F dX0_shift_60 hO_h4 ((Eh1).tr Eh4) (t_a25) t_o20 ⟨Nat.le_of_ble_eq_true rfl, Nat.le_of_ble_eq_true rfl⟩ qh30 (Nat.le_of_ble_eq_true rfl) (fun hO_h30 Eh30 => ?_)
                  have t_a9 := t_a9.ex Eh30
                  have t_a12 := t_a12.ex Eh30
                  have t_o20 := t_o20.ex Eh30
                  have t_a25 := t_a25.ex Eh30
                  refine w_goto (tgt := 76) F dX0_shift_63 (by decide) ?_
                  refine w_iload F dX0_shift_76 5 rfl ?_
                  obtain ⟨rfl, rfl⟩ := ret_o hf
                  exact z_iret F dX0_shift_78 hO_h30 (((Eh1).tr Eh4).tr Eh30)
            · replace hf := if_f c21 hf
              replace c21 := Bool.eq_false_iff.mpr c21
              replace hf := ck_o hf
              obtain ⟨c22, hf⟩ := hf
              refine kn_X0_473 (o := o20) F htr dX0_shift_53 t_o20 c21 ⟨((Eh1).tr Eh4).2.1, ((Eh1).tr Eh4).2.2.1⟩ (by constructor <;> (simp only [zRm]; omega)) (zrm_c ((Eh1).tr Eh4) c22) (by simp only [List.map_cons, List.map_nil, zcat]; exact Nat.le_of_ble_eq_true rfl) ?_
              replace hf := nm_o hf
              obtain ⟨h23, eh23, hf⟩ := hf
              rw [← eh23]
              have Eh23 : zEx h4 h23 := by rw [eh23]; exact zEx.ga
              have hO_h23 : zOk h23 := by rw [eh23]; exact hO_h4.ga c22
              have t_a9 := t_a9.ex Eh23
              have t_a12 := t_a12.ex Eh23
              have t_o14 := t_o14.ex Eh23
              have t_o20 := t_o20.ex Eh23
              refine z_catch (X := "java/lang/ClassCastException") (C := "java/lang/ClassCastException") (pre := []) (a := 37) (b := 63) (hpc := 66) (ct := 130) F htab rfl zps_nil (by decide) (by decide) q336 (zNW_of q398 rfl) (fun e24 => ?_)
              refine w_astore (i := 6) (lv' := [(6, .ref e24), (0, .ref (ad 0)), (1, .int x1), (2, .int x2), (3, .int x3), (4, .int x4), (5, .int x5)]) F dX0_shift_66 (by decide) rfl ?_
              refine w_bipush (v := -12) F dX0_shift_68 rfl ?_
              obtain ⟨rfl, rfl⟩ := ret_o hf
              exact z_iret F dX0_shift_70 hO_h23 (((Eh1).tr Eh4).tr Eh23)
          · replace hf := if_f c15 hf
            replace c15 := Bool.eq_false_iff.mpr c15
            replace hf := ck_o hf
            obtain ⟨c16, hf⟩ := hf
            refine kn_X0_473 (o := o14) F htr dX0_shift_43 t_o14 c15 ⟨((Eh1).tr Eh4).2.1, ((Eh1).tr Eh4).2.2.1⟩ (by constructor <;> (simp only [zRm]; omega)) (zrm_c ((Eh1).tr Eh4) c16) (Nat.le_of_ble_eq_true rfl) ?_
            replace hf := nm_o hf
            obtain ⟨h17, eh17, hf⟩ := hf
            rw [← eh17]
            have Eh17 : zEx h4 h17 := by rw [eh17]; exact zEx.ga
            have hO_h17 : zOk h17 := by rw [eh17]; exact hO_h4.ga c16
            have t_a9 := t_a9.ex Eh17
            have t_a12 := t_a12.ex Eh17
            have t_o14 := t_o14.ex Eh17
            refine z_catch (X := "java/lang/ClassCastException") (C := "java/lang/ClassCastException") (pre := []) (a := 37) (b := 63) (hpc := 66) (ct := 130) F htab rfl zps_nil (by decide) (by decide) q336 (zNW_of q398 rfl) (fun e18 => ?_)
            refine w_astore (i := 6) (lv' := [(6, .ref e18), (0, .ref (ad 0)), (1, .int x1), (2, .int x2), (3, .int x3), (4, .int x4), (5, .int x5)]) F dX0_shift_66 (by decide) rfl ?_
            refine w_bipush (v := -12) F dX0_shift_68 rfl ?_
            obtain ⟨rfl, rfl⟩ := ret_o hf
            exact z_iret F dX0_shift_70 hO_h17 (((Eh1).tr Eh4).tr Eh17)
        · replace hf := oc_n c32 hf
          refine w_bipush (v := -11) F dX0_shift_34 rfl ?_
          obtain ⟨rfl, rfl⟩ := ret_o hf
          exact z_iret F dX0_shift_36 hO_h4 ((Eh1).tr Eh4)
    · replace hf := if_t c6 hf
      refine w_iconst (v := -1) F dX0_shift_14 rfl ?_
      obtain ⟨rfl, rfl⟩ := ret_o hf
      exact z_iret F dX0_shift_15 hO_h4 ((Eh1).tr Eh4)
