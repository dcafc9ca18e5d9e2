theorem cl_X5_29 {p : Program} {l : Launch} {e : Env} {s : State} {m : MethodId} {args : Array Value} {below : List Frame} {meth : Method} {c : Code} {Q : State → Prop} {D : va_G} {tA : Nat → ClassId} {B nL : Nat} {ad : Nat → Nat} {kn : State → Prop} {cc : ByteArray} {ret : Option FieldType} {pc : Nat} {h : Hp} {lv : List (Nat × Value)} {Fr Lo : Nat} {h0 h1 : Hp} {rest : List Value} {a0 : Nat} {r : Int32} (F : ZF p s m args meth c D tA B nL kn RX5 cc ret) (hd : decode cc pc = .ok (.invokevirtual 29, 3)) (hO : zOk h) (hE : zEx h0 h) (t_a0 : zTy h a0 5) (hR : 0 + 1 ≤ (zRm Fr Lo h0).frames ∧ 16 + (1 + 11) + 0 ≤ (zRm Fr Lo h0).locals) (hf : X5_here h a0 = some (r, h1)) (hr : (rest.map fun v => v.category).sum ≤ 16) (kk : zOk h1 → zEx h h1 → ZW p l e (zRm Fr Lo h0) s m args below meth c Q D tA B nL (zc h0) (zs h0) ad (pc + 3) h1 lv (.int r :: rest)) : ZW p l e (zRm Fr Lo h0) s m args below meth c Q D tA B nL (zc h0) (zs h0) ad pc h lv (.ref (ad a0) :: rest) := 
  z_ci ⟨hE.2.1, hE.2.2.1⟩ (fun H locs ls hw hl => z_runV (q := a0) (ci := 5) F (mX5_here F.2.2.2.2.2.1 hO t_a0 hf) (zCw.of 0 F.ts q624 q105 (by decide +kernel) hR) (Or.inl q621) q623 qs16 rfl (by decide) t_a0.1 (zTy.tg t_a0 (by decide)) rfl hr hd hw hl (z_fit hE hO)) kk
def X5_isOne (h : Hp) (a0 : Nat) (x1 : List Int32) : Option (Int32 × Hp) :=
  bd (X5_here h a0) fun r2 h1 => if r2 < 0 then (some ((0 : Int32), h1)) else (bd (X5_here h1 a0) fun r5 h4 => if (zixL r5 x1 0) < 0 then (some ((0 : Int32), h4)) else (some ((1 : Int32), h4)))
set_option maxHeartbeats 4000000 in
theorem mX5_isOne {l : Launch} {D : va_G} {tA : Nat → ClassId} {B : Nat} {kn : State → Prop} {h hE : Hp} {ad : Nat → Nat} {w1 : Nat} {a0 : Nat} {x1 : List Int32} {r : Int32} (hkp : zKp D tA B kn) (hO_h : zOk h) (t_a0 : zTy h a0 5) (hT_w1 : zTk B kn x1 w1) (hf : X5_isOne h a0 x1 = some (r, hE)) : zM l D tA B kn yX5_isOne (ws_ yX5_isOne cX5_isOne 2 (Option.some Jvm.ClassFile.FieldType.boolean)) 5 189 h ad [.ref (ad a0), .ref w1] hE (zQz D tA B h ad r hE) := by
  refine zM_of hkp (by decide +kernel) (Nat.le_of_ble_eq_true rfl) ?_
  intro p e s m args below meth c F hnm
  show ZW p l e (zRm 5 189 h) s m args below meth c (MQ below (zQz D tA B h ad r hE) args s (zc hE - zc h) (zs hE - zs h) (fun q => B ≤ q)) D tA B 2 (zc h) (zs h) ad 0 h [(0, .ref (ad a0)), (1, .ref w1)] []
  replace hf := (X5_isOne.eq_1 h a0 x1).symm.trans hf
  refine w_aload_n F dX5_isOne_0 0 rfl ?_
  replace hf := bd_o hf
  obtain ⟨r2, h1, qh1, hf⟩ := hf
  refine cl_X5_29 F dX5_isOne_1 hO_h (zEx.rf h) (t_a0) ⟨Nat.le_of_ble_eq_true rfl, Nat.le_of_ble_eq_true rfl⟩ qh1 (Nat.le_of_ble_eq_true rfl) (fun hO_h1 Eh1 => ?_)
  have t_a0 := t_a0.ex Eh1
  refine w_if_lt (tgt := 22) F dX5_isOne_4 (by decide) (fun c3 => ?_) (fun c3 => ?_)
  · replace hf := if_t c3 hf
    refine w_iconst (v := 0) F dX5_isOne_22 rfl ?_
    obtain ⟨rfl, rfl⟩ := ret_o hf
    exact z_zret F dX5_isOne_23 rfl hO_h1 Eh1
  · replace hf := if_f c3 hf
    refine w_aload_n F dX5_isOne_7 1 rfl ?_
    refine w_aload_n F dX5_isOne_8 0 rfl ?_
    replace hf := bd_o hf
    obtain ⟨r5, h4, qh4, hf⟩ := hf
    refine cl_X5_29 F dX5_isOne_9 hO_h1 Eh1 (t_a0) ⟨Nat.le_of_ble_eq_true rfl, Nat.le_of_ble_eq_true rfl⟩ qh4 (Nat.le_of_ble_eq_true rfl) (fun hO_h4 Eh4 => ?_)
    have t_a0 := t_a0.ex Eh4
    refine z_idx F hT_w1 q630 q631 q632 ⟨Nat.le_of_ble_eq_true rfl, Nat.le_of_ble_eq_true rfl⟩ (z_lim ((Eh1).tr Eh4) hO_h4) (Nat.le_of_ble_eq_true rfl) dX5_isOne_12 ?_
    refine w_if_lt (tgt := 22) F dX5_isOne_15 (by decide) (fun c6 => ?_) (fun c6 => ?_)
    · replace hf := if_t c6 hf
      refine w_iconst (v := 0) F dX5_isOne_22 rfl ?_
      obtain ⟨rfl, rfl⟩ := ret_o hf
      exact z_zret F dX5_isOne_23 rfl hO_h4 ((Eh1).tr Eh4)
    · replace hf := if_f c6 hf
      refine w_iconst (v := 1) F dX5_isOne_18 rfl ?_
      refine w_goto (tgt := 23) F dX5_isOne_19 (by decide) ?_
      obtain ⟨rfl, rfl⟩ := ret_o hf
      exact z_zret F dX5_isOne_23 rfl hO_h4 ((Eh1).tr Eh4)
theorem cl_X5_69 {p : Program} {l : Launch} {e : Env} {s : State} {m : MethodId} {args : Array Value} {below : List Frame} {meth : Method} {c : Code} {Q : State → Prop} {D : va_G} {tA : Nat → ClassId} {B nL : Nat} {ad : Nat → Nat} {kn : State → Prop} {cc : ByteArray} {ret : Option FieldType} {pc : Nat} {h : Hp} {lv : List (Nat × Value)} {Fr Lo : Nat} {h0 h1 : Hp} {rest : List Value} {a0 : Nat} {x1 : Int32} {x2 : Option Nat} {x3 : Option Nat} {r : Option Nat} (F : ZF p s m args meth c D tA B nL kn RX5 cc ret) (hd : decode cc pc = .ok (.invokevirtual 69, 3)) (hO : zOk h) (hE : zEx h0 h) (t_a0 : zTy h a0 5) (t_x2 : zTo h x2 50) (t_x3 : zTo h x3 50) (hR : 3 + 1 ≤ (zRm Fr Lo h0).frames ∧ 16 + (4 + 11) + 87 ≤ (zRm Fr Lo h0).locals) (hf : X5_joined h a0 x1 x2 x3 = some (r, h1)) (hr : (rest.map fun v => v.category).sum ≤ 16) (kk : zOk h1 → zEx h h1 → zTo h1 r 50 → ∀ u, zA h ad u → ZW p l e (zRm Fr Lo h0) s m args below meth c Q D tA B nL (zc h0) (zs h0) u (pc + 3) h1 lv (va_re u r :: rest)) : ZW p l e (zRm Fr Lo h0) s m args below meth c Q D tA B nL (zc h0) (zs h0) ad pc h lv (va_re ad x3 :: va_re ad x2 :: .int x1 :: .ref (ad a0) :: rest) := 
  z_dq ⟨hE.2.1, hE.2.2.1⟩ (fun H locs ls hw hl => z_runV (q := a0) (ci := 5) F (mX5_joined F.2.2.2.2.2.1 hO t_a0 t_x2 t_x3 hf) (zCw.of 3 F.ts q772 q105 (by decide +kernel) hR) (Or.inl q769) q771 qs20 rfl (by decide) t_a0.1 (zTy.tg t_a0 (by decide)) rfl hr hd hw hl (z_fit hE hO)) kk
theorem cl_X5_81 {p : Program} {l : Launch} {e : Env} {s : State} {m : MethodId} {args : Array Value} {below : List Frame} {meth : Method} {c : Code} {Q : State → Prop} {D : va_G} {tA : Nat → ClassId} {B nL : Nat} {ad : Nat → Nat} {kn : State → Prop} {cc : ByteArray} {ret : Option FieldType} {pc : Nat} {h : Hp} {lv : List (Nat × Value)} {Fr Lo : Nat} {h0 h1 : Hp} {rest : List Value} {w1 : Nat} {a0 : Nat} {x1 : List Int32} {r : Int32} (F : ZF p s m args meth c D tA B nL kn RX5 cc ret) (hd : decode cc pc = .ok (.invokevirtual 81, 3)) (hO : zOk h) (hE : zEx h0 h) (t_a0 : zTy h a0 5) (hT_w1 : zTk B kn x1 w1) (hR : 5 + 1 ≤ (zRm Fr Lo h0).frames ∧ 16 + (2 + 11) + 189 ≤ (zRm Fr Lo h0).locals) (hf : X5_isOne h a0 x1 = some (r, h1)) (hr : (rest.map fun v => v.category).sum ≤ 16) (kk : zOk h1 → zEx h h1 → narrow .boolean (.int r) = .int r → ZW p l e (zRm Fr Lo h0) s m args below meth c Q D tA B nL (zc h0) (zs h0) ad (pc + 3) h1 lv (.int r :: rest)) : ZW p l e (zRm Fr Lo h0) s m args below meth c Q D tA B nL (zc h0) (zs h0) ad pc h lv (.ref w1 :: .ref (ad a0) :: rest) := 
  z_cz ⟨hE.2.1, hE.2.2.1⟩ (fun H locs ls hw hl => z_runV (q := a0) (ci := 5) F (mX5_isOne F.2.2.2.2.2.1 hO t_a0 hT_w1 hf) (zCw.of 1 F.ts q629 q105 (by decide +kernel) hR) (Or.inl q626) q628 qs17 rfl (by decide) t_a0.1 (zTy.tg t_a0 (by decide)) rfl hr hd hw hl (z_fit hE hO)) kk
theorem cl_X5_90_o {p : Program} {l : Launch} {e : Env} {s : State} {m : MethodId} {args : Array Value} {below : List Frame} {meth : Method} {c : Code} {Q : State → Prop} {D : va_G} {tA : Nat → ClassId} {B nL : Nat} {ad : Nat → Nat} {kn : State → Prop} {cc : ByteArray} {ret : Option FieldType} {pc : Nat} {h : Hp} {lv : List (Nat × Value)} {Fr Lo : Nat} {h0 h1 : Hp} {rest : List Value} {a0 : Nat} {r : Option Nat} (F : ZF p s m args meth c D tA B nL kn RX5 cc ret) {rf : Hp → Nat → Option (Option Nat × Hp)} {FF LL : Nat} (hrf : ∀ {h1 h2 : Hp} {ad1 : Nat → Nat} {a0 : Nat} {r1 : Option Nat}, zOk h1 → zTy h1 a0 5 → rf h1 a0 = some (r1, h2) → zM l D tA B kn yX5_operand (ws_ yX5_operand cX5_operand 4 (Option.some (Jvm.ClassFile.FieldType.object "ThreeSnowballs$Node"))) FF LL h1 ad1 [.ref (ad1 a0)] h2 (zRq D tA B h1 ad1 50 r1 h2)) (hd : decode cc pc = .ok (.invokevirtual 90, 3)) (hO : zOk h) (hE : zEx h0 h) (t_a0 : zTy h a0 5) (hR : (FF + 0) + 1 ≤ (zRm Fr Lo h0).frames ∧ 16 + (4 + 11) + (LL + 0) ≤ (zRm Fr Lo h0).locals) (hf : rf h a0 = some (r, h1)) (hr : (rest.map fun v => v.category).sum ≤ 16) (kk : zOk h1 → zEx h h1 → zTo h1 r 50 → ∀ u, zA h ad u → ZW p l e (zRm Fr Lo h0) s m args below meth c Q D tA B nL (zc h0) (zs h0) u (pc + 3) h1 lv (va_re u r :: rest)) : ZW p l e (zRm Fr Lo h0) s m args below meth c Q D tA B nL (zc h0) (zs h0) ad pc h lv (.ref (ad a0) :: rest) := 
  z_dq ⟨hE.2.1, hE.2.2.1⟩ (fun H locs ls hw hl => z_runV (q := a0) (ci := 5) F (hrf hO t_a0 hf) (zCw.of 0 F.ts q620 q105 (by decide +kernel) hR) (Or.inl q617) q619 qs15 rfl (by decide) t_a0.1 (zTy.tg t_a0 (by decide)) rfl hr hd hw hl (z_fit hE hO)) kk
def X5_product_o_b5 (a0 : Nat) (rf : Hp → Nat → Option (Option Nat × Hp)) (j50_5 : Hp → Option Nat → Option (Option Nat × Hp)) (k5_8 : Hp → Option Nat → Option (Option Nat × Hp)) (h6 : Hp) (o7 : Option Nat) : Option (Option Nat × Hp) :=
  if 0 ≤ (zi h6 a0 1) then (j50_5 h6 o7) else (bd (X5_isOne h6 a0 ([42, 47, 37])) fun r12 h11 => if r12 = 0 then (j50_5 h11 o7) else (bd (X5_here h11 a0) fun r15 h14 => nm ((zi h14 a0 0) + (1 : Int32) : Int32) fun v16 => nm (zsi h14 a0 0 v16) fun h17 => bd (rf h17 a0) fun r19 h18 => bd (X5_joined h18 a0 r15 o7 r19) fun r21 h20 => k5_8 h20 r21))
def X5_product_o (rf : Hp → Nat → Option (Option Nat × Hp)) (h : Hp) (a0 : Nat) : Option (Option Nat × Hp) :=
  bd (rf h a0) fun r2 h1 => nm (fun (h3 : Hp) (o4 : Option Nat) => some (o4, h3)) fun j50_5 => zfix (fun _ _ => none) (X5_product_o_b5 a0 rf j50_5) zFU h1 r2
set_option maxHeartbeats 4000000 in
theorem mX5_product_o {l : Launch} {D : va_G} {tA : Nat → ClassId} {B : Nat} {kn : State → Prop} {h hE : Hp} {ad : Nat → Nat} {a0 : Nat} {r : Option Nat} (hkp : zKp D tA B kn) {rf : Hp → Nat → Option (Option Nat × Hp)} {FF LL : Nat} (hrf : ∀ {h1 h2 : Hp} {ad1 : Nat → Nat} {a0 : Nat} {r1 : Option Nat}, zOk h1 → zTy h1 a0 5 → rf h1 a0 = some (r1, h2) → zM l D tA B kn yX5_operand (ws_ yX5_operand cX5_operand 4 (Option.some (Jvm.ClassFile.FieldType.object "ThreeSnowballs$Node"))) FF LL h1 ad1 [.ref (ad1 a0)] h2 (zRq D tA B h1 ad1 50 r1 h2)) (hO_h : zOk h) (t_a0 : zTy h a0 5) (hf : X5_product_o rf h a0 = some (r, hE)) : zM l D tA B kn yX5_product (ws_ yX5_product cX5_product 3 (Option.some (Jvm.ClassFile.FieldType.object "ThreeSnowballs$Node"))) (FF + 6) (LL + 218) h ad [.ref (ad a0)] hE (zRq D tA B h ad 50 r hE) := by
  refine zM_of hkp (by decide +kernel) (Nat.le_of_ble_eq_true rfl) ?_
  intro p e s m args below meth c F hnm
  show ZW p l e (zRm (FF + 6) (LL + 218) h) s m args below meth c (MQ below (zRq D tA B h ad 50 r hE) args s (zc hE - zc h) (zs hE - zs h) (fun q => B ≤ q)) D tA B 3 (zc h) (zs h) ad 0 h [(0, .ref (ad a0))] []
  replace hf := (X5_product_o.eq_1 rf h a0).symm.trans hf
  refine w_aload_n F dX5_product_0 0 rfl ?_
  replace hf := bd_o hf
  obtain ⟨r2, h1, qh1, hf⟩ := hf
  refine cl_X5_90_o F hrf dX5_product_1 hO_h (zEx.rf h) (t_a0) (by constructor <;> (simp only [zRm]; omega)) qh1 (Nat.le_of_ble_eq_true rfl) (fun hO_h1 Eh1 t_r2 ad_h1 hA_h1 => ?_)
  rw [← hA_h1 a0 (t_a0.1)]
  have t_a0 := t_a0.ex Eh1
  refine w_astoreo_n (i := 1) (lv' := [(1, va_re ad_h1 r2), (0, .ref (ad_h1 a0))]) F dX5_product_4 rfl (by decide) rfl ?_
  replace hf := nm_o hf
  obtain ⟨j50_5, ej50_5, hf⟩ := hf
  have Jj50_5 : ∀ (h3 : Hp) (o4 : Option Nat), ∀ ad_h3 : Nat → Nat, zOk h3 → zEx h1 h3 → zA h1 ad_h1 ad_h3 → zTo h3 o4 50 → j50_5 h3 o4 = some (r, hE) → ZW p l e (zRm (FF + 6) (LL + 218) h) s m args below meth c (MQ below (zRq D tA B h ad 50 r hE) args s (zc hE - zc h) (zs hE - zs h) (fun q => B ≤ q)) D tA B 3 (zc h) (zs h) ad_h3 50 h3 [(1, va_re ad_h3 o4)] [] := by
    clear hf
    intro h3 o4 ad_h3 hO_h3 hX_h3 hA_h3 t_o4 hf
    subst ej50_5
    refine w_aloado_n F dX5_product_50 0 rfl ?_
    obtain ⟨rfl, rfl⟩ := ret_o hf
    exact z_areD (o := o4) F dX5_product_51 hO_h3 ((Eh1).tr hX_h3) ((hA_h1).tr Eh1 hA_h3) t_o4
  have L5_21 : ∀ (n : Nat) (h6 : Hp) (o7 : Option Nat), ∀ ad_h6 : Nat → Nat, zOk h6 → zEx h1 h6 → zA h1 ad_h1 ad_h6 → zTo h6 o7 50 → zfix (fun _ _ => none) (X5_product_o_b5 a0 rf j50_5) n h6 o7 = some (r, hE) → ZW p l e (zRm (FF + 6) (LL + 218) h) s m args below meth c (MQ below (zRq D tA B h ad 50 r hE) args s (zc hE - zc h) (zs hE - zs h) (fun q => B ≤ q)) D tA B 3 (zc h) (zs h) ad_h6 5 h6 [(0, .ref (ad_h6 a0)), (1, va_re ad_h6 o7)] [] := by
    clear hf
    intro n
    induction n with
    | zero =>
      intros
      rename_i hf
      cases hf
    | succ n ih =>
      intro h6 o7 ad_h6 hO_h6 hX_h6 hA_h6 t_o7 hf
      have t_a0 := t_a0.ex hX_h6
      replace hf := (X5_product_o_b5.eq_1 a0 rf j50_5 (zfix (fun _ _ => none) (X5_product_o_b5 a0 rf j50_5) n) h6 o7).symm.trans hf
      refine w_aload_n F dX5_product_5 0 rfl ?_
      refine gf_X5_15 F dX5_product_6 hO_h6 (t_a0) ?_
      refine w_if_ge (tgt := 50) F dX5_product_9 (by decide) (fun c9 => ?_) (fun c9 => ?_)
      · replace hf := if_t c9 hf
        refine z_sub (lv' := [(1, va_re ad_h6 o7)]) [1] rfl ?_
        exact Jj50_5 h6 o7 ad_h6 hO_h6 hX_h6 hA_h6 t_o7 hf
      · replace hf := if_f c9 hf
        refine w_aload_n F dX5_product_12 0 rfl ?_
        obtain ⟨w10, hR_w10, hT_w10⟩ := F.text (i := 1) (ix := 93) (tx := "*/%") (txt := [42, 47, 37]) rfl
        refine w_ldcT F dX5_product_13 hR_w10 ?_
        replace hf := bd_o hf
        obtain ⟨r12, h11, qh11, hf⟩ := hf
        refine cl_X5_81 F dX5_product_15 hO_h6 ((Eh1).tr hX_h6) (t_a0) hT_w10 (by constructor <;> (simp only [zRm]; omega)) qh11 (Nat.le_of_ble_eq_true rfl) (fun hO_h11 Eh11 hz_r12 => ?_)
        have t_a0 := t_a0.ex Eh11
        have t_o7 := t_o7.ex Eh11
        refine w_if_eq (tgt := 50) F dX5_product_18 (by decide) (fun c13 => ?_) (fun c13 => ?_)
        · replace hf := if_t c13 hf
          refine z_sub (lv' := [(1, va_re ad_h6 o7)]) [1] rfl ?_
          exact Jj50_5 h11 o7 ad_h6 hO_h11 ((hX_h6).tr Eh11) hA_h6 t_o7 hf
        · replace hf := if_f c13 hf
          refine w_aload_n F dX5_product_21 0 rfl ?_
          replace hf := bd_o hf
          obtain ⟨r15, h14, qh14, hf⟩ := hf
          refine cl_X5_29 F dX5_product_22 hO_h11 (((Eh1).tr hX_h6).tr Eh11) (t_a0) (by constructor <;> (simp only [zRm]; omega)) qh14 (Nat.le_of_ble_eq_true rfl) (fun hO_h14 Eh14 => ?_)
          have t_a0 := t_a0.ex Eh14
          have t_o7 := t_o7.ex Eh14
          refine w_istore_n (i := 2) (lv' := [(2, .int r15), (0, .ref (ad_h6 a0)), (1, va_re ad_h6 o7)]) F dX5_product_25 rfl (by decide) (by cases o7 <;> rfl) ?_
          refine w_aload_n F dX5_product_26 1 rfl ?_
          refine w_dup F dX5_product_27 rfl ?_
          refine gf_X5_19 F dX5_product_28 hO_h14 (t_a0) ?_
          refine w_iconst (v := 1) F dX5_product_31 rfl ?_
          refine w_iadd F dX5_product_32 ?_
          replace hf := nm_o hf
          obtain ⟨v16, ev16, hf⟩ := hf
          refine w_ni ev16 ?_
          refine pf_X5_19 F dX5_product_33 hO_h14 (t_a0) ?_
          replace hf := nm_o hf
          obtain ⟨h17, eh17, hf⟩ := hf
          refine w_nh eh17 ?_
          have Eh17 : zEx h14 h17 := by rw [eh17]; exact zEx.si
          have hO_h17 : zOk h17 := by rw [eh17]; exact hO_h14.si
          have t_a0 := t_a0.ex Eh17
          have t_o7 := t_o7.ex Eh17
          refine w_aload_n F dX5_product_36 1 rfl ?_
          refine w_iload_n F dX5_product_37 0 rfl ?_
          refine w_aloado_n F dX5_product_38 2 rfl ?_
          refine w_aload_n F dX5_product_39 1 rfl ?_
          replace hf := bd_o hf
          obtain ⟨r19, h18, qh18, hf⟩ := hf
          refine cl_X5_90_o F hrf dX5_product_40 hO_h17 (((((Eh1).tr hX_h6).tr Eh11).tr Eh14).tr Eh17) (t_a0) (by constructor <;> (simp only [zRm]; omega)) qh18 (by simp only [List.map_cons, List.map_nil, zcat]; exact Nat.le_of_ble_eq_true rfl) (fun hO_h18 Eh18 t_r19 ad_h18 hA_h18 => ?_)
          rw [← hA_h18 a0 (t_a0.1)]
          rw [← zA.re hA_h18 t_o7]
          have t_a0 := t_a0.ex Eh18
          have t_o7 := t_o7.ex Eh18
          replace hf := bd_o hf
          obtain ⟨r21, h20, qh20, hf⟩ := hf
          refine cl_X5_69 F dX5_product_43 hO_h18 ((((((Eh1).tr hX_h6).tr Eh11).tr Eh14).tr Eh17).tr Eh18) (t_a0) t_o7 t_r19 (by constructor <;> (simp only [zRm]; omega)) qh20 (Nat.le_of_ble_eq_true rfl) (fun hO_h20 Eh20 t_r21 ad_h20 hA_h20 => ?_)
          rw [← hA_h20 a0 (t_a0.1)]
          rw [← zA.re hA_h20 t_o7]
          have t_a0 := t_a0.ex Eh20
          have t_o7 := t_o7.ex Eh20
          have t_r19 := t_r19.ex Eh20
          refine w_astoreo_n (i := 1) (lv' := [(1, va_re ad_h20 r21), (2, .int r15), (0, .ref (ad_h20 a0))]) F dX5_product_46 rfl (by decide) rfl ?_
          refine w_goto (tgt := 5) F dX5_product_47 (by decide) ?_
          refine z_sub (lv' := [(0, .ref (ad_h20 a0)), (1, va_re ad_h20 r21)]) [2, 0] rfl ?_
          exact ih h20 r21 ad_h20 hO_h20 ((((((hX_h6).tr Eh11).tr Eh14).tr Eh17).tr Eh18).tr Eh20) (((hA_h6).tr ((((hX_h6).tr Eh11).tr Eh14).tr Eh17) hA_h18).tr (((((hX_h6).tr Eh11).tr Eh14).tr Eh17).tr Eh18) hA_h20) t_r21 hf
  refine z_sub (lv' := [(0, .ref (ad_h1 a0)), (1, va_re ad_h1 r2)]) [1, 0] rfl ?_
  exact L5_21 zFU h1 r2 ad_h1 hO_h1 (zEx.rf h1) zA.rf t_r2 hf
theorem cl_X5_85_o {p : Program} {l : Launch} {e : Env} {s : State} {m : MethodId} {args : Array Value} {below : List Frame} {meth : Method} {c : Code} {Q : State → Prop} {D : va_G} {tA : Nat → ClassId} {B nL : Nat} {ad : Nat → Nat} {kn : State → Prop} {cc : ByteArray} {ret : Option FieldType} {pc : Nat} {h : Hp} {lv : List (Nat × Value)} {Fr Lo : Nat} {h0 h1 : Hp} {rest : List Value} {a0 : Nat} {r : Option Nat} (F : ZF p s m args meth c D tA B nL kn RX5 cc ret) {rf : Hp → Nat → Option (Option Nat × Hp)} {FF LL : Nat} (hrf : ∀ {h1 h2 : Hp} {ad1 : Nat → Nat} {a0 : Nat} {r1 : Option Nat}, zOk h1 → zTy h1 a0 5 → rf h1 a0 = some (r1, h2) → zM l D tA B kn yX5_operand (ws_ yX5_operand cX5_operand 4 (Option.some (Jvm.ClassFile.FieldType.object "ThreeSnowballs$Node"))) FF LL h1 ad1 [.ref (ad1 a0)] h2 (zRq D tA B h1 ad1 50 r1 h2)) (hd : decode cc pc = .ok (.invokevirtual 85, 3)) (hO : zOk h) (hE : zEx h0 h) (t_a0 : zTy h a0 5) (hR : (FF + 6) + 1 ≤ (zRm Fr Lo h0).frames ∧ 16 + (3 + 11) + (LL + 218) ≤ (zRm Fr Lo h0).locals) (hf : X5_product_o rf h a0 = some (r, h1)) (hr : (rest.map fun v => v.category).sum ≤ 16) (kk : zOk h1 → zEx h h1 → zTo h1 r 50 → ∀ u, zA h ad u → ZW p l e (zRm Fr Lo h0) s m args below meth c Q D tA B nL (zc h0) (zs h0) u (pc + 3) h1 lv (va_re u r :: rest)) : ZW p l e (zRm Fr Lo h0) s m args below meth c Q D tA B nL (zc h0) (zs h0) ad pc h lv (.ref (ad a0) :: rest) := 
  z_dq ⟨hE.2.1, hE.2.2.1⟩ (fun H locs ls hw hl => z_runV (q := a0) (ci := 5) F (mX5_product_o F.2.2.2.2.2.1 hrf hO t_a0 hf) (zCw.of 0 F.ts q616 q105 (by decide +kernel) hR) (Or.inl q613) q615 qs14 rfl (by decide) t_a0.1 (zTy.tg t_a0 (by decide)) rfl hr hd hw hl (z_fit hE hO)) kk
def X5_sum_o_b5 (a0 : Nat) (rf : Hp → Nat → Option (Option Nat × Hp)) (j50_5 : Hp → Option Nat → Option (Option Nat × Hp)) (k5_8 : Hp → Option Nat → Option (Option Nat × Hp)) (h6 : Hp) (o7 : Option Nat) : Option (Option Nat × Hp) :=
  if 0 ≤ (zi h6 a0 1) then (j50_5 h6 o7) else (bd (X5_isOne h6 a0 ([43, 45])) fun r12 h11 => if r12 = 0 then (j50_5 h11 o7) else (bd (X5_here h11 a0) fun r15 h14 => nm ((zi h14 a0 0) + (1 : Int32) : Int32) fun v16 => nm (zsi h14 a0 0 v16) fun h17 => bd (X5_product_o rf h17 a0) fun r19 h18 => bd (X5_joined h18 a0 r15 o7 r19) fun r21 h20 => k5_8 h20 r21))
def X5_sum_o (rf : Hp → Nat → Option (Option Nat × Hp)) (h : Hp) (a0 : Nat) : Option (Option Nat × Hp) :=
  bd (X5_product_o rf h a0) fun r2 h1 => nm (fun (h3 : Hp) (o4 : Option Nat) => some (o4, h3)) fun j50_5 => zfix (fun _ _ => none) (X5_sum_o_b5 a0 rf j50_5) zFU h1 r2
set_option maxHeartbeats 4000000 in
theorem mX5_sum_o {l : Launch} {D : va_G} {tA : Nat → ClassId} {B : Nat} {kn : State → Prop} {h hE : Hp} {ad : Nat → Nat} {a0 : Nat} {r : Option Nat} (hkp : zKp D tA B kn) {rf : Hp → Nat → Option (Option Nat × Hp)} {FF LL : Nat} (hrf : ∀ {h1 h2 : Hp} {ad1 : Nat → Nat} {a0 : Nat} {r1 : Option Nat}, zOk h1 → zTy h1 a0 5 → rf h1 a0 = some (r1, h2) → zM l D tA B kn yX5_operand (ws_ yX5_operand cX5_operand 4 (Option.some (Jvm.ClassFile.FieldType.object "ThreeSnowballs$Node"))) FF LL h1 ad1 [.ref (ad1 a0)] h2 (zRq D tA B h1 ad1 50 r1 h2)) (hO_h : zOk h) (t_a0 : zTy h a0 5) (hf : X5_sum_o rf h a0 = some (r, hE)) : zM l D tA B kn yX5_sum (ws_ yX5_sum cX5_sum 3 (Option.some (Jvm.ClassFile.FieldType.object "ThreeSnowballs$Node"))) (FF + 7) (LL + 248) h ad [.ref (ad a0)] hE (zRq D tA B h ad 50 r hE) := by
  refine zM_of hkp (by decide +kernel) (Nat.le_of_ble_eq_true rfl) ?_
  intro p e s m args below meth c F hnm
  show ZW p l e (zRm (FF + 7) (LL + 248) h) s m args below meth c (MQ below (zRq D tA B h ad 50 r hE) args s (zc hE - zc h) (zs hE - zs h) (fun q => B ≤ q)) D tA B 3 (zc h) (zs h) ad 0 h [(0, .ref (ad a0))] []
  replace hf := (X5_sum_o.eq_1 rf h a0).symm.trans hf
  refine w_aload_n F dX5_sum_0 0 rfl ?_
  replace hf := bd_o hf
  obtain ⟨r2, h1, qh1, hf⟩ := hf
  refine cl_X5_85_o F hrf dX5_sum_1 hO_h (zEx.rf h) (t_a0) (by constructor <;> (simp only [zRm]; omega)) qh1 (Nat.le_of_ble_eq_true rfl) (fun hO_h1 Eh1 t_r2 ad_h1 hA_h1 => ?_)
  rw [← hA_h1 a0 (t_a0.1)]
  have t_a0 := t_a0.ex Eh1
  refine w_astoreo_n (i := 1) (lv' := [(1, va_re ad_h1 r2), (0, .ref (ad_h1 a0))]) F dX5_sum_4 rfl (by decide) rfl ?_
  replace hf := nm_o hf
  obtain ⟨j50_5, ej50_5, hf⟩ := hf
  have Jj50_5 : ∀ (h3 : Hp) (o4 : Option Nat), ∀ ad_h3 : Nat → Nat, zOk h3 → zEx h1 h3 → zA h1 ad_h1 ad_h3 → zTo h3 o4 50 → j50_5 h3 o4 = some (r, hE) → ZW p l e (zRm (FF + 7) (LL + 248) h) s m args below meth c (MQ below (zRq D tA B h ad 50 r hE) args s (zc hE - zc h) (zs hE - zs h) (fun q => B ≤ q)) D tA B 3 (zc h) (zs h) ad_h3 50 h3 [(1, va_re ad_h3 o4)] [] := by
    clear hf
    intro h3 o4 ad_h3 hO_h3 hX_h3 hA_h3 t_o4 hf
    subst ej50_5
    refine w_aloado_n F dX5_sum_50 0 rfl ?_
    obtain ⟨rfl, rfl⟩ := ret_o hf
    exact z_areD (o := o4) F dX5_sum_51 hO_h3 ((Eh1).tr hX_h3) ((hA_h1).tr Eh1 hA_h3) t_o4
  have L5_21 : ∀ (n : Nat) (h6 : Hp) (o7 : Option Nat), ∀ ad_h6 : Nat → Nat, zOk h6 → zEx h1 h6 → zA h1 ad_h1 ad_h6 → zTo h6 o7 50 → zfix (fun _ _ => none) (X5_sum_o_b5 a0 rf j50_5) n h6 o7 = some (r, hE) → ZW p l e (zRm (FF + 7) (LL + 248) h) s m args below meth c (MQ below (zRq D tA B h ad 50 r hE) args s (zc hE - zc h) (zs hE - zs h) (fun q => B ≤ q)) D tA B 3 (zc h) (zs h) ad_h6 5 h6 [(0, .ref (ad_h6 a0)), (1, va_re ad_h6 o7)] [] := by
    clear hf
    intro n
    induction n with
    | zero =>
      intros
      rename_i hf
      cases hf
    | succ n ih =>
      intro h6 o7 ad_h6 hO_h6 hX_h6 hA_h6 t_o7 hf
      have t_a0 := t_a0.ex hX_h6
      replace hf := (X5_sum_o_b5.eq_1 a0 rf j50_5 (zfix (fun _ _ => none) (X5_sum_o_b5 a0 rf j50_5) n) h6 o7).symm.trans hf
      refine w_aload_n F dX5_sum_5 0 rfl ?_
      refine gf_X5_15 F dX5_sum_6 hO_h6 (t_a0) ?_
      refine w_if_ge (tgt := 50) F dX5_sum_9 (by decide) (fun c9 => ?_) (fun c9 => ?_)
      · replace hf := if_t c9 hf
        refine z_sub (lv' := [(1, va_re ad_h6 o7)]) [1] rfl ?_
        exact Jj50_5 h6 o7 ad_h6 hO_h6 hX_h6 hA_h6 t_o7 hf
      · replace hf := if_f c9 hf
        refine w_aload_n F dX5_sum_12 0 rfl ?_
        obtain ⟨w10, hR_w10, hT_w10⟩ := F.text (i := 2) (ix := 88) (tx := "+-") (txt := [43, 45]) rfl
        refine w_ldcT F dX5_sum_13 hR_w10 ?_
        replace hf := bd_o hf
        obtain ⟨r12, h11, qh11, hf⟩ := hf
        refine cl_X5_81 F dX5_sum_15 hO_h6 ((Eh1).tr hX_h6) (t_a0) hT_w10 (by constructor <;> (simp only [zRm]; omega)) qh11 (Nat.le_of_ble_eq_true rfl) (fun hO_h11 Eh11 hz_r12 => ?_)
        have t_a0 := t_a0.ex Eh11
        have t_o7 := t_o7.ex Eh11
        refine w_if_eq (tgt := 50) F dX5_sum_18 (by decide) (fun c13 => ?_) (fun c13 => ?_)
        · replace hf := if_t c13 hf
          refine z_sub (lv' := [(1, va_re ad_h6 o7)]) [1] rfl ?_
          exact Jj50_5 h11 o7 ad_h6 hO_h11 ((hX_h6).tr Eh11) hA_h6 t_o7 hf
        · replace hf := if_f c13 hf
          refine w_aload_n F dX5_sum_21 0 rfl ?_
          replace hf := bd_o hf
          obtain ⟨r15, h14, qh14, hf⟩ := hf
          refine cl_X5_29 F dX5_sum_22 hO_h11 (((Eh1).tr hX_h6).tr Eh11) (t_a0) (by constructor <;> (simp only [zRm]; omega)) qh14 (Nat.le_of_ble_eq_true rfl) (fun hO_h14 Eh14 => ?_)
          have t_a0 := t_a0.ex Eh14
          have t_o7 := t_o7.ex Eh14
          refine w_istore_n (i := 2) (lv' := [(2, .int r15), (0, .ref (ad_h6 a0)), (1, va_re ad_h6 o7)]) F dX5_sum_25 rfl (by decide) (by cases o7 <;> rfl) ?_
          refine w_aload_n F dX5_sum_26 1 rfl ?_
          refine w_dup F dX5_sum_27 rfl ?_
          refine gf_X5_19 F dX5_sum_28 hO_h14 (t_a0) ?_
          refine w_iconst (v := 1) F dX5_sum_31 rfl ?_
          refine w_iadd F dX5_sum_32 ?_
          replace hf := nm_o hf
          obtain ⟨v16, ev16, hf⟩ := hf
          refine w_ni ev16 ?_
          refine pf_X5_19 F dX5_sum_33 hO_h14 (t_a0) ?_
          replace hf := nm_o hf
          obtain ⟨h17, eh17, hf⟩ := hf
          refine w_nh eh17 ?_
          have Eh17 : zEx h14 h17 := by rw [eh17]; exact zEx.si
          have hO_h17 : zOk h17 := by rw [eh17]; exact hO_h14.si
          have t_a0 := t_a0.ex Eh17
          have t_o7 := t_o7.ex Eh17
          refine w_aload_n F dX5_sum_36 1 rfl ?_
          refine w_iload_n F dX5_sum_37 0 rfl ?_
          refine w_aloado_n F dX5_sum_38 2 rfl ?_
          refine w_aload_n F dX5_sum_39 1 rfl ?_
          replace hf := bd_o hf
          obtain ⟨r19, h18, qh18, hf⟩ := hf
          refine cl_X5_85_o F hrf dX5_sum_40 hO_h17 (((((Eh1).tr hX_h6).tr Eh11).tr Eh14).tr Eh17) (t_a0) (by constructor <;> (simp only [zRm]; omega)) qh18 (by simp only [List.map_cons, List.map_nil, zcat]; exact Nat.le_of_ble_eq_true rfl) (fun hO_h18 Eh18 t_r19 ad_h18 hA_h18 => ?_)
          rw [← hA_h18 a0 (t_a0.1)]
          rw [← zA.re hA_h18 t_o7]
          have t_a0 := t_a0.ex Eh18
          have t_o7 := t_o7.ex Eh18
          replace hf := bd_o hf
          obtain ⟨r21, h20, qh20, hf⟩ := hf
          refine cl_X5_69 F dX5_sum_43 hO_h18 ((((((Eh1).tr hX_h6).tr Eh11).tr Eh14).tr Eh17).tr Eh18) (t_a0) t_o7 t_r19 (by constructor <;> (simp only [zRm]; omega)) qh20 (Nat.le_of_ble_eq_true rfl) (fun hO_h20 Eh20 t_r21 ad_h20 hA_h20 => ?_)
          rw [← hA_h20 a0 (t_a0.1)]
          rw [← zA.re hA_h20 t_o7]
          have t_a0 := t_a0.ex Eh20
          have t_o7 := t_o7.ex Eh20
          have t_r19 := t_r19.ex Eh20
          refine w_astoreo_n (i := 1) (lv' := [(1, va_re ad_h20 r21), (2, .int r15), (0, .ref (ad_h20 a0))]) F dX5_sum_46 rfl (by decide) rfl ?_
          refine w_goto (tgt := 5) F dX5_sum_47 (by decide) ?_
          refine z_sub (lv' := [(0, .ref (ad_h20 a0)), (1, va_re ad_h20 r21)]) [2, 0] rfl ?_
          exact ih h20 r21 ad_h20 hO_h20 ((((((hX_h6).tr Eh11).tr Eh14).tr Eh17).tr Eh18).tr Eh20) (((hA_h6).tr ((((hX_h6).tr Eh11).tr Eh14).tr Eh17) hA_h18).tr (((((hX_h6).tr Eh11).tr Eh14).tr Eh17).tr Eh18) hA_h20) t_r21 hf
  refine z_sub (lv' := [(0, .ref (ad_h1 a0)), (1, va_re ad_h1 r2)]) [1, 0] rfl ?_
  exact L5_21 zFU h1 r2 ad_h1 hO_h1 (zEx.rf h1) zA.rf t_r2 hf
theorem cl_X5_76_o {p : Program} {l : Launch} {e : Env} {s : State} {m : MethodId} {args : Array Value} {below : List Frame} {meth : Method} {c : Code} {Q : State → Prop} {D : va_G} {tA : Nat → ClassId} {B nL : Nat} {ad : Nat → Nat} {kn : State → Prop} {cc : ByteArray} {ret : Option FieldType} {pc : Nat} {h : Hp} {lv : List (Nat × Value)} {Fr Lo : Nat} {h0 h1 : Hp} {rest : List Value} {a0 : Nat} {r : Option Nat} (F : ZF p s m args meth c D tA B nL kn RX5 cc ret) {rf : Hp → Nat → Option (Option Nat × Hp)} {FF LL : Nat} (hrf : ∀ {h1 h2 : Hp} {ad1 : Nat → Nat} {a0 : Nat} {r1 : Option Nat}, zOk h1 → zTy h1 a0 5 → rf h1 a0 = some (r1, h2) → zM l D tA B kn yX5_operand (ws_ yX5_operand cX5_operand 4 (Option.some (Jvm.ClassFile.FieldType.object "ThreeSnowballs$Node"))) FF LL h1 ad1 [.ref (ad1 a0)] h2 (zRq D tA B h1 ad1 50 r1 h2)) (hd : decode cc pc = .ok (.invokevirtual 76, 3)) (hO : zOk h) (hE : zEx h0 h) (t_a0 : zTy h a0 5) (hR : (FF + 7) + 1 ≤ (zRm Fr Lo h0).frames ∧ 16 + (3 + 11) + (LL + 248) ≤ (zRm Fr Lo h0).locals) (hf : X5_sum_o rf h a0 = some (r, h1)) (hr : (rest.map fun v => v.category).sum ≤ 16) (kk : zOk h1 → zEx h h1 → zTo h1 r 50 → ∀ u, zA h ad u → ZW p l e (zRm Fr Lo h0) s m args below meth c Q D tA B nL (zc h0) (zs h0) u (pc + 3) h1 lv (va_re u r :: rest)) : ZW p l e (zRm Fr Lo h0) s m args below meth c Q D tA B nL (zc h0) (zs h0) ad pc h lv (.ref (ad a0) :: rest) := 
  z_dq ⟨hE.2.1, hE.2.2.1⟩ (fun H locs ls hw hl => z_runV (q := a0) (ci := 5) F (mX5_sum_o F.2.2.2.2.2.1 hrf hO t_a0 hf) (zCw.of 0 F.ts q612 q105 (by decide +kernel) hR) (Or.inl q609) q611 qs13 rfl (by decide) t_a0.1 (zTy.tg t_a0 (by decide)) rfl hr hd hw hl (z_fit hE hO)) kk
def X5_compared_o (rf : Hp → Nat → Option (Option Nat × Hp)) (h : Hp) (a0 : Nat) : Option (Option Nat × Hp) :=
  bd (X5_sum_o rf h a0) fun r2 h1 => nm (fun (h3 : Hp)  => some (r2, h3)) fun j21_4 => if 0 ≤ (zi h1 a0 1) then (j21_4 h1 ) else (bd (X5_isOne h1 a0 ([60, 61, 62])) fun r8 h7 => if r8 = 0 then (j21_4 h7 ) else (bd (X5_here h7 a0) fun r11 h10 => nm ((zi h10 a0 0) + (1 : Int32) : Int32) fun v12 => nm (zsi h10 a0 0 v12) fun h13 => bd (X5_sum_o rf h13 a0) fun r15 h14 => bd (X5_joined h14 a0 r11 r2 r15) fun r17 h16 => some (r17, h16)))
set_option maxHeartbeats 4000000 in
theorem mX5_compared_o {l : Launch} {D : va_G} {tA : Nat → ClassId} {B : Nat} {kn : State → Prop} {h hE : Hp} {ad : Nat → Nat} {a0 : Nat} {r : Option Nat} (hkp : zKp D tA B kn) {rf : Hp → Nat → Option (Option Nat × Hp)} {FF LL : Nat} (hrf : ∀ {h1 h2 : Hp} {ad1 : Nat → Nat} {a0 : Nat} {r1 : Option Nat}, zOk h1 → zTy h1 a0 5 → rf h1 a0 = some (r1, h2) → zM l D tA B kn yX5_operand (ws_ yX5_operand cX5_operand 4 (Option.some (Jvm.ClassFile.FieldType.object "ThreeSnowballs$Node"))) FF LL h1 ad1 [.ref (ad1 a0)] h2 (zRq D tA B h1 ad1 50 r1 h2)) (hO_h : zOk h) (t_a0 : zTy h a0 5) (hf : X5_compared_o rf h a0 = some (r, hE)) : zM l D tA B kn yX5_compared (ws_ yX5_compared cX5_compared 3 (Option.some (Jvm.ClassFile.FieldType.object "ThreeSnowballs$Node"))) (FF + 8) (LL + 278) h ad [.ref (ad a0)] hE (zRq D tA B h ad 50 r hE) := by
  refine zM_of hkp (by decide +kernel) (Nat.le_of_ble_eq_true rfl) ?_
  intro p e s m args below meth c F hnm
  show ZW p l e (zRm (FF + 8) (LL + 278) h) s m args below meth c (MQ below (zRq D tA B h ad 50 r hE) args s (zc hE - zc h) (zs hE - zs h) (fun q => B ≤ q)) D tA B 3 (zc h) (zs h) ad 0 h [(0, .ref (ad a0))] []
  replace hf := (X5_compared_o.eq_1 rf h a0).symm.trans hf
  refine w_aload_n F dX5_compared_0 0 rfl ?_
  replace hf := bd_o hf
  obtain ⟨r2, h1, qh1, hf⟩ := hf
  refine cl_X5_76_o F hrf dX5_compared_1 hO_h (zEx.rf h) (t_a0) (by constructor <;> (simp only [zRm]; omega)) qh1 (Nat.le_of_ble_eq_true rfl) (fun hO_h1 Eh1 t_r2 ad_h1 hA_h1 => ?_)
  rw [← hA_h1 a0 (t_a0.1)]
  have t_a0 := t_a0.ex Eh1
  refine w_astoreo_n (i := 1) (lv' := [(1, va_re ad_h1 r2), (0, .ref (ad_h1 a0))]) F dX5_compared_4 rfl (by decide) rfl ?_
  refine w_aload_n F dX5_compared_5 1 rfl ?_
  refine gf_X5_15 F dX5_compared_6 hO_h1 (t_a0) ?_
  replace hf := nm_o hf
  obtain ⟨j21_4, ej21_4, hf⟩ := hf
  have Jj21_4 : ∀ (h3 : Hp) , ∀ ad_h3 : Nat → Nat, zOk h3 → zEx h1 h3 → zA h1 ad_h1 ad_h3 → j21_4 h3  = some (r, hE) → ZW p l e (zRm (FF + 8) (LL + 278) h) s m args below meth c (MQ below (zRq D tA B h ad 50 r hE) args s (zc hE - zc h) (zs hE - zs h) (fun q => B ≤ q)) D tA B 3 (zc h) (zs h) ad_h3 21 h3 [(1, va_re ad_h3 r2)] [] := by
    clear hf
    intro h3 ad_h3 hO_h3 hX_h3 hA_h3  hf
    have t_r2 := t_r2.ex hX_h3
    subst ej21_4
    refine w_aloado_n F dX5_compared_21 0 rfl ?_
    obtain ⟨rfl, rfl⟩ := ret_o hf
    exact z_areD (o := r2) F dX5_compared_22 hO_h3 ((Eh1).tr hX_h3) ((hA_h1).tr Eh1 hA_h3) t_r2
  refine w_if_ge (tgt := 21) F dX5_compared_9 (by decide) (fun c5 => ?_) (fun c5 => ?_)
  · replace hf := if_t c5 hf
    refine z_sub (lv' := [(1, va_re ad_h1 r2)]) [0] rfl ?_
    exact Jj21_4 h1  ad_h1 hO_h1 (zEx.rf h1) zA.rf  hf
  · replace hf := if_f c5 hf
    refine w_aload_n F dX5_compared_12 1 rfl ?_
    obtain ⟨w6, hR_w6, hT_w6⟩ := F.text (i := 3) (ix := 79) (tx := "<=>") (txt := [60, 61, 62]) rfl
    refine w_ldcT F dX5_compared_13 hR_w6 ?_
    replace hf := bd_o hf
    obtain ⟨r8, h7, qh7, hf⟩ := hf
    refine cl_X5_81 F dX5_compared_15 hO_h1 Eh1 (t_a0) hT_w6 (by constructor <;> (simp only [zRm]; omega)) qh7 (Nat.le_of_ble_eq_true rfl) (fun hO_h7 Eh7 hz_r8 => ?_)
    have t_a0 := t_a0.ex Eh7
    have t_r2 := t_r2.ex Eh7
    refine w_if_ne (tgt := 23) F dX5_compared_18 (by decide) (fun c9 => ?_) (fun c9 => ?_)
    · replace hf := if_f c9 hf
      refine w_aload_n F dX5_compared_23 1 rfl ?_
      replace hf := bd_o hf
      obtain ⟨r11, h10, qh10, hf⟩ := hf
      refine cl_X5_29 F dX5_compared_24 hO_h7 ((Eh1).tr Eh7) (t_a0) (by constructor <;> (simp only [zRm]; omega)) qh10 (Nat.le_of_ble_eq_true rfl) (fun hO_h10 Eh10 => ?_)
      have t_a0 := t_a0.ex Eh10
      have t_r2 := t_r2.ex Eh10
      refine w_istore_n (i := 2) (lv' := [(2, .int r11), (1, va_re ad_h1 r2), (0, .ref (ad_h1 a0))]) F dX5_compared_27 rfl (by decide) (by cases r2 <;> rfl) ?_
      refine w_aload_n F dX5_compared_28 2 rfl ?_
      refine w_dup F dX5_compared_29 rfl ?_
      refine gf_X5_19 F dX5_compared_30 hO_h10 (t_a0) ?_
      refine w_iconst (v := 1) F dX5_compared_33 rfl ?_
      refine w_iadd F dX5_compared_34 ?_
      replace hf := nm_o hf
      obtain ⟨v12, ev12, hf⟩ := hf
      refine w_ni ev12 ?_
      refine pf_X5_19 F dX5_compared_35 hO_h10 (t_a0) ?_
      replace hf := nm_o hf
      obtain ⟨h13, eh13, hf⟩ := hf
      refine w_nh eh13 ?_
      have Eh13 : zEx h10 h13 := by rw [eh13]; exact zEx.si
      have hO_h13 : zOk h13 := by rw [eh13]; exact hO_h10.si
      have t_a0 := t_a0.ex Eh13
      have t_r2 := t_r2.ex Eh13
      refine w_aload_n F dX5_compared_38 2 rfl ?_
      refine w_iload_n F dX5_compared_39 0 rfl ?_
      refine w_aloado_n F dX5_compared_40 1 rfl ?_
      refine w_aload_n F dX5_compared_41 2 rfl ?_
      replace hf := bd_o hf
      obtain ⟨r15, h14, qh14, hf⟩ := hf
      refine cl_X5_76_o F hrf dX5_compared_42 hO_h13 ((((Eh1).tr Eh7).tr Eh10).tr Eh13) (t_a0) (by constructor <;> (simp only [zRm]; omega)) qh14 (by simp only [List.map_cons, List.map_nil, zcat]; exact Nat.le_of_ble_eq_true rfl) (fun hO_h14 Eh14 t_r15 ad_h14 hA_h14 => ?_)
      rw [← zA.re hA_h14 t_r2]
      rw [← hA_h14 a0 (t_a0.1)]
      have t_a0 := t_a0.ex Eh14
      have t_r2 := t_r2.ex Eh14
      replace hf := bd_o hf
      obtain ⟨r17, h16, qh16, hf⟩ := hf
      refine cl_X5_69 F dX5_compared_45 hO_h14 (((((Eh1).tr Eh7).tr Eh10).tr Eh13).tr Eh14) (t_a0) t_r2 t_r15 (by constructor <;> (simp only [zRm]; omega)) qh16 (Nat.le_of_ble_eq_true rfl) (fun hO_h16 Eh16 t_r17 ad_h16 hA_h16 => ?_)
      rw [← zA.re hA_h16 t_r2]
      rw [← hA_h16 a0 (t_a0.1)]
      have t_a0 := t_a0.ex Eh16
      have t_r2 := t_r2.ex Eh16
      have t_r15 := t_r15.ex Eh16
      obtain ⟨rfl, rfl⟩ := ret_o hf
      exact z_areD (o := r17) F dX5_compared_48 hO_h16 ((((((Eh1).tr Eh7).tr Eh10).tr Eh13).tr Eh14).tr Eh16) (((hA_h1).tr ((((Eh1).tr Eh7).tr Eh10).tr Eh13) hA_h14).tr (((((Eh1).tr Eh7).tr Eh10).tr Eh13).tr Eh14) hA_h16) t_r17
    · replace hf := if_t c9 hf
      refine z_sub (lv' := [(1, va_re ad_h1 r2)]) [0] rfl ?_
      exact Jj21_4 h7  ad_h1 hO_h7 Eh7 zA.rf  hf
theorem cl_X5_73_o {p : Program} {l : Launch} {e : Env} {s : State} {m : MethodId} {args : Array Value} {below : List Frame} {meth : Method} {c : Code} {Q : State → Prop} {D : va_G} {tA : Nat → ClassId} {B nL : Nat} {ad : Nat → Nat} {kn : State → Prop} {cc : ByteArray} {ret : Option FieldType} {pc : Nat} {h : Hp} {lv : List (Nat × Value)} {Fr Lo : Nat} {h0 h1 : Hp} {rest : List Value} {a0 : Nat} {r : Option Nat} (F : ZF p s m args meth c D tA B nL kn RX5 cc ret) {rf : Hp → Nat → Option (Option Nat × Hp)} {FF LL : Nat} (hrf : ∀ {h1 h2 : Hp} {ad1 : Nat → Nat} {a0 : Nat} {r1 : Option Nat}, zOk h1 → zTy h1 a0 5 → rf h1 a0 = some (r1, h2) → zM l D tA B kn yX5_operand (ws_ yX5_operand cX5_operand 4 (Option.some (Jvm.ClassFile.FieldType.object "ThreeSnowballs$Node"))) FF LL h1 ad1 [.ref (ad1 a0)] h2 (zRq D tA B h1 ad1 50 r1 h2)) (hd : decode cc pc = .ok (.invokevirtual 73, 3)) (hO : zOk h) (hE : zEx h0 h) (t_a0 : zTy h a0 5) (hR : (FF + 8) + 1 ≤ (zRm Fr Lo h0).frames ∧ 16 + (3 + 11) + (LL + 278) ≤ (zRm Fr Lo h0).locals) (hf : X5_compared_o rf h a0 = some (r, h1)) (hr : (rest.map fun v => v.category).sum ≤ 16) (kk : zOk h1 → zEx h h1 → zTo h1 r 50 → ∀ u, zA h ad u → ZW p l e (zRm Fr Lo h0) s m args below meth c Q D tA B nL (zc h0) (zs h0) u (pc + 3) h1 lv (va_re u r :: rest)) : ZW p l e (zRm Fr Lo h0) s m args below meth c Q D tA B nL (zc h0) (zs h0) ad pc h lv (.ref (ad a0) :: rest) := 
  z_dq ⟨hE.2.1, hE.2.2.1⟩ (fun H locs ls hw hl => z_runV (q := a0) (ci := 5) F (mX5_compared_o F.2.2.2.2.2.1 hrf hO t_a0 hf) (zCw.of 0 F.ts q608 q105 (by decide +kernel) hR) (Or.inl q605) q607 qs12 rfl (by decide) t_a0.1 (zTy.tg t_a0 (by decide)) rfl hr hd hw hl (z_fit hE hO)) kk
def X5_all_o_b5 (a0 : Nat) (rf : Hp → Nat → Option (Option Nat × Hp)) (j46_5 : Hp → Option Nat → Option (Option Nat × Hp)) (k5_8 : Hp → Option Nat → Option (Option Nat × Hp)) (h6 : Hp) (o7 : Option Nat) : Option (Option Nat × Hp) :=
  if 0 ≤ (zi h6 a0 1) then (j46_5 h6 o7) else (bd (X5_here h6 a0) fun r11 h10 => if r11 = (38 : Int32) then (nm ((zi h10 a0 0) + (1 : Int32) : Int32) fun v13 => nm (zsi h10 a0 0 v13) fun h14 => bd (X5_compared_o rf h14 a0) fun r16 h15 => bd (X5_joined h15 a0 (38 : Int32) o7 r16) fun r18 h17 => k5_8 h17 r18) else (j46_5 h10 o7))
def X5_all_o (rf : Hp → Nat → Option (Option Nat × Hp)) (h : Hp) (a0 : Nat) : Option (Option Nat × Hp) :=
  bd (X5_compared_o rf h a0) fun r2 h1 => nm (fun (h3 : Hp) (o4 : Option Nat) => some (o4, h3)) fun j46_5 => zfix (fun _ _ => none) (X5_all_o_b5 a0 rf j46_5) zFU h1 r2
set_option maxHeartbeats 4000000 in
theorem mX5_all_o {l : Launch} {D : va_G} {tA : Nat → ClassId} {B : Nat} {kn : State → Prop} {h hE : Hp} {ad : Nat → Nat} {a0 : Nat} {r : Option Nat} (hkp : zKp D tA B kn) {rf : Hp → Nat → Option (Option Nat × Hp)} {FF LL : Nat} (hrf : ∀ {h1 h2 : Hp} {ad1 : Nat → Nat} {a0 : Nat} {r1 : Option Nat}, zOk h1 → zTy h1 a0 5 → rf h1 a0 = some (r1, h2) → zM l D tA B kn yX5_operand (ws_ yX5_operand cX5_operand 4 (Option.some (Jvm.ClassFile.FieldType.object "ThreeSnowballs$Node"))) FF LL h1 ad1 [.ref (ad1 a0)] h2 (zRq D tA B h1 ad1 50 r1 h2)) (hO_h : zOk h) (t_a0 : zTy h a0 5) (hf : X5_all_o rf h a0 = some (r, hE)) : zM l D tA B kn yX5_all (ws_ yX5_all cX5_all 2 (Option.some (Jvm.ClassFile.FieldType.object "ThreeSnowballs$Node"))) (FF + 9) (LL + 308) h ad [.ref (ad a0)] hE (zRq D tA B h ad 50 r hE) := by
  refine zM_of hkp (by decide +kernel) (Nat.le_of_ble_eq_true rfl) ?_
  intro p e s m args below meth c F hnm
  show ZW p l e (zRm (FF + 9) (LL + 308) h) s m args below meth c (MQ below (zRq D tA B h ad 50 r hE) args s (zc hE - zc h) (zs hE - zs h) (fun q => B ≤ q)) D tA B 2 (zc h) (zs h) ad 0 h [(0, .ref (ad a0))] []
  replace hf := (X5_all_o.eq_1 rf h a0).symm.trans hf
  refine w_aload_n F dX5_all_0 0 rfl ?_
  replace hf := bd_o hf
  obtain ⟨r2, h1, qh1, hf⟩ := hf
  refine cl_X5_73_o F hrf dX5_all_1 hO_h (zEx.rf h) (t_a0) (by constructor <;> (simp only [zRm]; omega)) qh1 (Nat.le_of_ble_eq_true rfl) (fun hO_h1 Eh1 t_r2 ad_h1 hA_h1 => ?_)
  rw [← hA_h1 a0 (t_a0.1)]
  have t_a0 := t_a0.ex Eh1
  refine w_astoreo_n (i := 1) (lv' := [(1, va_re ad_h1 r2), (0, .ref (ad_h1 a0))]) F dX5_all_4 rfl (by decide) rfl ?_
  replace hf := nm_o hf
  obtain ⟨j46_5, ej46_5, hf⟩ := hf
  have Jj46_5 : ∀ (h3 : Hp) (o4 : Option Nat), ∀ ad_h3 : Nat → Nat, zOk h3 → zEx h1 h3 → zA h1 ad_h1 ad_h3 → zTo h3 o4 50 → j46_5 h3 o4 = some (r, hE) → ZW p l e (zRm (FF + 9) (LL + 308) h) s m args below meth c (MQ below (zRq D tA B h ad 50 r hE) args s (zc hE - zc h) (zs hE - zs h) (fun q => B ≤ q)) D tA B 2 (zc h) (zs h) ad_h3 46 h3 [(1, va_re ad_h3 o4)] [] := by
    clear hf
    intro h3 o4 ad_h3 hO_h3 hX_h3 hA_h3 t_o4 hf
    subst ej46_5
    refine w_aloado_n F dX5_all_46 0 rfl ?_
    obtain ⟨rfl, rfl⟩ := ret_o hf
    exact z_areD (o := o4) F dX5_all_47 hO_h3 ((Eh1).tr hX_h3) ((hA_h1).tr Eh1 hA_h3) t_o4
  have L5_18 : ∀ (n : Nat) (h6 : Hp) (o7 : Option Nat), ∀ ad_h6 : Nat → Nat, zOk h6 → zEx h1 h6 → zA h1 ad_h1 ad_h6 → zTo h6 o7 50 → zfix (fun _ _ => none) (X5_all_o_b5 a0 rf j46_5) n h6 o7 = some (r, hE) → ZW p l e (zRm (FF + 9) (LL + 308) h) s m args below meth c (MQ below (zRq D tA B h ad 50 r hE) args s (zc hE - zc h) (zs hE - zs h) (fun q => B ≤ q)) D tA B 2 (zc h) (zs h) ad_h6 5 h6 [(0, .ref (ad_h6 a0)), (1, va_re ad_h6 o7)] [] := by
    clear hf
    intro n
    induction n with
    | zero =>
      intros
      rename_i hf
      cases hf
    | succ n ih =>
      intro h6 o7 ad_h6 hO_h6 hX_h6 hA_h6 t_o7 hf
      have t_a0 := t_a0.ex hX_h6
      replace hf := (X5_all_o_b5.eq_1 a0 rf j46_5 (zfix (fun _ _ => none) (X5_all_o_b5 a0 rf j46_5) n) h6 o7).symm.trans hf
      refine w_aload_n F dX5_all_5 0 rfl ?_
      refine gf_X5_15 F dX5_all_6 hO_h6 (t_a0) ?_
      refine w_if_ge (tgt := 46) F dX5_all_9 (by decide) (fun c9 => ?_) (fun c9 => ?_)
      · replace hf := if_t c9 hf
        refine z_sub (lv' := [(1, va_re ad_h6 o7)]) [1] rfl ?_
        exact Jj46_5 h6 o7 ad_h6 hO_h6 hX_h6 hA_h6 t_o7 hf
      · replace hf := if_f c9 hf
        refine w_aload_n F dX5_all_12 0 rfl ?_
        replace hf := bd_o hf
        obtain ⟨r11, h10, qh10, hf⟩ := hf
        refine cl_X5_29 F dX5_all_13 hO_h6 ((Eh1).tr hX_h6) (t_a0) (by constructor <;> (simp only [zRm]; omega)) qh10 (Nat.le_of_ble_eq_true rfl) (fun hO_h10 Eh10 => ?_)
        have t_a0 := t_a0.ex Eh10
        have t_o7 := t_o7.ex Eh10
        refine w_bipush (v := 38) F dX5_all_16 rfl ?_
        refine w_icmp_ne (tgt := 46) F dX5_all_18 (by decide) (fun c12 => ?_) (fun c12 => ?_)
        · replace hf := if_f c12 hf
          refine z_sub (lv' := [(1, va_re ad_h6 o7)]) [1] rfl ?_
          exact Jj46_5 h10 o7 ad_h6 hO_h10 ((hX_h6).tr Eh10) hA_h6 t_o7 hf
        · replace hf := if_t c12 hf
          refine w_aload_n F dX5_all_21 0 rfl ?_
          refine w_dup F dX5_all_22 rfl ?_
          refine gf_X5_19 F dX5_all_23 hO_h10 (t_a0) ?_
          refine w_iconst (v := 1) F dX5_all_26 rfl ?_
          refine w_iadd F dX5_all_27 ?_
          replace hf := nm_o hf
          obtain ⟨v13, ev13, hf⟩ := hf
          refine w_ni ev13 ?_
          refine pf_X5_19 F dX5_all_28 hO_h10 (t_a0) ?_
          replace hf := nm_o hf
          obtain ⟨h14, eh14, hf⟩ := hf
          refine w_nh eh14 ?_
          have Eh14 : zEx h10 h14 := by rw [eh14]; exact zEx.si
          have hO_h14 : zOk h14 := by rw [eh14]; exact hO_h10.si
          have t_a0 := t_a0.ex Eh14
          have t_o7 := t_o7.ex Eh14
          refine w_aload_n F dX5_all_31 0 rfl ?_
          refine w_bipush (v := 38) F dX5_all_32 rfl ?_
          refine w_aloado_n F dX5_all_34 1 rfl ?_
          refine w_aload_n F dX5_all_35 0 rfl ?_
          replace hf := bd_o hf
          obtain ⟨r16, h15, qh15, hf⟩ := hf
          refine cl_X5_73_o F hrf dX5_all_36 hO_h14 ((((Eh1).tr hX_h6).tr Eh10).tr Eh14) (t_a0) (by constructor <;> (simp only [zRm]; omega)) qh15 (by simp only [List.map_cons, List.map_nil, zcat]; exact Nat.le_of_ble_eq_true rfl) (fun hO_h15 Eh15 t_r16 ad_h15 hA_h15 => ?_)
          rw [← hA_h15 a0 (t_a0.1)]
          rw [← zA.re hA_h15 t_o7]
          have t_a0 := t_a0.ex Eh15
          have t_o7 := t_o7.ex Eh15
          replace hf := bd_o hf
          obtain ⟨r18, h17, qh17, hf⟩ := hf
          refine cl_X5_69 F dX5_all_39 hO_h15 (((((Eh1).tr hX_h6).tr Eh10).tr Eh14).tr Eh15) (t_a0) t_o7 t_r16 (by constructor <;> (simp only [zRm]; omega)) qh17 (Nat.le_of_ble_eq_true rfl) (fun hO_h17 Eh17 t_r18 ad_h17 hA_h17 => ?_)
          rw [← hA_h17 a0 (t_a0.1)]
          rw [← zA.re hA_h17 t_o7]
          have t_a0 := t_a0.ex Eh17
          have t_o7 := t_o7.ex Eh17
          have t_r16 := t_r16.ex Eh17
          refine w_astoreo_n (i := 1) (lv' := [(1, va_re ad_h17 r18), (0, .ref (ad_h17 a0))]) F dX5_all_42 rfl (by decide) rfl ?_
          refine w_goto (tgt := 5) F dX5_all_43 (by decide) ?_
          refine z_sub (lv' := [(0, .ref (ad_h17 a0)), (1, va_re ad_h17 r18)]) [1, 0] rfl ?_
          exact ih h17 r18 ad_h17 hO_h17 (((((hX_h6).tr Eh10).tr Eh14).tr Eh15).tr Eh17) (((hA_h6).tr (((hX_h6).tr Eh10).tr Eh14) hA_h15).tr ((((hX_h6).tr Eh10).tr Eh14).tr Eh15) hA_h17) t_r18 hf
  refine z_sub (lv' := [(0, .ref (ad_h1 a0)), (1, va_re ad_h1 r2)]) [1, 0] rfl ?_
  exact L5_18 zFU h1 r2 ad_h1 hO_h1 (zEx.rf h1) zA.rf t_r2 hf
theorem cl_X5_66_o {p : Program} {l : Launch} {e : Env} {s : State} {m : MethodId} {args : Array Value} {below : List Frame} {meth : Method} {c : Code} {Q : State → Prop} {D : va_G} {tA : Nat → ClassId} {B nL : Nat} {ad : Nat → Nat} {kn : State → Prop} {cc : ByteArray} {ret : Option FieldType} {pc : Nat} {h : Hp} {lv : List (Nat × Value)} {Fr Lo : Nat} {h0 h1 : Hp} {rest : List Value} {a0 : Nat} {r : Option Nat} (F : ZF p s m args meth c D tA B nL kn RX5 cc ret) {rf : Hp → Nat → Option (Option Nat × Hp)} {FF LL : Nat} (hrf : ∀ {h1 h2 : Hp} {ad1 : Nat → Nat} {a0 : Nat} {r1 : Option Nat}, zOk h1 → zTy h1 a0 5 → rf h1 a0 = some (r1, h2) → zM l D tA B kn yX5_operand (ws_ yX5_operand cX5_operand 4 (Option.some (Jvm.ClassFile.FieldType.object "ThreeSnowballs$Node"))) FF LL h1 ad1 [.ref (ad1 a0)] h2 (zRq D tA B h1 ad1 50 r1 h2)) (hd : decode cc pc = .ok (.invokevirtual 66, 3)) (hO : zOk h) (hE : zEx h0 h) (t_a0 : zTy h a0 5) (hR : (FF + 9) + 1 ≤ (zRm Fr Lo h0).frames ∧ 16 + (2 + 11) + (LL + 308) ≤ (zRm Fr Lo h0).locals) (hf : X5_all_o rf h a0 = some (r, h1)) (hr : (rest.map fun v => v.category).sum ≤ 16) (kk : zOk h1 → zEx h h1 → zTo h1 r 50 → ∀ u, zA h ad u → ZW p l e (zRm Fr Lo h0) s m args below meth c Q D tA B nL (zc h0) (zs h0) u (pc + 3) h1 lv (va_re u r :: rest)) : ZW p l e (zRm Fr Lo h0) s m args below meth c Q D tA B nL (zc h0) (zs h0) ad pc h lv (.ref (ad a0) :: rest) := 
  z_dq ⟨hE.2.1, hE.2.2.1⟩ (fun H locs ls hw hl => z_runV (q := a0) (ci := 5) F (mX5_all_o F.2.2.2.2.2.1 hrf hO t_a0 hf) (zCw.of 0 F.ts q604 q105 (by decide +kernel) hR) (Or.inl q601) q603 qs11 rfl (by decide) t_a0.1 (zTy.tg t_a0 (by decide)) rfl hr hd hw hl (z_fit hE hO)) kk
def X5_either_o_b5 (a0 : Nat) (rf : Hp → Nat → Option (Option Nat × Hp)) (j46_5 : Hp → Option Nat → Option (Option Nat × Hp)) (k5_8 : Hp → Option Nat → Option (Option Nat × Hp)) (h6 : Hp) (o7 : Option Nat) : Option (Option Nat × Hp) :=
  if 0 ≤ (zi h6 a0 1) then (j46_5 h6 o7) else (bd (X5_here h6 a0) fun r11 h10 => if r11 = (124 : Int32) then (nm ((zi h10 a0 0) + (1 : Int32) : Int32) fun v13 => nm (zsi h10 a0 0 v13) fun h14 => bd (X5_all_o rf h14 a0) fun r16 h15 => bd (X5_joined h15 a0 (124 : Int32) o7 r16) fun r18 h17 => k5_8 h17 r18) else (j46_5 h10 o7))
def X5_either_o (rf : Hp → Nat → Option (Option Nat × Hp)) (h : Hp) (a0 : Nat) : Option (Option Nat × Hp) :=
  bd (X5_all_o rf h a0) fun r2 h1 => nm (fun (h3 : Hp) (o4 : Option Nat) => some (o4, h3)) fun j46_5 => zfix (fun _ _ => none) (X5_either_o_b5 a0 rf j46_5) zFU h1 r2
set_option maxHeartbeats 4000000 in
theorem mX5_either_o {l : Launch} {D : va_G} {tA : Nat → ClassId} {B : Nat} {kn : State → Prop} {h hE : Hp} {ad : Nat → Nat} {a0 : Nat} {r : Option Nat} (hkp : zKp D tA B kn) {rf : Hp → Nat → Option (Option Nat × Hp)} {FF LL : Nat} (hrf : ∀ {h1 h2 : Hp} {ad1 : Nat → Nat} {a0 : Nat} {r1 : Option Nat}, zOk h1 → zTy h1 a0 5 → rf h1 a0 = some (r1, h2) → zM l D tA B kn yX5_operand (ws_ yX5_operand cX5_operand 4 (Option.some (Jvm.ClassFile.FieldType.object "ThreeSnowballs$Node"))) FF LL h1 ad1 [.ref (ad1 a0)] h2 (zRq D tA B h1 ad1 50 r1 h2)) (hO_h : zOk h) (t_a0 : zTy h a0 5) (hf : X5_either_o rf h a0 = some (r, hE)) : zM l D tA B kn yX5_either (ws_ yX5_either cX5_either 2 (Option.some (Jvm.ClassFile.FieldType.object "ThreeSnowballs$Node"))) (FF + 10) (LL + 337) h ad [.ref (ad a0)] hE (zRq D tA B h ad 50 r hE) := by
  refine zM_of hkp (by decide +kernel) (Nat.le_of_ble_eq_true rfl) ?_
  intro p e s m args below meth c F hnm
  show ZW p l e (zRm (FF + 10) (LL + 337) h) s m args below meth c (MQ below (zRq D tA B h ad 50 r hE) args s (zc hE - zc h) (zs hE - zs h) (fun q => B ≤ q)) D tA B 2 (zc h) (zs h) ad 0 h [(0, .ref (ad a0))] []
  replace hf := (X5_either_o.eq_1 rf h a0).symm.trans hf
  refine w_aload_n F dX5_either_0 0 rfl ?_
  replace hf := bd_o hf
  obtain ⟨r2, h1, qh1, hf⟩ := hf
  refine cl_X5_66_o F hrf dX5_either_1 hO_h (zEx.rf h) (t_a0) (by constructor <;> (simp only [zRm]; omega)) qh1 (Nat.le_of_ble_eq_true rfl) (fun hO_h1 Eh1 t_r2 ad_h1 hA_h1 => ?_)
  rw [← hA_h1 a0 (t_a0.1)]
  have t_a0 := t_a0.ex Eh1
  refine w_astoreo_n (i := 1) (lv' := [(1, va_re ad_h1 r2), (0, .ref (ad_h1 a0))]) F dX5_either_4 rfl (by decide) rfl ?_
  replace hf := nm_o hf
  obtain ⟨j46_5, ej46_5, hf⟩ := hf
  have Jj46_5 : ∀ (h3 : Hp) (o4 : Option Nat), ∀ ad_h3 : Nat → Nat, zOk h3 → zEx h1 h3 → zA h1 ad_h1 ad_h3 → zTo h3 o4 50 → j46_5 h3 o4 = some (r, hE) → ZW p l e (zRm (FF + 10) (LL + 337) h) s m args below meth c (MQ below (zRq D tA B h ad 50 r hE) args s (zc hE - zc h) (zs hE - zs h) (fun q => B ≤ q)) D tA B 2 (zc h) (zs h) ad_h3 46 h3 [(1, va_re ad_h3 o4)] [] := by
    clear hf
    intro h3 o4 ad_h3 hO_h3 hX_h3 hA_h3 t_o4 hf
    subst ej46_5
    refine w_aloado_n F dX5_either_46 0 rfl ?_
    obtain ⟨rfl, rfl⟩ := ret_o hf
    exact z_areD (o := o4) F dX5_either_47 hO_h3 ((Eh1).tr hX_h3) ((hA_h1).tr Eh1 hA_h3) t_o4
  have L5_18 : ∀ (n : Nat) (h6 : Hp) (o7 : Option Nat), ∀ ad_h6 : Nat → Nat, zOk h6 → zEx h1 h6 → zA h1 ad_h1 ad_h6 → zTo h6 o7 50 → zfix (fun _ _ => none) (X5_either_o_b5 a0 rf j46_5) n h6 o7 = some (r, hE) → ZW p l e (zRm (FF + 10) (LL + 337) h) s m args below meth c (MQ below (zRq D tA B h ad 50 r hE) args s (zc hE - zc h) (zs hE - zs h) (fun q => B ≤ q)) D tA B 2 (zc h) (zs h) ad_h6 5 h6 [(0, .ref (ad_h6 a0)), (1, va_re ad_h6 o7)] [] := by
    clear hf
    intro n
    induction n with
    | zero =>
      intros
      rename_i hf
      cases hf
    | succ n ih =>
      intro h6 o7 ad_h6 hO_h6 hX_h6 hA_h6 t_o7 hf
      have t_a0 := t_a0.ex hX_h6
      replace hf := (X5_either_o_b5.eq_1 a0 rf j46_5 (zfix (fun _ _ => none) (X5_either_o_b5 a0 rf j46_5) n) h6 o7).symm.trans hf
      refine w_aload_n F dX5_either_5 0 rfl ?_
      refine gf_X5_15 F dX5_either_6 hO_h6 (t_a0) ?_
      refine w_if_ge (tgt := 46) F dX5_either_9 (by decide) (fun c9 => ?_) (fun c9 => ?_)
      · replace hf := if_t c9 hf
        refine z_sub (lv' := [(1, va_re ad_h6 o7)]) [1] rfl ?_
        exact Jj46_5 h6 o7 ad_h6 hO_h6 hX_h6 hA_h6 t_o7 hf
      · replace hf := if_f c9 hf
        refine w_aload_n F dX5_either_12 0 rfl ?_
        replace hf := bd_o hf
        obtain ⟨r11, h10, qh10, hf⟩ := hf
        refine cl_X5_29 F dX5_either_13 hO_h6 ((Eh1).tr hX_h6) (t_a0) (by constructor <;> (simp only [zRm]; omega)) qh10 (Nat.le_of_ble_eq_true rfl) (fun hO_h10 Eh10 => ?_)
        have t_a0 := t_a0.ex Eh10
        have t_o7 := t_o7.ex Eh10
        refine w_bipush (v := 124) F dX5_either_16 rfl ?_
        refine w_icmp_ne (tgt := 46) F dX5_either_18 (by decide) (fun c12 => ?_) (fun c12 => ?_)
        · replace hf := if_f c12 hf
          refine z_sub (lv' := [(1, va_re ad_h6 o7)]) [1] rfl ?_
          exact Jj46_5 h10 o7 ad_h6 hO_h10 ((hX_h6).tr Eh10) hA_h6 t_o7 hf
        · replace hf := if_t c12 hf
          refine w_aload_n F dX5_either_21 0 rfl ?_
          refine w_dup F dX5_either_22 rfl ?_
          refine gf_X5_19 F dX5_either_23 hO_h10 (t_a0) ?_
          refine w_iconst (v := 1) F dX5_either_26 rfl ?_
          refine w_iadd F dX5_either_27 ?_
          replace hf := nm_o hf
          obtain ⟨v13, ev13, hf⟩ := hf
          refine w_ni ev13 ?_
          refine pf_X5_19 F dX5_either_28 hO_h10 (t_a0) ?_
          replace hf := nm_o hf
          obtain ⟨h14, eh14, hf⟩ := hf
          refine w_nh eh14 ?_
          have Eh14 : zEx h10 h14 := by rw [eh14]; exact zEx.si
          have hO_h14 : zOk h14 := by rw [eh14]; exact hO_h10.si
          have t_a0 := t_a0.ex Eh14
          have t_o7 := t_o7.ex Eh14
          refine w_aload_n F dX5_either_31 0 rfl ?_
          refine w_bipush (v := 124) F dX5_either_32 rfl ?_
          refine w_aloado_n F dX5_either_34 1 rfl ?_
          refine w_aload_n F dX5_either_35 0 rfl ?_
          replace hf := bd_o hf
          obtain ⟨r16, h15, qh15, hf⟩ := hf
          refine cl_X5_66_o F hrf dX5_either_36 hO_h14 ((((Eh1).tr hX_h6).tr Eh10).tr Eh14) (t_a0) (by constructor <;> (simp only [zRm]; omega)) qh15 (by simp only [List.map_cons, List.map_nil, zcat]; exact Nat.le_of_ble_eq_true rfl) (fun hO_h15 Eh15 t_r16 ad_h15 hA_h15 => ?_)
          rw [← hA_h15 a0 (t_a0.1)]
          rw [← zA.re hA_h15 t_o7]
          have t_a0 := t_a0.ex Eh15
          have t_o7 := t_o7.ex Eh15
          replace hf := bd_o hf
          obtain ⟨r18, h17, qh17, hf⟩ := hf
          refine cl_X5_69 F dX5_either_39 hO_h15 (((((Eh1).tr hX_h6).tr Eh10).tr Eh14).tr Eh15) (t_a0) t_o7 t_r16 (by constructor <;> (simp only [zRm]; omega)) qh17 (Nat.le_of_ble_eq_true rfl) (fun hO_h17 Eh17 t_r18 ad_h17 hA_h17 => ?_)
          rw [← hA_h17 a0 (t_a0.1)]
          rw [← zA.re hA_h17 t_o7]
          have t_a0 := t_a0.ex Eh17
          have t_o7 := t_o7.ex Eh17
          have t_r16 := t_r16.ex Eh17
          refine w_astoreo_n (i := 1) (lv' := [(1, va_re ad_h17 r18), (0, .ref (ad_h17 a0))]) F dX5_either_42 rfl (by decide) rfl ?_
          refine w_goto (tgt := 5) F dX5_either_43 (by decide) ?_
          refine z_sub (lv' := [(0, .ref (ad_h17 a0)), (1, va_re ad_h17 r18)]) [1, 0] rfl ?_
          exact ih h17 r18 ad_h17 hO_h17 (((((hX_h6).tr Eh10).tr Eh14).tr Eh15).tr Eh17) (((hA_h6).tr (((hX_h6).tr Eh10).tr Eh14) hA_h15).tr ((((hX_h6).tr Eh10).tr Eh14).tr Eh15) hA_h17) t_r18 hf
  refine z_sub (lv' := [(0, .ref (ad_h1 a0)), (1, va_re ad_h1 r2)]) [1, 0] rfl ?_
  exact L5_18 zFU h1 r2 ad_h1 hO_h1 (zEx.rf h1) zA.rf t_r2 hf
theorem cl_X5_102 {p : Program} {l : Launch} {e : Env} {s : State} {m : MethodId} {args : Array Value} {below : List Frame} {meth : Method} {c : Code} {Q : State → Prop} {D : va_G} {tA : Nat → ClassId} {B nL : Nat} {ad : Nat → Nat} {kn : State → Prop} {cc : ByteArray} {ret : Option FieldType} {pc : Nat} {h : Hp} {lv : List (Nat × Value)} {Fr Lo : Nat} {h0 h1 : Hp} {rest : List Value} {a0 : Nat} {x1 : Int32} (F : ZF p s m args meth c D tA B nL kn RX5 cc ret) (hd : decode cc pc = .ok (.invokespecial 102, 3)) (hO : zOk h) (hE : zEx h0 h) (t_a0 : zTy h a0 8) (hR : 2 + 1 ≤ (zRm Fr Lo h0).frames ∧ 16 + (2 + 11) + 56 ≤ (zRm Fr Lo h0).locals) (hf : X8_init h a0 x1 = some ((), h1)) (hr : (rest.map fun v => v.category).sum ≤ 16) (kk : zOk h1 → zEx h h1 → ZW p l e (zRm Fr Lo h0) s m args below meth c Q D tA B nL (zc h0) (zs h0) ad (pc + 3) h1 lv (rest)) : ZW p l e (zRm Fr Lo h0) s m args below meth c Q D tA B nL (zc h0) (zs h0) ad pc h lv (.int x1 :: .ref (ad a0) :: rest) := 
  z_cv ⟨hE.2.1, hE.2.2.1⟩ (fun H locs ls hw hl => z_runI F (mX8_init F.2.2.2.2.2.1 hO t_a0 hf) (zCw.of 1 F.ts q720 q113 (by decide +kernel) hR) (Or.inl q718) rfl q719 rfl hr hd hw hl (z_fit hE hO)) kk
theorem cl_X5_105 {p : Program} {l : Launch} {e : Env} {s : State} {m : MethodId} {args : Array Value} {below : List Frame} {meth : Method} {c : Code} {Q : State → Prop} {D : va_G} {tA : Nat → ClassId} {B nL : Nat} {ad : Nat → Nat} {kn : State → Prop} {cc : ByteArray} {ret : Option FieldType} {pc : Nat} {h : Hp} {lv : List (Nat × Value)} {Fr Lo : Nat} {h0 h1 : Hp} {rest : List Value} {a0 : Nat} {r : Int32} (F : ZF p s m args meth c D tA B nL kn RX5 cc ret) (hd : decode cc pc = .ok (.invokevirtual 105, 3)) (hO : zOk h) (hE : zEx h0 h) (t_a0 : zTy h a0 5) (hR : 0 + 1 ≤ (zRm Fr Lo h0).frames ∧ 16 + (1 + 11) + 0 ≤ (zRm Fr Lo h0).locals) (hf : X5_opens h a0 = some (r, h1)) (hr : (rest.map fun v => v.category).sum ≤ 16) (kk : zOk h1 → zEx h h1 → narrow .boolean (.int r) = .int r → ZW p l e (zRm Fr Lo h0) s m args below meth c Q D tA B nL (zc h0) (zs h0) ad (pc + 3) h1 lv (.int r :: rest)) : ZW p l e (zRm Fr Lo h0) s m args below meth c Q D tA B nL (zc h0) (zs h0) ad pc h lv (.ref (ad a0) :: rest) := 
  z_cz ⟨hE.2.1, hE.2.2.1⟩ (fun H locs ls hw hl => z_runV (q := a0) (ci := 5) F (mX5_opens F.2.2.2.2.2.1 hO t_a0 hf) (zCw.of 0 F.ts q732 q105 (by decide +kernel) hR) (Or.inl q729) q731 qs18 rfl (by decide) t_a0.1 (zTy.tg t_a0 (by decide)) rfl hr hd hw hl (z_fit hE hO)) kk
theorem cl_X5_109 {p : Program} {l : Launch} {e : Env} {s : State} {m : MethodId} {args : Array Value} {below : List Frame} {meth : Method} {c : Code} {Q : State → Prop} {D : va_G} {tA : Nat → ClassId} {B nL : Nat} {ad : Nat → Nat} {kn : State → Prop} {cc : ByteArray} {ret : Option FieldType} {pc : Nat} {h : Hp} {lv : List (Nat × Value)} {Fr Lo : Nat} {h0 h1 : Hp} {rest : List Value} {a0 : Nat} {r : Option Nat} (F : ZF p s m args meth c D tA B nL kn RX5 cc ret) (hd : decode cc pc = .ok (.invokevirtual 109, 3)) (hO : zOk h) (hE : zEx h0 h) (t_a0 : zTy h a0 5) (hR : 0 + 1 ≤ (zRm Fr Lo h0).frames ∧ 16 + (1 + 11) + 0 ≤ (zRm Fr Lo h0).locals) (hf : X5_wrong h a0 = some (r, h1)) (hr : (rest.map fun v => v.category).sum ≤ 16) (kk : zOk h1 → zEx h h1 → zTo h1 r 50 → ∀ u, zA h ad u → ZW p l e (zRm Fr Lo h0) s m args below meth c Q D tA B nL (zc h0) (zs h0) u (pc + 3) h1 lv (va_re u r :: rest)) : ZW p l e (zRm Fr Lo h0) s m args below meth c Q D tA B nL (zc h0) (zs h0) ad pc h lv (.ref (ad a0) :: rest) := 
  z_dq ⟨hE.2.1, hE.2.2.1⟩ (fun H locs ls hw hl => z_runV (q := a0) (ci := 5) F (mX5_wrong F.2.2.2.2.2.1 hO t_a0 hf) (zCw.of 0 F.ts q736 q105 (by decide +kernel) hR) (Or.inl q733) q735 qs19 rfl (by decide) t_a0.1 (zTy.tg t_a0 (by decide)) rfl hr hd hw hl (z_fit hE hO)) kk
theorem cl_X5_114 {p : Program} {l : Launch} {e : Env} {s : State} {m : MethodId} {args : Array Value} {below : List Frame} {meth : Method} {c : Code} {Q : State → Prop} {D : va_G} {tA : Nat → ClassId} {B nL : Nat} {ad : Nat → Nat} {kn : State → Prop} {cc : ByteArray} {ret : Option FieldType} {pc : Nat} {h : Hp} {lv : List (Nat × Value)} {Fr Lo : Nat} {h0 h1 : Hp} {rest : List Value} {a0 : Nat} {x1 : Option Nat} (F : ZF p s m args meth c D tA B nL kn RX5 cc ret) (hd : decode cc pc = .ok (.invokespecial 114, 3)) (hO : zOk h) (hE : zEx h0 h) (t_a0 : zTy h a0 9) (t_x1 : zTo h x1 50) (hR : 2 + 1 ≤ (zRm Fr Lo h0).frames ∧ 16 + (2 + 11) + 56 ≤ (zRm Fr Lo h0).locals) (hf : X9_init h a0 x1 = some ((), h1)) (hr : (rest.map fun v => v.category).sum ≤ 16) (kk : zOk h1 → zEx h h1 → ZW p l e (zRm Fr Lo h0) s m args below meth c Q D tA B nL (zc h0) (zs h0) ad (pc + 3) h1 lv (rest)) : ZW p l e (zRm Fr Lo h0) s m args below meth c Q D tA B nL (zc h0) (zs h0) ad pc h lv (va_re ad x1 :: .ref (ad a0) :: rest) := 
  z_cv ⟨hE.2.1, hE.2.2.1⟩ (fun H locs ls hw hl => z_runI F (mX9_init F.2.2.2.2.2.1 hO t_a0 t_x1 hf) (zCw.of 1 F.ts q741 q114 (by decide +kernel) hR) (Or.inl q739) rfl q740 rfl hr hd hw hl (z_fit hE hO)) kk
theorem cl_X5_119 {p : Program} {l : Launch} {e : Env} {s : State} {m : MethodId} {args : Array Value} {below : List Frame} {meth : Method} {c : Code} {Q : State → Prop} {D : va_G} {tA : Nat → ClassId} {B nL : Nat} {ad : Nat → Nat} {kn : State → Prop} {cc : ByteArray} {ret : Option FieldType} {pc : Nat} {h : Hp} {lv : List (Nat × Value)} {Fr Lo : Nat} {h0 h1 : Hp} {rest : List Value} {a0 : Nat} {x1 : Option Nat} (F : ZF p s m args meth c D tA B nL kn RX5 cc ret) (hd : decode cc pc = .ok (.invokespecial 119, 3)) (hO : zOk h) (hE : zEx h0 h) (t_a0 : zTy h a0 10) (t_x1 : zTo h x1 50) (hR : 2 + 1 ≤ (zRm Fr Lo h0).frames ∧ 16 + (2 + 11) + 56 ≤ (zRm Fr Lo h0).locals) (hf : X10_init h a0 x1 = some ((), h1)) (hr : (rest.map fun v => v.category).sum ≤ 16) (kk : zOk h1 → zEx h h1 → ZW p l e (zRm Fr Lo h0) s m args below meth c Q D tA B nL (zc h0) (zs h0) ad (pc + 3) h1 lv (rest)) : ZW p l e (zRm Fr Lo h0) s m args below meth c Q D tA B nL (zc h0) (zs h0) ad pc h lv (va_re ad x1 :: .ref (ad a0) :: rest) := 
  z_cv ⟨hE.2.1, hE.2.2.1⟩ (fun H locs ls hw hl => z_runI F (mX10_init F.2.2.2.2.2.1 hO t_a0 t_x1 hf) (zCw.of 1 F.ts q751 q115 (by decide +kernel) hR) (Or.inl q749) rfl q750 rfl hr hd hw hl (z_fit hE hO)) kk
theorem cl_X5_120 {p : Program} {l : Launch} {e : Env} {s : State} {m : MethodId} {args : Array Value} {below : List Frame} {meth : Method} {c : Code} {Q : State → Prop} {D : va_G} {tA : Nat → ClassId} {B nL : Nat} {ad : Nat → Nat} {kn : State → Prop} {cc : ByteArray} {ret : Option FieldType} {pc : Nat} {h : Hp} {lv : List (Nat × Value)} {Fr Lo : Nat} {h0 h1 : Hp} {rest : List Value} {x0 : Int32} {x1 : Int32} {x2 : Int32} {r : Int32} (F : ZF p s m args meth c D tA B nL kn RX5 cc ret) (hd : decode cc pc = .ok (.invokestatic 120, 3)) (hO : zOk h) (hE : zEx h0 h)  (hR : 0 + 1 ≤ (zRm Fr Lo h0).frames ∧ 16 + (3 + 11) + 0 ≤ (zRm Fr Lo h0).locals) (hf : X0_in h x0 x1 x2 = some (r, h1)) (hr : (rest.map fun v => v.category).sum ≤ 16) (kk : zOk h1 → zEx h h1 → narrow .boolean (.int r) = .int r → ZW p l e (zRm Fr Lo h0) s m args below meth c Q D tA B nL (zc h0) (zs h0) ad (pc + 3) h1 lv (.int r :: rest)) : ZW p l e (zRm Fr Lo h0) s m args below meth c Q D tA B nL (zc h0) (zs h0) ad pc h lv (.int x2 :: .int x1 :: .int x0 :: rest) := 
  z_cz ⟨hE.2.1, hE.2.2.1⟩ (fun H locs ls hw hl => z_runS F (mX0_in F.2.2.2.2.2.1 hO  hf) (zCw.of 3 F.ts q302 q92 (by decide +kernel) hR) (Or.inr ⟨_, zNW_of q757 rfl⟩) q301 rfl hr hd hw hl (z_fit hE hO)) kk
theorem cl_X5_126 {p : Program} {l : Launch} {e : Env} {s : State} {m : MethodId} {args : Array Value} {below : List Frame} {meth : Method} {c : Code} {Q : State → Prop} {D : va_G} {tA : Nat → ClassId} {B nL : Nat} {ad : Nat → Nat} {kn : State → Prop} {cc : ByteArray} {ret : Option FieldType} {pc : Nat} {h : Hp} {lv : List (Nat × Value)} {Fr Lo : Nat} {h0 h1 : Hp} {rest : List Value} {a0 : Nat} {x1 : Int32} (F : ZF p s m args meth c D tA B nL kn RX5 cc ret) (hd : decode cc pc = .ok (.invokespecial 126, 3)) (hO : zOk h) (hE : zEx h0 h) (t_a0 : zTy h a0 11) (hR : 2 + 1 ≤ (zRm Fr Lo h0).frames ∧ 16 + (2 + 11) + 56 ≤ (zRm Fr Lo h0).locals) (hf : X11_init h a0 x1 = some ((), h1)) (hr : (rest.map fun v => v.category).sum ≤ 16) (kk : zOk h1 → zEx h h1 → ZW p l e (zRm Fr Lo h0) s m args below meth c Q D tA B nL (zc h0) (zs h0) ad (pc + 3) h1 lv (rest)) : ZW p l e (zRm Fr Lo h0) s m args below meth c Q D tA B nL (zc h0) (zs h0) ad pc h lv (.int x1 :: .ref (ad a0) :: rest) := 
  z_cv ⟨hE.2.1, hE.2.2.1⟩ (fun H locs ls hw hl => z_runI F (mX11_init F.2.2.2.2.2.1 hO t_a0 hf) (zCw.of 1 F.ts q762 q116 (by decide +kernel) hR) (Or.inl q760) rfl q761 rfl hr hd hw hl (z_fit hE hO)) kk
theorem cl_X5_50_o {p : Program} {l : Launch} {e : Env} {s : State} {m : MethodId} {args : Array Value} {below : List Frame} {meth : Method} {c : Code} {Q : State → Prop} {D : va_G} {tA : Nat → ClassId} {B nL : Nat} {ad : Nat → Nat} {kn : State → Prop} {cc : ByteArray} {ret : Option FieldType} {pc : Nat} {h : Hp} {lv : List (Nat × Value)} {Fr Lo : Nat} {h0 h1 : Hp} {rest : List Value} {a0 : Nat} {r : Option Nat} (F : ZF p s m args meth c D tA B nL kn RX5 cc ret) {rf : Hp → Nat → Option (Option Nat × Hp)} {FF LL : Nat} (hrf : ∀ {h1 h2 : Hp} {ad1 : Nat → Nat} {a0 : Nat} {r1 : Option Nat}, zOk h1 → zTy h1 a0 5 → rf h1 a0 = some (r1, h2) → zM l D tA B kn yX5_operand (ws_ yX5_operand cX5_operand 4 (Option.some (Jvm.ClassFile.FieldType.object "ThreeSnowballs$Node"))) FF LL h1 ad1 [.ref (ad1 a0)] h2 (zRq D tA B h1 ad1 50 r1 h2)) (hd : decode cc pc = .ok (.invokevirtual 50, 3)) (hO : zOk h) (hE : zEx h0 h) (t_a0 : zTy h a0 5) (hR : (FF + 10) + 1 ≤ (zRm Fr Lo h0).frames ∧ 16 + (2 + 11) + (LL + 337) ≤ (zRm Fr Lo h0).locals) (hf : X5_either_o rf h a0 = some (r, h1)) (hr : (rest.map fun v => v.category).sum ≤ 16) (kk : zOk h1 → zEx h h1 → zTo h1 r 50 → ∀ u, zA h ad u → ZW p l e (zRm Fr Lo h0) s m args below meth c Q D tA B nL (zc h0) (zs h0) u (pc + 3) h1 lv (va_re u r :: rest)) : ZW p l e (zRm Fr Lo h0) s m args below meth c Q D tA B nL (zc h0) (zs h0) ad pc h lv (.ref (ad a0) :: rest) := 
  z_dq ⟨hE.2.1, hE.2.2.1⟩ (fun H locs ls hw hl => z_runV (q := a0) (ci := 5) F (mX5_either_o F.2.2.2.2.2.1 hrf hO t_a0 hf) (zCw.of 0 F.ts q600 q105 (by decide +kernel) hR) (Or.inl q597) q599 qs10 rfl (by decide) t_a0.1 (zTy.tg t_a0 (by decide)) rfl hr hd hw hl (z_fit hE hO)) kk
def X5_operand_o_b179 (a0 : Nat) (j227_39 : Hp → Int32 → Int32 → Option (Option Nat × Hp)) (k179_61 : Hp → Int32 → Int32 → Option (Option Nat × Hp)) (h58 : Hp) (v59 : Int32) (v60 : Int32) : Option (Option Nat × Hp) :=
  if (4 : Int32) ≤ v59 then (j227_39 h58 v59 v60) else (bd (X5_here h58 a0) fun r64 h63 => bd (X0_in h63 r64 (48 : Int32) (57 : Int32)) fun r66 h65 => if r66 = 0 then (j227_39 h65 v59 v60) else (bd (X5_here h65 a0) fun r69 h68 => nm ((((10 : Int32) * v60) + r69) - (48 : Int32) : Int32) fun v70 => nm (v59 + (1 : Int32) : Int32) fun v71 => nm ((zi h68 a0 0) + (1 : Int32) : Int32) fun v72 => nm (zsi h68 a0 0 v72) fun h73 => k179_61 h73 v71 v70))
def X5_operand_o (rf : Hp → Nat → Option (Option Nat × Hp)) (h : Hp) (a0 : Nat) : Option (Option Nat × Hp) :=
  bd (X5_here h a0) fun r2 h1 => bd (X5_isOne h1 a0 ([104, 97, 116, 109, 110])) fun r5 h4 => if r5 = 0 then (nm (fun (h7 : Hp)  => bd (X5_opens h7 a0) fun r10 h9 => if r10 = 0 then (bd (X5_wrong h9 a0) fun r32 h31 => some (r32, h31)) else (bd (rf h9 a0) fun r13 h12 => nm ((zi h12 a0 2) - (1 : Int32) : Int32) fun v14 => nm (zsi h12 a0 2 v14) fun h15 => if (zi h15 a0 1) < 0 then (nm (fun (h17 : Hp) (o18 : Option Nat) => some (o18, h17)) fun j106_19 => if r2 = (33 : Int32) then (ck (zc h15 + 1 ≤ zLC ∧ zs h15 + 1 ≤ zLS) <| nm (zx h15) fun a27 => nm (zne h15 9 0 1) fun h28 => bd (X9_init h28 a27 r13) fun _ h29 => j106_19 h29 (some a27)) else (ck (zc h15 + 1 ≤ zLC ∧ zs h15 + 1 ≤ zLS) <| nm (zx h15) fun a22 => nm (zne h15 10 0 1) fun h23 => bd (X10_init h23 a22 r13) fun _ h24 => j106_19 h24 (some a22))) else (some (none, h15)))) fun j45_8 => if r2 = (33 : Int32) then (j45_8 h4 ) else (if r2 = (45 : Int32) then (j45_8 h4 ) else (if r2 = (40 : Int32) then (bd (X5_opens h4 a0) fun r76 h75 => if r76 = 0 then (bd (X5_wrong h75 a0) fun r91 h90 => some (r91, h90)) else (bd (X5_either_o rf h75 a0) fun r79 h78 => if (zi h78 a0 1) < 0 then (bd (X5_here h78 a0) fun r82 h81 => if r82 = (41 : Int32) then (nm ((zi h81 a0 0) + (1 : Int32) : Int32) fun v84 => nm (zsi h81 a0 0 v84) fun h85 => nm ((zi h85 a0 2) - (1 : Int32) : Int32) fun v86 => nm (zsi h85 a0 2 v86) fun h87 => some (r79, h87)) else (bd (X5_wrong h81 a0) fun r89 h88 => some (r89, h88))) else (some (none, h78)))) else (nm (fun (h36 : Hp) (v37 : Int32) (v38 : Int32) => nm (fun (h40 : Hp) (o41 : Option Nat) => some (o41, h40)) fun j260_42 => nm (fun (h43 : Hp)  => bd (X5_wrong h43 a0) fun r46 h45 => j260_42 h45 r46) fun j245_44 => if v37 = 0 then (j245_44 h36 ) else (bd (X5_here h36 a0) fun r49 h48 => bd (X0_in h48 r49 (48 : Int32) (57 : Int32)) fun r51 h50 => if r51 = 0 then (ck (zc h50 + 1 ≤ zLC ∧ zs h50 + 1 ≤ zLS) <| nm (zx h50) fun a54 => nm (zne h50 11 0 1) fun h55 => bd (X11_init h55 a54 v38) fun _ h56 => j260_42 h56 (some a54)) else (j245_44 h50 ))) fun j227_39 => zfix (fun _ _ _ => none) (X5_operand_o_b179 a0 j227_39) zFU h4 (0 : Int32) (0 : Int32))))) else (nm ((zi h4 a0 0) + (1 : Int32) : Int32) fun v92 => nm (zsi h4 a0 0 v92) fun h93 => ck (zc h93 + 1 ≤ zLC ∧ zs h93 + 1 ≤ zLS) <| nm (zx h93) fun a95 => nm (zne h93 8 0 1) fun h96 => bd (X8_init h96 a95 r2) fun _ h97 => some (some a95, h97))
set_option maxHeartbeats 4000000 in
theorem mX5_operand_o {l : Launch} {D : va_G} {tA : Nat → ClassId} {B : Nat} {kn : State → Prop} {h hE : Hp} {ad : Nat → Nat} {a0 : Nat} {r : Option Nat} (hkp : zKp D tA B kn) {rf : Hp → Nat → Option (Option Nat × Hp)} {FF LL : Nat} (hrf : ∀ {h1 h2 : Hp} {ad1 : Nat → Nat} {a0 : Nat} {r1 : Option Nat}, zOk h1 → zTy h1 a0 5 → rf h1 a0 = some (r1, h2) → zM l D tA B kn yX5_operand (ws_ yX5_operand cX5_operand 4 (Option.some (Jvm.ClassFile.FieldType.object "ThreeSnowballs$Node"))) FF LL h1 ad1 [.ref (ad1 a0)] h2 (zRq D tA B h1 ad1 50 r1 h2)) (hO_h : zOk h) (t_a0 : zTy h a0 5) (hf : X5_operand_o rf h a0 = some (r, hE)) : zM l D tA B kn yX5_operand (ws_ yX5_operand cX5_operand 4 (Option.some (Jvm.ClassFile.FieldType.object "ThreeSnowballs$Node"))) (FF + 11) (LL + 366) h ad [.ref (ad a0)] hE (zRq D tA B h ad 50 r hE) := by
  refine zM_of hkp (by decide +kernel) (Nat.le_of_ble_eq_true rfl) ?_
  intro p e s m args below meth c F hnm
  show ZW p l e (zRm (FF + 11) (LL + 366) h) s m args below meth c (MQ below (zRq D tA B h ad 50 r hE) args s (zc hE - zc h) (zs hE - zs h) (fun q => B ≤ q)) D tA B 4 (zc h) (zs h) ad 0 h [(0, .ref (ad a0))] []
  replace hf := (X5_operand_o.eq_1 rf h a0).symm.trans hf
  refine w_aload_n F dX5_operand_0 0 rfl ?_
  replace hf := bd_o hf
  obtain ⟨r2, h1, qh1, hf⟩ := hf
  refine cl_X5_29 F dX5_operand_1 hO_h (zEx.rf h) (t_a0) (by constructor <;> (simp only [zRm]; omega)) qh1 (Nat.le_of_ble_eq_true rfl) (fun hO_h1 Eh1 => ?_)
  have t_a0 := t_a0.ex Eh1
  refine w_istore_n (i := 1) (lv' := [(1, .int r2), (0, .ref (ad a0))]) F dX5_operand_4 rfl (by decide) rfl ?_
  refine w_aload_n F dX5_operand_5 1 rfl ?_
  obtain ⟨w3, hR_w3, hT_w3⟩ := F.text (i := 0) (ix := 98) (tx := "hatmn") (txt := [104, 97, 116, 109, 110]) rfl
  refine w_ldcT F dX5_operand_6 hR_w3 ?_
  replace hf := bd_o hf
  obtain ⟨r5, h4, qh4, hf⟩ := hf
  refine cl_X5_81 F dX5_operand_8 hO_h1 Eh1 (t_a0) hT_w3 (by constructor <;> (simp only [zRm]; omega)) qh4 (Nat.le_of_ble_eq_true rfl) (fun hO_h4 Eh4 hz_r5 => ?_)
  have t_a0 := t_a0.ex Eh4
  refine w_if_eq (tgt := 33) F dX5_operand_11 (by decide) (fun c6 => ?_) (fun c6 => ?_)
  · replace hf := if_t c6 hf
    refine w_iload_n F dX5_operand_33 0 rfl ?_
    refine w_bipush (v := 33) F dX5_operand_34 rfl ?_
    replace hf := nm_o hf
    obtain ⟨j45_8, ej45_8, hf⟩ := hf
    have Jj45_8 : ∀ (h7 : Hp) , ∀ ad_h7 : Nat → Nat, zOk h7 → zEx h4 h7 → zA h4 ad ad_h7 → j45_8 h7  = some (r, hE) → ZW p l e (zRm (FF + 11) (LL + 366) h) s m args below meth c (MQ below (zRq D tA B h ad 50 r hE) args s (zc hE - zc h) (zs hE - zs h) (fun q => B ≤ q)) D tA B 4 (zc h) (zs h) ad_h7 45 h7 [(0, .ref (ad_h7 a0)), (1, .int r2)] [] := by
      clear hf
      intro h7 ad_h7 hO_h7 hX_h7 hA_h7  hf
      have t_a0 := t_a0.ex hX_h7
      subst ej45_8
      refine w_aload_n F dX5_operand_45 0 rfl ?_
      replace hf := bd_o hf
      obtain ⟨r10, h9, qh9, hf⟩ := hf
      refine cl_X5_105 F dX5_operand_46 hO_h7 (((Eh1).tr Eh4).tr hX_h7) (t_a0) (by constructor <;> (simp only [zRm]; omega)) qh9 (Nat.le_of_ble_eq_true rfl) (fun hO_h9 Eh9 hz_r10 => ?_)
      have t_a0 := t_a0.ex Eh9
      refine w_if_ne (tgt := 57) F dX5_operand_49 (by decide) (fun c11 => ?_) (fun c11 => ?_)
      · replace hf := if_f c11 hf
        refine w_aload_n F dX5_operand_57 0 rfl ?_
        replace hf := bd_o hf
        obtain ⟨r13, h12, qh12, hf⟩ := hf
        refine cl_X5_90_o F hrf dX5_operand_58 hO_h9 ((((Eh1).tr Eh4).tr hX_h7).tr Eh9) (t_a0) (by constructor <;> (simp only [zRm]; omega)) qh12 (Nat.le_of_ble_eq_true rfl) (fun hO_h12 Eh12 t_r13 ad_h12 hA_h12 => ?_)
        rw [← hA_h12 a0 (t_a0.1)]
        have t_a0 := t_a0.ex Eh12
        refine w_astoreo_n (i := 2) (lv' := [(2, va_re ad_h12 r13), (0, .ref (ad_h12 a0)), (1, .int r2)]) F dX5_operand_61 rfl (by decide) rfl ?_
        refine w_aload_n F dX5_operand_62 1 rfl ?_
        refine w_dup F dX5_operand_63 rfl ?_
        refine gf_X5_95 F dX5_operand_64 hO_h12 (t_a0) ?_
        refine w_iconst (v := 1) F dX5_operand_67 rfl ?_
        refine w_isub F dX5_operand_68 ?_
        replace hf := nm_o hf
        obtain ⟨v14, ev14, hf⟩ := hf
        refine w_ni ev14 ?_
        refine pf_X5_95 F dX5_operand_69 hO_h12 (t_a0) ?_
        replace hf := nm_o hf
        obtain ⟨h15, eh15, hf⟩ := hf
        refine w_nh eh15 ?_
        have Eh15 : zEx h12 h15 := by rw [eh15]; exact zEx.si
        have hO_h15 : zOk h15 := by rw [eh15]; exact hO_h12.si
        have t_a0 := t_a0.ex Eh15
        have t_r13 := t_r13.ex Eh15
        refine w_aload_n F dX5_operand_72 1 rfl ?_
        refine gf_X5_15 F dX5_operand_73 hO_h15 (t_a0) ?_
        refine w_if_lt (tgt := 81) F dX5_operand_76 (by decide) (fun c16 => ?_) (fun c16 => ?_)
        · replace hf := if_t c16 hf
          refine w_iload_n F dX5_operand_81 2 rfl ?_
          refine w_bipush (v := 33) F dX5_operand_82 rfl ?_
          replace hf := nm_o hf
          obtain ⟨j106_19, ej106_19, hf⟩ := hf
          have Jj106_19 : ∀ (h17 : Hp) (o18 : Option Nat), ∀ ad_h17 : Nat → Nat, zOk h17 → zEx h15 h17 → zA h15 ad_h12 ad_h17 → zTo h17 o18 50 → j106_19 h17 o18 = some (r, hE) → ZW p l e (zRm (FF + 11) (LL + 366) h) s m args below meth c (MQ below (zRq D tA B h ad 50 r hE) args s (zc hE - zc h) (zs hE - zs h) (fun q => B ≤ q)) D tA B 4 (zc h) (zs h) ad_h17 106 h17 [] [va_re ad_h17 o18] := by
            clear hf
            intro h17 o18 ad_h17 hO_h17 hX_h17 hA_h17 t_o18 hf
            subst ej106_19
            obtain ⟨rfl, rfl⟩ := ret_o hf
            exact z_areD (o := o18) F dX5_operand_106 hO_h17 (((((((Eh1).tr Eh4).tr hX_h7).tr Eh9).tr Eh12).tr Eh15).tr hX_h17) ((((zA.rf).tr ((Eh1).tr Eh4) hA_h7).tr ((((Eh1).tr Eh4).tr hX_h7).tr Eh9) hA_h12).tr ((((((Eh1).tr Eh4).tr hX_h7).tr Eh9).tr Eh12).tr Eh15) hA_h17) t_o18
          refine w_icmp_ne (tgt := 98) F dX5_operand_84 (by decide) (fun c20 => ?_) (fun c20 => ?_)
          · replace hf := if_f c20 hf
            replace hf := ck_o hf
            obtain ⟨c21, hf⟩ := hf
            refine z_new (ci := 10) F hO_h15.1 ⟨((((((Eh1).tr Eh4).tr hX_h7).tr Eh9).tr Eh12).tr Eh15).2.1, ((((((Eh1).tr Eh4).tr hX_h7).tr Eh9).tr Eh12).tr Eh15).2.2.1⟩ rfl (by decide) in_X10 tyX10_ok (by decide) q747 q748 q115 (z_lim1 ((((((Eh1).tr Eh4).tr hX_h7).tr Eh9).tr Eh12).tr Eh15) c21) dX5_operand_98 (fun ad_h23 hA_h23 => ?_)
            rw [← hA_h23 a0 (t_a0.1)]
            rw [← zA.re hA_h23 t_r13]
            replace hf := nm_o hf
            obtain ⟨a22, ea22, hf⟩ := hf
            rw [← ea22]
            replace hf := nm_o hf
            obtain ⟨h23, eh23, hf⟩ := hf
            refine w_nh eh23 ?_
            have Eh23 : zEx h15 h23 := by rw [eh23]; exact zEx.ne
            have hO_h23 : zOk h23 := by rw [eh23]; exact hO_h15.ne (by decide) c21
            have t_a0 := t_a0.ex Eh23
            have t_r13 := t_r13.ex Eh23
            have t_a22 : zTy h23 a22 10 := by rw [eh23, ea22]; exact zTy.new (by decide)
            refine w_dup F dX5_operand_101 rfl ?_
            refine w_aloado_n F dX5_operand_102 0 rfl ?_
            replace hf := bd_o hf
            obtain ⟨r25, h24, qh24, hf⟩ := hf
            refine cl_X5_119 F dX5_operand_103 hO_h23 (((((((Eh1).tr Eh4).tr hX_h7).tr Eh9).tr Eh12).tr Eh15).tr Eh23) (t_a22) t_r13 (by constructor <;> (simp only [zRm]; omega)) qh24 (Nat.le_of_ble_eq_true rfl) (fun hO_h24 Eh24 => ?_)
            have t_a0 := t_a0.ex Eh24
            have t_r13 := t_r13.ex Eh24
            have t_a22 := t_a22.ex Eh24
            refine z_sub (lv' := []) [] rfl ?_
            exact Jj106_19 h24 (some a22) ad_h23 hO_h24 ((Eh23).tr Eh24) hA_h23 (zTo.of (zTy.up t_a22 (by decide))) hf
          · replace hf := if_t c20 hf
            replace hf := ck_o hf
            obtain ⟨c26, hf⟩ := hf
            refine z_new (ci := 9) F hO_h15.1 ⟨((((((Eh1).tr Eh4).tr hX_h7).tr Eh9).tr Eh12).tr Eh15).2.1, ((((((Eh1).tr Eh4).tr hX_h7).tr Eh9).tr Eh12).tr Eh15).2.2.1⟩ rfl (by decide) in_X9 tyX9_ok (by decide) q737 q738 q114 (z_lim1 ((((((Eh1).tr Eh4).tr hX_h7).tr Eh9).tr Eh12).tr Eh15) c26) dX5_operand_87 (fun ad_h28 hA_h28 => ?_)
            rw [← hA_h28 a0 (t_a0.1)]
            rw [← zA.re hA_h28 t_r13]
            replace hf := nm_o hf
            obtain ⟨a27, ea27, hf⟩ := hf
            rw [← ea27]
            replace hf := nm_o hf
            obtain ⟨h28, eh28, hf⟩ := hf
            refine w_nh eh28 ?_
            have Eh28 : zEx h15 h28 := by rw [eh28]; exact zEx.ne
            have hO_h28 : zOk h28 := by rw [eh28]; exact hO_h15.ne (by decide) c26
            have t_a0 := t_a0.ex Eh28
            have t_r13 := t_r13.ex Eh28
            have t_a27 : zTy h28 a27 9 := by rw [eh28, ea27]; exact zTy.new (by decide)
            refine w_dup F dX5_operand_90 rfl ?_
            refine w_aloado_n F dX5_operand_91 0 rfl ?_
            replace hf := bd_o hf
            obtain ⟨r30, h29, qh29, hf⟩ := hf
            refine cl_X5_114 F dX5_operand_92 hO_h28 (((((((Eh1).tr Eh4).tr hX_h7).tr Eh9).tr Eh12).tr Eh15).tr Eh28) (t_a27) t_r13 (by constructor <;> (simp only [zRm]; omega)) qh29 (Nat.le_of_ble_eq_true rfl) (fun hO_h29 Eh29 => ?_)
            have t_a0 := t_a0.ex Eh29
            have t_r13 := t_r13.ex Eh29
            have t_a27 := t_a27.ex Eh29
            refine w_goto (tgt := 106) F dX5_operand_95 (by decide) ?_
            refine z_sub (lv' := []) [] rfl ?_
            exact Jj106_19 h29 (some a27) ad_h28 hO_h29 ((Eh28).tr Eh29) hA_h28 (zTo.of (zTy.up t_a27 (by decide))) hf
        · replace hf := if_f c16 hf
          refine w_null F dX5_operand_79 ?_
          obtain ⟨rfl, rfl⟩ := ret_o hf
          exact z_areD (o := none) F dX5_operand_80 hO_h15 ((((((Eh1).tr Eh4).tr hX_h7).tr Eh9).tr Eh12).tr Eh15) (((zA.rf).tr ((Eh1).tr Eh4) hA_h7).tr ((((Eh1).tr Eh4).tr hX_h7).tr Eh9) hA_h12) zTo.nil
      · replace hf := if_t c11 hf
        refine w_aload_n F dX5_operand_52 0 rfl ?_
        replace hf := bd_o hf
        obtain ⟨r32, h31, qh31, hf⟩ := hf
        refine cl_X5_109 F dX5_operand_53 hO_h9 ((((Eh1).tr Eh4).tr hX_h7).tr Eh9) (t_a0) (by constructor <;> (simp only [zRm]; omega)) qh31 (Nat.le_of_ble_eq_true rfl) (fun hO_h31 Eh31 t_r32 ad_h31 hA_h31 => ?_)
        rw [← hA_h31 a0 (t_a0.1)]
        have t_a0 := t_a0.ex Eh31
        obtain ⟨rfl, rfl⟩ := ret_o hf
        exact z_areD (o := r32) F dX5_operand_56 hO_h31 (((((Eh1).tr Eh4).tr hX_h7).tr Eh9).tr Eh31) (((zA.rf).tr ((Eh1).tr Eh4) hA_h7).tr ((((Eh1).tr Eh4).tr hX_h7).tr Eh9) hA_h31) t_r32
    refine w_icmp_eq (tgt := 45) F dX5_operand_36 (by decide) (fun c33 => ?_) (fun c33 => ?_)
    · replace hf := if_t c33 hf
      refine z_sub (lv' := [(0, .ref (ad a0)), (1, .int r2)]) [1, 0] rfl ?_
      exact Jj45_8 h4  ad hO_h4 (zEx.rf h4) zA.rf  hf
    · replace hf := if_f c33 hf
      refine w_iload_n F dX5_operand_39 0 rfl ?_
      refine w_bipush (v := 45) F dX5_operand_40 rfl ?_
      refine w_icmp_ne (tgt := 107) F dX5_operand_42 (by decide) (fun c34 => ?_) (fun c34 => ?_)
      · replace hf := if_f c34 hf
        refine w_iload_n F dX5_operand_107 0 rfl ?_
        refine w_bipush (v := 40) F dX5_operand_108 rfl ?_
        refine w_icmp_ne (tgt := 175) F dX5_operand_110 (by decide) (fun c35 => ?_) (fun c35 => ?_)
        · replace hf := if_f c35 hf
          refine w_iconst (v := 0) F dX5_operand_175 rfl ?_
          refine w_istore_n (i := 2) (lv' := [(2, .int (0 : Int32)), (1, .int r2), (0, .ref (ad a0))]) F dX5_operand_176 rfl (by decide) rfl ?_
          refine w_iconst (v := 0) F dX5_operand_177 rfl ?_
          refine w_istore_n (i := 3) (lv' := [(3, .int (0 : Int32)), (2, .int (0 : Int32)), (1, .int r2), (0, .ref (ad a0))]) F dX5_operand_178 rfl (by decide) rfl ?_
          replace hf := nm_o hf
          obtain ⟨j227_39, ej227_39, hf⟩ := hf
          have Jj227_39 : ∀ (h36 : Hp) (v37 : Int32) (v38 : Int32), ∀ ad_h36 : Nat → Nat, zOk h36 → zEx h4 h36 → zA h4 ad ad_h36 → j227_39 h36 v37 v38 = some (r, hE) → ZW p l e (zRm (FF + 11) (LL + 366) h) s m args below meth c (MQ below (zRq D tA B h ad 50 r hE) args s (zc hE - zc h) (zs hE - zs h) (fun q => B ≤ q)) D tA B 4 (zc h) (zs h) ad_h36 227 h36 [(0, .ref (ad_h36 a0)), (2, .int v37), (3, .int v38)] [] := by
            clear hf
            intro h36 v37 v38 ad_h36 hO_h36 hX_h36 hA_h36  hf
            have t_a0 := t_a0.ex hX_h36
            subst ej227_39
            refine w_iload_n F dX5_operand_227 1 rfl ?_
            replace hf := nm_o hf
            obtain ⟨j260_42, ej260_42, hf⟩ := hf
            have Jj260_42 : ∀ (h40 : Hp) (o41 : Option Nat), ∀ ad_h40 : Nat → Nat, zOk h40 → zEx h36 h40 → zA h36 ad_h36 ad_h40 → zTo h40 o41 50 → j260_42 h40 o41 = some (r, hE) → ZW p l e (zRm (FF + 11) (LL + 366) h) s m args below meth c (MQ below (zRq D tA B h ad 50 r hE) args s (zc hE - zc h) (zs hE - zs h) (fun q => B ≤ q)) D tA B 4 (zc h) (zs h) ad_h40 260 h40 [] [va_re ad_h40 o41] := by
              clear hf
              intro h40 o41 ad_h40 hO_h40 hX_h40 hA_h40 t_o41 hf
              subst ej260_42
              obtain ⟨rfl, rfl⟩ := ret_o hf
              exact z_areD (o := o41) F dX5_operand_260 hO_h40 ((((Eh1).tr Eh4).tr hX_h36).tr hX_h40) (((zA.rf).tr ((Eh1).tr Eh4) hA_h36).tr (((Eh1).tr Eh4).tr hX_h36) hA_h40) t_o41
            replace hf := nm_o hf
            obtain ⟨j245_44, ej245_44, hf⟩ := hf
            have Jj245_44 : ∀ (h43 : Hp) , ∀ ad_h43 : Nat → Nat, zOk h43 → zEx h36 h43 → zA h36 ad_h36 ad_h43 → j245_44 h43  = some (r, hE) → ZW p l e (zRm (FF + 11) (LL + 366) h) s m args below meth c (MQ below (zRq D tA B h ad 50 r hE) args s (zc hE - zc h) (zs hE - zs h) (fun q => B ≤ q)) D tA B 4 (zc h) (zs h) ad_h43 245 h43 [(0, .ref (ad_h43 a0))] [] := by
              clear hf
              intro h43 ad_h43 hO_h43 hX_h43 hA_h43  hf
              have t_a0 := t_a0.ex hX_h43
              subst ej245_44
              refine w_aload_n F dX5_operand_245 0 rfl ?_
              replace hf := bd_o hf
              obtain ⟨r46, h45, qh45, hf⟩ := hf
              refine cl_X5_109 F dX5_operand_246 hO_h43 ((((Eh1).tr Eh4).tr hX_h36).tr hX_h43) (t_a0) (by constructor <;> (simp only [zRm]; omega)) qh45 (Nat.le_of_ble_eq_true rfl) (fun hO_h45 Eh45 t_r46 ad_h45 hA_h45 => ?_)
              rw [← hA_h45 a0 (t_a0.1)]
              have t_a0 := t_a0.ex Eh45
              refine w_goto (tgt := 260) F dX5_operand_249 (by decide) ?_
              refine z_sub (lv' := []) [] rfl ?_
              exact Jj260_42 h45 r46 ad_h45 hO_h45 ((hX_h43).tr Eh45) ((hA_h43).tr hX_h43 hA_h45) t_r46 hf
            refine w_if_eq (tgt := 245) F dX5_operand_228 (by decide) (fun c47 => ?_) (fun c47 => ?_)
            · replace hf := if_t c47 hf
              refine z_sub (lv' := [(0, .ref (ad_h36 a0))]) [0] rfl ?_
              exact Jj245_44 h36  ad_h36 hO_h36 (zEx.rf h36) zA.rf  hf
            · replace hf := if_f c47 hf
              refine w_aload_n F dX5_operand_231 0 rfl ?_
              replace hf := bd_o hf
              obtain ⟨r49, h48, qh48, hf⟩ := hf
              refine cl_X5_29 F dX5_operand_232 hO_h36 (((Eh1).tr Eh4).tr hX_h36) (t_a0) (by constructor <;> (simp only [zRm]; omega)) qh48 (Nat.le_of_ble_eq_true rfl) (fun hO_h48 Eh48 => ?_)
              have t_a0 := t_a0.ex Eh48
              refine w_bipush (v := 48) F dX5_operand_235 rfl ?_
              refine w_bipush (v := 57) F dX5_operand_237 rfl ?_
              replace hf := bd_o hf
              obtain ⟨r51, h50, qh50, hf⟩ := hf
              refine cl_X5_120 F dX5_operand_239 hO_h48 ((((Eh1).tr Eh4).tr hX_h36).tr Eh48) (by constructor <;> (simp only [zRm]; omega)) qh50 (Nat.le_of_ble_eq_true rfl) (fun hO_h50 Eh50 hz_r51 => ?_)
              have t_a0 := t_a0.ex Eh50
              refine w_if_eq (tgt := 252) F dX5_operand_242 (by decide) (fun c52 => ?_) (fun c52 => ?_)
              · replace hf := if_t c52 hf
                replace hf := ck_o hf
                obtain ⟨c53, hf⟩ := hf
                refine z_new (ci := 11) F hO_h50.1 ⟨(((((Eh1).tr Eh4).tr hX_h36).tr Eh48).tr Eh50).2.1, (((((Eh1).tr Eh4).tr hX_h36).tr Eh48).tr Eh50).2.2.1⟩ rfl (by decide) in_X11 tyX11_ok (by decide) q758 q759 q116 (z_lim1 (((((Eh1).tr Eh4).tr hX_h36).tr Eh48).tr Eh50) c53) dX5_operand_252 (fun ad_h55 hA_h55 => ?_)
                rw [← hA_h55 a0 (t_a0.1)]
                replace hf := nm_o hf
                obtain ⟨a54, ea54, hf⟩ := hf
                rw [← ea54]
                replace hf := nm_o hf
                obtain ⟨h55, eh55, hf⟩ := hf
                refine w_nh eh55 ?_
                have Eh55 : zEx h50 h55 := by rw [eh55]; exact zEx.ne
                have hO_h55 : zOk h55 := by rw [eh55]; exact hO_h50.ne (by decide) c53
                have t_a0 := t_a0.ex Eh55
                have t_a54 : zTy h55 a54 11 := by rw [eh55, ea54]; exact zTy.new (by decide)
                refine w_dup F dX5_operand_255 rfl ?_
                refine w_iload_n F dX5_operand_256 2 rfl ?_
                replace hf := bd_o hf
                obtain ⟨r57, h56, qh56, hf⟩ := hf
                refine cl_X5_126 F dX5_operand_257 hO_h55 ((((((Eh1).tr Eh4).tr hX_h36).tr Eh48).tr Eh50).tr Eh55) (t_a54) (by constructor <;> (simp only [zRm]; omega)) qh56 (Nat.le_of_ble_eq_true rfl) (fun hO_h56 Eh56 => ?_)
                have t_a0 := t_a0.ex Eh56
                have t_a54 := t_a54.ex Eh56
                refine z_sub (lv' := []) [] rfl ?_
                exact Jj260_42 h56 (some a54) ad_h55 hO_h56 ((((Eh48).tr Eh50).tr Eh55).tr Eh56) ((zA.rf).tr ((Eh48).tr Eh50) hA_h55) (zTo.of (zTy.up t_a54 (by decide))) hf
              · replace hf := if_f c52 hf
                refine z_sub (lv' := [(0, .ref (ad_h36 a0))]) [0] rfl ?_
                exact Jj245_44 h50  ad_h36 hO_h50 ((Eh48).tr Eh50) zA.rf  hf
          have L179_73 : ∀ (n : Nat) (h58 : Hp) (v59 : Int32) (v60 : Int32), ∀ ad_h58 : Nat → Nat, zOk h58 → zEx h4 h58 → zA h4 ad ad_h58 → zfix (fun _ _ _ => none) (X5_operand_o_b179 a0 j227_39) n h58 v59 v60 = some (r, hE) → ZW p l e (zRm (FF + 11) (LL + 366) h) s m args below meth c (MQ below (zRq D tA B h ad 50 r hE) args s (zc hE - zc h) (zs hE - zs h) (fun q => B ≤ q)) D tA B 4 (zc h) (zs h) ad_h58 179 h58 [(0, .ref (ad_h58 a0)), (2, .int v59), (3, .int v60)] [] := by
            clear hf
            intro n
            induction n with
            | zero =>
              intros
              rename_i hf
              cases hf
            | succ n ih =>
              intro h58 v59 v60 ad_h58 hO_h58 hX_h58 hA_h58  hf
              have t_a0 := t_a0.ex hX_h58
              replace hf := (X5_operand_o_b179.eq_1 a0 j227_39 (zfix (fun _ _ _ => none) (X5_operand_o_b179 a0 j227_39) n) h58 v59 v60).symm.trans hf
              refine w_iload_n F dX5_operand_179 1 rfl ?_
              refine w_iconst (v := 4) F dX5_operand_180 rfl ?_
              refine w_icmp_ge (tgt := 227) F dX5_operand_181 (by decide) (fun c62 => ?_) (fun c62 => ?_)
              · replace hf := if_t c62 hf
                exact Jj227_39 h58 v59 v60 ad_h58 hO_h58 hX_h58 hA_h58  hf
              · replace hf := if_f c62 hf
                refine w_aload_n F dX5_operand_184 0 rfl ?_
                replace hf := bd_o hf
                obtain ⟨r64, h63, qh63, hf⟩ := hf
                refine cl_X5_29 F dX5_operand_185 hO_h58 (((Eh1).tr Eh4).tr hX_h58) (t_a0) (by constructor <;> (simp only [zRm]; omega)) qh63 (Nat.le_of_ble_eq_true rfl) (fun hO_h63 Eh63 => ?_)
                have t_a0 := t_a0.ex Eh63
                refine w_bipush (v := 48) F dX5_operand_188 rfl ?_
                refine w_bipush (v := 57) F dX5_operand_190 rfl ?_
                replace hf := bd_o hf
                obtain ⟨r66, h65, qh65, hf⟩ := hf
                refine cl_X5_120 F dX5_operand_192 hO_h63 ((((Eh1).tr Eh4).tr hX_h58).tr Eh63) (by constructor <;> (simp only [zRm]; omega)) qh65 (Nat.le_of_ble_eq_true rfl) (fun hO_h65 Eh65 hz_r66 => ?_)
                have t_a0 := t_a0.ex Eh65
                refine w_if_eq (tgt := 227) F dX5_operand_195 (by decide) (fun c67 => ?_) (fun c67 => ?_)
                · replace hf := if_t c67 hf
                  exact Jj227_39 h65 v59 v60 ad_h58 hO_h65 (((hX_h58).tr Eh63).tr Eh65) hA_h58  hf
                · replace hf := if_f c67 hf
                  refine w_bipush (v := 10) F dX5_operand_198 rfl ?_
                  refine w_iload_n F dX5_operand_200 2 rfl ?_
                  refine w_imul F dX5_operand_201 ?_
                  refine w_aload_n F dX5_operand_202 0 rfl ?_
                  replace hf := bd_o hf
                  obtain ⟨r69, h68, qh68, hf⟩ := hf
                  refine cl_X5_29 F dX5_operand_203 hO_h65 (((((Eh1).tr Eh4).tr hX_h58).tr Eh63).tr Eh65) (t_a0) (by constructor <;> (simp only [zRm]; omega)) qh68 (Nat.le_of_ble_eq_true rfl) (fun hO_h68 Eh68 => ?_)
                  have t_a0 := t_a0.ex Eh68
                  refine w_iadd F dX5_operand_206 ?_
                  refine w_bipush (v := 48) F dX5_operand_207 rfl ?_
                  refine w_isub F dX5_operand_209 ?_
                  replace hf := nm_o hf
                  obtain ⟨v70, ev70, hf⟩ := hf
                  refine w_ni ev70 ?_
                  refine w_istore_n (i := 3) (lv' := [(3, .int v70), (0, .ref (ad_h58 a0)), (2, .int v59)]) F dX5_operand_210 rfl (by decide) rfl ?_
                  replace hf := nm_o hf
                  obtain ⟨v71, ev71, hf⟩ := hf
                  refine w_iinc (i := 2) (v := v71) (lv' := [(2, .int v71), (3, .int v70), (0, .ref (ad_h58 a0))]) F dX5_operand_211 2 rfl (by rw [ev71]; rfl) (by decide) rfl ?_
                  refine w_aload_n F dX5_operand_214 2 rfl ?_
                  refine w_dup F dX5_operand_215 rfl ?_
                  refine gf_X5_19 F dX5_operand_216 hO_h68 (t_a0) ?_
                  refine w_iconst (v := 1) F dX5_operand_219 rfl ?_
                  refine w_iadd F dX5_operand_220 ?_
                  replace hf := nm_o hf
                  obtain ⟨v72, ev72, hf⟩ := hf
                  refine w_ni ev72 ?_
                  refine pf_X5_19 F dX5_operand_221 hO_h68 (t_a0) ?_
                  replace hf := nm_o hf
                  obtain ⟨h73, eh73, hf⟩ := hf
                  refine w_nh eh73 ?_
                  have Eh73 : zEx h68 h73 := by rw [eh73]; exact zEx.si
                  have hO_h73 : zOk h73 := by rw [eh73]; exact hO_h68.si
                  have t_a0 := t_a0.ex Eh73
                  refine w_goto (tgt := 179) F dX5_operand_224 (by decide) ?_
                  refine z_sub (lv' := [(0, .ref (ad_h58 a0)), (2, .int v71), (3, .int v70)]) [2, 0, 1] rfl ?_
                  exact ih h73 v71 v70 ad_h58 hO_h73 (((((hX_h58).tr Eh63).tr Eh65).tr Eh68).tr Eh73) hA_h58  hf
          refine z_sub (lv' := [(0, .ref (ad a0)), (2, .int (0 : Int32)), (3, .int (0 : Int32))]) [3, 1, 0] rfl ?_
          exact L179_73 zFU h4 (0 : Int32) (0 : Int32) ad hO_h4 (zEx.rf h4) zA.rf  hf
        · replace hf := if_t c35 hf
          refine w_aload_n F dX5_operand_113 1 rfl ?_
          replace hf := bd_o hf
          obtain ⟨r76, h75, qh75, hf⟩ := hf
          refine cl_X5_105 F dX5_operand_114 hO_h4 ((Eh1).tr Eh4) (t_a0) (by constructor <;> (simp only [zRm]; omega)) qh75 (Nat.le_of_ble_eq_true rfl) (fun hO_h75 Eh75 hz_r76 => ?_)
          have t_a0 := t_a0.ex Eh75
          refine w_if_ne (tgt := 125) F dX5_operand_117 (by decide) (fun c77 => ?_) (fun c77 => ?_)
          · replace hf := if_f c77 hf
            refine w_aload_n F dX5_operand_125 1 rfl ?_
            replace hf := bd_o hf
            obtain ⟨r79, h78, qh78, hf⟩ := hf
            refine cl_X5_50_o F hrf dX5_operand_126 hO_h75 (((Eh1).tr Eh4).tr Eh75) (t_a0) (by constructor <;> (simp only [zRm]; omega)) qh78 (Nat.le_of_ble_eq_true rfl) (fun hO_h78 Eh78 t_r79 ad_h78 hA_h78 => ?_)
            rw [← hA_h78 a0 (t_a0.1)]
            have t_a0 := t_a0.ex Eh78
            refine w_astoreo_n (i := 2) (lv' := [(2, va_re ad_h78 r79), (1, .int r2), (0, .ref (ad_h78 a0))]) F dX5_operand_129 rfl (by decide) rfl ?_
            refine w_aload_n F dX5_operand_130 2 rfl ?_
            refine gf_X5_15 F dX5_operand_131 hO_h78 (t_a0) ?_
            refine w_if_lt (tgt := 139) F dX5_operand_134 (by decide) (fun c80 => ?_) (fun c80 => ?_)
            · replace hf := if_t c80 hf
              refine w_aload_n F dX5_operand_139 2 rfl ?_
              replace hf := bd_o hf
              obtain ⟨r82, h81, qh81, hf⟩ := hf
              refine cl_X5_29 F dX5_operand_140 hO_h78 ((((Eh1).tr Eh4).tr Eh75).tr Eh78) (t_a0) (by constructor <;> (simp only [zRm]; omega)) qh81 (Nat.le_of_ble_eq_true rfl) (fun hO_h81 Eh81 => ?_)
              have t_a0 := t_a0.ex Eh81
              have t_r79 := t_r79.ex Eh81
              refine w_bipush (v := 41) F dX5_operand_143 rfl ?_
              refine w_icmp_eq (tgt := 153) F dX5_operand_145 (by decide) (fun c83 => ?_) (fun c83 => ?_)
              · replace hf := if_t c83 hf
                refine w_aload_n F dX5_operand_153 2 rfl ?_
                refine w_dup F dX5_operand_154 rfl ?_
                refine gf_X5_19 F dX5_operand_155 hO_h81 (t_a0) ?_
                refine w_iconst (v := 1) F dX5_operand_158 rfl ?_
                refine w_iadd F dX5_operand_159 ?_
                replace hf := nm_o hf
                obtain ⟨v84, ev84, hf⟩ := hf
                refine w_ni ev84 ?_
                refine pf_X5_19 F dX5_operand_160 hO_h81 (t_a0) ?_
                replace hf := nm_o hf
                obtain ⟨h85, eh85, hf⟩ := hf
                refine w_nh eh85 ?_
                have Eh85 : zEx h81 h85 := by rw [eh85]; exact zEx.si
                have hO_h85 : zOk h85 := by rw [eh85]; exact hO_h81.si
                have t_a0 := t_a0.ex Eh85
                have t_r79 := t_r79.ex Eh85
                refine w_aload_n F dX5_operand_163 2 rfl ?_
                refine w_dup F dX5_operand_164 rfl ?_
                refine gf_X5_95 F dX5_operand_165 hO_h85 (t_a0) ?_
                refine w_iconst (v := 1) F dX5_operand_168 rfl ?_
                refine w_isub F dX5_operand_169 ?_
                replace hf := nm_o hf
                obtain ⟨v86, ev86, hf⟩ := hf
                refine w_ni ev86 ?_
                refine pf_X5_95 F dX5_operand_170 hO_h85 (t_a0) ?_
                replace hf := nm_o hf
                obtain ⟨h87, eh87, hf⟩ := hf
                refine w_nh eh87 ?_
                have Eh87 : zEx h85 h87 := by rw [eh87]; exact zEx.si
                have hO_h87 : zOk h87 := by rw [eh87]; exact hO_h85.si
                have t_a0 := t_a0.ex Eh87
                have t_r79 := t_r79.ex Eh87
                refine w_aloado_n F dX5_operand_173 0 rfl ?_
                obtain ⟨rfl, rfl⟩ := ret_o hf
                exact z_areD (o := r79) F dX5_operand_174 hO_h87 (((((((Eh1).tr Eh4).tr Eh75).tr Eh78).tr Eh81).tr Eh85).tr Eh87) ((zA.rf).tr (((Eh1).tr Eh4).tr Eh75) hA_h78) t_r79
              · replace hf := if_f c83 hf
                refine w_aload_n F dX5_operand_148 2 rfl ?_
                replace hf := bd_o hf
                obtain ⟨r89, h88, qh88, hf⟩ := hf
                refine cl_X5_109 F dX5_operand_149 hO_h81 (((((Eh1).tr Eh4).tr Eh75).tr Eh78).tr Eh81) (t_a0) (by constructor <;> (simp only [zRm]; omega)) qh88 (Nat.le_of_ble_eq_true rfl) (fun hO_h88 Eh88 t_r89 ad_h88 hA_h88 => ?_)
                rw [← hA_h88 a0 (t_a0.1)]
                rw [← zA.re hA_h88 t_r79]
                have t_a0 := t_a0.ex Eh88
                have t_r79 := t_r79.ex Eh88
                obtain ⟨rfl, rfl⟩ := ret_o hf
                exact z_areD (o := r89) F dX5_operand_152 hO_h88 ((((((Eh1).tr Eh4).tr Eh75).tr Eh78).tr Eh81).tr Eh88) (((zA.rf).tr (((Eh1).tr Eh4).tr Eh75) hA_h78).tr (((((Eh1).tr Eh4).tr Eh75).tr Eh78).tr Eh81) hA_h88) t_r89
            · replace hf := if_f c80 hf
              refine w_null F dX5_operand_137 ?_
              obtain ⟨rfl, rfl⟩ := ret_o hf
              exact z_areD (o := none) F dX5_operand_138 hO_h78 ((((Eh1).tr Eh4).tr Eh75).tr Eh78) ((zA.rf).tr (((Eh1).tr Eh4).tr Eh75) hA_h78) zTo.nil
          · replace hf := if_t c77 hf
            refine w_aload_n F dX5_operand_120 1 rfl ?_
            replace hf := bd_o hf
            obtain ⟨r91, h90, qh90, hf⟩ := hf
            refine cl_X5_109 F dX5_operand_121 hO_h75 (((Eh1).tr Eh4).tr Eh75) (t_a0) (by constructor <;> (simp only [zRm]; omega)) qh90 (Nat.le_of_ble_eq_true rfl) (fun hO_h90 Eh90 t_r91 ad_h90 hA_h90 => ?_)
            rw [← hA_h90 a0 (t_a0.1)]
            have t_a0 := t_a0.ex Eh90
            obtain ⟨rfl, rfl⟩ := ret_o hf
            exact z_areD (o := r91) F dX5_operand_124 hO_h90 ((((Eh1).tr Eh4).tr Eh75).tr Eh90) ((zA.rf).tr (((Eh1).tr Eh4).tr Eh75) hA_h90) t_r91
      · replace hf := if_t c34 hf
        refine z_sub (lv' := [(0, .ref (ad a0)), (1, .int r2)]) [1, 0] rfl ?_
        exact Jj45_8 h4  ad hO_h4 (zEx.rf h4) zA.rf  hf
  · replace hf := if_f c6 hf
    refine w_aload_n F dX5_operand_14 1 rfl ?_
    refine w_dup F dX5_operand_15 rfl ?_
    refine gf_X5_19 F dX5_operand_16 hO_h4 (t_a0) ?_
    refine w_iconst (v := 1) F dX5_operand_19 rfl ?_
    refine w_iadd F dX5_operand_20 ?_
    replace hf := nm_o hf
    obtain ⟨v92, ev92, hf⟩ := hf
    refine w_ni ev92 ?_
    refine pf_X5_19 F dX5_operand_21 hO_h4 (t_a0) ?_
    replace hf := nm_o hf
    obtain ⟨h93, eh93, hf⟩ := hf
    refine w_nh eh93 ?_
    have Eh93 : zEx h4 h93 := by rw [eh93]; exact zEx.si
    have hO_h93 : zOk h93 := by rw [eh93]; exact hO_h4.si
    have t_a0 := t_a0.ex Eh93
    replace hf := ck_o hf
    obtain ⟨c94, hf⟩ := hf
    refine z_new (ci := 8) F hO_h93.1 ⟨(((Eh1).tr Eh4).tr Eh93).2.1, (((Eh1).tr Eh4).tr Eh93).2.2.1⟩ rfl (by decide) in_X8 tyX8_ok (by decide) q716 q717 q113 (z_lim1 (((Eh1).tr Eh4).tr Eh93) c94) dX5_operand_24 (fun ad_h96 hA_h96 => ?_)
    rw [← hA_h96 a0 (t_a0.1)]
    replace hf := nm_o hf
    obtain ⟨a95, ea95, hf⟩ := hf
    rw [← ea95]
    replace hf := nm_o hf
    obtain ⟨h96, eh96, hf⟩ := hf
    refine w_nh eh96 ?_
    have Eh96 : zEx h93 h96 := by rw [eh96]; exact zEx.ne
    have hO_h96 : zOk h96 := by rw [eh96]; exact hO_h93.ne (by decide) c94
    have t_a0 := t_a0.ex Eh96
    have t_a95 : zTy h96 a95 8 := by rw [eh96, ea95]; exact zTy.new (by decide)
    refine w_dup F dX5_operand_27 rfl ?_
    refine w_iload_n F dX5_operand_28 0 rfl ?_
    replace hf := bd_o hf
    obtain ⟨r98, h97, qh97, hf⟩ := hf
    refine cl_X5_102 F dX5_operand_29 hO_h96 ((((Eh1).tr Eh4).tr Eh93).tr Eh96) (t_a95) (by constructor <;> (simp only [zRm]; omega)) qh97 (Nat.le_of_ble_eq_true rfl) (fun hO_h97 Eh97 => ?_)
    have t_a0 := t_a0.ex Eh97
    have t_a95 := t_a95.ex Eh97
    obtain ⟨rfl, rfl⟩ := ret_o hf
    exact z_areD (o := some a95) F dX5_operand_32 hO_h97 (((((Eh1).tr Eh4).tr Eh93).tr Eh96).tr Eh97) ((zA.rf).tr (((Eh1).tr Eh4).tr Eh93) hA_h96) (zTo.of (zTy.up t_a95 (by decide)))
def X5_operand (d : Nat) : Hp → Nat → Option (Option Nat × Hp) := zfix (fun _ _ => none) X5_operand_o d
theorem mX5_operand {l : Launch} {D : va_G} {tA : Nat → ClassId} {B : Nat} {kn : State → Prop} (hkp : zKp D tA B kn) : ∀ (d : Nat) {h hE : Hp} {ad : Nat → Nat} {a0 : Nat} {r : Option Nat}, zOk h → zTy h a0 5 → X5_operand d h a0 = some (r, hE) → zM l D tA B kn yX5_operand (ws_ yX5_operand cX5_operand 4 (Option.some (Jvm.ClassFile.FieldType.object "ThreeSnowballs$Node"))) (11 * d) (366 * d) h ad [.ref (ad a0)] hE (zRq D tA B h ad 50 r hE)
  | 0, _, _, _, _, _, _, _, hf => by cases hf
  | d + 1, _, _, _, _, _, hO, t, hf => mX5_operand_o hkp (rf := X5_operand d) (fun hO t hf => mX5_operand hkp d hO t hf) hO t hf
theorem cl_X5_49 {p : Program} {l : Launch} {e : Env} {s : State} {m : MethodId} {args : Array Value} {below : List Frame} {meth : Method} {c : Code} {Q : State → Prop} {D : va_G} {tA : Nat → ClassId} {B nL : Nat} {ad : Nat → Nat} {kn : State → Prop} {cc : ByteArray} {ret : Option FieldType} {pc : Nat} {h : Hp} {lv : List (Nat × Value)} {Fr Lo : Nat} {h0 h1 : Hp} {rest : List Value} {a0 : Nat} (F : ZF p s m args meth c D tA B nL kn RX5 cc ret) (hd : decode cc pc = .ok (.invokespecial 49, 3)) (hO : zOk h) (hE : zEx h0 h) (t_a0 : zTy h a0 6) (hR : 1 + 1 ≤ (zRm Fr Lo h0).frames ∧ 16 + (1 + 11) + 28 ≤ (zRm Fr Lo h0).locals) (hf : X6_init h a0 = some ((), h1)) (hr : (rest.map fun v => v.category).sum ≤ 16) (kk : zOk h1 → zEx h h1 → ZW p l e (zRm Fr Lo h0) s m args below meth c Q D tA B nL (zc h0) (zs h0) ad (pc + 3) h1 lv (rest)) : ZW p l e (zRm Fr Lo h0) s m args below meth c Q D tA B nL (zc h0) (zs h0) ad pc h lv (.ref (ad a0) :: rest) := 
  z_cv ⟨hE.2.1, hE.2.2.1⟩ (fun H locs ls hw hl => z_runI F (mX6_init F.2.2.2.2.2.1 hO t_a0 hf) (zCw.of 0 F.ts q582 q106 (by decide +kernel) hR) (Or.inr ⟨_, zNW_of q580 rfl⟩) rfl q581 rfl hr hd hw hl (z_fit hE hO)) kk
theorem cl_X5_50 {p : Program} {l : Launch} {e : Env} {s : State} {m : MethodId} {args : Array Value} {below : List Frame} {meth : Method} {c : Code} {Q : State → Prop} {D : va_G} {tA : Nat → ClassId} {B nL : Nat} {ad : Nat → Nat} {kn : State → Prop} {cc : ByteArray} {ret : Option FieldType} {pc : Nat} {h : Hp} {lv : List (Nat × Value)} {Fr Lo : Nat} {h0 h1 : Hp} {rest : List Value} {a0 : Nat} {r : Option Nat} (F : ZF p s m args meth c D tA B nL kn RX5 cc ret) (hd : decode cc pc = .ok (.invokevirtual 50, 3)) (hO : zOk h) (hE : zEx h0 h) (t_a0 : zTy h a0 5) (hR : 98 + 1 ≤ (zRm Fr Lo h0).frames ∧ 16 + (2 + 11) + 3265 ≤ (zRm Fr Lo h0).locals) (hf : X5_either_o (X5_operand 8) h a0 = some (r, h1)) (hr : (rest.map fun v => v.category).sum ≤ 16) (kk : zOk h1 → zEx h h1 → zTo h1 r 50 → ∀ u, zA h ad u → ZW p l e (zRm Fr Lo h0) s m args below meth c Q D tA B nL (zc h0) (zs h0) u (pc + 3) h1 lv (va_re u r :: rest)) : ZW p l e (zRm Fr Lo h0) s m args below meth c Q D tA B nL (zc h0) (zs h0) ad pc h lv (.ref (ad a0) :: rest) := 
  z_dq ⟨hE.2.1, hE.2.2.1⟩ (fun H locs ls hw hl => z_runV (q := a0) (ci := 5) F (mX5_either_o F.2.2.2.2.2.1 (fun hO t hf => mX5_operand F.2.2.2.2.2.1 8 hO t hf) hO t_a0 hf) (zCw.of 0 F.ts q600 q105 (by decide +kernel) hR) (Or.inl q597) q599 qs10 rfl (by decide) t_a0.1 (zTy.tg t_a0 (by decide)) rfl hr hd hw hl (z_fit hE hO)) kk
theorem gf_X5_54 {p : Program} {l : Launch} {e : Env} {R : Room} {s : State} {m : MethodId} {args : Array Value} {below : List Frame} {meth : Method} {c : Code} {Q : State → Prop} {D : va_G} {tA : Nat → ClassId} {B nL c0 s0 : Nat} {ad : Nat → Nat} {kn : State → Prop} {cc : ByteArray} {ret : Option FieldType} {pc : Nat} {h : Hp} {lv : List (Nat × Value)} {st : List Value} {q : Nat} (F : ZF p s m args meth c D tA B nL kn RX5 cc ret) (hd : decode cc pc = .ok (.getfield 54, 3)) (hO : zOk h) (t : zTy h q 6) (kk : ZW p l e R s m args below meth c Q D tA B nL c0 s0 ad (pc + 3) h lv (va_re ad (zr h q 1) :: st)) : ZW p l e R s m args below meth c Q D tA B nL c0 s0 ad pc h lv (.ref (ad q) :: st) :=
  z_get (ci := 6) (k := 1) (t := 2) F rfl in_X6 (by decide) rfl (by decide) (Or.inr ⟨_, va_Nw.use rfl (F.N _ (zNW_of q586 rfl))⟩) rfl hd t.1 (zTy.tg t (by decide)) kk
theorem pf_X5_54 {p : Program} {l : Launch} {e : Env} {R : Room} {s : State} {m : MethodId} {args : Array Value} {below : List Frame} {meth : Method} {c : Code} {Q : State → Prop} {D : va_G} {tA : Nat → ClassId} {B nL c0 s0 : Nat} {ad : Nat → Nat} {kn : State → Prop} {cc : ByteArray} {ret : Option FieldType} {pc : Nat} {h : Hp} {lv : List (Nat × Value)} {st : List Value} {q : Nat} {x : Option Nat} (F : ZF p s m args meth c D tA B nL kn RX5 cc ret) (hd : decode cc pc = .ok (.putfield 54, 3)) (hO : zOk h) (t : zTy h q 6) (kk : ZW p l e R s m args below meth c Q D tA B nL c0 s0 ad (pc + 3) (zsr h q 1 x) lv st) : ZW p l e R s m args below meth c Q D tA B nL c0 s0 ad pc h lv (va_re ad x :: .ref (ad q) :: st) := 
  z_put (ci := 6) (k := 1) (t := 2) (ty := (tyX6 1)) (h' := zsr h q 1 x) F rfl in_X6 tyX6_ok nmX6 (by decide) rfl (by decide) (Or.inr ⟨_, va_Nw.use rfl (F.N _ (zNW_of q586 rfl))⟩) rfl rfl rfl (by cases x <;> rfl) (by cases x <;> rfl) hd rfl rfl rfl rfl (fun q' _ hq' => zen_sr hq') zfv_sr.1 zfv_sr.2 t.1 (zTy.tg t (by decide)) kk
theorem pf_X5_58 {p : Program} {l : Launch} {e : Env} {R : Room} {s : State} {m : MethodId} {args : Array Value} {below : List Frame} {meth : Method} {c : Code} {Q : State → Prop} {D : va_G} {tA : Nat → ClassId} {B nL c0 s0 : Nat} {ad : Nat → Nat} {kn : State → Prop} {cc : ByteArray} {ret : Option FieldType} {pc : Nat} {h : Hp} {lv : List (Nat × Value)} {st : List Value} {q : Nat} {x : Option Nat} (F : ZF p s m args meth c D tA B nL kn RX5 cc ret) (hd : decode cc pc = .ok (.putfield 58, 3)) (hO : zOk h) (t : zTy h q 6) (kk : ZW p l e R s m args below meth c Q D tA B nL c0 s0 ad (pc + 3) (zsr h q 0 x) lv st) : ZW p l e R s m args below meth c Q D tA B nL c0 s0 ad pc h lv (va_re ad x :: .ref (ad q) :: st) := 
  z_put (ci := 6) (k := 0) (t := 2) (ty := (tyX6 0)) (h' := zsr h q 0 x) F rfl in_X6 tyX6_ok nmX6 (by decide) rfl (by decide) (Or.inr ⟨_, va_Nw.use rfl (F.N _ (zNW_of q584 rfl))⟩) rfl rfl rfl (by cases x <;> rfl) (by cases x <;> rfl) hd rfl rfl rfl rfl (fun q' _ hq' => zen_sr hq') zfv_sr.1 zfv_sr.2 t.1 (zTy.tg t (by decide)) kk
def X5_line (h : Hp) (a0 : Nat) : Option (Option Nat × Hp) :=
  ck (zc h + 1 ≤ zLC ∧ zs h + 3 ≤ zLS) <| nm (zx h) fun a2 => nm (zne h 6 0 3) fun h3 => bd (X6_init h3 a2) fun _ h4 => bd (X5_either_o (X5_operand 8) h4 a0) fun r7 h6 => nm (zsr h6 a2 1 r7) fun h8 => nm (fun (h9 : Hp)  => some (some a2, h9)) fun j32_10 => if 0 ≤ (zi h8 a0 1) then (j32_10 h8 ) else (bd (X5_here h8 a0) fun r13 h12 => if r13 = (63 : Int32) then (nm ((zi h12 a0 0) + (1 : Int32) : Int32) fun v15 => nm (zsi h12 a0 0 v15) fun h16 => nm (zr h16 a2 1) fun o17 => nm (zsr h16 a2 0 o17) fun h18 => bd (X5_either_o (X5_operand 8) h18 a0) fun r20 h19 => nm (zsr h19 a2 1 r20) fun h21 => some (some a2, h21)) else (j32_10 h12 ))
set_option maxHeartbeats 4000000 in
theorem mX5_line {l : Launch} {D : va_G} {tA : Nat → ClassId} {B : Nat} {kn : State → Prop} {h hE : Hp} {ad : Nat → Nat} {a0 : Nat} {r : Option Nat} (hkp : zKp D tA B kn) (hO_h : zOk h) (t_a0 : zTy h a0 5) (hf : X5_line h a0 = some (r, hE)) : zM l D tA B kn yX5_line (ws_ yX5_line cX5_line 2 (Option.some (Jvm.ClassFile.FieldType.object "ThreeSnowballs$Line"))) 99 3294 h ad [.ref (ad a0)] hE (zRq D tA B h ad 6 r hE) := by
  refine zM_of hkp (by decide +kernel) (Nat.le_of_ble_eq_true rfl) ?_
  intro p e s m args below meth c F hnm
  show ZW p l e (zRm 99 3294 h) s m args below meth c (MQ below (zRq D tA B h ad 6 r hE) args s (zc hE - zc h) (zs hE - zs h) (fun q => B ≤ q)) D tA B 2 (zc h) (zs h) ad 0 h [(0, .ref (ad a0))] []
  replace hf := (X5_line.eq_1 h a0).symm.trans hf
  replace hf := ck_o hf
  obtain ⟨c1, hf⟩ := hf
  refine z_new (ci := 6) F hO_h.1 ⟨(zEx.rf h).2.1, (zEx.rf h).2.2.1⟩ rfl (by decide) in_X6 tyX6_ok (by decide) q578 q579 q106 (z_lim1 (zEx.rf h) c1) dX5_line_0 (fun ad_h3 hA_h3 => ?_)
  rw [← hA_h3 a0 (t_a0.1)]
  replace hf := nm_o hf
  obtain ⟨a2, ea2, hf⟩ := hf
  rw [← ea2]
  replace hf := nm_o hf
  obtain ⟨h3, eh3, hf⟩ := hf
  refine w_nh eh3 ?_
  have Eh3 : zEx h h3 := by rw [eh3]; exact zEx.ne
  have hO_h3 : zOk h3 := by rw [eh3]; exact hO_h.ne (by decide) c1
  have t_a0 := t_a0.ex Eh3
  have t_a2 : zTy h3 a2 6 := by rw [eh3, ea2]; exact zTy.new (by decide)
  refine w_dup F dX5_line_3 rfl ?_
  replace hf := bd_o hf
  obtain ⟨r5, h4, qh4, hf⟩ := hf
  refine cl_X5_49 F dX5_line_4 hO_h3 Eh3 (t_a2) ⟨Nat.le_of_ble_eq_true rfl, Nat.le_of_ble_eq_true rfl⟩ qh4 (Nat.le_of_ble_eq_true rfl) (fun hO_h4 Eh4 => ?_)
  have t_a0 := t_a0.ex Eh4
  have t_a2 := t_a2.ex Eh4
  refine w_astore_n (i := 1) (lv' := [(1, .ref (ad_h3 a2)), (0, .ref (ad_h3 a0))]) F dX5_line_7 rfl (by decide) rfl ?_
  refine w_aload_n F dX5_line_8 0 rfl ?_
  refine w_aload_n F dX5_line_9 1 rfl ?_
  replace hf := bd_o hf
  obtain ⟨r7, h6, qh6, hf⟩ := hf
  refine cl_X5_50 F dX5_line_10 hO_h4 ((Eh3).tr Eh4) (t_a0) ⟨Nat.le_of_ble_eq_true rfl, Nat.le_of_ble_eq_true rfl⟩ qh6 (Nat.le_of_ble_eq_true rfl) (fun hO_h6 Eh6 t_r7 ad_h6 hA_h6 => ?_)
  rw [← hA_h6 a0 (t_a0.1)]
  rw [← hA_h6 a2 (t_a2.1)]
  have t_a0 := t_a0.ex Eh6
  have t_a2 := t_a2.ex Eh6
  refine pf_X5_54 (x := r7) F dX5_line_13 hO_h6 (t_a2) ?_
  replace hf := nm_o hf
  obtain ⟨h8, eh8, hf⟩ := hf
  refine w_nh eh8 ?_
  have Eh8 : zEx h6 h8 := by rw [eh8]; exact zEx.sr
  have hO_h8 : zOk h8 := by rw [eh8]; exact hO_h6.srt (t_a2).1 (zTy.tg t_a2 (by decide)) (by decide) t_r7
  have t_a0 := t_a0.ex Eh8
  have t_a2 := t_a2.ex Eh8
  have t_r7 := t_r7.ex Eh8
  refine w_aload_n F dX5_line_16 1 rfl ?_
  refine gf_X5_15 F dX5_line_17 hO_h8 (t_a0) ?_
  replace hf := nm_o hf
  obtain ⟨j32_10, ej32_10, hf⟩ := hf
  have Jj32_10 : ∀ (h9 : Hp) , ∀ ad_h9 : Nat → Nat, zOk h9 → zEx h8 h9 → zA h8 ad_h6 ad_h9 → j32_10 h9  = some (r, hE) → ZW p l e (zRm 99 3294 h) s m args below meth c (MQ below (zRq D tA B h ad 6 r hE) args s (zc hE - zc h) (zs hE - zs h) (fun q => B ≤ q)) D tA B 2 (zc h) (zs h) ad_h9 32 h9 [(1, .ref (ad_h9 a2))] [] := by
    clear hf
    intro h9 ad_h9 hO_h9 hX_h9 hA_h9  hf
    have t_a2 := t_a2.ex hX_h9
    subst ej32_10
    refine w_aload_n F dX5_line_32 0 rfl ?_
    obtain ⟨rfl, rfl⟩ := ret_o hf
    exact z_areD (o := some a2) F dX5_line_33 hO_h9 (((((Eh3).tr Eh4).tr Eh6).tr Eh8).tr hX_h9) (((hA_h3).tr ((Eh3).tr Eh4) hA_h6).tr ((((Eh3).tr Eh4).tr Eh6).tr Eh8) hA_h9) (zTo.of t_a2)
  refine w_if_ge (tgt := 32) F dX5_line_20 (by decide) (fun c11 => ?_) (fun c11 => ?_)
  · replace hf := if_t c11 hf
    refine z_sub (lv' := [(1, .ref (ad_h6 a2))]) [0] rfl ?_
    exact Jj32_10 h8  ad_h6 hO_h8 (zEx.rf h8) zA.rf  hf
  · replace hf := if_f c11 hf
    refine w_aload_n F dX5_line_23 1 rfl ?_
    replace hf := bd_o hf
    obtain ⟨r13, h12, qh12, hf⟩ := hf
    refine cl_X5_29 F dX5_line_24 hO_h8 ((((Eh3).tr Eh4).tr Eh6).tr Eh8) (t_a0) ⟨Nat.le_of_ble_eq_true rfl, Nat.le_of_ble_eq_true rfl⟩ qh12 (Nat.le_of_ble_eq_true rfl) (fun hO_h12 Eh12 => ?_)
    have t_a0 := t_a0.ex Eh12
    have t_a2 := t_a2.ex Eh12
    have t_r7 := t_r7.ex Eh12
    refine w_bipush (v := 63) F dX5_line_27 rfl ?_
    refine w_icmp_eq (tgt := 34) F dX5_line_29 (by decide) (fun c14 => ?_) (fun c14 => ?_)
    · replace hf := if_t c14 hf
      refine w_aload_n F dX5_line_34 1 rfl ?_
      refine w_dup F dX5_line_35 rfl ?_
      refine gf_X5_19 F dX5_line_36 hO_h12 (t_a0) ?_
      refine w_iconst (v := 1) F dX5_line_39 rfl ?_
      refine w_iadd F dX5_line_40 ?_
      replace hf := nm_o hf
      obtain ⟨v15, ev15, hf⟩ := hf
      refine w_ni ev15 ?_
      refine pf_X5_19 F dX5_line_41 hO_h12 (t_a0) ?_
      replace hf := nm_o hf
      obtain ⟨h16, eh16, hf⟩ := hf
      refine w_nh eh16 ?_
      have Eh16 : zEx h12 h16 := by rw [eh16]; exact zEx.si
      have hO_h16 : zOk h16 := by rw [eh16]; exact hO_h12.si
      have t_a0 := t_a0.ex Eh16
      have t_a2 := t_a2.ex Eh16
      have t_r7 := t_r7.ex Eh16
      refine w_aload_n F dX5_line_44 0 rfl ?_
      refine w_aload_n F dX5_line_45 0 rfl ?_
      refine gf_X5_54 F dX5_line_46 hO_h16 (t_a2) ?_
      replace hf := nm_o hf
      obtain ⟨o17, eo17, hf⟩ := hf
      refine w_no eo17 ?_
      have t_o17 : zTo h16 o17 50 := zTo.rd hO_h16 (t_a2.1) (zTy.tg t_a2 (by decide)) (t := 6) rfl eo17
      refine pf_X5_58 (x := o17) F dX5_line_49 hO_h16 (t_a2) ?_
      replace hf := nm_o hf
      obtain ⟨h18, eh18, hf⟩ := hf
      refine w_nh eh18 ?_
      have Eh18 : zEx h16 h18 := by rw [eh18]; exact zEx.sr
      have hO_h18 : zOk h18 := by rw [eh18]; exact hO_h16.srt (t_a2).1 (zTy.tg t_a2 (by decide)) (by decide) t_o17
      have t_a0 := t_a0.ex Eh18
      have t_a2 := t_a2.ex Eh18
      have t_r7 := t_r7.ex Eh18
      have t_o17 := t_o17.ex Eh18
      refine w_aload_n F dX5_line_52 0 rfl ?_
      refine w_aload_n F dX5_line_53 1 rfl ?_
      replace hf := bd_o hf
      obtain ⟨r20, h19, qh19, hf⟩ := hf
      refine cl_X5_50 F dX5_line_54 hO_h18 (((((((Eh3).tr Eh4).tr Eh6).tr Eh8).tr Eh12).tr Eh16).tr Eh18) (t_a0) ⟨Nat.le_of_ble_eq_true rfl, Nat.le_of_ble_eq_true rfl⟩ qh19 (Nat.le_of_ble_eq_true rfl) (fun hO_h19 Eh19 t_r20 ad_h19 hA_h19 => ?_)
      rw [← hA_h19 a0 (t_a0.1)]
      rw [← hA_h19 a2 (t_a2.1)]
      have t_a0 := t_a0.ex Eh19
      have t_a2 := t_a2.ex Eh19
      have t_r7 := t_r7.ex Eh19
      have t_o17 := t_o17.ex Eh19
      refine pf_X5_54 (x := r20) F dX5_line_57 hO_h19 (t_a2) ?_
      replace hf := nm_o hf
      obtain ⟨h21, eh21, hf⟩ := hf
      refine w_nh eh21 ?_
      have Eh21 : zEx h19 h21 := by rw [eh21]; exact zEx.sr
      have hO_h21 : zOk h21 := by rw [eh21]; exact hO_h19.srt (t_a2).1 (zTy.tg t_a2 (by decide)) (by decide) t_r20
      have t_a0 := t_a0.ex Eh21
      have t_a2 := t_a2.ex Eh21
      have t_r7 := t_r7.ex Eh21
      have t_o17 := t_o17.ex Eh21
      have t_r20 := t_r20.ex Eh21
      refine w_aload_n F dX5_line_60 0 rfl ?_
      obtain ⟨rfl, rfl⟩ := ret_o hf
      exact z_areD (o := some a2) F dX5_line_61 hO_h21 (((((((((Eh3).tr Eh4).tr Eh6).tr Eh8).tr Eh12).tr Eh16).tr Eh18).tr Eh19).tr Eh21) (((hA_h3).tr ((Eh3).tr Eh4) hA_h6).tr (((((((Eh3).tr Eh4).tr Eh6).tr Eh8).tr Eh12).tr Eh16).tr Eh18) hA_h19) (zTo.of t_a2)
    · replace hf := if_f c14 hf
      refine z_sub (lv' := [(1, .ref (ad_h6 a2))]) [0] rfl ?_
      exact Jj32_10 h12  ad_h6 hO_h12 Eh12 zA.rf  hf
theorem cl_X5_39 {p : Program} {l : Launch} {e : Env} {s : State} {m : MethodId} {args : Array Value} {below : List Frame} {meth : Method} {c : Code} {Q : State → Prop} {D : va_G} {tA : Nat → ClassId} {B nL : Nat} {ad : Nat → Nat} {kn : State → Prop} {cc : ByteArray} {ret : Option FieldType} {pc : Nat} {h : Hp} {lv : List (Nat × Value)} {Fr Lo : Nat} {h0 h1 : Hp} {rest : List Value} {a0 : Nat} {r : Option Nat} (F : ZF p s m args meth c D tA B nL kn RX5 cc ret) (hd : decode cc pc = .ok (.invokevirtual 39, 3)) (hO : zOk h) (hE : zEx h0 h) (t_a0 : zTy h a0 5) (hR : 99 + 1 ≤ (zRm Fr Lo h0).frames ∧ 16 + (2 + 11) + 3294 ≤ (zRm Fr Lo h0).locals) (hf : X5_line h a0 = some (r, h1)) (hr : (rest.map fun v => v.category).sum ≤ 16) (kk : zOk h1 → zEx h h1 → zTo h1 r 6 → ∀ u, zA h ad u → ZW p l e (zRm Fr Lo h0) s m args below meth c Q D tA B nL (zc h0) (zs h0) u (pc + 3) h1 lv (va_re u r :: rest)) : ZW p l e (zRm Fr Lo h0) s m args below meth c Q D tA B nL (zc h0) (zs h0) ad pc h lv (.ref (ad a0) :: rest) := 
  z_dq ⟨hE.2.1, hE.2.2.1⟩ (fun H locs ls hw hl => z_runV (q := a0) (ci := 5) F (mX5_line F.2.2.2.2.2.1 hO t_a0 hf) (zCw.of 0 F.ts q577 q105 (by decide +kernel) hR) (Or.inl q574) q576 qs9 rfl (by decide) t_a0.1 (zTy.tg t_a0 (by decide)) rfl hr hd hw hl (z_fit hE hO)) kk
theorem gf_X5_43 {p : Program} {l : Launch} {e : Env} {R : Room} {s : State} {m : MethodId} {args : Array Value} {below : List Frame} {meth : Method} {c : Code} {Q : State → Prop} {D : va_G} {tA : Nat → ClassId} {B nL c0 s0 : Nat} {ad : Nat → Nat} {kn : State → Prop} {cc : ByteArray} {ret : Option FieldType} {pc : Nat} {h : Hp} {lv : List (Nat × Value)} {st : List Value} {q : Nat} (F : ZF p s m args meth c D tA B nL kn RX5 cc ret) (hd : decode cc pc = .ok (.getfield 43, 3)) (hO : zOk h) (t : zTy h q 6) (kk : ZW p l e R s m args below meth c Q D tA B nL c0 s0 ad (pc + 3) h lv (va_re ad (zr h q 2) :: st)) : ZW p l e R s m args below meth c Q D tA B nL c0 s0 ad pc h lv (.ref (ad q) :: st) :=
  z_get (ci := 6) (k := 2) (t := 2) F rfl in_X6 (by decide) rfl (by decide) (Or.inr ⟨_, va_Nw.use rfl (F.N _ (zNW_of q588 rfl))⟩) rfl hd t.1 (zTy.tg t (by decide)) kk
theorem pf_X5_43 {p : Program} {l : Launch} {e : Env} {R : Room} {s : State} {m : MethodId} {args : Array Value} {below : List Frame} {meth : Method} {c : Code} {Q : State → Prop} {D : va_G} {tA : Nat → ClassId} {B nL c0 s0 : Nat} {ad : Nat → Nat} {kn : State → Prop} {cc : ByteArray} {ret : Option FieldType} {pc : Nat} {h : Hp} {lv : List (Nat × Value)} {st : List Value} {q : Nat} {x : Option Nat} (F : ZF p s m args meth c D tA B nL kn RX5 cc ret) (hd : decode cc pc = .ok (.putfield 43, 3)) (hO : zOk h) (t : zTy h q 6) (kk : ZW p l e R s m args below meth c Q D tA B nL c0 s0 ad (pc + 3) (zsr h q 2 x) lv st) : ZW p l e R s m args below meth c Q D tA B nL c0 s0 ad pc h lv (va_re ad x :: .ref (ad q) :: st) := 
  z_put (ci := 6) (k := 2) (t := 2) (ty := (tyX6 2)) (h' := zsr h q 2 x) F rfl in_X6 tyX6_ok nmX6 (by decide) rfl (by decide) (Or.inr ⟨_, va_Nw.use rfl (F.N _ (zNW_of q588 rfl))⟩) rfl rfl rfl (by cases x <;> rfl) (by cases x <;> rfl) hd rfl rfl rfl rfl (fun q' _ hq' => zen_sr hq') zfv_sr.1 zfv_sr.2 t.1 (zTy.tg t (by decide)) kk
def X5_lines_b7 (a0 : Nat) (j49_4 : Hp → Option (Option Nat × Hp)) (k7_15 : Hp → Option Nat → Option (Option Nat × Hp)) (h13 : Hp) (o14 : Option Nat) : Option (Option Nat × Hp) :=
  if 0 ≤ (zi h13 a0 1) then (j49_4 h13 ) else (bd (X5_here h13 a0) fun r18 h17 => if r18 = (59 : Int32) then (nm ((zi h17 a0 0) + (1 : Int32) : Int32) fun v20 => nm (zsi h17 a0 0 v20) fun h21 => bd (X5_line h21 a0) fun r23 h22 => dr o14 fun a24 => nm (zsr h22 a24 2 r23) fun h25 => nm (zr h25 a24 2) fun o26 => k7_15 h25 o26) else (j49_4 h17 ))
def X5_lines (h : Hp) (a0 : Nat) : Option (Option Nat × Hp) :=
  bd (X5_line h a0) fun r2 h1 => nm (fun (h3 : Hp)  => nm (fun (h5 : Hp)  => some (r2, h5)) fun j78_6 => if 0 ≤ (zi h3 a0 1) then (j78_6 h3 ) else (nm (zr h3 a0 3) fun o8 => dr o8 fun a9 => if (zi h3 0 9) ≤ (zi h3 a0 0) then (j78_6 h3 ) else (nm (zi h3 a0 0 : Int32) fun v11 => nm (zsi h3 a0 1 v11) fun h12 => j78_6 h12 ))) fun j49_4 => zfix (fun _ _ => none) (X5_lines_b7 a0 j49_4) zFU h1 r2
set_option maxHeartbeats 4000000 in
theorem mX5_lines {l : Launch} {D : va_G} {tA : Nat → ClassId} {B : Nat} {kn : State → Prop} {h hE : Hp} {ad : Nat → Nat} {a0 : Nat} {r : Option Nat} (hkp : zKp D tA B kn) (hO_h : zOk h) (t_a0 : zTy h a0 5) (hf : X5_lines h a0 = some (r, hE)) : zM l D tA B kn yX5_lines (ws_ yX5_lines cX5_lines 3 (Option.some (Jvm.ClassFile.FieldType.object "ThreeSnowballs$Line"))) 100 3323 h ad [.ref (ad a0)] hE (zRq D tA B h ad 6 r hE) := by
  refine zM_of hkp (by decide +kernel) (Nat.le_of_ble_eq_true rfl) ?_
  intro p e s m args below meth c F hnm
  show ZW p l e (zRm 100 3323 h) s m args below meth c (MQ below (zRq D tA B h ad 6 r hE) args s (zc hE - zc h) (zs hE - zs h) (fun q => B ≤ q)) D tA B 3 (zc h) (zs h) ad 0 h [(0, .ref (ad a0))] []
  replace hf := (X5_lines.eq_1 h a0).symm.trans hf
  refine w_aload_n F dX5_lines_0 0 rfl ?_
  replace hf := bd_o hf
  obtain ⟨r2, h1, qh1, hf⟩ := hf
  refine cl_X5_39 F dX5_lines_1 hO_h (zEx.rf h) (t_a0) ⟨Nat.le_of_ble_eq_true rfl, Nat.le_of_ble_eq_true rfl⟩ qh1 (Nat.le_of_ble_eq_true rfl) (fun hO_h1 Eh1 t_r2 ad_h1 hA_h1 => ?_)
  rw [← hA_h1 a0 (t_a0.1)]
  have t_a0 := t_a0.ex Eh1
  refine w_astoreo_n (i := 1) (lv' := [(1, va_re ad_h1 r2), (0, .ref (ad_h1 a0))]) F dX5_lines_4 rfl (by decide) rfl ?_
  refine w_aloado_n F dX5_lines_5 0 rfl ?_
  refine w_astoreo_n (i := 2) (lv' := [(2, va_re ad_h1 r2), (1, va_re ad_h1 r2), (0, .ref (ad_h1 a0))]) F dX5_lines_6 rfl (by decide) (by cases r2 <;> rfl) ?_
  replace hf := nm_o hf
  obtain ⟨j49_4, ej49_4, hf⟩ := hf
  have Jj49_4 : ∀ (h3 : Hp) , ∀ ad_h3 : Nat → Nat, zOk h3 → zEx h1 h3 → zA h1 ad_h1 ad_h3 → j49_4 h3  = some (r, hE) → ZW p l e (zRm 100 3323 h) s m args below meth c (MQ below (zRq D tA B h ad 6 r hE) args s (zc hE - zc h) (zs hE - zs h) (fun q => B ≤ q)) D tA B 3 (zc h) (zs h) ad_h3 49 h3 [(0, .ref (ad_h3 a0)), (1, va_re ad_h3 r2)] [] := by
    clear hf
    intro h3 ad_h3 hO_h3 hX_h3 hA_h3  hf
    have t_a0 := t_a0.ex hX_h3
    have t_r2 := t_r2.ex hX_h3
    subst ej49_4
    refine w_aload_n F dX5_lines_49 0 rfl ?_
    refine gf_X5_15 F dX5_lines_50 hO_h3 (t_a0) ?_
    replace hf := nm_o hf
    obtain ⟨j78_6, ej78_6, hf⟩ := hf
    have Jj78_6 : ∀ (h5 : Hp) , ∀ ad_h5 : Nat → Nat, zOk h5 → zEx h3 h5 → zA h3 ad_h3 ad_h5 → j78_6 h5  = some (r, hE) → ZW p l e (zRm 100 3323 h) s m args below meth c (MQ below (zRq D tA B h ad 6 r hE) args s (zc hE - zc h) (zs hE - zs h) (fun q => B ≤ q)) D tA B 3 (zc h) (zs h) ad_h5 78 h5 [(1, va_re ad_h5 r2)] [] := by
      clear hf
      intro h5 ad_h5 hO_h5 hX_h5 hA_h5  hf
      have t_r2 := t_r2.ex hX_h5
      subst ej78_6
      refine w_aloado_n F dX5_lines_78 0 rfl ?_
      obtain ⟨rfl, rfl⟩ := ret_o hf
      exact z_areD (o := r2) F dX5_lines_79 hO_h5 (((Eh1).tr hX_h3).tr hX_h5) (((hA_h1).tr Eh1 hA_h3).tr ((Eh1).tr hX_h3) hA_h5) t_r2
    refine w_if_ge (tgt := 78) F dX5_lines_53 (by decide) (fun c7 => ?_) (fun c7 => ?_)
    · replace hf := if_t c7 hf
      refine z_sub (lv' := [(1, va_re ad_h3 r2)]) [1] rfl ?_
      exact Jj78_6 h3  ad_h3 hO_h3 (zEx.rf h3) zA.rf  hf
    · replace hf := if_f c7 hf
      refine w_aload_n F dX5_lines_56 0 rfl ?_
      refine gf_X5_19 F dX5_lines_57 hO_h3 (t_a0) ?_
      refine w_aload_n F dX5_lines_60 0 rfl ?_
      refine gf_X5_3 F dX5_lines_61 hO_h3 (t_a0) ?_
      replace hf := nm_o hf
      obtain ⟨o8, eo8, hf⟩ := hf
      refine w_no eo8 ?_
      have t_o8 : zTo h3 o8 0 := zTo.rd hO_h3 (t_a0.1) (zTy.tg t_a0 (by decide)) (t := 5) rfl eo8
      replace hf := dr_o hf
      obtain ⟨a9, ea9, hf⟩ := hf
      subst ea9
      have t_a9 : zTy h3 a9 0 := t_o8 a9 rfl
      have z_a9 : a9 = 0 := zTy.c0 hO_h3 t_a9
      subst z_a9
      refine gf_X5_22 F dX5_lines_64 hO_h3 ?_
      refine w_icmp_ge (tgt := 78) F dX5_lines_67 (by decide) (fun c10 => ?_) (fun c10 => ?_)
      · replace hf := if_t c10 hf
        refine z_sub (lv' := [(1, va_re ad_h3 r2)]) [1] rfl ?_
        exact Jj78_6 h3  ad_h3 hO_h3 (zEx.rf h3) zA.rf  hf
      · replace hf := if_f c10 hf
        refine w_aload_n F dX5_lines_70 0 rfl ?_
        refine w_aload_n F dX5_lines_71 0 rfl ?_
        refine gf_X5_19 F dX5_lines_72 hO_h3 (t_a0) ?_
        replace hf := nm_o hf
        obtain ⟨v11, ev11, hf⟩ := hf
        refine w_ni ev11 ?_
        refine pf_X5_15 F dX5_lines_75 hO_h3 (t_a0) ?_
        replace hf := nm_o hf
        obtain ⟨h12, eh12, hf⟩ := hf
        refine w_nh eh12 ?_
        have Eh12 : zEx h3 h12 := by rw [eh12]; exact zEx.si
        have hO_h12 : zOk h12 := by rw [eh12]; exact hO_h3.si
        have t_a0 := t_a0.ex Eh12
        have t_r2 := t_r2.ex Eh12
        refine z_sub (lv' := [(1, va_re ad_h3 r2)]) [1] rfl ?_
        exact Jj78_6 h12  ad_h3 hO_h12 Eh12 zA.rf  hf
  have L7_26 : ∀ (n : Nat) (h13 : Hp) (o14 : Option Nat), ∀ ad_h13 : Nat → Nat, zOk h13 → zEx h1 h13 → zA h1 ad_h1 ad_h13 → zTo h13 o14 6 → zfix (fun _ _ => none) (X5_lines_b7 a0 j49_4) n h13 o14 = some (r, hE) → ZW p l e (zRm 100 3323 h) s m args below meth c (MQ below (zRq D tA B h ad 6 r hE) args s (zc hE - zc h) (zs hE - zs h) (fun q => B ≤ q)) D tA B 3 (zc h) (zs h) ad_h13 7 h13 [(0, .ref (ad_h13 a0)), (1, va_re ad_h13 r2), (2, va_re ad_h13 o14)] [] := by
    clear hf
    intro n
    induction n with
    | zero =>
      intros
      rename_i hf
      cases hf
    | succ n ih =>
      intro h13 o14 ad_h13 hO_h13 hX_h13 hA_h13 t_o14 hf
      have t_a0 := t_a0.ex hX_h13
      have t_r2 := t_r2.ex hX_h13
      replace hf := (X5_lines_b7.eq_1 a0 j49_4 (zfix (fun _ _ => none) (X5_lines_b7 a0 j49_4) n) h13 o14).symm.trans hf
      refine w_aload_n F dX5_lines_7 0 rfl ?_
      refine gf_X5_15 F dX5_lines_8 hO_h13 (t_a0) ?_
      refine w_if_ge (tgt := 49) F dX5_lines_11 (by decide) (fun c16 => ?_) (fun c16 => ?_)
      · replace hf := if_t c16 hf
        refine z_sub (lv' := [(0, .ref (ad_h13 a0)), (1, va_re ad_h13 r2)]) [0, 1] rfl ?_
        exact Jj49_4 h13  ad_h13 hO_h13 hX_h13 hA_h13  hf
      · replace hf := if_f c16 hf
        refine w_aload_n F dX5_lines_14 0 rfl ?_
        replace hf := bd_o hf
        obtain ⟨r18, h17, qh17, hf⟩ := hf
        refine cl_X5_29 F dX5_lines_15 hO_h13 ((Eh1).tr hX_h13) (t_a0) ⟨Nat.le_of_ble_eq_true rfl, Nat.le_of_ble_eq_true rfl⟩ qh17 (Nat.le_of_ble_eq_true rfl) (fun hO_h17 Eh17 => ?_)
        have t_a0 := t_a0.ex Eh17
        have t_r2 := t_r2.ex Eh17
        have t_o14 := t_o14.ex Eh17
        refine w_bipush (v := 59) F dX5_lines_18 rfl ?_
        refine w_icmp_ne (tgt := 49) F dX5_lines_20 (by decide) (fun c19 => ?_) (fun c19 => ?_)
        · replace hf := if_f c19 hf
          refine z_sub (lv' := [(0, .ref (ad_h13 a0)), (1, va_re ad_h13 r2)]) [0, 1] rfl ?_
          exact Jj49_4 h17  ad_h13 hO_h17 ((hX_h13).tr Eh17) hA_h13  hf
        · replace hf := if_t c19 hf
          refine w_aload_n F dX5_lines_23 0 rfl ?_
          refine w_dup F dX5_lines_24 rfl ?_
          refine gf_X5_19 F dX5_lines_25 hO_h17 (t_a0) ?_
          refine w_iconst (v := 1) F dX5_lines_28 rfl ?_
          refine w_iadd F dX5_lines_29 ?_
          replace hf := nm_o hf
          obtain ⟨v20, ev20, hf⟩ := hf
          refine w_ni ev20 ?_
          refine pf_X5_19 F dX5_lines_30 hO_h17 (t_a0) ?_
          replace hf := nm_o hf
          obtain ⟨h21, eh21, hf⟩ := hf
          refine w_nh eh21 ?_
          have Eh21 : zEx h17 h21 := by rw [eh21]; exact zEx.si
          have hO_h21 : zOk h21 := by rw [eh21]; exact hO_h17.si
          have t_a0 := t_a0.ex Eh21
          have t_r2 := t_r2.ex Eh21
          have t_o14 := t_o14.ex Eh21
          refine w_aloado_n F dX5_lines_33 2 rfl ?_
          refine w_aload_n F dX5_lines_34 0 rfl ?_
          replace hf := bd_o hf
          obtain ⟨r23, h22, qh22, hf⟩ := hf
          refine cl_X5_39 F dX5_lines_35 hO_h21 ((((Eh1).tr hX_h13).tr Eh17).tr Eh21) (t_a0) ⟨Nat.le_of_ble_eq_true rfl, Nat.le_of_ble_eq_true rfl⟩ qh22 (by simp only [List.map_cons, List.map_nil, zcat]; exact Nat.le_of_ble_eq_true rfl) (fun hO_h22 Eh22 t_r23 ad_h22 hA_h22 => ?_)
          rw [← hA_h22 a0 (t_a0.1)]
          rw [← zA.re hA_h22 t_r2]
          rw [← zA.re hA_h22 t_o14]
          have t_a0 := t_a0.ex Eh22
          have t_r2 := t_r2.ex Eh22
          have t_o14 := t_o14.ex Eh22
          replace hf := dr_o hf
          obtain ⟨a24, ea24, hf⟩ := hf
          subst ea24
          have t_a24 : zTy h22 a24 6 := t_o14 a24 rfl
          refine pf_X5_43 (x := r23) F dX5_lines_38 hO_h22 (t_a24) ?_
          replace hf := nm_o hf
          obtain ⟨h25, eh25, hf⟩ := hf
          refine w_nh eh25 ?_
          have Eh25 : zEx h22 h25 := by rw [eh25]; exact zEx.sr
          have hO_h25 : zOk h25 := by rw [eh25]; exact hO_h22.srt (t_a24).1 (zTy.tg t_a24 (by decide)) (by decide) t_r23
          have t_a0 := t_a0.ex Eh25
          have t_r2 := t_r2.ex Eh25
          have t_r23 := t_r23.ex Eh25
          have t_a24 := t_a24.ex Eh25
          refine w_aload_n F dX5_lines_41 2 rfl ?_
          refine gf_X5_43 F dX5_lines_42 hO_h25 (t_a24) ?_
          replace hf := nm_o hf
          obtain ⟨o26, eo26, hf⟩ := hf
          refine w_no eo26 ?_
          have t_o26 : zTo h25 o26 6 := zTo.rd hO_h25 (t_a24.1) (zTy.tg t_a24 (by decide)) (t := 6) rfl eo26
          refine w_astoreo_n (i := 2) (lv' := [(2, va_re ad_h22 o26), (0, .ref (ad_h22 a0)), (1, va_re ad_h22 r2)]) F dX5_lines_45 rfl (by decide) (by cases r2 <;> rfl) ?_
          refine w_goto (tgt := 7) F dX5_lines_46 (by decide) ?_
          refine z_sub (lv' := [(0, .ref (ad_h22 a0)), (1, va_re ad_h22 r2), (2, va_re ad_h22 o26)]) [1, 2, 0] rfl ?_
          exact ih h25 o26 ad_h22 hO_h25 (((((hX_h13).tr Eh17).tr Eh21).tr Eh22).tr Eh25) ((hA_h13).tr (((hX_h13).tr Eh17).tr Eh21) hA_h22) t_o26 hf
  refine z_sub (lv' := [(0, .ref (ad_h1 a0)), (1, va_re ad_h1 r2), (2, va_re ad_h1 r2)]) [2, 1, 0] rfl ?_
  exact L7_26 zFU h1 r2 ad_h1 hO_h1 (zEx.rf h1) zA.rf t_r2 hf
theorem cl_X0_193 {p : Program} {l : Launch} {e : Env} {s : State} {m : MethodId} {args : Array Value} {below : List Frame} {meth : Method} {c : Code} {Q : State → Prop} {D : va_G} {tA : Nat → ClassId} {B nL : Nat} {ad : Nat → Nat} {kn : State → Prop} {cc : ByteArray} {ret : Option FieldType} {pc : Nat} {h : Hp} {lv : List (Nat × Value)} {Fr Lo : Nat} {h0 h1 : Hp} {rest : List Value} {a0 : Nat} (F : ZF p s m args meth c D tA B nL kn RX0 cc ret) (hd : decode cc pc = .ok (.invokespecial 193, 3)) (hO : zOk h) (hE : zEx h0 h) (t_a0 : zTy h a0 5) (hR : 1 + 1 ≤ (zRm Fr Lo h0).frames ∧ 16 + (2 + 11) + 28 ≤ (zRm Fr Lo h0).locals) (hf : X5_init h a0 = some ((), h1)) (hr : (rest.map fun v => v.category).sum ≤ 16) (kk : zOk h1 → zEx h h1 → ZW p l e (zRm Fr Lo h0) s m args below meth c Q D tA B nL (zc h0) (zs h0) ad (pc + 3) h1 lv (rest)) : ZW p l e (zRm Fr Lo h0) s m args below meth c Q D tA B nL (zc h0) (zs h0) ad pc h lv (.ref (ad 0) :: .ref (ad a0) :: rest) := 
  z_cv ⟨hE.2.1, hE.2.2.1⟩ (fun H locs ls hw hl => z_runI F (mX5_init F.2.2.2.2.2.1 hO t_a0 hf) (zCw.of 1 F.ts q554 q105 (by decide +kernel) hR) (Or.inr ⟨_, zNW_of q552 rfl⟩) rfl q553 rfl hr hd hw hl (z_fit hE hO)) kk
theorem cl_X0_196 {p : Program} {l : Launch} {e : Env} {s : State} {m : MethodId} {args : Array Value} {below : List Frame} {meth : Method} {c : Code} {Q : State → Prop} {D : va_G} {tA : Nat → ClassId} {B nL : Nat} {ad : Nat → Nat} {kn : State → Prop} {cc : ByteArray} {ret : Option FieldType} {pc : Nat} {h : Hp} {lv : List (Nat × Value)} {Fr Lo : Nat} {h0 h1 : Hp} {rest : List Value} {a0 : Nat} {r : Option Nat} (F : ZF p s m args meth c D tA B nL kn RX0 cc ret) (hd : decode cc pc = .ok (.invokevirtual 196, 3)) (hO : zOk h) (hE : zEx h0 h) (t_a0 : zTy h a0 5) (hR : 100 + 1 ≤ (zRm Fr Lo h0).frames ∧ 16 + (3 + 11) + 3323 ≤ (zRm Fr Lo h0).locals) (hf : X5_lines h a0 = some (r, h1)) (hr : (rest.map fun v => v.category).sum ≤ 16) (kk : zOk h1 → zEx h h1 → zTo h1 r 6 → ∀ u, zA h ad u → ZW p l e (zRm Fr Lo h0) s m args below meth c Q D tA B nL (zc h0) (zs h0) u (pc + 3) h1 lv (va_re u r :: rest)) : ZW p l e (zRm Fr Lo h0) s m args below meth c Q D tA B nL (zc h0) (zs h0) ad pc h lv (.ref (ad a0) :: rest) := 
  z_dq ⟨hE.2.1, hE.2.2.1⟩ (fun H locs ls hw hl => z_runV (q := a0) (ci := 5) F (mX5_lines F.2.2.2.2.2.1 hO t_a0 hf) (zCw.of 0 F.ts q573 q105 (by decide +kernel) hR) (Or.inl q570) q571 q572 rfl (by decide) t_a0.1 (zTy.tg t_a0 (by decide)) rfl hr hd hw hl (z_fit hE hO)) kk
theorem gf_X0_200 {p : Program} {l : Launch} {e : Env} {R : Room} {s : State} {m : MethodId} {args : Array Value} {below : List Frame} {meth : Method} {c : Code} {Q : State → Prop} {D : va_G} {tA : Nat → ClassId} {B nL c0 s0 : Nat} {ad : Nat → Nat} {kn : State → Prop} {cc : ByteArray} {ret : Option FieldType} {pc : Nat} {h : Hp} {lv : List (Nat × Value)} {st : List Value} {q : Nat} (F : ZF p s m args meth c D tA B nL kn RX0 cc ret) (hd : decode cc pc = .ok (.getfield 200, 3)) (hO : zOk h) (t : zTy h q 5) (kk : ZW p l e R s m args below meth c Q D tA B nL c0 s0 ad (pc + 3) h lv (.int (zi h q 1) :: st)) : ZW p l e R s m args below meth c Q D tA B nL c0 s0 ad pc h lv (.ref (ad q) :: st) :=
  z_get (ci := 5) (k := 1) (t := 0) F rfl in_X5 (by decide) rfl (by decide) (Or.inr ⟨_, va_Nw.use rfl (F.N _ (zNW_of q558 rfl))⟩) rfl hd t.1 (zTy.tg t (by decide)) kk
theorem pf_X0_203 {p : Program} {l : Launch} {e : Env} {R : Room} {s : State} {m : MethodId} {args : Array Value} {below : List Frame} {meth : Method} {c : Code} {Q : State → Prop} {D : va_G} {tA : Nat → ClassId} {B nL c0 s0 : Nat} {ad : Nat → Nat} {kn : State → Prop} {cc : ByteArray} {ret : Option FieldType} {pc : Nat} {h : Hp} {lv : List (Nat × Value)} {st : List Value} {x : Option Nat} (F : ZF p s m args meth c D tA B nL kn RX0 cc ret) (hd : decode cc pc = .ok (.putfield 203, 3)) (hO : zOk h) (kk : ZW p l e R s m args below meth c Q D tA B nL c0 s0 ad (pc + 3) (zsr h 0 10 x) lv st) : ZW p l e R s m args below meth c Q D tA B nL c0 s0 ad pc h lv (va_re ad x :: .ref (ad 0) :: st) := 
  z_put (ci := 0) (k := 10) (t := 2) (ty := (tyX0 10)) (h' := zsr h 0 10 x) F rfl in_X0 tyX0_ok nmX0 (by decide) rfl (by decide) (Or.inl (F.ts _ q187)) rfl rfl rfl (by cases x <;> rfl) (by cases x <;> rfl) hd rfl rfl rfl rfl (fun q' _ hq' => zen_sr hq') zfv_sr.1 zfv_sr.2 (zl_0 hO) (zt_0 hO) kk
def X0_law (h : Hp)  : Option (Int32 × Hp) :=
  ck (zc h + 1 ≤ zLC ∧ zs h + 4 ≤ zLS) <| nm (zx h) fun a2 => nm (zne h 5 0 4) fun h3 => bd (X5_init h3 a2) fun _ h4 => bd (X5_lines h4 a2) fun r7 h6 => nm (zsi h6 0 9 (0 : Int32)) fun h8 => if (zi h8 a2 1) < 0 then (nm (zsr h8 0 10 r7) fun h10 => some ((1 : Int32), h10)) else (some ((-100 : Int32) - (zi h8 a2 1), h8))
set_option maxHeartbeats 4000000 in
theorem mX0_law {l : Launch} {D : va_G} {tA : Nat → ClassId} {B : Nat} {kn : State → Prop} {h hE : Hp} {ad : Nat → Nat}  {r : Int32} (hkp : zKp D tA B kn) (hO_h : zOk h)  (hf : X0_law h  = some (r, hE)) : zM l D tA B kn yX0_law (ws_ yX0_law cX0_law 3 (Option.some Jvm.ClassFile.FieldType.int)) 101 3353 h ad [.ref (ad 0)] hE (zRi D tA B h ad r hE) := by
  refine zM_of hkp (by decide +kernel) (Nat.le_of_ble_eq_true rfl) ?_
  intro p e s m args below meth c F hnm
  show ZW p l e (zRm 101 3353 h) s m args below meth c (MQ below (zRi D tA B h ad r hE) args s (zc hE - zc h) (zs hE - zs h) (fun q => B ≤ q)) D tA B 3 (zc h) (zs h) ad 0 h [(0, .ref (ad 0))] []
  replace hf := (X0_law.eq_1 h ).symm.trans hf
  replace hf := ck_o hf
  obtain ⟨c1, hf⟩ := hf
  refine z_new (ci := 5) F hO_h.1 ⟨(zEx.rf h).2.1, (zEx.rf h).2.2.1⟩ rfl (by decide) in_X5 tyX5_ok (by decide) q550 q551 q105 (z_lim1 (zEx.rf h) c1) dX0_law_0 (fun ad_h3 hA_h3 => ?_)
  rw [← hA_h3 0 (zl_0 hO_h)]
  replace hf := nm_o hf
  obtain ⟨a2, ea2, hf⟩ := hf
  rw [← ea2]
  replace hf := nm_o hf
  obtain ⟨h3, eh3, hf⟩ := hf
  refine w_nh eh3 ?_
  have Eh3 : zEx h h3 := by rw [eh3]; exact zEx.ne
  have hO_h3 : zOk h3 := by rw [eh3]; exact hO_h.ne (by decide) c1
  have t_a2 : zTy h3 a2 5 := by rw [eh3, ea2]; exact zTy.new (by decide)
  refine w_dup F dX0_law_3 rfl ?_
  refine w_aload_n F dX0_law_4 0 rfl ?_
  replace hf := bd_o hf
  obtain ⟨r5, h4, qh4, hf⟩ := hf
  refine cl_X0_193 F dX0_law_5 hO_h3 Eh3 (t_a2) ⟨Nat.le_of_ble_eq_true rfl, Nat.le_of_ble_eq_true rfl⟩ qh4 (Nat.le_of_ble_eq_true rfl) (fun hO_h4 Eh4 => ?_)
  have t_a2 := t_a2.ex Eh4
  refine w_astore_n (i := 1) (lv' := [(1, .ref (ad_h3 a2)), (0, .ref (ad_h3 0))]) F dX0_law_8 rfl (by decide) rfl ?_
  refine w_aload_n F dX0_law_9 0 rfl ?_
  replace hf := bd_o hf
  obtain ⟨r7, h6, qh6, hf⟩ := hf
  refine cl_X0_196 F dX0_law_10 hO_h4 ((Eh3).tr Eh4) (t_a2) ⟨Nat.le_of_ble_eq_true rfl, Nat.le_of_ble_eq_true rfl⟩ qh6 (Nat.le_of_ble_eq_true rfl) (fun hO_h6 Eh6 t_r7 ad_h6 hA_h6 => ?_)
  rw [← hA_h6 0 (zl_0 hO_h4)]
  rw [← hA_h6 a2 (t_a2.1)]
  have t_a2 := t_a2.ex Eh6
  refine w_astoreo_n (i := 2) (lv' := [(2, va_re ad_h6 r7), (1, .ref (ad_h6 a2)), (0, .ref (ad_h6 0))]) F dX0_law_13 rfl (by decide) rfl ?_
  refine w_aload_n F dX0_law_14 2 rfl ?_
  refine w_iconst (v := 0) F dX0_law_15 rfl ?_
  refine pf_X0_188 F dX0_law_16 hO_h6 ?_
  replace hf := nm_o hf
  obtain ⟨h8, eh8, hf⟩ := hf
  refine w_nh eh8 ?_
  have Eh8 : zEx h6 h8 := by rw [eh8]; exact zEx.si
  have hO_h8 : zOk h8 := by rw [eh8]; exact hO_h6.si
  have t_a2 := t_a2.ex Eh8
  have t_r7 := t_r7.ex Eh8
  refine w_aload_n F dX0_law_19 1 rfl ?_
  refine gf_X0_200 F dX0_law_20 hO_h8 (t_a2) ?_
  refine w_if_lt (tgt := 34) F dX0_law_23 (by decide) (fun c9 => ?_) (fun c9 => ?_)
  · replace hf := if_t c9 hf
    refine w_aload_n F dX0_law_34 2 rfl ?_
    refine w_aloado_n F dX0_law_35 0 rfl ?_
    refine pf_X0_203 (x := r7) F dX0_law_36 hO_h8 ?_
    replace hf := nm_o hf
    obtain ⟨h10, eh10, hf⟩ := hf
    refine w_nh eh10 ?_
    have Eh10 : zEx h8 h10 := by rw [eh10]; exact zEx.sr
    have hO_h10 : zOk h10 := by rw [eh10]; exact hO_h8.sr (fun a ha => by rw [zt_0 hO_h8]; exact (t_r7 a ha)) (by decide)
    have t_a2 := t_a2.ex Eh10
    have t_r7 := t_r7.ex Eh10
    refine w_iconst (v := 1) F dX0_law_39 rfl ?_
    obtain ⟨rfl, rfl⟩ := ret_o hf
    exact z_ireD F dX0_law_40 hO_h10 (((((Eh3).tr Eh4).tr Eh6).tr Eh8).tr Eh10) ((hA_h3).tr ((Eh3).tr Eh4) hA_h6)
  · replace hf := if_f c9 hf
    refine w_bipush (v := -100) F dX0_law_26 rfl ?_
    refine w_aload_n F dX0_law_28 1 rfl ?_
    refine gf_X0_200 F dX0_law_29 hO_h8 (t_a2) ?_
    refine w_isub F dX0_law_32 ?_
    obtain ⟨rfl, rfl⟩ := ret_o hf
    exact z_ireD F dX0_law_33 hO_h8 ((((Eh3).tr Eh4).tr Eh6).tr Eh8) ((hA_h3).tr ((Eh3).tr Eh4) hA_h6)
