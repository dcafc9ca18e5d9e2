/-! WHO THROWS: a cast that fails, an index outside, a size below 0, a null receiver -/
theorem z_fc {vm : Vm} {name : String} {c : ClassId} {k : Class} (h : vm.findClass name = some c) (hk : vm.classes[c]? = some k) : k.name = name ∧ k.hidden = none ∧ k.loader = none := by
  obtain ⟨hlt, hp, -⟩ := Array.findIdx?_eq_some_iff_getElem.mp h
  have e : vm.classes[c] = k := by
    have := Array.getElem?_eq_getElem hlt
    rw [hk] at this
    exact (Option.some.inj this).symm
  rw [e] at hp
  simp only [Bool.and_eq_true, beq_iff_eq, Option.isNone_iff_eq_none] at hp
  exact ⟨hp.1.1.1, hp.1.1.2, hp.2⟩
theorem z_home {vm : Vm} {name : String} {c : ClassId} {k : Class} (hm : ∀ m ∈ vm.modules, (m.loader.isSome || m.name == "java.base" || !(castPackages_1.any fun p => m.packages.contains p)) = true) (h : vm.findClass name = some c) (hk : vm.classes[c]? = some k) (hp : packageOf name ∈ castPackages_1) : (vm.home k).toList.length ≤ 40 := by
  obtain ⟨h1, h2, h3⟩ := z_fc h hk
  have hmod : ∀ m, vm.moduleOf k = some m → m.name = "java.base" := by
    intro m hf
    unfold Vm.moduleOf at hf
    by_cases hq : k.ofPrimitives = true
    · rw [if_pos hq] at hf
      have := List.find?_some hf
      simpa using this
    · rw [if_neg hq] at hf
      have h5 := List.find?_some hf
      have h6 := hm m (List.mem_of_find?_eq_some hf)
      rw [h3, h1] at h5
      simp only [Bool.and_eq_true, beq_iff_eq] at h5
      rw [h5.1] at h6
      have h7 : (castPackages_1.any fun p => m.packages.contains p) = true := List.any_eq_true.mpr ⟨_, hp, h5.2⟩
      rw [h7] at h6
      simpa using h6
  unfold Vm.home
  rw [h3]
  cases hf : vm.moduleOf k with
  | none =>
    show ("unnamed module" ++ " of loader " ++ "'bootstrap'").toList.length ≤ 40
    decide
  | some m =>
    show ("module " ++ m.name ++ " of loader " ++ "'bootstrap'").toList.length ≤ 40
    rw [hmod m hf]
    decide
theorem z_shown {vm : Vm} {name : String} {c : ClassId} {k : Class} (h : vm.findClass name = some c) (hk : vm.classes[c]? = some k) : k.shown.toList.length = name.toList.length := by
  obtain ⟨h1, h2, h3⟩ := z_fc h hk
  unfold Class.shown
  rw [h2, h1]
  show (String.ofList _).toList.length = _
  rw [String.toList_ofList, List.length_map]
theorem z_cctext {vm : Vm} {A C : String} {a b : ClassId} {ka kb : Class} (hm : ∀ m ∈ vm.modules, (m.loader.isSome || m.name == "java.base" || !(castPackages_1.any fun p => m.packages.contains p)) = true) (h1 : vm.findClass A = some a) (hk1 : vm.classes[a]? = some ka) (h2 : vm.findClass C = some b) (hk2 : vm.classes[b]? = some kb) (hp : packageOf A ∈ castPackages_1 ∧ packageOf C ∈ castPackages_1) (hl : A.toList.length ≤ 30 ∧ C.toList.length ≤ 30) :
    (stringBytes (stringToUtf16 (checkcast.message vm ka kb))).size ≤ 1200 ∧ (checkcast.message vm ka kb == notModelled) = false := by
  have e1 := z_shown h1 hk1
  have e2 := z_shown h2 hk2
  have e3 := z_home hm h1 hk1 hp.1
  have e4 := z_home hm h2 hk2 hp.2
  have e5 : (vm.homes ka kb).toList.length ≤ 160 := by
    unfold Vm.homes
    by_cases hs : vm.sameModule ka kb = true
    · rw [if_pos hs]
      show (toString ka.shown ++ toString " and " ++ toString kb.shown ++ toString " are in " ++ toString (vm.home ka)).toList.length ≤ 160
      simp only [String.toList_append, List.length_append]
      have a1 : (toString " and ").toList.length = 5 := by decide
      have a2 : (toString " are in ").toList.length = 8 := by decide
      have a3 : (toString ka.shown).toList.length = A.toList.length := e1
      have a4 : (toString kb.shown).toList.length = C.toList.length := e2
      have a5 : (toString (vm.home ka)).toList.length ≤ 40 := e3
      omega
    · rw [if_neg hs]
      show (toString ka.shown ++ toString " is in " ++ toString (vm.home ka) ++ toString "; " ++ toString kb.shown ++ toString " is in " ++ toString (vm.home kb)).toList.length ≤ 160
      simp only [String.toList_append, List.length_append]
      have a1 : (toString " is in ").toList.length = 7 := by decide
      have a2 : (toString "; ").toList.length = 2 := by decide
      have a3 : (toString ka.shown).toList.length = A.toList.length := e1
      have a4 : (toString kb.shown).toList.length = C.toList.length := e2
      have a5 : (toString (vm.home ka)).toList.length ≤ 40 := e3
      have a6 : (toString (vm.home kb)).toList.length ≤ 40 := e4
      omega
  have hmsg : checkcast.message vm ka kb = toString "class " ++ toString ka.shown ++ toString " cannot be cast to class " ++ toString kb.shown ++ toString " (" ++ toString (vm.homes ka kb) ++ toString ")" := rfl
  rw [hmsg]
  constructor
  · have b1 := stringBytes_size_le (stringToUtf16 (toString "class " ++ toString ka.shown ++ toString " cannot be cast to class " ++ toString kb.shown ++ toString " (" ++ toString (vm.homes ka kb) ++ toString ")"))
    have b2 := utf16_size_le (toString "class " ++ toString ka.shown ++ toString " cannot be cast to class " ++ toString kb.shown ++ toString " (" ++ toString (vm.homes ka kb) ++ toString ")")
    simp only [String.toList_append, List.length_append] at b2
    have a1 : (toString "class ").toList.length = 6 := by decide
    have a2 : (toString " cannot be cast to class ").toList.length = 25 := by decide
    have a3 : (toString ka.shown).toList.length = A.toList.length := e1
    have a4 : (toString kb.shown).toList.length = C.toList.length := e2
    have a5 : (toString " (").toList.length = 2 := by decide
    have a6 : (toString ")").toList.length = 1 := by decide
    have a7 : (toString (vm.homes ka kb)).toList.length ≤ 160 := e5
    omega
  · rw [beq_eq_false_iff_ne]
    intro hq
    have h3 := congrArg String.toList hq
    simp only [String.toList_append] at h3
    have h4 : notModelled.toList = '\u0000' :: " a message that is not modelled".toList := by decide
    have h5 : (toString "class ").toList = ['c', 'l', 'a', 's', 's', ' '] := by decide
    rw [h4, h5] at h3
    simp at h3
section ZRaise
variable {p : Program} {l : Launch} {e : Env} {R : Room} {s : State} {m : MethodId} {args : Array Value} {below : List Frame} {meth : Method} {c : Code} {Q : State → Prop}
variable {D : va_G} {tA : Nat → ClassId} {B nL c0 s0 : Nat} {ad : Nat → Nat} {kn : State → Prop} {own : String} {cc : ByteArray} {ret : Option FieldType}
variable {pc : Nat} {h : Hp} {lv : List (Nat × Value)} {st : List Value} {X : String}
/-- a cast that fails, as far as the note -/
theorem z_castFails {T : State} {locs : List Loc} {cells slots : Nat} (XS : Stand p l e R s m args below meth c T locs cells slots) (hexec : p.tables.exec = Jvm.exec) {name C : String} {index : Nat} (hown : s.vm.findClass own = some m.cls) (hlink : (Cond.classLink own index name).before args s = true) (hE : zEw B s) (hno : (C, name) ∈ zNoC) (hp : packageOf C ∈ castPackages_1 ∧ packageOf name ∈ castPackages_1) (hl : C.toList.length ≤ 30 ∧ name.toList.length ≤ 30)
    {a : Addr} {cell : Cell} (hcell : T.heap[a]? = some cell) (hobj : cell.vm.isStatics = false) (hC : s.vm.findClass C = some cell.cls) {g : JFrame} (hg : g.method = m) {rest : List Value} (hstack : g.stack = .ref a :: rest) (hdg : decode c.code g.pc = .ok (.checkcast index, 3)) :
    ∃ vm' text, Stand p l e R s m args below meth c (T.setVm vm') locs cells slots ∧ (stringBytes (stringToUtf16 text)).size ≤ 1200 ∧ (text == notModelled) = false ∧
      ∀ target, Steps p.tables e below (((T.setVm vm').setTop g).pushFrame (.throwNew "java/lang/ClassCastException" (some text) none)) target → Steps p.tables e below (T.setTop g) target := by
  have hpl : e.platform.magicAccessors = ({} : Platform).magicAccessors := by rw [XS.admits.platform]
  obtain ⟨cT, hcT, hcl⟩ := Cond.classLink_spec hown hlink e.platform hpl
  obtain ⟨dk, _, _, kt, hd, _, _, _, _, hkt, _, hopen⟩ := hcl.here
  obtain ⟨ks, hks⟩ := Vm.classAt_of_findClass hC
  have hcl₀ := XS.warmed.classLinks hcl
  have hW' : s.WarmedH (T.vm.noted m.cls index (.cls cT)) := XS.warmed.noted hd hopen (State.rightAt_cls hcl)
  obtain ⟨ks', hks', -⟩ := hW'.alike.2.2 _ _ hks
  obtain ⟨kt', hkt', -⟩ := hW'.alike.2.2 _ _ hkt
  have hmods : (T.vm.noted m.cls index (.cls cT)).modules = s.vm.modules := by rw [hW'.alike.1]
  have ht := z_cctext (vm := T.vm.noted m.cls index (.cls cT)) (A := C) (C := name) (a := cell.cls) (b := cT) (ka := ks') (kb := kt') (fun m hm => by rw [hmods] at hm; exact List.all_eq_true.mp hE.2.2.1 m hm) (by rw [hW'.alike.findClass]; exact hC) hks' (by rw [hW'.alike.findClass]; exact hcT) hkt' hp hl
  refine ⟨_, _, XS.noted hW', ht.1, ht.2, fun target hrest => ?_⟩
  subst hg
  jvm_step XS.here [hexec, hdg, checkcast.wp_cold (e := e) (s := T) (f := g) XS.here.top hstack (resolveClass_links e.toSetting hcl₀) hcl₀.ready,
    checkcast.wp_ready (e := e) (s := T.setVm (T.vm.noted g.method.cls index (.cls cT))) (f := g) XS.here.top hcl₀.ready hstack]
  refine ⟨cell, hcell, fun k hk => (by rw [hk] at hobj; cases hobj), ks', hks', kt', hkt', ?_⟩
  rw [if_neg (by rw [hW'.alike.assignable, z_nocast hE hno hC hcT]; decide)]
  exact hrest
theorem z_castX {q ci index N : Nat} {C nm : String} {TT : u_T} (F : ZF p s m args meth c D tA B nL kn own cc ret) (htr : l.stackTraces = false) (hc : zcl[ci]? = some (C, TT, N)) (hci : ci < 100) (hq : q < zx h) (ht : zt h q = ci) (hlk : Cond.classLink own index nm ∈ lw_all) (hno : (C, nm) ∈ zNoC) (hp : packageOf C ∈ castPackages_1 ∧ packageOf nm ∈ castPackages_1) (hln : C.toList.length ≤ 30 ∧ nm.toList.length ≤ 30) (hd : decode cc pc = .ok (.checkcast index, 3))
    (hm : c0 ≤ zc h ∧ s0 ≤ zs h) (hR : 8 ≤ R.frames ∧ 10272 ≤ R.locals) (hRc : (zc h - c0) + 3 ≤ R.cells ∧ (zs h - s0) + 1210 ≤ R.slots) (hst : (st.map fun v => v.category).sum ≤ 15)
    (kk : ZT p l e R s m args below meth c Q D tA B nL c0 s0 ad "java/lang/ClassCastException" pc (zga h 3 1210) lv) : ZW p l e R s m args below meth c Q D tA B nL c0 s0 ad pc h lv (.ref (ad q) :: st) := by
  intro H locs ls hw hl T hT XS
  subst hT
  obtain ⟨cell, h1, h2, h3⟩ := z_recv F hc hci hq ht hw
  obtain ⟨vm', text, X', hb, hmod, step⟩ := z_castFails (g := F0 m pc ls (.ref (ad q) :: st)) XS F.x F.ow (F.ts _ hlk) F.E hno hp hln h1 h2 h3 rfl rfl (by rw [F.b]; exact hd)
  obtain ⟨t, a1, b1⟩ := z_raiseM (names := ["java/lang/RuntimeException", "java/lang/Exception"]) (st := .ref (ad q) :: st) F htr (fun a ha => by unfold zE0; simp only [List.mem_append]; exact Or.inl (Or.inr ha)) (by decide +kernel) (by decide) hmod hb (by decide) hm hR hRc (by rw [List.map_cons, List.sum_cons]; show 1 + _ ≤ 16; omega) kk (T := T.setVm vm') hw hl X'
  exact ⟨t, step t a1, b1⟩
/-! an index outside -/
theorem z_arr {q j t : Nat} {ty : FieldType} {H : Heap} {locs : List Loc} (F : ZF p s m args meth c D tA B nL kn own cc ret) (hj : (ztys tA)[j]? = some (tA j, ty)) (htj : t = 100 + j) (h5 : t < 105) (hq : q < zx h) (ht : zt h q = t) (hw : zWd D tA B s ad h H locs) : ∃ cell, H[ad q]? = some cell ∧ s.isArrayOf cell ty ∧ cell.slots.size = zn h q := by
  have ha := hw.1 q _ (z_at hq ht (by omega))
  rw [htj, Nat.add_sub_cancel_left] at ha
  unfold zar at ha
  by_cases h4 : 100 + j < 104
  · rw [if_pos h4] at ha
    exact ⟨_, ha, (F.K.2 j _ hj).1 _ _, arrV_size _ _ _⟩
  · rw [if_neg h4, if_pos (by omega)] at ha
    exact ⟨_, ha, (F.K.2 j _ hj).1 _ _, arrV_size _ _ _⟩
theorem zAI_sub : ∀ a ∈ Jvm.Bundle.messageArmAtoms "java/lang/ArrayIndexOutOfBoundsException" ["java/lang/IndexOutOfBoundsException", "java/lang/RuntimeException", "java/lang/Exception"], a ∈ zE0 := fun a ha => by unfold zE0; simp only [List.mem_append]; exact Or.inl (Or.inl (Or.inr ha))
theorem z_aldX {q j t : Nat} {ty : FieldType} {i : Int32} {ins : Instr} (F : ZF p s m args meth c D tA B nL kn own cc ret) (htr : l.stackTraces = false) (hj : (ztys tA)[j]? = some (tA j, ty)) (htj : t = 100 + j) (h5 : t < 105) (hins : ins = .baload ∨ ins = .saload ∨ ins = .iaload ∨ ins = .laload) (hd : decode cc pc = .ok (ins, 1)) (hq : q < zx h) (ht : zt h q = t) (hi : ¬ vp_in i (zn h q)) (hnn : zn h q < 2 ^ 31)
    (hm : c0 ≤ zc h ∧ s0 ≤ zs h) (hR : 8 ≤ R.frames ∧ 10272 ≤ R.locals) (hRc : (zc h - c0) + 3 ≤ R.cells ∧ (zs h - s0) + 222 ≤ R.slots) (hst : (st.map fun v => v.category).sum ≤ 16)
    (kk : ZT p l e R s m args below meth c Q D tA B nL c0 s0 ad "java/lang/ArrayIndexOutOfBoundsException" pc (zga h 3 222) lv) : ZW p l e R s m args below meth c Q D tA B nL c0 s0 ad pc h lv (.int i :: .ref (ad q) :: st) := by
  intro H locs ls hw hl T hT XS
  subst hT
  obtain ⟨cell, h1, h2, h3⟩ := z_arr F hj htj h5 hq ht hw
  have hout : i < 0 ∨ cell.slots.size ≤ i.toNatClampNeg := by rw [h3]; exact Classical.not_not.mp hi
  obtain ⟨t, a1, b1⟩ := z_raiseM (names := ["java/lang/IndexOutOfBoundsException", "java/lang/RuntimeException", "java/lang/Exception"]) (st := st) F htr zAI_sub (by decide +kernel) (by decide) (index_text_modelled i cell.slots.size) (index_text_bytes i (by rw [h3]; exact hnn)) (by decide) hm hR hRc hst kk hw hl XS
  rcases hins with rfl | rfl | rfl | rfl
  · exact ⟨t, XS.baloadOut F.x h1 h2 hout (g := F0 m pc ls (.int i :: .ref (ad q) :: st)) rfl rfl (by rw [F.b]; exact hd) t a1, b1⟩
  · exact ⟨t, XS.saloadOut F.x h1 h2 hout (g := F0 m pc ls (.int i :: .ref (ad q) :: st)) rfl rfl (by rw [F.b]; exact hd) t a1, b1⟩
  · exact ⟨t, XS.ialoadOut F.x h1 h2 hout (g := F0 m pc ls (.int i :: .ref (ad q) :: st)) rfl rfl (by rw [F.b]; exact hd) t a1, b1⟩
  · exact ⟨t, XS.laloadOut F.x h1 h2 hout (g := F0 m pc ls (.int i :: .ref (ad q) :: st)) rfl rfl (by rw [F.b]; exact hd) t a1, b1⟩
theorem z_astX {q j t : Nat} {ty : FieldType} {i x : Int32} {ins : Instr} (F : ZF p s m args meth c D tA B nL kn own cc ret) (htr : l.stackTraces = false) (hj : (ztys tA)[j]? = some (tA j, ty)) (htj : t = 100 + j) (h5 : t < 105) (hins : ins = .bastore ∨ ins = .sastore ∨ ins = .iastore) (hd : decode cc pc = .ok (ins, 1)) (hq : q < zx h) (ht : zt h q = t) (hi : ¬ vp_in i (zn h q)) (hnn : zn h q < 2 ^ 31)
    (hm : c0 ≤ zc h ∧ s0 ≤ zs h) (hR : 8 ≤ R.frames ∧ 10272 ≤ R.locals) (hRc : (zc h - c0) + 3 ≤ R.cells ∧ (zs h - s0) + 222 ≤ R.slots) (hst : (st.map fun v => v.category).sum ≤ 16)
    (kk : ZT p l e R s m args below meth c Q D tA B nL c0 s0 ad "java/lang/ArrayIndexOutOfBoundsException" pc (zga h 3 222) lv) : ZW p l e R s m args below meth c Q D tA B nL c0 s0 ad pc h lv (.int x :: .int i :: .ref (ad q) :: st) := by
  intro H locs ls hw hl T hT XS
  subst hT
  obtain ⟨cell, h1, h2, h3⟩ := z_arr F hj htj h5 hq ht hw
  have hout : i < 0 ∨ cell.slots.size ≤ i.toNatClampNeg := by rw [h3]; exact Classical.not_not.mp hi
  obtain ⟨t, a1, b1⟩ := z_raiseM (names := ["java/lang/IndexOutOfBoundsException", "java/lang/RuntimeException", "java/lang/Exception"]) (st := st) F htr zAI_sub (by decide +kernel) (by decide) (index_text_modelled i cell.slots.size) (index_text_bytes i (by rw [h3]; exact hnn)) (by decide) hm hR hRc hst kk hw hl XS
  rcases hins with rfl | rfl | rfl
  · exact ⟨t, XS.bastoreOut F.x h1 h2 hout (g := F0 m pc ls (.int x :: .int i :: .ref (ad q) :: st)) rfl rfl (by rw [F.b]; exact hd) t a1, b1⟩
  · exact ⟨t, XS.sastoreOut F.x h1 h2 hout (g := F0 m pc ls (.int x :: .int i :: .ref (ad q) :: st)) rfl rfl (by rw [F.b]; exact hd) t a1, b1⟩
  · exact ⟨t, XS.iastoreOut F.x h1 h2 hout (g := F0 m pc ls (.int x :: .int i :: .ref (ad q) :: st)) rfl rfl (by rw [F.b]; exact hd) t a1, b1⟩
theorem z_lastX {q : Nat} {i : Int32} {x : Int64} (F : ZF p s m args meth c D tA B nL kn own cc ret) (htr : l.stackTraces = false) (hd : decode cc pc = .ok (.lastore, 1)) (hq : q < zx h) (ht : zt h q = 104) (hi : ¬ vp_in i (zn h q)) (hnn : zn h q < 2 ^ 31)
    (hm : c0 ≤ zc h ∧ s0 ≤ zs h) (hR : 8 ≤ R.frames ∧ 10272 ≤ R.locals) (hRc : (zc h - c0) + 3 ≤ R.cells ∧ (zs h - s0) + 222 ≤ R.slots) (hst : (st.map fun v => v.category).sum ≤ 16)
    (kk : ZT p l e R s m args below meth c Q D tA B nL c0 s0 ad "java/lang/ArrayIndexOutOfBoundsException" pc (zga h 3 222) lv) : ZW p l e R s m args below meth c Q D tA B nL c0 s0 ad pc h lv (.long x :: .int i :: .ref (ad q) :: st) := by
  intro H locs ls hw hl T hT XS
  subst hT
  obtain ⟨cell, h1, h2, h3⟩ := z_arr (j := 4) (ty := .long) F rfl rfl (by decide) hq ht hw
  have hout : i < 0 ∨ cell.slots.size ≤ i.toNatClampNeg := by rw [h3]; exact Classical.not_not.mp hi
  obtain ⟨t, a1, b1⟩ := z_raiseM (names := ["java/lang/IndexOutOfBoundsException", "java/lang/RuntimeException", "java/lang/Exception"]) (st := st) F htr zAI_sub (by decide +kernel) (by decide) (index_text_modelled i cell.slots.size) (index_text_bytes i (by rw [h3]; exact hnn)) (by decide) hm hR hRc hst kk hw hl XS
  exact ⟨t, XS.lastoreOut F.x h1 h2 hout (g := F0 m pc ls (.long x :: .int i :: .ref (ad q) :: st)) rfl rfl (by rw [F.b]; exact hd) t a1, b1⟩
/-! a size below 0 -/
theorem z_newaX {n : Int32} {atype : ArrayType} (F : ZF p s m args meth c D tA B nL kn own cc ret) (htr : l.stackTraces = false) (hn : n < 0) (hd : decode cc pc = .ok (.newarray atype, 2))
    (hm : c0 ≤ zc h ∧ s0 ≤ zs h) (hR : 8 ≤ R.frames ∧ 10272 ≤ R.locals) (hRc : (zc h - c0) + 3 ≤ R.cells ∧ (zs h - s0) + 54 ≤ R.slots) (hst : (st.map fun v => v.category).sum ≤ 16)
    (kk : ZT p l e R s m args below meth c Q D tA B nL c0 s0 ad "java/lang/NegativeArraySizeException" pc (zga h 3 54) lv) : ZW p l e R s m args below meth c Q D tA B nL c0 s0 ad pc h lv (.int n :: st) := by
  intro H locs ls hw hl T hT XS
  subst hT
  obtain ⟨t, a1, b1⟩ := z_raiseM (text := toString n) (names := ["java/lang/RuntimeException", "java/lang/Exception"]) (st := st) F htr (fun a ha => by unfold zE0; simp only [List.mem_append]; exact Or.inr ha) (by decide +kernel) (by decide) (negative_text_modelled hn) (negative_text_bytes n) (by decide) hm hR hRc hst kk hw hl XS
  exact ⟨t, XS.newarrayNegative F.x (g := F0 m pc ls (.int n :: st)) rfl hn rfl (by rw [F.b]; exact hd) t a1, b1⟩
/-! a null receiver -/
theorem z_nulV {y : MethodName} {C : String} {bytes : ByteArray} {maxL n index : Nat} {yret : Option FieldType} {As : List Value} (F : ZF p s m args meth c D tA B nL kn own cc ret) (htr : l.stackTraces = false) (hlk : Cond.methodLink own index y ∈ lw_all) (hin : Cond.instanceMethod y ∈ lw_all) (hse : Cond.selects C y y ∈ lw_all) (hco : Cond.code y bytes maxL yret ∈ lw_all) (hyd : y.cls ≠ "java/lang/invoke/MethodHandle" ∧ y.cls ≠ "java/lang/invoke/VarHandle" ∧ (parseMethodDescriptor y.desc).map (fun d => d.parameters.length) = some n) (hn : As.length = n) (hd : decode cc pc = .ok (.invokevirtual index, 3))
    (hm : c0 ≤ zc h ∧ s0 ≤ zs h) (hR : 8 ≤ R.frames ∧ 10272 ≤ R.locals) (hRc : (zc h - c0) + 1 ≤ R.cells ∧ (zs h - s0) + 8 ≤ R.slots) (hst : (st.map fun v => v.category).sum ≤ 16)
    (kk : ZT p l e R s m args below meth c Q D tA B nL c0 s0 ad "java/lang/NullPointerException" pc (zga h 1 8) lv) : ZW p l e R s m args below meth c Q D tA B nL c0 s0 ad pc h lv (As.reverse ++ .null :: st) := by
  intro H locs ls hw hl T hT XS
  subst hT
  obtain ⟨mk, methM, hnamed, hmethM, hstM, habM⟩ := Cond.instanceMethod_spec (F.ts _ hin)
  obtain ⟨methM', cM, hmethM', -, -, -, -, -, -, hsigM⟩ := Cond.code_spec hnamed (F.ts _ hco)
  cases hmethM.symm.trans hmethM'
  obtain ⟨c2, r2, m2, q1, q2, q3, q4, kP, hkP, hkPi⟩ := Cond.selects_spec (F.ts _ hse)
  cases hnamed.symm.trans q3
  have hlen : As.length = methM.sig.parameters.length := by
    have h2 := hyd.2.2
    rw [hsigM] at h2
    exact hn.trans (Option.some.inj h2).symm
  obtain ⟨vm', X', step⟩ := XS.invokevirtualNull F.x F.ow (F.ts _ hlk) hnamed hmethM hstM hkP hkPi ⟨hyd.1, hyd.2.1⟩ (g := F0 m pc ls (As.reverse ++ .null :: st)) rfl (argsL := As) (rest := st) hlen rfl (by rw [F.b]; exact hd)
  obtain ⟨t, a1, b1⟩ := z_raiseN (st := st) F htr hm hR hRc hst kk (T := T.setVm vm') hw hl X'
  exact ⟨t, step t a1, b1⟩
theorem z_nulU {x : MethodName} {owner : String} {n index : Nat} {As : List Value} (F : ZF p s m args meth c D tA B nL kn own cc ret) (htr : l.stackTraces = false) (hlk : Cond.methodLink own index x ∈ lw_all) (hsm : Cond.sameMethod x.cls owner x.name x.desc ∈ lw_all) (hdc : Cond.declares ⟨owner, x.name, x.desc⟩ ∈ zNW) (how : owner ≠ "java/lang/invoke/MethodHandle" ∧ owner ≠ "java/lang/invoke/VarHandle" ∧ (parseMethodDescriptor x.desc).map (fun d => d.parameters.length) = some n) (hn : As.length = n) (hd : decode cc pc = .ok (.invokevirtual index, 3))
    (hm : c0 ≤ zc h ∧ s0 ≤ zs h) (hR : 8 ≤ R.frames ∧ 10272 ≤ R.locals) (hRc : (zc h - c0) + 1 ≤ R.cells ∧ (zs h - s0) + 8 ≤ R.slots) (hst : (st.map fun v => v.category).sum ≤ 16)
    (kk : ZT p l e R s m args below meth c Q D tA B nL c0 s0 ad "java/lang/NullPointerException" pc (zga h 1 8) lv) : ZW p l e R s m args below meth c Q D tA B nL c0 s0 ad pc h lv (As.reverse ++ .null :: st) := by
  intro H locs ls hw hl T hT XS
  subst hT
  obtain ⟨vm', X', step⟩ := XS.virtualNullUp F.x F.ow (F.ts _ hlk) (F.ts _ hsm) (va_Nw.use rfl (F.N _ hdc)) ⟨how.1, how.2.1⟩ (g := F0 m pc ls (As.reverse ++ .null :: st)) rfl (argsL := As) (rest := st) (fun sig hs => by
    have h2 := how.2.2
    rw [hs] at h2
    exact hn.trans (Option.some.inj h2).symm) rfl (by rw [F.b]; exact hd)
  obtain ⟨t, a1, b1⟩ := z_raiseN (st := st) F htr hm hR hRc hst kk (T := T.setVm vm') hw hl X'
  exact ⟨t, step t a1, b1⟩
end ZRaise
