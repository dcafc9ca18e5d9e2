/-! THROWING: the judgement ZT (a note '.throwing' of an object of class X lies over the method's frame at pc), leaving, catching, raising -/
def ZT (p : Program) (l : Launch) (e : Env) (R : Room) (s : State) (m : MethodId) (args : Array Value) (below : List Frame) (meth : Method) (c : Code) (Q : State → Prop) (D : va_G) (tA : Nat → ClassId) (B nL c0 s0 : Nat) (ad : Nat → Nat) (X : String) (pc : Nat) (h : Hp) (lv : List (Nat × Value)) : Prop :=
  ∀ (T : State) (locs : List Loc) (ls : Array Slot) (st : List Value) (a : Addr) (ce : Cell), zWd D tA B s ad h T.heap locs → lv_has ls nL lv → Stand p l e R s m args below meth c T locs (zc h - c0) (zs h - s0) → T.heap[a]? = some ce → ce.vm = .none → s.vm.findClass X = some ce.cls → ∃ t, Steps p.tables e below ((T.setTop (F0 m pc ls st)).pushFrame (.throwing a)) t ∧ Q t
/-- a method has thrown an object of class X; the pure heap is h now -/
def zQT (D : va_G) (tA : Nat → ClassId) (B : Nat) (h0 : Hp) (Pu : (Nat → Nat) → Prop) (X : String) (h : Hp) (below : List Frame) (s : State) : State → Prop := fun t => ∃ (x : Addr) (L : List Loc) (ce : Cell) (u : Nat → Nat), t.status = .running ∧ Ended t below (.threw x) ∧ s.WarmedH t.vm ∧ s.sameButNew ({ t with vm := s.vm } : State) L (zc h - zc h0) (zs h - zs h0) ∧ t.heap[x]? = some ce ∧ ce.vm = .none ∧ s.vm.findClass X = some ce.cls ∧ Pu u ∧ zWd D tA B s u h t.heap L ∧ zOk h ∧ zEx h0 h
section ZThrow
variable {p : Program} {l : Launch} {e : Env} {R : Room} {s : State} {m : MethodId} {args : Array Value} {below : List Frame} {meth : Method} {c : Code} {Q : State → Prop}
variable {D : va_G} {tA : Nat → ClassId} {B nL c0 s0 : Nat} {ad : Nat → Nat} {kn : State → Prop} {own : String} {cc : ByteArray} {ret : Option FieldType}
variable {pc : Nat} {h : Hp} {lv : List (Nat × Value)} {st : List Value} {X : String}
theorem z_out {h0 : Hp} {Pu : (Nat → Nat) → Prop} (F : ZF p s m args meth c D tA B nL kn own cc ret) (htab : c.exceptionTable.isEmpty = true) (hA : Pu ad) (hO : zOk h) (hE : zEx h0 h) : ZT p l e R s m args below meth c (zQT D tA B h0 Pu X h below s) D tA B nL (zc h0) (zs h0) ad X pc h lv := by
  intro T locs ls st a ce hw hl XS ha hv hX
  obtain ⟨h1, h2, h3, h4, h5⟩ := XS.leaveThrown a (g := F0 m pc ls st) rfl rfl rfl (covers_of_empty htab _) (hlocks := F.lk)
  exact ⟨_, h1, a, locs, ce, ad, h2, h3, h4, h5, ha, hv, hX, hA, hw, hO, hE⟩
/-! the search for a handler, pool entries cold or warm -/
theorem z_goYes {Qh : Handler → Pre} {E : CtlPost} {d : Bool} {acts : List Action} {S : State} {f : JFrame} {a : Addr} {x : ExceptionTableEntry} {t : List ExceptionTableEntry} {cx : ClassId} {cell : Cell} (hx : covers x f.pc = true) (h0 : x.catchType ≠ 0) (hl : S.vm.ClassLinks e.platform f.method.cls x.catchType cx) (hcell : S.heap[a]? = some cell) (hobj : ∀ k, cell.vm ≠ .statics k)
    (hk : ∃ k, S.vm.classes[cell.cls]? = some k) (hc : ∃ k, S.vm.classes[cx]? = some k) (hfit : S.vm.assignable cell.cls cx = true) : wp (findHandler.go f a (x :: t)) Qh E e d acts S ↔ Qh (.found x.handlerPc) d acts (S.setVm (S.vm.noted f.method.cls x.catchType (.cls cx))) := by
  simp only [covers] at hx
  obtain ⟨ha, ht⟩ := (resolveClass_links e.toSetting hl).op (op := VmOp.resolveClass f.method.cls x.catchType) rfl
  have hal : S.vm.Alike (S.vm.noted f.method.cls x.catchType (.cls cx)) := (Vm.Alike.refl S.vm).noted _ _ _
  obtain ⟨k1, hk1⟩ := hk
  obtain ⟨k2, hk2⟩ := hc
  obtain ⟨k1', hk1', -⟩ := hal.2.2 _ _ hk1
  obtain ⟨k2', hk2', -⟩ := hal.2.2 _ _ hk2
  have hfit' : (S.vm.noted f.method.cls x.catchType (.cls cx)).assignable cell.cls cx = true := by rw [hal.assignable]; exact hfit
  simp [findHandler.go, hx, h0, ha, ht, hcell, hobj, hk1', hk2', hfit', VmOp.dirties, VmOp.acts]
theorem z_goNo {Qh : Handler → Pre} {E : CtlPost} {d : Bool} {acts : List Action} {S : State} {f : JFrame} {a : Addr} {x : ExceptionTableEntry} {t : List ExceptionTableEntry} {cx : ClassId} {cell : Cell} (hx : covers x f.pc = true) (h0 : x.catchType ≠ 0) (hl : S.vm.ClassLinks e.platform f.method.cls x.catchType cx) (hcell : S.heap[a]? = some cell) (hobj : ∀ k, cell.vm ≠ .statics k)
    (hk : ∃ k, S.vm.classes[cell.cls]? = some k) (hc : ∃ k, S.vm.classes[cx]? = some k) (hno : S.vm.assignable cell.cls cx = false) : wp (findHandler.go f a (x :: t)) Qh E e d acts S ↔ wp (findHandler.go f a t) Qh E e d acts (S.setVm (S.vm.noted f.method.cls x.catchType (.cls cx))) := by
  simp only [covers] at hx
  obtain ⟨ha, ht⟩ := (resolveClass_links e.toSetting hl).op (op := VmOp.resolveClass f.method.cls x.catchType) rfl
  have hal : S.vm.Alike (S.vm.noted f.method.cls x.catchType (.cls cx)) := (Vm.Alike.refl S.vm).noted _ _ _
  obtain ⟨k1, hk1⟩ := hk
  obtain ⟨k2, hk2⟩ := hc
  obtain ⟨k1', hk1', -⟩ := hal.2.2 _ _ hk1
  obtain ⟨k2', hk2', -⟩ := hal.2.2 _ _ hk2
  have hno' : (S.vm.noted f.method.cls x.catchType (.cls cx)).assignable cell.cls cx = false := by rw [hal.assignable]; exact hno
  simp [findHandler.go, hx, h0, ha, ht, hcell, hobj, hk1', hk2', hno', VmOp.dirties, VmOp.acts]
/-- the rows ahead of the one that catches: passed by; the one that catches -/
def zPass (e : Env) (s : State) (d : ClassId) (pc : Nat) (k : ClassId) (y : ExceptionTableEntry) : Prop := covers y pc = false ∨ (y.catchType ≠ 0 ∧ ∃ c, s.vm.ClassLinks e.platform d y.catchType c ∧ s.vm.assignable k c = false)
theorem z_search {f : JFrame} {a : Addr} {cell : Cell} (hobj : ∀ k, cell.vm ≠ .statics k) (hk0 : ∃ k, s.vm.classes[cell.cls]? = some k) (x : ExceptionTableEntry) (rest : List ExceptionTableEntry) (hx : covers x f.pc = true) (h0 : x.catchType ≠ 0) {cx : ClassId} (hlx : s.vm.ClassLinks e.platform f.method.cls x.catchType cx) (hfit : s.vm.assignable cell.cls cx = true) :
    ∀ (pre : List ExceptionTableEntry) (S : State), s.WarmedH S.vm → S.heap[a]? = some cell → (∀ y ∈ pre, zPass e s f.method.cls f.pc cell.cls y) →
      ∃ vm', s.WarmedH vm' ∧ ∀ (Qh : Handler → Pre) (E : CtlPost) (d : Bool) (acts : List Action), wp (findHandler.go f a (pre ++ x :: rest)) Qh E e d acts S ↔ Qh (.found x.handlerPc) d acts (S.setVm vm') := by
  obtain ⟨k0, hk0⟩ := hk0
  intro pre
  induction pre with
  | nil =>
    intro S hW hcell _
    obtain ⟨k0', hk0', -⟩ := hW.alike.2.2 _ _ hk0
    obtain ⟨dk, _, _, kt, hd, _, _, _, _, hkt, _, hopen⟩ := hlx.here
    obtain ⟨kt', hkt', -⟩ := hW.alike.2.2 _ _ hkt
    exact ⟨_, hW.noted hd hopen (State.rightAt_cls hlx), fun Qh E d acts => z_goYes hx h0 (hW.classLinks hlx) hcell hobj ⟨k0', hk0'⟩ ⟨kt', hkt'⟩ (by rw [hW.alike.assignable]; exact hfit)⟩
  | cons y ys ih =>
    intro S hW hcell hpass
    obtain ⟨k0', hk0', -⟩ := hW.alike.2.2 _ _ hk0
    have hrest : ∀ z ∈ ys, zPass e s f.method.cls f.pc cell.cls z := fun z hz => hpass z (List.mem_cons_of_mem _ hz)
    by_cases hcov : covers y f.pc = true
    · rcases hpass y List.mem_cons_self with hz | ⟨hy0, cy, hl, hno⟩
      · rw [hz] at hcov; cases hcov
      · obtain ⟨dk, _, _, kt, hd, _, _, _, _, hkt, _, hopen⟩ := hl.here
        obtain ⟨kt', hkt', -⟩ := hW.alike.2.2 _ _ hkt
        obtain ⟨vm', hW', hq⟩ := ih (S.setVm (S.vm.noted f.method.cls y.catchType (.cls cy))) (hW.noted hd hopen (State.rightAt_cls hl)) hcell hrest
        exact ⟨vm', hW', fun Qh E d acts => (z_goNo hcov hy0 (hW.classLinks hl) hcell hobj ⟨k0', hk0'⟩ ⟨kt', hkt'⟩ (by rw [hW.alike.assignable]; exact hno)).trans (hq Qh E d acts)⟩
    · obtain ⟨vm', hW', hq⟩ := ih S hW hcell hrest
      exact ⟨vm', hW', fun Qh E d acts => (Jvm.W.findHandler_go_skip (by simpa using hcov)).trans (hq Qh E d acts)⟩
theorem z_caught {S : State} {g : JFrame} {a : Addr} {hpc : Nat} {vm' : Vm} {target : State} (hat : At S g.method c below) (hm : S.vm.method? g.method = some meth) (hc : meth.code = some c) (hq : ∀ (Qh : Handler → Pre) (E : CtlPost) (d : Bool) (acts : List Action), wp (findHandler.go g a c.exceptionTable.toList) Qh E e d acts ((S.setTop g).pushFrame (.throwing a)) ↔ Qh (.found hpc) d acts (((S.setTop g).pushFrame (.throwing a)).setVm vm'))
    (hrest : Steps p.tables e below ((S.setVm vm').setTop { g with pc := hpc, stack := [.ref a] }) target) : Steps p.tables e below ((S.setTop g).pushFrame (.throwing a)) target := by
  have hfind : ∀ (Qh : Handler → Pre) (E : CtlPost) (d : Bool) (acts : List Action), wp (findHandler g a) Qh E e d acts ((S.setTop g).pushFrame (.throwing a)) ↔ Qh (.found hpc) d acts (((S.setTop g).pushFrame (.throwing a)).setVm vm') := fun Qh E d acts => by
    rw [Jvm.W.findHandler_eq (meth := meth) (code := c) (by simpa [State.pushFrame, State.setFrames] using hm) hc]
    exact hq Qh E d acts
  have hstep : ∀ r, (stepThrowing e ((S.setTop g).pushFrame (.throwing a)) a (.java g :: r)).1 = (((S.setTop g).pushFrame (.throwing a)).setVm vm').setFrames (.java { g with pc := hpc, stack := [.ref a] } :: r) := by
    intro r
    simp only [stepThrowing, searchFrame, vmDo]
    generalize hr : Sem.go _ e false [] ((S.setTop g).pushFrame (.throwing a)) = res
    obtain ⟨as, rfl, ha⟩ := Sem.eq_ok_of hr (a := Handler.found hpc) (s' := ((S.setTop g).pushFrame (.throwing a)).setVm vm') (acts' := []) (by simp [hfind _ _ _ _])
    rfl
  obtain ⟨hgo, hw⟩ := hat.throwing a
  refine Steps.head hgo hw ?_
  rw [stepThread_throwing (frames_entered hat.top _), hstep]
  obtain ⟨g₀, hg⟩ := Option.isSome_iff_exists.mp hat.top
  obtain ⟨r, hr⟩ := State.topJava?_eq_some.mp hg
  have hr' : (S.setVm vm').frames = .java g₀ :: r := hr
  rw [State.setTop_of_frames _ hr'] at hrest
  have hz : ∀ (u : State) (F G : List Frame), ((u.setFrames F).setVm vm').setFrames G = (u.setVm vm').setFrames G := fun u F G => by
    rw [show (u.setFrames F).setVm vm' = (u.setVm vm').setFrames F from rfl, State.setFrames_setFrames]
  rw [hr, List.tail_cons, State.pushFrame, hz, State.setTop_of_frames _ hr, hz]
  exact hrest
theorem z_nocast {X Y : String} {k c : ClassId} (hE : zEw B s) (hm : (X, Y) ∈ zNoC) (hk : s.vm.findClass X = some k) (hc : s.vm.findClass Y = some c) : s.vm.assignable k c = false := by
  have hv := Cond.holds_not_iff.mp (show (Cond.not (.castable X Y)).holds #[] s none s [] = true from hE.2.1 _ hm #[])
  simp only [Cond.value, hk, hc] at hv
  exact Option.some.inj hv
/-- the shape of a method's table of handlers -/
def zTab (c : Code) (hh : List (Nat × Nat × Nat × Nat)) : Prop := c.exceptionTable.toList.map (fun h => (h.startPc, h.endPc, h.handlerPc, h.catchType)) = hh
/-- a row of the table is passed by at pc by an object of class X -/
def zPs (own : String) (pc : Nat) (X : String) (y : Nat × Nat × Nat × Nat) : Prop := ¬ (y.1 ≤ pc ∧ pc < y.2.1) ∨ (y.2.2.2 ≠ 0 ∧ ∃ C, Cond.classLink own y.2.2.2 C ∈ lw_all ∧ (X, C) ∈ zNoC)
theorem z_catch {hh pre rest : List (Nat × Nat × Nat × Nat)} {a b hpc ct : Nat} {C : String} (F : ZF p s m args meth c D tA B nL kn own cc ret) (htab : zTab c hh) (hsp : hh = pre ++ (a, b, hpc, ct) :: rest) (hpre : ∀ y ∈ pre, zPs own pc X y) (hcov : a ≤ pc ∧ pc < b) (h0 : ct ≠ 0) (hlk : Cond.classLink own ct C ∈ lw_all) (hcast : Cond.castable X C ∈ zNW)
    (kk : ∀ x : Addr, ZW p l e R s m args below meth c Q D tA B nL c0 s0 ad hpc h lv [.ref x]) : ZT p l e R s m args below meth c Q D tA B nL c0 s0 ad X pc h lv := by
  intro T locs ls st x ce hw hl XS hx hv hX
  have hpl : e.platform.magicAccessors = ({} : Platform).magicAccessors := by rw [XS.admits.platform]
  obtain ⟨c', hc', hcl⟩ := Cond.classLink_spec F.ow (F.ts _ hlk) e.platform hpl
  have hz : (Cond.castable X C).before #[] s = true := F.N _ hcast
  obtain ⟨c3, cT, hc3, hcT, hasg⟩ := Cond.castable_spec hz
  cases Option.some.inj (hc3.symm.trans hX)
  cases Option.some.inj (hcT.symm.trans hc')
  unfold zTab at htab
  rw [hsp] at htab
  obtain ⟨p1, r1, e1, e2, e3⟩ := List.map_eq_append_iff.mp htab
  obtain ⟨y, r2, e4, e5, e6⟩ := List.map_eq_cons_iff.mp e3
  subst e4
  cases e5
  have hk0 : ∃ k, s.vm.classes[ce.cls]? = some k := Vm.classAt_of_findClass hX
  obtain ⟨vm', hW', hq⟩ := z_search (e := e) (s := s) (f := F0 m pc ls st) (a := x) (cell := ce) (fun k hk => by rw [hv] at hk; cases hk) hk0 y r2 (by simp only [covers, Bool.and_eq_true, decide_eq_true_eq]; exact hcov) h0 hcl hasg p1 ((T.setTop (F0 m pc ls st)).pushFrame (.throwing x)) XS.warmed hx (fun z hz => by
    have hp := hpre _ (by rw [← e2]; exact List.mem_map_of_mem hz)
    rcases hp with hp | ⟨hp0, C', hl', hn'⟩
    · left
      simp only [covers, Bool.and_eq_false_iff, decide_eq_false_iff_not]
      by_cases h1 : z.startPc ≤ pc
      · exact Or.inr (fun h2 => hp ⟨h1, h2⟩)
      · exact Or.inl h1
    · right
      obtain ⟨c5, hc5, hcl5⟩ := Cond.classLink_spec F.ow (F.ts _ hl') e.platform hpl
      exact ⟨hp0, c5, hcl5, z_nocast F.E hn' hX hc5⟩)
  obtain ⟨t, st1, hQ⟩ := kk x T.heap locs ls hw hl (T.setVm vm') rfl (XS.noted hW')
  refine ⟨t, z_caught (vm' := vm') (hpc := y.handlerPc) XS.here XS.method' XS.code (fun Qh E d acts => ?_) st1, hQ⟩
  rw [e1]
  exact hq Qh E d acts
/-! raising: from the note '.throwNew' -/
theorem zWd.ga {k w : Nat} {T U : State} {locs L : List Loc} (hw : zWd D tA B s ad h T.heap locs) (hB : B ≤ s.heap.size) (hsz : T.heap.size ≤ U.heap.size) (hk : ∀ q, q < T.heap.size → U.heap[q]? = T.heap[q]?) (hL : ∀ y ∈ L, T.heap.size ≤ y.base) : zWd D tA B s ad (zga h k w) U.heap (locs ++ L) := by
  refine ⟨hw.1.kept (fun i q hq => hk _ (hw.1 i q hq).lt), hw.2.1, Nat.le_trans hw.2.2.1 hsz, fun q h1 h2 => ?_, fun y hy => ?_⟩
  · rw [hk q (Nat.lt_of_lt_of_le h1 hw.2.2.1)]
    exact hw.2.2.2.1 q h1 h2
  · rcases List.mem_append.mp hy with h1 | h1
    · exact hw.2.2.2.2 y h1
    · exact Nat.le_trans hB (Nat.le_trans hw.2.2.1 (hL y h1))
theorem z_raiseM {names : List String} {text : String} {K : Nat} (F : ZF p s m args meth c D tA B nL kn own cc ret) (htr : l.stackTraces = false) (hsub : ∀ a ∈ Jvm.Bundle.messageArmAtoms X names, a ∈ zE0) (hn : Jvm.Bundle.fit X = true ∧ (∀ n ∈ names, Jvm.Bundle.fit n = true) ∧ (X == "java/lang/StackOverflowError") = false ∧ (X == "java/lang/OutOfMemoryError") = false) (hln : names.length ≤ 3) (htext : (text == notModelled) = false) (hK : (stringBytes (stringToUtf16 text)).size ≤ K) (hK2 : K ≤ 4000)
    (hm : c0 ≤ zc h ∧ s0 ≤ zs h) (hR : 8 ≤ R.frames ∧ 10272 ≤ R.locals) (hRc : (zc h - c0) + 3 ≤ R.cells ∧ (zs h - s0) + (K + 10) ≤ R.slots) (hst : (st.map fun v => v.category).sum ≤ 16)
    (kk : ZT p l e R s m args below meth c Q D tA B nL c0 s0 ad X pc (zga h 3 (K + 10)) lv) {T : State} {locs : List Loc} {ls : Array Slot} (hw : zWd D tA B s ad h T.heap locs) (hl : lv_has ls nL lv) (XS : Stand p l e R s m args below meth c T locs (zc h - c0) (zs h - s0)) : ∃ t, Steps p.tables e below ((T.setTop (F0 m pc ls st)).pushFrame (.throwNew X (some text) none)) t ∧ Q t := by
  obtain ⟨U, L, n, ce, hn1, XU, hL, hsz, hkeep, hce, hvm, hcl, st1⟩ := z_vmM (g := F0 m pc ls st) XS F.x htr F.E (fun q hq => hw.2.2.2.1 q (Nat.lt_of_lt_of_le hq F.bs) (Nat.not_le.mpr hq)) hsub hn.1 hn.2.1 hn.2.2.1 hn.2.2.2 htext hK hK2 rfl (hl.1.trans F.2.2.1.symm) (by omega) (by show 2 * 0 + (st.map fun v => v.category).sum + 10240 ≤ _; omega) (by omega) hRc.1 hRc.2
  have XU' : Stand p l e R s m args below meth c U (locs ++ L) (zc (zga h 3 (K + 10)) - c0) (zs (zga h 3 (K + 10)) - s0) := stand_widen XU (by show _ ≤ zc h + 3 - c0; omega) (by show _ ≤ zs h + (K + 10) - s0; omega)
  obtain ⟨t, a1, b1⟩ := kk U (locs ++ L) ls st _ ce (hw.ga F.bs hsz hkeep (fun y hy => by rw [hL y hy]; omega)) hl XU' hce hvm hcl
  exact ⟨t, st1.trans a1, b1⟩
theorem z_raiseN (F : ZF p s m args meth c D tA B nL kn own cc ret) (htr : l.stackTraces = false)
    (hm : c0 ≤ zc h ∧ s0 ≤ zs h) (hR : 8 ≤ R.frames ∧ 10272 ≤ R.locals) (hRc : (zc h - c0) + 1 ≤ R.cells ∧ (zs h - s0) + 8 ≤ R.slots) (hst : (st.map fun v => v.category).sum ≤ 16)
    (kk : ZT p l e R s m args below meth c Q D tA B nL c0 s0 ad "java/lang/NullPointerException" pc (zga h 1 8) lv) {T : State} {locs : List Loc} {ls : Array Slot} (hw : zWd D tA B s ad h T.heap locs) (hl : lv_has ls nL lv) (XS : Stand p l e R s m args below meth c T locs (zc h - c0) (zs h - s0)) : ∃ t, Steps p.tables e below ((T.setTop (F0 m pc ls st)).pushFrame (.throwNew "java/lang/NullPointerException" none none)) t ∧ Q t := by
  obtain ⟨U, L, ce, XU, hL, hsz, hkeep, hce, hvm, hcl, st1⟩ := z_vmN (g := F0 m pc ls st) XS F.x htr F.E (fun q hq => hw.2.2.2.1 q (Nat.lt_of_lt_of_le hq F.bs) (Nat.not_le.mpr hq)) rfl (hl.1.trans F.2.2.1.symm) (by omega) (by show 2 * 0 + (st.map fun v => v.category).sum + 10240 ≤ _; omega) hRc.1 hRc.2
  have XU' : Stand p l e R s m args below meth c U (locs ++ L) (zc (zga h 1 8) - c0) (zs (zga h 1 8) - s0) := stand_widen XU (by show _ ≤ zc h + 1 - c0; omega) (by show _ ≤ zs h + 8 - s0; omega)
  obtain ⟨t, a1, b1⟩ := kk U (locs ++ L) ls st _ ce (hw.ga F.bs hsz hkeep (fun y hy => by rw [hL y hy]; exact Nat.le_refl _)) hl XU' hce hvm hcl
  exact ⟨t, st1.trans a1, b1⟩
end ZThrow
