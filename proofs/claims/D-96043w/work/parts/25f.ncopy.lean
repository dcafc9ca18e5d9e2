/-! System.arraycopy OUT OF BOUNDS: the native's own exception -/
theorem z_iprint {z : Int} (h : z.natAbs < 10 ^ 10) : (toString z).toList.length ≤ 11 := by
  show (Int.repr z).toList.length ≤ 11
  cases z with
  | ofNat m =>
    have := nat_print (n := m) (by simpa using h)
    show (toString m).toList.length ≤ 11
    omega
  | negSucc m =>
    have := nat_print (n := m.succ) (by simpa using h)
    show ("-" ++ toString m.succ).toList.length ≤ 11
    rw [String.toList_append, List.length_append]
    have h0 : "-".toList.length = 1 := by decide
    omega
theorem z_kname (t : FieldType) : (Native.java_lang_System.arraycopy.kindName t).toList.length ≤ 12 := by
  cases t <;> first | decide | (show "object array".toList.length ≤ 12; decide)
theorem z_actext {w : String} (hw : w.toList.length ≤ 100) : (stringBytes (stringToUtf16 ("arraycopy: " ++ w))).size ≤ 480 ∧ (("arraycopy: " ++ w) == notModelled) = false := by
  constructor
  · have b1 := stringBytes_size_le (stringToUtf16 ("arraycopy: " ++ w))
    have b2 := utf16_size_le ("arraycopy: " ++ w)
    rw [String.toList_append, List.length_append] at b2
    have a1 : "arraycopy: ".toList.length = 11 := by decide
    omega
  · rw [beq_eq_false_iff_ne]
    intro hq
    have h3 := congrArg String.toList hq
    rw [String.toList_append] at h3
    have h4 : notModelled.toList = '\u0000' :: " a message that is not modelled".toList := by decide
    have h5 : "arraycopy: ".toList = 'a' :: "rraycopy: ".toList := by decide
    rw [h4, h5] at h3
    simp at h3
/-- the native's text, out of bounds: it throws, nothing has moved -/
theorem z_acsem {E : CtlPost} {e : Env} {d : Bool} {acts : List Action} {s : State} {src dst : Addr} {sp dp n : Int32} {cs cd : Cell} {ks kd : Class} {sComp dComp : ClassId} {ty : FieldType} {Q : Option Value → Pre}
    (hs : s.heap[src]? = some cs) (hd : s.heap[dst]? = some cd) (hsobj : ∀ k, cs.vm ≠ .statics k) (hdobj : ∀ k, cd.vm ≠ .statics k) (hks : s.vm.classes[cs.cls]? = some ks) (hkd : s.vm.classes[cd.cls]? = some kd) (hsk : ks.kind = .array sComp ty) (hdk : kd.kind = .array dComp ty)
    (hout : sp < 0 ∨ dp < 0 ∨ n < 0 ∨ sp.toInt + n.toInt > cs.slots.size ∨ dp.toInt + n.toInt > cd.slots.size) (hl1 : cs.slots.size < 2 ^ 31) (hl2 : cd.slots.size < 2 ^ 31)
    (hE : ∀ (text : String) (acts' : List Action), (stringBytes (stringToUtf16 text)).size ≤ 480 → (text == notModelled) = false → E (.throwNew "java/lang/ArrayIndexOutOfBoundsException" (some text)) acts' s) :
    wp (Native.java_lang_System.arraycopy.sem #[.ref src, .int sp, .ref dst, .int dp, .int n]) Q E e d acts s := by
  have hty : ((refKind ty != refKind ty) || (!refKind ty && ty != ty)) = false := by simp
  have k1 := z_kname ty
  have p1 := int32_print sp
  have p2 := int32_print dp
  have p3 := int32_print n
  have p4 := nat_print (n := cs.slots.size) (by omega)
  have p5 := nat_print (n := cd.slots.size) (by omega)
  have i1 := Int32.toInt_lt sp
  have i2 := Int32.le_toInt sp
  have i3 := Int32.toInt_lt dp
  have i4 := Int32.le_toInt dp
  have i5 := Int32.toInt_lt n
  have i6 := Int32.le_toInt n
  have p6 := z_iprint (z := sp.toInt + n.toInt) (by omega)
  have p7 := z_iprint (z := dp.toInt + n.toInt) (by omega)
  have p4' : cs.slots.size.repr.toList.length ≤ 10 := p4
  have p5' : cd.slots.size.repr.toList.length ≤ 10 := p5
  have p6' : (sp.toInt + n.toInt).repr.toList.length ≤ 11 := p6
  have p7' : (dp.toInt + n.toInt).repr.toList.length ≤ 11 := p7
  rw [Native.java_lang_System.arraycopy.sem_refs]
  unfold Native.java_lang_System.arraycopy.behind
  simp only [wp_bind', W.classOf, W.theClass, hs, hd, hks, hkd, Option.some.injEq, exists_eq_left', hsk, hdk]
  refine ⟨hsobj, hdobj, ?_⟩
  unfold refKind at hty
  simp only [hty, Bool.false_eq_true, if_false]
  simp only [wp_bind', W.sizeOf, hs, hd, Option.some.injEq, exists_eq_left']
  have fin : ∀ w : String, w.toList.length ≤ 100 → ∀ acts', E (.throwNew "java/lang/ArrayIndexOutOfBoundsException" (some ("arraycopy: " ++ w))) acts' s := fun w hw acts' => hE _ acts' (z_actext hw).1 (z_actext hw).2
  have hsa : ∀ N : Nat, (toString N).toList.length ≤ 10 → (toString (Native.java_lang_System.arraycopy.kindName ty) ++ toString "[" ++ toString N ++ toString "]").toList.length ≤ 24 := by
    intro N hN
    simp only [String.toList_append, List.length_append]
    have a1 : (toString "[").toList.length = 1 := by decide
    have a2 : (toString "]").toList.length = 1 := by decide
    have a3 : (toString (Native.java_lang_System.arraycopy.kindName ty)).toList.length ≤ 12 := k1
    omega
  have q1 := hsa _ p4
  have q2 := hsa _ p5
  have es : ∀ x : String, toString x = x := fun _ => rfl
  simp only [es, String.toList_append, List.length_append] at q1 q2
  have b1 : "source index ".toList.length = 13 := by decide
  have b2 : " out of bounds for ".toList.length = 19 := by decide
  have b3 : "destination index ".toList.length = 18 := by decide
  have b4 : "length ".toList.length = 7 := by decide
  have b5 : " is negative".toList.length = 12 := by decide
  have b6 : "last source index ".toList.length = 18 := by decide
  have b7 : "last destination index ".toList.length = 23 := by decide
  by_cases c1 : sp < 0
  · simp only [c1, if_true]
    simp
    apply fin
    simp only [es, String.toList_append, List.length_append]
    omega
  by_cases c2 : dp < 0
  · simp only [c1, c2, if_true, if_false]
    simp
    apply fin
    simp only [es, String.toList_append, List.length_append]
    omega
  by_cases c3 : n < 0
  · simp only [c1, c2, c3, if_true, if_false]
    simp
    apply fin
    simp only [es, String.toList_append, List.length_append]
    omega
  by_cases c4 : sp.toInt + n.toInt > cs.slots.size
  · simp only [c1, c2, c3, c4, if_true, if_false]
    simp
    apply fin
    simp only [es, String.toList_append, List.length_append]
    omega
  have c5 : dp.toInt + n.toInt > cd.slots.size := by
    rcases hout with h | h | h | h | h
    · exact absurd h c1
    · exact absurd h c2
    · exact absurd h c3
    · exact absurd h c4
    · exact h
  simp only [c1, c2, c3, c4, c5, if_true, if_false]
  simp
  apply fin
  simp only [es, String.toList_append, List.length_append]
  omega
/-! arraycopy that copies -/
def zcf (ty : FieldType) (h : Hp) (q sp n : Nat) : Bool := (List.range n).all fun i => fits ty (.int (zi h q (sp + i)))
theorem zcf_o {ty : FieldType} {h : Hp} {q sp n : Nat} (hc : zcf ty h q sp n = true) : ∀ i, i < n → fits ty (.int (zi h q (sp + i))) = true := fun i hi => List.all_eq_true.mp hc i (List.mem_range.mpr hi)
theorem zen_ai {tA : Nat → ClassId} {h : Hp} {ad : Nat → Nat} {q : Nat} {f : Nat → Int32} {q' : Nat} (hq : q' ≠ q) : zen tA (zai h q f) ad q' = zen tA h ad q' := by
  have e2 : zi (zai h q f) q' = zi h q' := by show zu1 h.1 q f q' = h.1 q'; simp [zu1, hq]
  have e3 : ∀ k2 t, zfv (zai h q f) ad q' k2 t = zfv h ad q' k2 t := fun k2 t => by unfold zfv; rw [e2]; rfl
  unfold zen
  rw [zfs_congr e3]
  unfold zar
  rw [e2]
  rfl
theorem zen_aj {tA : Nat → ClassId} {h : Hp} {ad : Nat → Nat} {q : Nat} {f : Nat → Int64} {q' : Nat} (hq : q' ≠ q) : zen tA (zaj h q f) ad q' = zen tA h ad q' := by
  have e2 : zj (zaj h q f) q' = zj h q' := by show zu1 h.2.1 q f q' = h.2.1 q'; simp [zu1, hq]
  have e3 : ∀ k2 t, zfv (zaj h q f) ad q' k2 t = zfv h ad q' k2 t := fun k2 t => by unfold zfv; rw [e2]; rfl
  unfold zen
  rw [zfs_congr e3]
  unfold zar
  rw [e2]
  rfl
section ZNc
variable {p : Program} {l : Launch} {e : Env} {R : Room} {s : State} {m : MethodId} {args : Array Value} {below : List Frame} {meth : Method} {c : Code} {Q : State → Prop}
variable {D : va_G} {tA : Nat → ClassId} {B nL c0 s0 : Nat} {ad : Nat → Nat} {kn : State → Prop} {own : String} {cc : ByteArray} {ret : Option FieldType}
variable {pc : Nat} {h : Hp} {lv : List (Nat × Value)} {st : List Value}
theorem z_natOut {U : State} {locs : List Loc} {cells slots : Nat} (X : Stand p l e R s m args below meth c U locs cells slots) (g : JFrame) {nf : NFrame} (hn : nf.awaiting = false) (hl : nf.locked = none) {a : Addr} : Steps p.tables e below (U.setFrames (.throwing a :: .native nf :: .java g :: below)) ((U.setTop g).pushFrame (.throwing a)) := by
  obtain ⟨g₁, hfr⟩ := X.frames_eq
  have hcur : U.cur < U.threads.size := State.cur_lt_of_frames hfr
  have hf : (U.setFrames (.throwing a :: .native nf :: .java g :: below)).frames = .throwing a :: .native nf :: .java g :: below := State.frames_setFrames _ hcur
  refine Steps.head ⟨X.here.running, by simpa using X.here.runnable, by simpa using X.here.alone⟩ ⟨[.throwing a, .native nf, .java g], by rw [hf]; rfl, by simp, by simp⟩ ?_
  have hstep : (stepThrowing e (U.setFrames (.throwing a :: .native nf :: .java g :: below)) a (.native nf :: .java g :: below)).1 = (U.setFrames (.throwing a :: .native nf :: .java g :: below)).setFrames (.throwing a :: .java g :: below) := by
    simp only [stepThrowing, hn, Bool.false_eq_true, if_false, vmDo]
    generalize hr : Sem.go _ e false _ (U.setFrames (.throwing a :: .native nf :: .java g :: below)) = res
    obtain ⟨as, rfl, ha⟩ := Sem.eq_ok_of hr (a := true) (s' := U.setFrames (.throwing a :: .native nf :: .java g :: below)) (acts' := []) (by simp [hl, leaveIfLocked])
    rfl
  rw [stepThread_throwing hf, hstep, z_note X, State.setFrames_setFrames]
  exact Steps.refl _
/-- a native whose entry throws -/
theorem z_natThrows {u : State} {g : JFrame} {meth' : Method} {k : Class} {row : NativeRow} {a : Array Value} {mk : MethodId} {cls : String} {P : String → Prop} (hat : At u g.method c below) (hk : u.vm.classes[mk.cls]? = some k) (hx : k.methods[mk.idx]? = some meth') (hboot : k.loader = none) (hnat : meth'.isNative = true) (hc : meth'.code = none) (hl : meth'.locks = false)
    (hrow : NativeRow.find? p.tables.natives k.name meth'.name meth'.desc = some row) (hroom : e.platform.stackFull (((u.setTop g).threads[(u.setTop g).cur]?).getD { frames := [] }) (u.setTop g).frames (nativeFrameWords k.name meth'.name (operandWords a.toList)) = false)
    (hw : wpRun (row.sem (seenByNative meth' a)) (fun _ _ _ => False) (fun cx s₁ _ => ∃ text, cx = .throwNew cls (some text) ∧ s₁ = (u.setTop g).pushFrame (.native { method := mk, args := seenByNative meth' a, locked := none }) ∧ P text) e ((u.setTop g).pushFrame (.native { method := mk, args := seenByNative meth' a, locked := none }))) :
    ∃ text, P text ∧ ∀ target, Steps p.tables e below (((u.setTop g).pushFrame (.native { method := mk, args := seenByNative meth' a, locked := none })).pushFrame (.throwNew cls (some text) none)) target → Steps p.tables e below (doInvoke e (u.setTop g) [] mk a).1 target := by
  have hm : (u.setTop g).vm.method? mk = some meth' := by
    show u.vm.method? mk = some meth'
    simp [Vm.method?, hk, hx]
  have hroom' : e.platform.stackFull (((u.setTop g).threads[(u.setTop g).cur]?).getD { frames := [] }) (u.setTop g).frames (nativeFrameWords ((((u.setTop g).vm.classes[mk.cls]?).map (·.name)).getD "") meth'.name (operandWords a.toList)) = false := by
    have : (((u.setTop g).vm.classes[mk.cls]?).map (·.name)).getD "" = k.name := by
      show ((u.vm.classes[mk.cls]?).map (·.name)).getD "" = k.name
      simp [hk]
    rw [this]; exact hroom
  have hfe := frames_entered (g := g) hat.top (.native { method := mk, args := seenByNative meth' a, locked := none })
  obtain ⟨mid, hmid⟩ := hat.above
  have hst := stepThread_native (tb := p.tables) (e := e) (f := { method := mk, args := seenByNative meth' a, locked := none }) (k := k) (x := meth') (row := row) hfe hk hx hboot hrow rfl
  have hw := (wpRun_iff_run _ _ _ _ _).mp hw
  cases hr : (row.sem (seenByNative meth' a)).run e ((u.setTop g).pushFrame (.native { method := mk, args := seenByNative meth' a, locked := none })) with
  | ok v s₁ acts₁ => rw [hr] at hw; exact hw.elim
  | ctl x s₁ acts₁ =>
    rw [hr] at hw
    have hw2 : ∃ text, x = .throwNew cls (some text) ∧ s₁ = (u.setTop g).pushFrame (.native { method := mk, args := seenByNative meth' a, locked := none }) ∧ P text := by
      cases x <;> first | exact hw.elim | exact hw
    obtain ⟨text, rfl, rfl, hP⟩ := hw2
    refine ⟨text, hP, fun target hrest => ?_⟩
    rw [(Fast.doInvoke_native (s := u.setTop g) (e := e) (acts := []) (args := a) hm hnat hc hl hroom').1]
    refine Steps.head ⟨hat.running, by simpa using hat.runnable, by simpa using hat.alone⟩
      ⟨.native { method := mk, args := seenByNative meth' a, locked := none } :: .java g :: mid, by rw [hfe, hmid]; rfl, by simp, by simp⟩ ?_
    rw [hst, hr]
    exact hrest
theorem z_acX {qs qd j t index : Nat} {ty : FieldType} {sp dp n : Int32} (F : ZF p s m args meth c D tA B nL kn own cc ret) (htr : l.stackTraces = false) (hj : (ztys tA)[j]? = some (tA j, ty)) (htj : t = 100 + j) (h5 : t < 105) (hlk : Cond.methodLink own index arraycopyName ∈ lw_all) (hnat : Cond.native arraycopyName ∈ lw_all) (hsta : Cond.static arraycopyName ∈ lw_all) (hini : Cond.initialized "java/lang/System" ∈ lw_all) (hd : decode cc pc = .ok (.invokestatic index, 3)) (hqs : qs < zx h) (hts : zt h qs = t) (hqd : qd < zx h) (htd : zt h qd = t)
    (hout : sp < 0 ∨ dp < 0 ∨ n < 0 ∨ sp.toInt + n.toInt > zn h qs ∨ dp.toInt + n.toInt > zn h qd) (hn1 : zn h qs < 2 ^ 31) (hn2 : zn h qd < 2 ^ 31)
    (hm : c0 ≤ zc h ∧ s0 ≤ zs h) (hR : 10 ≤ R.frames ∧ 10372 ≤ R.locals) (hRc : (zc h - c0) + 3 ≤ R.cells ∧ (zs h - s0) + 490 ≤ R.slots) (hst : (st.map fun v => v.category).sum ≤ 16)
    (kk : ZT p l e R s m args below meth c Q D tA B nL c0 s0 ad "java/lang/ArrayIndexOutOfBoundsException" pc (zga h 3 490) lv) : ZW p l e R s m args below meth c Q D tA B nL c0 s0 ad pc h lv (.int n :: .int dp :: .ref (ad qd) :: .int sp :: .ref (ad qs) :: st) := by
  intro H locs ls hw hl T hT XS
  subst hT
  obtain ⟨cs, h1, h2, h3⟩ := z_arr F hj htj h5 hqs hts hw
  obtain ⟨cd, g1, g2, g3⟩ := z_arr F hj htj h5 hqd htd hw
  obtain ⟨r, kS, methS, hnS, hmS, hkS, N⟩ := NativeOf.of_static (F.ts _ hnat) (F.ts _ hsta) (ps := [.object "java/lang/Object", .int, .object "java/lang/Object", .int, .int]) (ret := none) (by decide +kernel)
  have hinitS : kS.init = .initialized := Cond.initialized_spec (findClass_of_methodNamed hnS) hkS (F.ts _ hini)
  obtain ⟨vm', X', step⟩ := XS.invokestatic F.x F.ow (F.ts _ hlk) hnS hmS N.static hkS hinitS (by decide) (g := F0 m pc ls (.int n :: .int dp :: .ref (ad qd) :: .int sp :: .ref (ad qs) :: st)) rfl (argsL := [.ref (ad qs), .int sp, .ref (ad qd), .int dp, .int n]) (rest := st) (by rw [N.sig]; rfl) rfl (by rw [F.b]; exact hd)
  obtain ⟨kS', N'⟩ := N.alike X'.warmed.alike
  have hsz : (F0 m pc ls st).locals.size = c.maxLocals := hl.1.trans F.2.2.1.symm
  have hseen : seenByNative methS #[.ref (ad qs), .int sp, .ref (ad qd), .int dp, .int n] = #[.ref (ad qs), .int sp, .ref (ad qd), .int dp, .int n] := by
    simp [seenByNative, N'.static, N'.sig, narrow]
  obtain ⟨text, ⟨hb, hmo⟩, hgo⟩ := z_natThrows (p := p) (e := e) (g := F0 m pc ls st) (mk := r) (k := kS') (meth' := methS) (row := arraycopyRow) (a := #[.ref (ad qs), .int sp, .ref (ad qd), .int dp, .int n]) (cls := "java/lang/ArrayIndexOutOfBoundsException") (P := fun text => (stringBytes (stringToUtf16 text)).size ≤ 480 ∧ (text == notModelled) = false) X'.here N'.cls N'.meth N'.boot N'.native N'.noCode N'.noLock
    (by rw [N'.className, N'.name, N'.desc]; exact arraycopy_row p) (by rw [N'.className, N'.name]; exact X'.notFull (g := F0 m pc ls st) hsz (vars := nativeFrameWords "java/lang/System" "arraycopy" 5) (by omega) (by
      have : nativeFrameWords "java/lang/System" "arraycopy" 5 ≤ 60 := by decide
      show 2 * 0 + (st.map fun v => v.category).sum + _ ≤ _
      omega)) (by
    rw [hseen, arraycopyRow_sem]
    obtain ⟨o1, ks, hks, compS, hsk⟩ := State.isArrayOf_alike (T := T.setVm vm') X'.warmed.alike h2
    obtain ⟨o2, kd, hkd, compD, hdk⟩ := State.isArrayOf_alike (T := T.setVm vm') X'.warmed.alike g2
    unfold wpRun
    exact z_acsem (cs := cs) (cd := cd) h1 g1 o1 o2 hks hkd hsk hdk (by rw [h3, g3]; exact hout) (by rw [h3]; exact hn1) (by rw [g3]; exact hn2) (fun text acts' a b => ⟨text, rfl, rfl, a, b⟩))
  rw [hseen] at hgo
  obtain ⟨g₁, hfr⟩ := X'.frames_eq
  have hlen : (T.setVm vm').frames.length = (Frame.java g₁ :: below).length := by rw [hfr]
  have hfA := X'.framesAbove (n := 9) (by omega)
  have hsA := X'.stackAbove (g := F0 m pc ls st) hsz (K := 10240) (by show 2 * 0 + (st.map fun v => v.category).sum + 10240 ≤ _; omega)
  rw [X'.tail] at hsA
  have hstate : (((T.setVm vm').setTop (F0 m pc ls st)).pushFrame (.native { method := r, args := #[.ref (ad qs), .int sp, .ref (ad qd), .int dp, .int n], locked := none })).pushFrame (.throwNew "java/lang/ArrayIndexOutOfBoundsException" (some text) none) = (T.setVm vm').setFrames (.throwNew "java/lang/ArrayIndexOutOfBoundsException" (some text) none :: .native { method := r, args := #[.ref (ad qs), .int sp, .ref (ad qd), .int dp, .int n], locked := none } :: .java (F0 m pc ls st) :: below) := by
    have hfe := frames_entered (g := F0 m pc ls st) X'.here.top (.native { method := r, args := #[.ref (ad qs), .int sp, .ref (ad qd), .int dp, .int n], locked := none })
    rw [X'.tail] at hfe
    show State.setFrames _ (_ :: _) = _
    rw [hfe, State.pushFrame, State.setTop_of_frames _ hfr, State.setFrames_setFrames, State.setFrames_setFrames]
  obtain ⟨U, L, n', ce, a1, a2, a3, a4, a5, a6, a7, a8, a9⟩ := z_vmB (names := ["java/lang/IndexOutOfBoundsException", "java/lang/RuntimeException", "java/lang/Exception"]) X' F.x htr F.E (fun q hq => hw.2.2.2.1 q (Nat.lt_of_lt_of_le hq F.bs) (Nat.not_le.mpr hq)) zAI_sub (by decide +kernel) (by decide +kernel) (by decide +kernel) (by decide +kernel) hmo hb (by decide) (base := .native { method := r, args := #[.ref (ad qs), .int sp, .ref (ad qd), .int dp, .int n], locked := none } :: .java (F0 m pc ls st) :: below) ⟨[.native { method := r, args := #[.ref (ad qs), .int sp, .ref (ad qd), .int dp, .int n], locked := none }, .java (F0 m pc ls st)], rfl⟩
    (by simp only [List.length_cons, List.length_nil] at hlen ⊢; omega) (by rw [stackUse_light _ _ (fun f hf => by cases hf) rfl]; exact hsA) (by decide) hRc.1 hRc.2
  have XU' : Stand p l e R s m args below meth c U (locs ++ L) (zc (zga h 3 490) - c0) (zs (zga h 3 490) - s0) := stand_widen a2 (by show _ ≤ zc h + 3 - c0; omega) (by show _ ≤ zs h + 490 - s0; omega)
  obtain ⟨t, b1, b2⟩ := kk U (locs ++ L) ls st _ ce (hw.ga (T := T.setVm vm') F.bs a4 a5 (fun y hy => by rw [a3 y hy]; omega)) hl XU' a6 a7 a8
  refine ⟨t, step t (fun acts => ?_), b2⟩
  rw [doInvoke_state]
  refine hgo t ?_
  rw [hstate]
  exact (a9.trans (z_natOut a2 (F0 m pc ls st) rfl rfl)).trans b1
theorem z_i0 {z : Int32} (h : ¬ z < 0) : z.toInt = (z.toNatClampNeg : Int) := by
  have hz0 : (0 : Int) ≤ z.toInt := by
    have := Int32.not_lt.mp h
    simpa using Int32.le_iff_toInt_le.mp this
  show z.toInt = ((z.toInt.toNat : Nat) : Int)
  omega
theorem z_acI {qs qd j t index : Nat} {ty : FieldType} {sp dp n : Int32} (F : ZF p s m args meth c D tA B nL kn own cc ret) (hj : (ztys tA)[j]? = some (tA j, ty)) (htj : t = 100 + j) (h5 : t < 104) (hprim : refKind ty = false) (hlk : Cond.methodLink own index arraycopyName ∈ lw_all) (hnat : Cond.native arraycopyName ∈ lw_all) (hsta : Cond.static arraycopyName ∈ lw_all) (hini : Cond.initialized "java/lang/System" ∈ lw_all) (hd : decode cc pc = .ok (.invokestatic index, 3)) (hqs : qs < zx h) (hts : zt h qs = t) (hqd : qd < zx h) (htd : zt h qd = t)
    (hb : ¬ sp < 0 ∧ ¬ dp < 0 ∧ ¬ n < 0 ∧ sp.toInt + n.toInt ≤ zn h qs ∧ dp.toInt + n.toInt ≤ zn h qd) (hfit : zcf ty h qs sp.toNatClampNeg n.toNatClampNeg = true) (hR : 1 ≤ R.frames ∧ 92 ≤ R.locals) (hst : (st.map fun v => v.category).sum ≤ 16)
    (kk : ZW p l e R s m args below meth c Q D tA B nL c0 s0 ad (pc + 3) (zai h qd (va_cpy (zi h qs) (zi h qd) sp.toNatClampNeg dp.toNatClampNeg n.toNatClampNeg)) lv st) : ZW p l e R s m args below meth c Q D tA B nL c0 s0 ad pc h lv (.int n :: .int dp :: .ref (ad qd) :: .int sp :: .ref (ad qs) :: st) := by
  intro H locs ls hw hl
  obtain ⟨b1, b2, b3, b4, b5⟩ := hb
  have e1 := z_i0 b1
  have e2 := z_i0 b2
  have e3 := z_i0 b3
  have hz : ∀ q, q < zx h → zt h q = t → (zwl tA h ad)[q]? = some (ad q, .inl (tA j, zn h q, .inl (zi h q))) := by
    intro q hq ht
    rw [z_at hq ht (by omega), htj, Nat.add_sub_cancel_left]
    unfold zar
    rw [if_pos (by omega)]
  have hnw : nativeFrameWords "java/lang/System" "arraycopy" 5 ≤ 60 := by decide
  refine va_copyi F.x F.b (F.2.2.1.trans hl.1.symm) F.ow (F.ts _ hlk) (F.ts _ hnat) (F.ts _ hsta) (F.ts _ hini) F.K hw.1 hw.2.1 hw.2.2 qs qd j j (hz qs hqs hts) (hz qd hqd htd) hj hj hprim b1 b2 b3 (by omega) (by omega) (zcf_o hfit) hR.1 (by omega) hd (fun H1 locs1 a1 a2 a3 => kk H1 locs1 ls (zWd_set (h := h) (h' := zai h qd (va_cpy (zi h qs) (zi h qd) sp.toNatClampNeg dp.toNatClampNeg n.toNatClampNeg)) rfl (fun q' _ hq' => zen_ai hq') ?_ a1 a2 a3) hl)
  have hzz := zen_arr (tA := tA) (ad := ad) (q := qd) (h' := zai h qd (va_cpy (zi h qs) (zi h qd) sp.toNatClampNeg dp.toNatClampNeg n.toNatClampNeg)) (t := t) (n := zn h qd) (X := .inl (va_cpy (zi h qs) (zi h qd) sp.toNatClampNeg dp.toNatClampNeg n.toNatClampNeg)) htd (by omega) rfl ?_
  · rw [hzz, htj, Nat.add_sub_cancel_left]
  unfold zar
  rw [if_pos h5]
  congr 1
  show zu1 h.1 qd _ qd = _
  simp [zu1]
theorem z_acJ {qs qd index : Nat} {sp dp n : Int32} (F : ZF p s m args meth c D tA B nL kn own cc ret) (hlk : Cond.methodLink own index arraycopyName ∈ lw_all) (hnat : Cond.native arraycopyName ∈ lw_all) (hsta : Cond.static arraycopyName ∈ lw_all) (hini : Cond.initialized "java/lang/System" ∈ lw_all) (hd : decode cc pc = .ok (.invokestatic index, 3)) (hqs : qs < zx h) (hts : zt h qs = 104) (hqd : qd < zx h) (htd : zt h qd = 104)
    (hb : ¬ sp < 0 ∧ ¬ dp < 0 ∧ ¬ n < 0 ∧ sp.toInt + n.toInt ≤ zn h qs ∧ dp.toInt + n.toInt ≤ zn h qd) (hR : 1 ≤ R.frames ∧ 92 ≤ R.locals) (hst : (st.map fun v => v.category).sum ≤ 16)
    (kk : ZW p l e R s m args below meth c Q D tA B nL c0 s0 ad (pc + 3) (zaj h qd (va_cpy (zj h qs) (zj h qd) sp.toNatClampNeg dp.toNatClampNeg n.toNatClampNeg)) lv st) : ZW p l e R s m args below meth c Q D tA B nL c0 s0 ad pc h lv (.int n :: .int dp :: .ref (ad qd) :: .int sp :: .ref (ad qs) :: st) := by
  intro H locs ls hw hl
  obtain ⟨b1, b2, b3, b4, b5⟩ := hb
  have e1 := z_i0 b1
  have e2 := z_i0 b2
  have e3 := z_i0 b3
  have hz : ∀ q, q < zx h → zt h q = 104 → (zwl tA h ad)[q]? = some (ad q, .inl (tA 4, zn h q, .inr (.inl (zj h q)))) := by
    intro q hq ht
    rw [z_at hq ht (by omega)]
    rfl
  have hnw : nativeFrameWords "java/lang/System" "arraycopy" 5 ≤ 60 := by decide
  refine va_copyl F.x F.b (F.2.2.1.trans hl.1.symm) F.ow (F.ts _ hlk) (F.ts _ hnat) (F.ts _ hsta) (F.ts _ hini) F.K hw.1 hw.2.1 hw.2.2 qs qd 4 4 (hz qs hqs hts) (hz qd hqd htd) rfl rfl rfl b1 b2 b3 (by omega) (by omega) (fun _ _ => rfl) hR.1 (by omega) hd (fun H1 locs1 a1 a2 a3 => kk H1 locs1 ls (zWd_set (h := h) (h' := zaj h qd (va_cpy (zj h qs) (zj h qd) sp.toNatClampNeg dp.toNatClampNeg n.toNatClampNeg)) rfl (fun q' _ hq' => zen_aj hq') ?_ a1 a2 a3) hl)
  refine zen_arr (tA := tA) (ad := ad) (q := qd) (h' := zaj h qd (va_cpy (zj h qs) (zj h qd) sp.toNatClampNeg dp.toNatClampNeg n.toNatClampNeg)) (t := 104) (n := zn h qd) htd (by omega) rfl ?_
  unfold zar
  rw [if_neg (by decide), if_pos rfl]
  congr 2
  show zu1 h.2.1 qd _ qd = _
  simp [zu1]
end ZNc
