/-! A TEXT'S CONSTANT, AND indexOf ON IT -/
section ZText
variable {p : Program} {l : Launch} {e : Env} {R : Room} {s : State} {m : MethodId} {args : Array Value} {below : List Frame} {meth : Method} {c : Code} {Q : State → Prop}
variable {D : va_G} {tA : Nat → ClassId} {B nL c0 s0 : Nat} {ad : Nat → Nat} {kn : State → Prop} {own : String} {cc : ByteArray} {ret : Option FieldType}
variable {pc : Nat} {h h1 : Hp} {lv : List (Nat × Value)} {st : List Value}
variable {y : MethodName} {bytes : ByteArray} {maxL n index FF LL : Nat} {yret : Option FieldType} {Qc : Array Value → State → Outcome → State → Prop} {As rest : List Value}
theorem z_same {s s' : State} (h : s.sameBut s' []) : s'.heap = s.heap := by
  obtain ⟨-, hz, hk⟩ := h
  refine Array.ext_getElem? fun i => ?_
  by_cases hi : i < s.heap.size
  · obtain ⟨c', h1, h2, -, h4⟩ := hk i s.heap[i] (Array.getElem?_eq_getElem hi)
    have e : c'.slots = s.heap[i].slots := Array.ext_getElem? fun j => h4 j (by simp)
    rw [h1, Array.getElem?_eq_getElem hi, h2, e]
  · rw [Array.getElem?_eq_none (by omega), Array.getElem?_eq_none (by omega)]
theorem w_ldcT {tx : String} {w : Nat} (F : ZF p s m args meth c D tA B nL kn own cc ret) (hd : decode cc pc = .ok (.ldc index, 2)) (hR : vk_R own index tx w s) (kk : ZW p l e R s m args below meth c Q D tA B nL c0 s0 ad (pc + 2) h lv (.ref w :: st)) : ZW p l e R s m args below meth c Q D tA B nL c0 s0 ad pc h lv st :=
  fun H locs ls hw hl => va_ldcS F.x F.b F.ow hR hd (kk H locs ls hw hl)
theorem z_idx {ch : Int32} {txt : List Int32} {w : Nat} (F : ZF p s m args meth c D tA B nL kn own cc ret) (hT : zTk B kn txt w) (hl : Cond.methodLink own index Jvm.Free.StrIndexOf.indexOf1N ∈ lw_all) (hin : Cond.instanceMethod Jvm.Free.StrIndexOf.indexOf1N ∈ lw_all) (hse : Cond.selects "java/lang/String" Jvm.Free.StrIndexOf.indexOf1N Jvm.Free.StrIndexOf.indexOf1N ∈ lw_all) (hR : 5 ≤ R.frames ∧ 189 ≤ R.locals) (hf : zc h - c0 ≤ R.cells ∧ zs h - s0 ≤ R.slots) (hr : (rest.map fun v => v.category).sum ≤ 16) (hd : decode cc pc = .ok (.invokevirtual index, 3)) (kk : ZW p l e R s m args below meth c Q D tA B nL c0 s0 ad (pc + 3) h lv (.int (zixL ch txt 0) :: rest)) : ZW p l e R s m args below meth c Q D tA B nL c0 s0 ad pc h lv (.int ch :: .ref w :: rest) := by
  obtain ⟨hwB, d, z, arr, ha, hk⟩ := hT
  intro H locs ls hw hls T hT X
  have hkT : ∀ U : State, U.heap = H → s.WarmedH U.vm → kn U := fun U hU hW => F.2.2.2.2.2.1.1 s U F.2.2.2.2.2.2.1 hW (fun q hq => by rw [hU]; exact hw.2.2.2.1 q (Nat.lt_of_lt_of_le hq F.bs) (Nat.not_le.mpr hq))
  have hB : Back l R p e below s args Jvm.Free.StrIndexOf.indexOf1N 3 16 (fun A a => A.cells ≤ R.cells ∧ A.slots ≤ R.slots ∧ kn A.U ∧ a = #[.ref w, .int ch]) (fun A a v B => B.U.heap = A.U.heap ∧ B.locs = A.locs ∧ B.cells = A.cells ∧ B.slots = A.slots ∧ v = some (.int (zixL ch txt 0))) := by
    refine Back.of_free (S := Jvm.Free.StrIndexOf.S1.spec) (P := Jvm.Free.StrIndexOf.S1.P w d ch z arr) (K := fun _ _ _ _ _ => True) (Q := Jvm.Free.StrIndexOf.S1.Q arr ch) (bytes := Jvm.Free.StrIndexOf.indexOf1B) (maxL := 2) (ret := some .int) (E := fun a st o t L k n => L = [] ∧ k = 0 ∧ n = 0) (Jvm.Free.StrIndexOf.S1.met l w d ch z arr) hR.1 (by show 16 + (2 + 11) + 160 ≤ _; exact hR.2) ?_ ?_ (fun _ _ _ _ _ _ _ _ _ => trivial) ?_ ?_
    · intro m meth c A a X hp
      obtain ⟨h1, h2, h3, rfl⟩ := hp
      have h0 := (hk A.U h3 ch).1
      have hat := h0
      simp only [Jvm.Free.StrIndexOf.S1.spec, Cond.before_and, Bool.and_eq_true] at hat
      exact ⟨h0, hat.1, hat.2.2.2.2.2.2.2, h1, h2⟩
    · intro m meth c A a g mk X hp
      obtain ⟨h1, h2, h3, rfl⟩ := hp
      exact (hk _ (F.2.2.2.2.2.1.1 A.U _ h3 (State.WarmedH.refl A.U) (fun _ _ => rfl)) ch).2
    · intro a st o t hq
      exact ⟨[], 0, 0, ⟨hq.1.1, hq.1.2.1, hq.1.2.2.sameButNew 0 0⟩, rfl, rfl, rfl⟩
    · intro m meth c A a g mk v t L k n X hp hq hF hE
      obtain ⟨rfl, rfl, rfl⟩ := hE
      have hh := z_same hq.1.2.2
      refine ⟨hh, List.append_nil _, rfl, rfl, ?_⟩
      have h2 := hq.2
      rw [ha ch] at h2
      cases h2
      rfl
  have h0 := (hk s F.2.2.2.2.2.2.1 ch).1
  simp only [Jvm.Free.StrIndexOf.S1.spec, Cond.before_and, Bool.and_eq_true] at h0
  obtain ⟨a, cS, cA, kA, q1, q2, q3, q4, q5, q6, -⟩ := Cond.exactly_spec (args := #[.ref w, .int ch]) (first := s) (o := none) (s := s) (idx := []) (t := .arg 0) (cls := "java/lang/String") h0.2.2.1
  have ea : Value.ref w = Value.ref a := Option.some.inj q1
  cases ea
  have hcell : H[w]? = some cA := by rw [hw.2.2.2.1 w (Nat.lt_of_lt_of_le hwB F.bs) (Nat.not_le.mpr hwB)]; exact q3
  obtain ⟨v, vm₁, ⟨U', l2, c2, s2⟩, hW₁, X', ⟨e1, e2, e3, e4, e5⟩, st⟩ := callV X F.x (C := "java/lang/String") (bytes := Jvm.Free.StrIndexOf.indexOf1B) (maxL := 2) (ret := some .int) F.ow (F.ts _ hl) (F.ts _ hin) (F.ts _ hse) (va_Nw.use rfl (va_Nw.of rfl h0.1)) (by decide +kernel) hB (by rw [hT]; exact hcell) q5 (by rw [q6]; exact q2) (g := F0 m pc ls (.int ch :: .ref w :: rest)) rfl (hls.1.trans F.2.2.1.symm) (argsL := [.int ch]) (rest := rest) (fun sig h => by rw [show parseMethodDescriptor Jvm.Free.StrIndexOf.indexOf1N.desc = some ⟨[.int], some .int⟩ from by decide +kernel] at h; cases h; rfl) rfl (z_rm hr) (by rw [F.b]; exact hd) (fun vm₁ hW₁ => ⟨hf.1, hf.2, hkT _ hT hW₁, rfl⟩)
  dsimp only [Pt.U, Pt.locs, Pt.cells, Pt.slots] at X' e1 e2 e3 e4 e5 st
  subst e2; subst e3; subst e4; subst e5
  obtain ⟨t, a1, b1⟩ := kk H _ ls hw hls U' (e1.trans hT) X'
  exact ⟨t, st t a1, b1⟩
end ZText
