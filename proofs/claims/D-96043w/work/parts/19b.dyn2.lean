/-! more rows for cells that are made: final fields of classes with two fields of one name, references stored, arrays of any sort -/
theorem z_clname {vm : Vm} {name : String} {c : ClassId} {k : Class} (h : vm.findClass name = some c) (hk : vm.classes[c]? = some k) : k.name = name := by
  unfold Vm.findClass at h
  have := Array.findIdx?_eq_some_iff_getElem.mp h
  obtain ⟨hl, hp, -⟩ := this
  rw [Array.getElem?_eq_getElem hl] at hk
  cases hk
  simp only [Bool.and_eq_true, beq_iff_eq] at hp
  exact hp.1.1.1
theorem z_ffc {s : State} {O f d : String} {c i : Nat} {k : Class} {fd : Field} (h : s.fieldFound? O f d = some (c, k, i, fd)) : s.vm.classes[c]? = some k := by
  have := State.fieldFound?_spec h
  simp_all
section ZD2
variable {p : Program} {l : Launch} {e : Env} {R : Room} {s : State} {m : MethodId} {args : Array Value} {below : List Frame} {meth : Method} {c : Code} {Q : State → Prop}
variable {D : va_G} {tA : Nat → ClassId} {B nL c0 s0 : Nat} {ad : Nat → Nat} {kn : State → Prop} {own : String} {cc : ByteArray} {ret : Option FieldType}
variable {pc : Nat} {h h1 h0 : Hp} {lv : List (Nat × Value)} {st : List Value}
theorem z_lays {C O f d : String} {c0 fi : Nat} {kf : Class} {fd : Field} (hl : (Cond.lays C O f d).before args s = true ∨ (Cond.laysFinal C O f d).before args s = true) (hi : s.fieldFound? O f d = some (c0, kf, fi, fd)) : ∃ a dd, s.vm.findClass C = some a ∧ Jmm.declares? s.vm fd.slot (a + 1) a = some dd ∧ dd.2.name = fd.name ∧ dd.1.name = kf.name ∧ s.vm.findClass O = some c0 := by
  rcases hl with hl | hl
  · obtain ⟨a, _, _, _, _, g, ha, _, hg, _, _, _, _, d, hd, h1, hn, _⟩ := Cond.lays_spec hl
    cases hi.symm.trans hg
    have hO : s.vm.findClass O = some c0 := by
      simp only [Cond.before, Cond.holds, Cond.value, ha, hi] at hl
      cases hk : s.vm.classes[a]? <;> simp_all
    exact ⟨a, d, ha, hd, hn, h1, hO⟩
  · obtain ⟨a, _, _, _, _, g, ha, _, hg, _, _, _, hO, _, d, hd, h1, hn, _⟩ := Cond.laysFinal_spec hl
    cases hi.symm.trans hg
    exact ⟨a, d, ha, hd, hn, h1, hO⟩
/-- the fields of a class have slots apart: by their names, or by who declares them -/
theorem z_apart {C : String} {T : u_T} {N ci : Nat} (F : ZF p s m args meth c D tA B nL kn own cc ret) (hin : ∀ w ∈ u_ws C T N, w ∈ lw_all) (ty : Nat → FieldType) (hty : ∀ k, k < N → parseFieldDescriptor (T k).2.2.1 = some (ty k)) (hnm : ∀ a, a < N → ∀ b, b < N → a ≠ b → (T a).2.1 ≠ (T b).2.1 ∨ (T a).1 ≠ (T b).1) (hc : zcl[ci]? = some (C, T, N)) : ∀ x y, x < N → y < N → x ≠ y → (D.2 ci) x ≠ (D.2 ci) y := by
  intro x y hx hy hne heq
  obtain ⟨hS, -⟩ := F.K.1 ci _ hc
  obtain ⟨cfa, kfa, fia, fa, hia, ea⟩ := hS x hx
  obtain ⟨cfb, kfb, fib, fb, hib, eb⟩ := hS y hy
  obtain ⟨a1, d1, f1, g1, n1, m1, o1⟩ := z_lays (u_lays F.ts hin hx) hia
  obtain ⟨a2, d2, f2, g2, n2, m2, o2⟩ := z_lays (u_lays F.ts hin hy) hib
  cases f1.symm.trans f2
  rw [← ea, ← eb] at heq
  rw [heq] at g1
  cases g1.symm.trans g2
  rcases hnm x hx y hy hne with hz | hz
  · apply hz
    rw [← (State.fieldFound?_type hia (hty x hx)).1, ← (State.fieldFound?_type hib (hty y hy)).1, ← n1, ← n2]
  · apply hz
    have k1 : kfa.name = (T x).1 := z_clname o1 (z_ffc hia)
    have k2 : kfb.name = (T y).1 := z_clname o2 (z_ffc hib)
    rw [← k1, ← k2, ← m1, ← m2]
theorem z_putF2 {q ci k t : Nat} {C : String} {T : u_T} {N : Nat} {index : Nat} {ty0 : Nat → FieldType} {ty : FieldType} {v : Value} {h' : Hp} (F : ZF p s m args meth c D tA B nL kn own cc ret) (hin2 : meth.name = "<init>") (hc : zcl[ci]? = some (C, T, N)) (hin : ∀ w ∈ u_ws C T N, w ∈ lw_all) (hty : ∀ k, k < N → parseFieldDescriptor (T k).2.2.1 = some (ty0 k)) (hnm : ∀ a, a < N → ∀ b, b < N → a ≠ b → (T a).2.1 ≠ (T b).2.1 ∨ (T a).1 ≠ (T b).1) (hk : k < N) (hft : (zft ci)[k]? = some t) (hci : ci < 100)
    (hlink : Cond.fieldLink own index own (T k).2.1 (T k).2.2.1 ∈ lw_all) (hr : (T k).1 = own) (hfin : (T k).2.2.2 = true) (hpd : parseFieldDescriptor (T k).2.2.1 = some ty) (hn : narrow ty v = v) (hfit : fits ty v = true) (hd : decode cc pc = .ok (.putfield index, 3))
    (hx : zx h' = zx h) (hcc : zc h' = zc h) (hss : zs h' = zs h) (htt : zt h' q = zt h q) (ho : ∀ q', q' < zx h → q' ≠ q → zen tA h' ad q' = zen tA h ad q') (ho2 : ∀ k' t', k' ≠ k → zfv h' ad q k' t' = zfv h ad q k' t') (hev : zfv h' ad q k t = v) (hq : q < zx h) (ht : zt h q = ci)
    (kk : ZW p l e R s m args below meth c Q D tA B nL c0 s0 ad (pc + 3) h' lv st) : ZW p l e R s m args below meth c Q D tA B nL c0 s0 ad pc h lv (v :: .ref (ad q) :: st) := by
  intro H locs ls hw hl
  have he : (zwl tA h ad)[q]? = some (ad q, .inr (ci, zfs h ad q (zft ci))) := by rw [zwl_at hq, zen_o ht hci]
  have hlen : k < (zfs h ad q (zft ci)).length := (List.getElem?_eq_some_iff.mp (zfs_at hft)).1
  have hE : zen tA h' ad q = .inr (ci, (zfs h ad q (zft ci)).set k v) := by rw [zen_o (htt.trans ht) hci, zfs_set hft ho2 hev]
  have hap := z_apart F hin ty0 hty hnm hc
  obtain ⟨r, h1, cell, q1, q2, q3, q4⟩ := hw.1 q _ he
  have hr2 : r = (C, T, N) := Option.some.inj (h1.symm.trans hc)
  subst hr2
  obtain ⟨hS, hfc, kC, hkC, hkind⟩ := F.K.1 ci _ hc
  obtain ⟨cf, kf, fi, f, hi, hsl⟩ := hS k hk
  have hlay := F.ts _ (hin _ (u_in_lay hk))
  unfold u_lay at hlay
  rw [if_pos hfin] at hlay
  have hst := (u_facts hfc hkC (u_lays F.ts hin hk) hi).1
  have hcf : m.cls = cf := by
    obtain ⟨_, _, c', _, _, _, -, -, hf', -, -, -, hown2, -⟩ := Cond.laysFinal_spec hlay
    have e1 : c' = cf := by have := hi.symm.trans hf'; simp at this; exact this.1.symm
    rw [hr] at hown2
    rw [← e1]; exact Option.some.inj (F.ow.symm.trans hown2)
  have h6 := u_fits hfc hkC hkind (Or.inr hlay) hi hpd hn hfit
  refine W.putFinK F.x F.b F.ow (F.ts _ hlink) (by rw [hr] at hi; exact hi) hst hcf hin2 (by rw [q2]; exact h6) q1 q3 (by rw [hsl]; exact k2_hasslot (q4 k hk)) rfl rfl hd fun H' e1 e2 e3 => ?_
  rw [hsl] at e1 ⊢
  have a0 : va_at D zcl (ad q, .inr (ci, (zfs h ad q (zft ci)).set k v)) H' := ⟨_, hc, t_OB.to (V := updV (vp_V (zfs h ad q (zft ci))) k v) ⟨_, e1, q2, q3, t_set q4 hap hk v⟩ (fun j _ => vp_updV_set hlen v j)⟩
  have a1 := hw.1.set hw.2.1 he a0 e3
  have := kk H' _ ls (zWd_set hx ho hE a1 (hw.2.1.set he) (hw.2.2.put (k := D.2 ci k) e2 e3 (hw.2.1.2 q _ he))) hl
  rw [hcc, hss] at this
  exact this
end ZD2
theorem zTy.new {h : Hp} {t n w τ : Nat} (hs : zsub τ t = true) : zTy (zne h t n w) (zx h) τ := ⟨Nat.lt_succ_self _, by show zsub τ (zu1 _ (zx h) t (zx h)) = true; simp [zu1, hs]⟩
theorem z_lim1 {h h0 : Hp} {k w : Nat} (hE : zEx h0 h) (hr : zc h + k ≤ zLC ∧ zs h + w ≤ zLS) {F L : Nat} : (zc h - zc h0) + k ≤ (zRm F L h0).cells ∧ (zs h - zs h0) + w ≤ (zRm F L h0).slots := by
  have h1 := hE.2.1
  have h2 := hE.2.2.1
  show _ ≤ zLC - zc h0 ∧ _ ≤ zLS - zs h0
  constructor <;> omega
theorem zA.re {h : Hp} {ad u : Nat → Nat} {o : Option Nat} {τ : Nat} (a : zA h ad u) (t : zTo h o τ) : va_re u o = va_re ad o := by
  cases o with
  | none => rfl
  | some b => show Value.ref (u b) = Value.ref (ad b); rw [a b (t b rfl).1]
/-- a reference is stored where no standing one stands -/
theorem zOk.srt {h : Hp} {q k : Nat} {v : Option Nat} {t : Nat} (o : zOk h) (hq : q < zx h) (ht : zt h q = t) (h012 : t ≠ 0 ∧ t ≠ 1 ∧ t ≠ 2) (hv : zTo h v (zrt t k)) : zOk (zsr h q k v) := by
  refine o.sr (fun a ha => by rw [ht]; exact hv a ha) (fun e he hc => ?_)
  have h3 : e.1 = 0 ∨ e.1 = 6 ∨ e.1 = 17 := by clear hc; revert e; decide
  have hz : ∀ x, x = q → zt h x = t := fun x hx => by rw [hx]; exact ht
  rcases h3 with h3 | h3 | h3
  · have := hz 0 (by rw [← h3]; exact hc.1); rw [o.tg (q := 0) (t := 0) (n := 0) (by decide)] at this; exact h012.1 this.symm
  · have := hz 6 (by rw [← h3]; exact hc.1); rw [o.tg (q := 6) (t := 1) (n := 0) (by decide)] at this; exact h012.2.1 this.symm
  · have := hz 17 (by rw [← h3]; exact hc.1); rw [o.tg (q := 17) (t := 2) (n := 0) (by decide)] at this; exact h012.2.2 this.symm
theorem zOk.srf {h : Hp} {q k τ : Nat} {v : Option Nat} {fm : List Nat} (o : zOk h) (hq : q < zx h) (hm : zt h q ∈ fm) (hf : ∀ t ∈ fm, (t ≠ 0 ∧ t ≠ 1 ∧ t ≠ 2) ∧ zrt t k = τ) (hv : zTo h v τ) : zOk (zsr h q k v) := o.srt hq rfl (hf _ hm).1 (by rw [(hf _ hm).2]; exact hv)
