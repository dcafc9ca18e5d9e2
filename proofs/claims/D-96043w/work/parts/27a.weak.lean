/-! WEAK HEAPS: while the standing cells are being made -/
def zOw (h : Hp) : Prop := zWT h ∧ zLm h
theorem zOw.ne {h : Hp} {t n w : Nat} (o : zOw h) (hr : zc h + 1 ≤ zLC ∧ zs h + w ≤ zLS) : zOw (zne h t n w) := ⟨o.1.ne, hr⟩
theorem zOw.si {h : Hp} {q k : Nat} {v : Int32} (o : zOw h) : zOw (zsi h q k v) := o
theorem zOw.sj {h : Hp} {q k : Nat} {v : Int64} (o : zOw h) : zOw (zsj h q k v) := o
theorem zOw.srt {h : Hp} {q k : Nat} {v : Option Nat} {t : Nat} (o : zOw h) (hq : q < zx h) (ht : zt h q = t) (_ : True) (hv : zTo h v (zrt t k)) : zOw (zsr h q k v) := ⟨o.1.sr (fun a ha => by rw [ht]; exact hv a ha), o.2⟩
theorem zOk.w {h : Hp} (o : zOk h) : zOw h := ⟨o.1, o.2.2⟩
theorem zTo.rdw {h : Hp} {o : Option Nat} {q k t τ : Nat} (hO : zOw h) (hq : q < zx h) (ht : zt h q = t) (hr : zrt t k = τ) (e : o = zr h q k) : zTo h o τ := fun a ha => by
  have := hO.1 q hq k a (e ▸ ha)
  rw [ht, hr] at this
  exact this
def zRvw (D : va_G) (tA : Nat → ClassId) (B : Nat) (h : Hp) (ad : Nat → Nat) (h' : Hp) := va_Qv (S := Nat → Nat) (fun u => zOw h' ∧ zEx h h' ∧ zA h ad u) (fun u t => zB D tA B h' u t) (fun q => B ≤ q)
section ZWeak
variable {p : Program} {l : Launch} {e : Env} {R : Room} {s : State} {m : MethodId} {args : Array Value} {below : List Frame} {meth : Method} {c : Code} {Q : State → Prop}
variable {D : va_G} {tA : Nat → ClassId} {B nL c0 s0 : Nat} {ad : Nat → Nat} {kn : State → Prop} {own : String} {cc : ByteArray} {ret : Option FieldType}
variable {pc : Nat} {h h1 h0 : Hp} {lv : List (Nat × Value)} {st rest : List Value}
theorem z_vreDw {ad0 : Nat → Nat} (F : ZF p s m args meth c D tA B nL kn own cc none) (hd : decode cc pc = .ok (.return_, 1)) (hO : zOw h) (hE : zEx h0 h) (hA : zA h0 ad0 ad) : ZW p l e R s m args below meth c (MQ below (zRvw D tA B h0 ad0 h) args s (zc h - c0) (zs h - s0) (fun q => B ≤ q)) D tA B nL c0 s0 ad pc h lv [] :=
  fun H locs ls hw hl => W.vret F.x F.b F.r (fun t ht hW => ⟨⟨ad, rfl, ⟨hO, hE, hA⟩, hw.zb ht⟩, hw.2.2.F ht⟩) hw.2.2.2.2 hd F.lk
theorem z_dvw {a : Array Value} {st0 : List Value} (hm : c0 ≤ zc h ∧ s0 ≤ zs h) (hrun : ∀ (H : Heap) (locs : List Loc) (ls : Array Slot), zWd D tA B s ad h H locs → lv_has ls nL lv → va_Run p l e R s m args below meth c H locs (zc h - c0) (zs h - s0) (zc h1 - zc h) (zs h1 - zs h) (F0 m pc ls st0) rest (zRvw D tA B h ad h1 a) (fun q => B ≤ q))
    (kk : zOw h1 → zEx h h1 → ∀ u, zA h ad u → ZW p l e R s m args below meth c Q D tA B nL c0 s0 u (pc + 3) h1 lv rest) : ZW p l e R s m args below meth c Q D tA B nL c0 s0 ad pc h lv st0 := by
  intro H locs ls hw hl
  refine va_callv (hrun H locs ls hw hl) hw.2.2 (fun _ _ z => z) (fun _ z => z) (fun u t H1 locs1 ht hvm hp hb hz hk hS => ?_)
  obtain ⟨hO, hE, hA⟩ := hp
  have := kk hO hE u hA H1 locs1 ls ⟨by rw [← ht]; exact hb.1, hb.2, hS⟩ hl
  rw [show zc h - c0 + (zc h1 - zc h) = zc h1 - c0 from by have := hE.2.1; omega, show zs h - s0 + (zs h1 - zs h) = zs h1 - s0 from by have := hE.2.2.1; omega]
  exact this
theorem z_fitw {h0 : Hp} (hE : zEx h0 h) (hO : zOw h) {F L : Nat} : (zc h - zc h0) + (zLC - zc h) ≤ (zRm F L h0).cells ∧ (zs h - zs h0) + (zLS - zs h) ≤ (zRm F L h0).slots := by
  have h1 := hE.2.1
  have h2 := hE.2.2.1
  have hc := hO.2.1
  have hs := hO.2.2
  show _ ≤ zLC - zc h0 ∧ _ ≤ zLS - zs h0
  constructor <;> omega
end ZWeak
