/-! ThreeSnowballs$Facts -/
set_option maxRecDepth 100000
def RX1 : String := "ThreeSnowballs$Facts"
def TX1 : u_T := fun k => match k with
  | _ => ("ThreeSnowballs$Facts", "named", "[I", true)
def tyX1 : Nat → FieldType := fun k => match k with
  | _ => .array .int
abbrev wsX10 : List Cond := u_ws RX1 TX1 1
theorem nmX1 : ∀ a, a < 1 → ∀ b, b < 1 → a ≠ b → (TX1 a).2.1 ≠ (TX1 b).2.1 := by decide +kernel
theorem tyX1_ok : ∀ k, k < 1 → parseFieldDescriptor (TX1 k).2.2.1 = some (tyX1 k) := by decide +kernel
abbrev cX1_init : ByteArray := prog_8_method_1_code
def yX1_init : MethodName := ⟨RX1, "<init>", "()V"⟩
def dkwX1_init_0 : List UInt8 := [42, 183, 0, 1, 42, 17, 0, 128, 188, 10, 181, 0, 7, 177]
abbrev dktX1_init_0 : List UInt8 := dkwX1_init_0 ++ []
theorem dksX1_init_0 : cX1_init.data.toList.drop 0 = dktX1_init_0 := by decide +kernel
theorem dX1_init_0 : decode cX1_init 0 = .ok (.aload_n 0, 1) := dk_42 (dk_at dksX1_init_0 0 rfl rfl)
theorem dX1_init_1 : decode cX1_init 1 = .ok (.invokespecial 1, 3) := dk_183 0 1 (dk_at dksX1_init_0 1 rfl rfl)
theorem dX1_init_4 : decode cX1_init 4 = .ok (.aload_n 0, 1) := dk_42 (dk_at dksX1_init_0 4 rfl rfl)
theorem dX1_init_5 : decode cX1_init 5 = .ok (.sipush 128, 3) := dk_17 0 128 (dk_at dksX1_init_0 5 rfl rfl)
theorem dX1_init_8 : decode cX1_init 8 = .ok (.newarray .int, 2) := dk_188_10 (dk_at dksX1_init_0 8 rfl rfl)
theorem dX1_init_10 : decode cX1_init 10 = .ok (.putfield 7, 3) := dk_181 0 7 (dk_at dksX1_init_0 10 rfl rfl)
theorem dX1_init_13 : decode cX1_init 13 = .ok (.return_, 1) := dk_177 (dk_at dksX1_init_0 13 rfl rfl)
abbrev cX1_clear : ByteArray := prog_8_method_2_code
def yX1_clear : MethodName := ⟨RX1, "clear", "()V"⟩
def dkwX1_clear_1 : List UInt8 := [177]
abbrev dktX1_clear_1 : List UInt8 := dkwX1_clear_1 ++ []
def dkwX1_clear_0 : List UInt8 := [3, 60, 27, 42, 180, 0, 7, 190, 162, 0, 16, 42, 180, 0, 7, 27, 3, 79, 132, 1, 1, 167, 255, 237]
abbrev dktX1_clear_0 : List UInt8 := dkwX1_clear_0 ++ dktX1_clear_1
theorem dksX1_clear_0 : cX1_clear.data.toList.drop 0 = dktX1_clear_0 := by decide +kernel
theorem dksX1_clear_1 : cX1_clear.data.toList.drop 24 = dktX1_clear_1 := dk_seg dksX1_clear_0 24 rfl rfl
theorem dX1_clear_0 : decode cX1_clear 0 = .ok (.iconst 0, 1) := dk_3 (dk_at dksX1_clear_0 0 rfl rfl)
theorem dX1_clear_1 : decode cX1_clear 1 = .ok (.istore_n 1, 1) := dk_60 (dk_at dksX1_clear_0 1 rfl rfl)
theorem dX1_clear_2 : decode cX1_clear 2 = .ok (.iload_n 1, 1) := dk_27 (dk_at dksX1_clear_0 2 rfl rfl)
theorem dX1_clear_3 : decode cX1_clear 3 = .ok (.aload_n 0, 1) := dk_42 (dk_at dksX1_clear_0 3 rfl rfl)
theorem dX1_clear_4 : decode cX1_clear 4 = .ok (.getfield 7, 3) := dk_180 0 7 (dk_at dksX1_clear_0 4 rfl rfl)
theorem dX1_clear_7 : decode cX1_clear 7 = .ok (.arraylength, 1) := dk_190 (dk_at dksX1_clear_0 7 rfl rfl)
theorem dX1_clear_8 : decode cX1_clear 8 = .ok (.if_icmp .ge 16, 3) := dk_162 0 16 (dk_at dksX1_clear_0 8 rfl rfl)
theorem dX1_clear_11 : decode cX1_clear 11 = .ok (.aload_n 0, 1) := dk_42 (dk_at dksX1_clear_0 11 rfl rfl)
theorem dX1_clear_12 : decode cX1_clear 12 = .ok (.getfield 7, 3) := dk_180 0 7 (dk_at dksX1_clear_0 12 rfl rfl)
theorem dX1_clear_15 : decode cX1_clear 15 = .ok (.iload_n 1, 1) := dk_27 (dk_at dksX1_clear_0 15 rfl rfl)
theorem dX1_clear_16 : decode cX1_clear 16 = .ok (.iconst 0, 1) := dk_3 (dk_at dksX1_clear_0 16 rfl rfl)
theorem dX1_clear_17 : decode cX1_clear 17 = .ok (.iastore, 1) := dk_79 (dk_at dksX1_clear_0 17 rfl rfl)
theorem dX1_clear_18 : decode cX1_clear 18 = .ok (.iinc 1 1, 3) := dk_132 1 1 (dk_at dksX1_clear_0 18 rfl rfl)
theorem dX1_clear_21 : decode cX1_clear 21 = .ok (.goto (-19), 3) := dk_167 255 237 (dk_at dksX1_clear_0 21 rfl rfl)
theorem dX1_clear_24 : decode cX1_clear 24 = .ok (.return_, 1) := dk_177 (dk_at dksX1_clear_1 0 rfl rfl)
theorem q93 : (Jvm.Cond.initialized "ThreeSnowballs$Facts") ∈ lw_all := lw_g (lw_at lw_m1 2 rfl) rfl
theorem q149 : (Jvm.Cond.instantiable "ThreeSnowballs$Facts" (1 : Nat)) ∈ lw_all := lw_g (lw_at lw_m1 58 rfl) rfl
theorem q151 : (Jvm.Cond.instanceMethod ({ cls := "ThreeSnowballs$Facts", name := "<init>", desc := "()V" } : Jvm.MethodName)) ∈ lw_all := lw_g (lw_at lw_m1 60 rfl) rfl
theorem q152 : (Jvm.Cond.code ({ cls := "ThreeSnowballs$Facts", name := "<init>", desc := "()V" } : Jvm.MethodName) prog_8_method_1_code (1 : Nat) (Option.none : Option Jvm.ClassFile.FieldType)) ∈ lw_all := lw_g (lw_at lw_m1 61 rfl) rfl
theorem q153 : (Jvm.Cond.methodLink "ThreeSnowballs$Facts" (1 : Nat) ({ cls := "java/lang/Object", name := "<init>", desc := "()V" } : Jvm.MethodName)) ∈ lw_all := lw_g (lw_at lw_m1 62 rfl) rfl
theorem q154 : (Jvm.Cond.fieldLink "ThreeSnowballs$Facts" (7 : Nat) "ThreeSnowballs$Facts" "named" "[I") ∈ lw_all := lw_g (lw_at lw_m1 63 rfl) rfl
theorem q157 : (Jvm.Cond.laysFinal "ThreeSnowballs$Facts" "ThreeSnowballs$Facts" "named" "[I") ∈ lw_all := lw_g (lw_at lw_m1 66 rfl) rfl
theorem q158 : (Jvm.Cond.soleField "ThreeSnowballs$Facts" "named") ∈ lw_all := lw_g (lw_at lw_m1 67 rfl) rfl
theorem q159 : (Jvm.Cond.superclass "ThreeSnowballs$Facts" "java/lang/Object") ∈ lw_all := lw_g (lw_at lw_m1 68 rfl) rfl
theorem q850 : (Jvm.Cond.instanceMethod ({ cls := "ThreeSnowballs$Facts", name := "clear", desc := "()V" } : Jvm.MethodName)) ∈ lw_all := lw_g (lw_at lw_m4 39 rfl) rfl
theorem q851 : (Jvm.Cond.selects "ThreeSnowballs$Facts" ({ cls := "ThreeSnowballs$Facts", name := "clear", desc := "()V" } : Jvm.MethodName) ({ cls := "ThreeSnowballs$Facts", name := "clear", desc := "()V" } : Jvm.MethodName)) ∈ lw_all := lw_g (lw_at lw_m4 40 rfl) rfl
theorem q852 : (Jvm.Cond.code ({ cls := "ThreeSnowballs$Facts", name := "clear", desc := "()V" } : Jvm.MethodName) prog_8_method_2_code (2 : Nat) (Option.none : Option Jvm.ClassFile.FieldType)) ∈ lw_all := lw_g (lw_at lw_m4 41 rfl) rfl
theorem in_X1 : ∀ w ∈ wsX10, w ∈ lw_all := lw_in wsX10 [157] (by decide +kernel) (by decide +kernel)
/-! ThreeSnowballs$Player -/
set_option maxRecDepth 100000
def RX3 : String := "ThreeSnowballs$Player"
def TX3 : u_T := fun k => match k with
  | 0 => ("ThreeSnowballs$Player", "hits", "I", false)
  | 1 => ("ThreeSnowballs$Player", "way", "I", false)
  | _ => ("ThreeSnowballs$Player", "told", "I", false)
def tyX3 : Nat → FieldType := fun k => match k with
  | 0 => .int
  | 1 => .int
  | _ => .int
abbrev wsX30 : List Cond := u_ws RX3 TX3 3
theorem nmX3 : ∀ a, a < 3 → ∀ b, b < 3 → a ≠ b → (TX3 a).2.1 ≠ (TX3 b).2.1 := by decide +kernel
theorem tyX3_ok : ∀ k, k < 3 → parseFieldDescriptor (TX3 k).2.2.1 = some (tyX3 k) := by decide +kernel
abbrev cX3_init : ByteArray := prog_20_method_1_code
def yX3_init : MethodName := ⟨RX3, "<init>", "(II)V"⟩
def dkwX3_init_0 : List UInt8 := [42, 183, 0, 1, 42, 27, 181, 0, 7, 42, 28, 181, 0, 13, 177]
abbrev dktX3_init_0 : List UInt8 := dkwX3_init_0 ++ []
theorem dksX3_init_0 : cX3_init.data.toList.drop 0 = dktX3_init_0 := by decide +kernel
theorem dX3_init_0 : decode cX3_init 0 = .ok (.aload_n 0, 1) := dk_42 (dk_at dksX3_init_0 0 rfl rfl)
theorem dX3_init_1 : decode cX3_init 1 = .ok (.invokespecial 1, 3) := dk_183 0 1 (dk_at dksX3_init_0 1 rfl rfl)
theorem dX3_init_4 : decode cX3_init 4 = .ok (.aload_n 0, 1) := dk_42 (dk_at dksX3_init_0 4 rfl rfl)
theorem dX3_init_5 : decode cX3_init 5 = .ok (.iload_n 1, 1) := dk_27 (dk_at dksX3_init_0 5 rfl rfl)
theorem dX3_init_6 : decode cX3_init 6 = .ok (.putfield 7, 3) := dk_181 0 7 (dk_at dksX3_init_0 6 rfl rfl)
theorem dX3_init_9 : decode cX3_init 9 = .ok (.aload_n 0, 1) := dk_42 (dk_at dksX3_init_0 9 rfl rfl)
theorem dX3_init_10 : decode cX3_init 10 = .ok (.iload_n 2, 1) := dk_28 (dk_at dksX3_init_0 10 rfl rfl)
theorem dX3_init_11 : decode cX3_init 11 = .ok (.putfield 13, 3) := dk_181 0 13 (dk_at dksX3_init_0 11 rfl rfl)
theorem dX3_init_14 : decode cX3_init 14 = .ok (.return_, 1) := dk_177 (dk_at dksX3_init_0 14 rfl rfl)
theorem q95 : (Jvm.Cond.initialized "ThreeSnowballs$Player") ∈ lw_all := lw_g (lw_at lw_m1 4 rfl) rfl
theorem q307 : (Jvm.Cond.instantiable "ThreeSnowballs$Player" (3 : Nat)) ∈ lw_all := lw_g (lw_at lw_m1 216 rfl) rfl
theorem q309 : (Jvm.Cond.instanceMethod ({ cls := "ThreeSnowballs$Player", name := "<init>", desc := "(II)V" } : Jvm.MethodName)) ∈ lw_all := lw_g (lw_at lw_m1 218 rfl) rfl
theorem q310 : (Jvm.Cond.code ({ cls := "ThreeSnowballs$Player", name := "<init>", desc := "(II)V" } : Jvm.MethodName) prog_20_method_1_code (3 : Nat) (Option.none : Option Jvm.ClassFile.FieldType)) ∈ lw_all := lw_g (lw_at lw_m1 219 rfl) rfl
theorem q311 : (Jvm.Cond.methodLink "ThreeSnowballs$Player" (1 : Nat) ({ cls := "java/lang/Object", name := "<init>", desc := "()V" } : Jvm.MethodName)) ∈ lw_all := lw_g (lw_at lw_m1 220 rfl) rfl
theorem q312 : (Jvm.Cond.fieldLink "ThreeSnowballs$Player" (7 : Nat) "ThreeSnowballs$Player" "hits" "I") ∈ lw_all := lw_g (lw_at lw_m1 221 rfl) rfl
theorem q314 : (Jvm.Cond.fieldLink "ThreeSnowballs$Player" (13 : Nat) "ThreeSnowballs$Player" "way" "I") ∈ lw_all := lw_g (lw_at lw_m1 223 rfl) rfl
theorem q317 : (Jvm.Cond.lays "ThreeSnowballs$Player" "ThreeSnowballs$Player" "hits" "I") ∈ lw_all := lw_g (lw_at lw_m1 226 rfl) rfl
theorem q318 : (Jvm.Cond.soleField "ThreeSnowballs$Player" "hits") ∈ lw_all := lw_g (lw_at lw_m1 227 rfl) rfl
theorem q319 : (Jvm.Cond.lays "ThreeSnowballs$Player" "ThreeSnowballs$Player" "way" "I") ∈ lw_all := lw_g (lw_at lw_m1 228 rfl) rfl
theorem q320 : (Jvm.Cond.soleField "ThreeSnowballs$Player" "way") ∈ lw_all := lw_g (lw_at lw_m1 229 rfl) rfl
theorem q321 : (Jvm.Cond.lays "ThreeSnowballs$Player" "ThreeSnowballs$Player" "told" "I") ∈ lw_all := lw_g (lw_at lw_m1 230 rfl) rfl
theorem q322 : (Jvm.Cond.soleField "ThreeSnowballs$Player" "told") ∈ lw_all := lw_g (lw_at lw_m1 231 rfl) rfl
theorem q323 : (Jvm.Cond.superclass "ThreeSnowballs$Player" "java/lang/Object") ∈ lw_all := lw_g (lw_at lw_m1 232 rfl) rfl
theorem in_X3 : ∀ w ∈ wsX30, w ∈ lw_all := lw_in wsX30 [317, 319, 321] (by decide +kernel) (by decide +kernel)
/-! ThreeSnowballs$Change -/
set_option maxRecDepth 100000
def RX4 : String := "ThreeSnowballs$Change"
def TX4 : u_T := fun k => match k with
  | 0 => ("ThreeSnowballs$Change", "of", "I", true)
  | 1 => ("ThreeSnowballs$Change", "at", "I", true)
  | 2 => ("ThreeSnowballs$Change", "before", "I", true)
  | _ => ("ThreeSnowballs$Change", "behind", "I", true)
def tyX4 : Nat → FieldType := fun k => match k with
  | 0 => .int
  | 1 => .int
  | 2 => .int
  | _ => .int
abbrev wsX40 : List Cond := u_ws RX4 TX4 4
theorem nmX4 : ∀ a, a < 4 → ∀ b, b < 4 → a ≠ b → (TX4 a).2.1 ≠ (TX4 b).2.1 := by decide +kernel
theorem tyX4_ok : ∀ k, k < 4 → parseFieldDescriptor (TX4 k).2.2.1 = some (tyX4 k) := by decide +kernel
abbrev cX4_init : ByteArray := prog_6_method_1_code
def yX4_init : MethodName := ⟨RX4, "<init>", "(IIII)V"⟩
def dkwX4_init_1 : List UInt8 := [181, 0, 19, 177]
abbrev dktX4_init_1 : List UInt8 := dkwX4_init_1 ++ []
def dkwX4_init_0 : List UInt8 := [42, 183, 0, 1, 42, 27, 181, 0, 7, 42, 28, 181, 0, 13, 42, 29, 181, 0, 16, 42, 21, 4]
abbrev dktX4_init_0 : List UInt8 := dkwX4_init_0 ++ dktX4_init_1
theorem dksX4_init_0 : cX4_init.data.toList.drop 0 = dktX4_init_0 := by decide +kernel
theorem dksX4_init_1 : cX4_init.data.toList.drop 22 = dktX4_init_1 := dk_seg dksX4_init_0 22 rfl rfl
theorem dX4_init_0 : decode cX4_init 0 = .ok (.aload_n 0, 1) := dk_42 (dk_at dksX4_init_0 0 rfl rfl)
theorem dX4_init_1 : decode cX4_init 1 = .ok (.invokespecial 1, 3) := dk_183 0 1 (dk_at dksX4_init_0 1 rfl rfl)
theorem dX4_init_4 : decode cX4_init 4 = .ok (.aload_n 0, 1) := dk_42 (dk_at dksX4_init_0 4 rfl rfl)
theorem dX4_init_5 : decode cX4_init 5 = .ok (.iload_n 1, 1) := dk_27 (dk_at dksX4_init_0 5 rfl rfl)
theorem dX4_init_6 : decode cX4_init 6 = .ok (.putfield 7, 3) := dk_181 0 7 (dk_at dksX4_init_0 6 rfl rfl)
theorem dX4_init_9 : decode cX4_init 9 = .ok (.aload_n 0, 1) := dk_42 (dk_at dksX4_init_0 9 rfl rfl)
theorem dX4_init_10 : decode cX4_init 10 = .ok (.iload_n 2, 1) := dk_28 (dk_at dksX4_init_0 10 rfl rfl)
theorem dX4_init_11 : decode cX4_init 11 = .ok (.putfield 13, 3) := dk_181 0 13 (dk_at dksX4_init_0 11 rfl rfl)
theorem dX4_init_14 : decode cX4_init 14 = .ok (.aload_n 0, 1) := dk_42 (dk_at dksX4_init_0 14 rfl rfl)
theorem dX4_init_15 : decode cX4_init 15 = .ok (.iload_n 3, 1) := dk_29 (dk_at dksX4_init_0 15 rfl rfl)
theorem dX4_init_16 : decode cX4_init 16 = .ok (.putfield 16, 3) := dk_181 0 16 (dk_at dksX4_init_0 16 rfl rfl)
theorem dX4_init_19 : decode cX4_init 19 = .ok (.aload_n 0, 1) := dk_42 (dk_at dksX4_init_0 19 rfl rfl)
theorem dX4_init_20 : decode cX4_init 20 = .ok (.iload 4, 2) := dk_21 4 (dk_at dksX4_init_0 20 rfl rfl)
theorem dX4_init_22 : decode cX4_init 22 = .ok (.putfield 19, 3) := dk_181 0 19 (dk_at dksX4_init_1 0 rfl rfl)
theorem dX4_init_25 : decode cX4_init 25 = .ok (.return_, 1) := dk_177 (dk_at dksX4_init_1 3 rfl rfl)
theorem q104 : (Jvm.Cond.initialized "ThreeSnowballs$Change") ∈ lw_all := lw_g (lw_at lw_m1 13 rfl) rfl
theorem q520 : (Jvm.Cond.instantiable "ThreeSnowballs$Change" (4 : Nat)) ∈ lw_all := lw_g (lw_at lw_m2 189 rfl) rfl
theorem q522 : (Jvm.Cond.instanceMethod ({ cls := "ThreeSnowballs$Change", name := "<init>", desc := "(IIII)V" } : Jvm.MethodName)) ∈ lw_all := lw_g (lw_at lw_m2 191 rfl) rfl
theorem q523 : (Jvm.Cond.code ({ cls := "ThreeSnowballs$Change", name := "<init>", desc := "(IIII)V" } : Jvm.MethodName) prog_6_method_1_code (5 : Nat) (Option.none : Option Jvm.ClassFile.FieldType)) ∈ lw_all := lw_g (lw_at lw_m2 192 rfl) rfl
theorem q524 : (Jvm.Cond.methodLink "ThreeSnowballs$Change" (1 : Nat) ({ cls := "java/lang/Object", name := "<init>", desc := "()V" } : Jvm.MethodName)) ∈ lw_all := lw_g (lw_at lw_m2 193 rfl) rfl
theorem q525 : (Jvm.Cond.fieldLink "ThreeSnowballs$Change" (7 : Nat) "ThreeSnowballs$Change" "of" "I") ∈ lw_all := lw_g (lw_at lw_m2 194 rfl) rfl
theorem q527 : (Jvm.Cond.fieldLink "ThreeSnowballs$Change" (13 : Nat) "ThreeSnowballs$Change" "at" "I") ∈ lw_all := lw_g (lw_at lw_m2 196 rfl) rfl
theorem q529 : (Jvm.Cond.fieldLink "ThreeSnowballs$Change" (16 : Nat) "ThreeSnowballs$Change" "before" "I") ∈ lw_all := lw_g (lw_at lw_m2 198 rfl) rfl
theorem q531 : (Jvm.Cond.fieldLink "ThreeSnowballs$Change" (19 : Nat) "ThreeSnowballs$Change" "behind" "I") ∈ lw_all := lw_g (lw_at lw_m2 200 rfl) rfl
theorem q533 : (Jvm.Cond.laysFinal "ThreeSnowballs$Change" "ThreeSnowballs$Change" "of" "I") ∈ lw_all := lw_g (lw_at lw_m2 202 rfl) rfl
theorem q534 : (Jvm.Cond.soleField "ThreeSnowballs$Change" "of") ∈ lw_all := lw_g (lw_at lw_m2 203 rfl) rfl
theorem q535 : (Jvm.Cond.laysFinal "ThreeSnowballs$Change" "ThreeSnowballs$Change" "at" "I") ∈ lw_all := lw_g (lw_at lw_m2 204 rfl) rfl
theorem q536 : (Jvm.Cond.soleField "ThreeSnowballs$Change" "at") ∈ lw_all := lw_g (lw_at lw_m2 205 rfl) rfl
theorem q537 : (Jvm.Cond.laysFinal "ThreeSnowballs$Change" "ThreeSnowballs$Change" "before" "I") ∈ lw_all := lw_g (lw_at lw_m2 206 rfl) rfl
theorem q538 : (Jvm.Cond.soleField "ThreeSnowballs$Change" "before") ∈ lw_all := lw_g (lw_at lw_m2 207 rfl) rfl
theorem q539 : (Jvm.Cond.laysFinal "ThreeSnowballs$Change" "ThreeSnowballs$Change" "behind" "I") ∈ lw_all := lw_g (lw_at lw_m2 208 rfl) rfl
theorem q540 : (Jvm.Cond.soleField "ThreeSnowballs$Change" "behind") ∈ lw_all := lw_g (lw_at lw_m2 209 rfl) rfl
theorem q541 : (Jvm.Cond.superclass "ThreeSnowballs$Change" "java/lang/Object") ∈ lw_all := lw_g (lw_at lw_m2 210 rfl) rfl
theorem in_X4 : ∀ w ∈ wsX40, w ∈ lw_all := lw_in wsX40 [533, 535, 537, 539] (by decide +kernel) (by decide +kernel)
/-! ThreeSnowballs$Reader -/
set_option maxRecDepth 100000
def RX5 : String := "ThreeSnowballs$Reader"
def TX5 : u_T := fun k => match k with
  | 0 => ("ThreeSnowballs$Reader", "at", "I", false)
  | 1 => ("ThreeSnowballs$Reader", "fault", "I", false)
  | 2 => ("ThreeSnowballs$Reader", "open", "I", false)
  | _ => ("ThreeSnowballs$Reader", "this$0", "LThreeSnowballs;", true)
def tyX5 : Nat → FieldType := fun k => match k with
  | 0 => .int
  | 1 => .int
  | 2 => .int
  | _ => .object "ThreeSnowballs"
abbrev wsX50 : List Cond := u_ws RX5 TX5 4
theorem nmX5 : ∀ a, a < 4 → ∀ b, b < 4 → a ≠ b → (TX5 a).2.1 ≠ (TX5 b).2.1 := by decide +kernel
theorem tyX5_ok : ∀ k, k < 4 → parseFieldDescriptor (TX5 k).2.2.1 = some (tyX5 k) := by decide +kernel
abbrev cX5_init : ByteArray := prog_21_method_1_code
def yX5_init : MethodName := ⟨RX5, "<init>", "(LThreeSnowballs;)V"⟩
def dkwX5_init_0 : List UInt8 := [42, 43, 181, 0, 3, 42, 183, 0, 9, 42, 2, 181, 0, 15, 177]
abbrev dktX5_init_0 : List UInt8 := dkwX5_init_0 ++ []
theorem dksX5_init_0 : cX5_init.data.toList.drop 0 = dktX5_init_0 := by decide +kernel
theorem dX5_init_0 : decode cX5_init 0 = .ok (.aload_n 0, 1) := dk_42 (dk_at dksX5_init_0 0 rfl rfl)
theorem dX5_init_1 : decode cX5_init 1 = .ok (.aload_n 1, 1) := dk_43 (dk_at dksX5_init_0 1 rfl rfl)
theorem dX5_init_2 : decode cX5_init 2 = .ok (.putfield 3, 3) := dk_181 0 3 (dk_at dksX5_init_0 2 rfl rfl)
theorem dX5_init_5 : decode cX5_init 5 = .ok (.aload_n 0, 1) := dk_42 (dk_at dksX5_init_0 5 rfl rfl)
theorem dX5_init_6 : decode cX5_init 6 = .ok (.invokespecial 9, 3) := dk_183 0 9 (dk_at dksX5_init_0 6 rfl rfl)
theorem dX5_init_9 : decode cX5_init 9 = .ok (.aload_n 0, 1) := dk_42 (dk_at dksX5_init_0 9 rfl rfl)
theorem dX5_init_10 : decode cX5_init 10 = .ok (.iconst (-1), 1) := dk_2 (dk_at dksX5_init_0 10 rfl rfl)
theorem dX5_init_11 : decode cX5_init 11 = .ok (.putfield 15, 3) := dk_181 0 15 (dk_at dksX5_init_0 11 rfl rfl)
theorem dX5_init_14 : decode cX5_init 14 = .ok (.return_, 1) := dk_177 (dk_at dksX5_init_0 14 rfl rfl)
abbrev cX5_lines : ByteArray := prog_21_method_5_code
def yX5_lines : MethodName := ⟨RX5, "lines", "()LThreeSnowballs$Line;"⟩
def dkwX5_lines_3 : List UInt8 := [42, 42, 180, 0, 19, 181, 0, 15, 43, 176]
abbrev dktX5_lines_3 : List UInt8 := dkwX5_lines_3 ++ []
def dkwX5_lines_2 : List UInt8 := [167, 255, 217, 42, 180, 0, 15, 156, 0, 25, 42, 180, 0, 19, 42, 180, 0, 3, 180, 0, 22, 162, 0, 11]
abbrev dktX5_lines_2 : List UInt8 := dkwX5_lines_2 ++ dktX5_lines_3
def dkwX5_lines_1 : List UInt8 := [89, 180, 0, 19, 4, 96, 181, 0, 19, 44, 42, 182, 0, 39, 181, 0, 43, 44, 180, 0, 43, 77]
abbrev dktX5_lines_1 : List UInt8 := dkwX5_lines_1 ++ dktX5_lines_2
def dkwX5_lines_0 : List UInt8 := [42, 182, 0, 39, 76, 43, 77, 42, 180, 0, 15, 156, 0, 38, 42, 182, 0, 29, 16, 59, 160, 0, 29, 42]
abbrev dktX5_lines_0 : List UInt8 := dkwX5_lines_0 ++ dktX5_lines_1
theorem dksX5_lines_0 : cX5_lines.data.toList.drop 0 = dktX5_lines_0 := by decide +kernel
theorem dksX5_lines_1 : cX5_lines.data.toList.drop 24 = dktX5_lines_1 := dk_seg dksX5_lines_0 24 rfl rfl
theorem dksX5_lines_2 : cX5_lines.data.toList.drop 46 = dktX5_lines_2 := dk_seg dksX5_lines_1 22 rfl rfl
theorem dksX5_lines_3 : cX5_lines.data.toList.drop 70 = dktX5_lines_3 := dk_seg dksX5_lines_2 24 rfl rfl
theorem dX5_lines_0 : decode cX5_lines 0 = .ok (.aload_n 0, 1) := dk_42 (dk_at dksX5_lines_0 0 rfl rfl)
theorem dX5_lines_1 : decode cX5_lines 1 = .ok (.invokevirtual 39, 3) := dk_182 0 39 (dk_at dksX5_lines_0 1 rfl rfl)
theorem dX5_lines_4 : decode cX5_lines 4 = .ok (.astore_n 1, 1) := dk_76 (dk_at dksX5_lines_0 4 rfl rfl)
theorem dX5_lines_5 : decode cX5_lines 5 = .ok (.aload_n 1, 1) := dk_43 (dk_at dksX5_lines_0 5 rfl rfl)
theorem dX5_lines_6 : decode cX5_lines 6 = .ok (.astore_n 2, 1) := dk_77 (dk_at dksX5_lines_0 6 rfl rfl)
theorem dX5_lines_7 : decode cX5_lines 7 = .ok (.aload_n 0, 1) := dk_42 (dk_at dksX5_lines_0 7 rfl rfl)
theorem dX5_lines_8 : decode cX5_lines 8 = .ok (.getfield 15, 3) := dk_180 0 15 (dk_at dksX5_lines_0 8 rfl rfl)
theorem dX5_lines_11 : decode cX5_lines 11 = .ok (.ifCond .ge 38, 3) := dk_156 0 38 (dk_at dksX5_lines_0 11 rfl rfl)
theorem dX5_lines_14 : decode cX5_lines 14 = .ok (.aload_n 0, 1) := dk_42 (dk_at dksX5_lines_0 14 rfl rfl)
theorem dX5_lines_15 : decode cX5_lines 15 = .ok (.invokevirtual 29, 3) := dk_182 0 29 (dk_at dksX5_lines_0 15 rfl rfl)
theorem dX5_lines_18 : decode cX5_lines 18 = .ok (.bipush 59, 2) := dk_16 59 (dk_at dksX5_lines_0 18 rfl rfl)
theorem dX5_lines_20 : decode cX5_lines 20 = .ok (.if_icmp .ne 29, 3) := dk_160 0 29 (dk_at dksX5_lines_0 20 rfl rfl)
theorem dX5_lines_23 : decode cX5_lines 23 = .ok (.aload_n 0, 1) := dk_42 (dk_at dksX5_lines_0 23 rfl rfl)
theorem dX5_lines_24 : decode cX5_lines 24 = .ok (.dup, 1) := dk_89 (dk_at dksX5_lines_1 0 rfl rfl)
theorem dX5_lines_25 : decode cX5_lines 25 = .ok (.getfield 19, 3) := dk_180 0 19 (dk_at dksX5_lines_1 1 rfl rfl)
theorem dX5_lines_28 : decode cX5_lines 28 = .ok (.iconst 1, 1) := dk_4 (dk_at dksX5_lines_1 4 rfl rfl)
theorem dX5_lines_29 : decode cX5_lines 29 = .ok (.iadd, 1) := dk_96 (dk_at dksX5_lines_1 5 rfl rfl)
theorem dX5_lines_30 : decode cX5_lines 30 = .ok (.putfield 19, 3) := dk_181 0 19 (dk_at dksX5_lines_1 6 rfl rfl)
theorem dX5_lines_33 : decode cX5_lines 33 = .ok (.aload_n 2, 1) := dk_44 (dk_at dksX5_lines_1 9 rfl rfl)
theorem dX5_lines_34 : decode cX5_lines 34 = .ok (.aload_n 0, 1) := dk_42 (dk_at dksX5_lines_1 10 rfl rfl)
theorem dX5_lines_35 : decode cX5_lines 35 = .ok (.invokevirtual 39, 3) := dk_182 0 39 (dk_at dksX5_lines_1 11 rfl rfl)
theorem dX5_lines_38 : decode cX5_lines 38 = .ok (.putfield 43, 3) := dk_181 0 43 (dk_at dksX5_lines_1 14 rfl rfl)
theorem dX5_lines_41 : decode cX5_lines 41 = .ok (.aload_n 2, 1) := dk_44 (dk_at dksX5_lines_1 17 rfl rfl)
theorem dX5_lines_42 : decode cX5_lines 42 = .ok (.getfield 43, 3) := dk_180 0 43 (dk_at dksX5_lines_1 18 rfl rfl)
theorem dX5_lines_45 : decode cX5_lines 45 = .ok (.astore_n 2, 1) := dk_77 (dk_at dksX5_lines_1 21 rfl rfl)
theorem dX5_lines_46 : decode cX5_lines 46 = .ok (.goto (-39), 3) := dk_167 255 217 (dk_at dksX5_lines_2 0 rfl rfl)
theorem dX5_lines_49 : decode cX5_lines 49 = .ok (.aload_n 0, 1) := dk_42 (dk_at dksX5_lines_2 3 rfl rfl)
theorem dX5_lines_50 : decode cX5_lines 50 = .ok (.getfield 15, 3) := dk_180 0 15 (dk_at dksX5_lines_2 4 rfl rfl)
theorem dX5_lines_53 : decode cX5_lines 53 = .ok (.ifCond .ge 25, 3) := dk_156 0 25 (dk_at dksX5_lines_2 7 rfl rfl)
theorem dX5_lines_56 : decode cX5_lines 56 = .ok (.aload_n 0, 1) := dk_42 (dk_at dksX5_lines_2 10 rfl rfl)
theorem dX5_lines_57 : decode cX5_lines 57 = .ok (.getfield 19, 3) := dk_180 0 19 (dk_at dksX5_lines_2 11 rfl rfl)
theorem dX5_lines_60 : decode cX5_lines 60 = .ok (.aload_n 0, 1) := dk_42 (dk_at dksX5_lines_2 14 rfl rfl)
theorem dX5_lines_61 : decode cX5_lines 61 = .ok (.getfield 3, 3) := dk_180 0 3 (dk_at dksX5_lines_2 15 rfl rfl)
theorem dX5_lines_64 : decode cX5_lines 64 = .ok (.getfield 22, 3) := dk_180 0 22 (dk_at dksX5_lines_2 18 rfl rfl)
theorem dX5_lines_67 : decode cX5_lines 67 = .ok (.if_icmp .ge 11, 3) := dk_162 0 11 (dk_at dksX5_lines_2 21 rfl rfl)
theorem dX5_lines_70 : decode cX5_lines 70 = .ok (.aload_n 0, 1) := dk_42 (dk_at dksX5_lines_3 0 rfl rfl)
theorem dX5_lines_71 : decode cX5_lines 71 = .ok (.aload_n 0, 1) := dk_42 (dk_at dksX5_lines_3 1 rfl rfl)
theorem dX5_lines_72 : decode cX5_lines 72 = .ok (.getfield 19, 3) := dk_180 0 19 (dk_at dksX5_lines_3 2 rfl rfl)
theorem dX5_lines_75 : decode cX5_lines 75 = .ok (.putfield 15, 3) := dk_181 0 15 (dk_at dksX5_lines_3 5 rfl rfl)
theorem dX5_lines_78 : decode cX5_lines 78 = .ok (.aload_n 1, 1) := dk_43 (dk_at dksX5_lines_3 8 rfl rfl)
theorem dX5_lines_79 : decode cX5_lines 79 = .ok (.areturn, 1) := dk_176 (dk_at dksX5_lines_3 9 rfl rfl)
abbrev cX5_line : ByteArray := prog_21_method_6_code
def yX5_line : MethodName := ⟨RX5, "line", "()LThreeSnowballs$Line;"⟩
def dkwX5_line_2 : List UInt8 := [180, 0, 54, 181, 0, 58, 43, 42, 182, 0, 50, 181, 0, 54, 43, 176]
abbrev dktX5_line_2 : List UInt8 := dkwX5_line_2 ++ []
def dkwX5_line_1 : List UInt8 := [182, 0, 29, 16, 63, 159, 0, 5, 43, 176, 42, 89, 180, 0, 19, 4, 96, 181, 0, 19, 43, 43]
abbrev dktX5_line_1 : List UInt8 := dkwX5_line_1 ++ dktX5_line_2
def dkwX5_line_0 : List UInt8 := [187, 0, 44, 89, 183, 0, 49, 76, 43, 42, 182, 0, 50, 181, 0, 54, 42, 180, 0, 15, 156, 0, 12, 42]
abbrev dktX5_line_0 : List UInt8 := dkwX5_line_0 ++ dktX5_line_1
theorem dksX5_line_0 : cX5_line.data.toList.drop 0 = dktX5_line_0 := by decide +kernel
theorem dksX5_line_1 : cX5_line.data.toList.drop 24 = dktX5_line_1 := dk_seg dksX5_line_0 24 rfl rfl
theorem dksX5_line_2 : cX5_line.data.toList.drop 46 = dktX5_line_2 := dk_seg dksX5_line_1 22 rfl rfl
theorem dX5_line_0 : decode cX5_line 0 = .ok (.new 44, 3) := dk_187 0 44 (dk_at dksX5_line_0 0 rfl rfl)
theorem dX5_line_3 : decode cX5_line 3 = .ok (.dup, 1) := dk_89 (dk_at dksX5_line_0 3 rfl rfl)
theorem dX5_line_4 : decode cX5_line 4 = .ok (.invokespecial 49, 3) := dk_183 0 49 (dk_at dksX5_line_0 4 rfl rfl)
theorem dX5_line_7 : decode cX5_line 7 = .ok (.astore_n 1, 1) := dk_76 (dk_at dksX5_line_0 7 rfl rfl)
theorem dX5_line_8 : decode cX5_line 8 = .ok (.aload_n 1, 1) := dk_43 (dk_at dksX5_line_0 8 rfl rfl)
theorem dX5_line_9 : decode cX5_line 9 = .ok (.aload_n 0, 1) := dk_42 (dk_at dksX5_line_0 9 rfl rfl)
theorem dX5_line_10 : decode cX5_line 10 = .ok (.invokevirtual 50, 3) := dk_182 0 50 (dk_at dksX5_line_0 10 rfl rfl)
theorem dX5_line_13 : decode cX5_line 13 = .ok (.putfield 54, 3) := dk_181 0 54 (dk_at dksX5_line_0 13 rfl rfl)
theorem dX5_line_16 : decode cX5_line 16 = .ok (.aload_n 0, 1) := dk_42 (dk_at dksX5_line_0 16 rfl rfl)
theorem dX5_line_17 : decode cX5_line 17 = .ok (.getfield 15, 3) := dk_180 0 15 (dk_at dksX5_line_0 17 rfl rfl)
theorem dX5_line_20 : decode cX5_line 20 = .ok (.ifCond .ge 12, 3) := dk_156 0 12 (dk_at dksX5_line_0 20 rfl rfl)
theorem dX5_line_23 : decode cX5_line 23 = .ok (.aload_n 0, 1) := dk_42 (dk_at dksX5_line_0 23 rfl rfl)
theorem dX5_line_24 : decode cX5_line 24 = .ok (.invokevirtual 29, 3) := dk_182 0 29 (dk_at dksX5_line_1 0 rfl rfl)
theorem dX5_line_27 : decode cX5_line 27 = .ok (.bipush 63, 2) := dk_16 63 (dk_at dksX5_line_1 3 rfl rfl)
theorem dX5_line_29 : decode cX5_line 29 = .ok (.if_icmp .eq 5, 3) := dk_159 0 5 (dk_at dksX5_line_1 5 rfl rfl)
theorem dX5_line_32 : decode cX5_line 32 = .ok (.aload_n 1, 1) := dk_43 (dk_at dksX5_line_1 8 rfl rfl)
theorem dX5_line_33 : decode cX5_line 33 = .ok (.areturn, 1) := dk_176 (dk_at dksX5_line_1 9 rfl rfl)
theorem dX5_line_34 : decode cX5_line 34 = .ok (.aload_n 0, 1) := dk_42 (dk_at dksX5_line_1 10 rfl rfl)
theorem dX5_line_35 : decode cX5_line 35 = .ok (.dup, 1) := dk_89 (dk_at dksX5_line_1 11 rfl rfl)
theorem dX5_line_36 : decode cX5_line 36 = .ok (.getfield 19, 3) := dk_180 0 19 (dk_at dksX5_line_1 12 rfl rfl)
theorem dX5_line_39 : decode cX5_line 39 = .ok (.iconst 1, 1) := dk_4 (dk_at dksX5_line_1 15 rfl rfl)
theorem dX5_line_40 : decode cX5_line 40 = .ok (.iadd, 1) := dk_96 (dk_at dksX5_line_1 16 rfl rfl)
theorem dX5_line_41 : decode cX5_line 41 = .ok (.putfield 19, 3) := dk_181 0 19 (dk_at dksX5_line_1 17 rfl rfl)
theorem dX5_line_44 : decode cX5_line 44 = .ok (.aload_n 1, 1) := dk_43 (dk_at dksX5_line_1 20 rfl rfl)
theorem dX5_line_45 : decode cX5_line 45 = .ok (.aload_n 1, 1) := dk_43 (dk_at dksX5_line_1 21 rfl rfl)
theorem dX5_line_46 : decode cX5_line 46 = .ok (.getfield 54, 3) := dk_180 0 54 (dk_at dksX5_line_2 0 rfl rfl)
theorem dX5_line_49 : decode cX5_line 49 = .ok (.putfield 58, 3) := dk_181 0 58 (dk_at dksX5_line_2 3 rfl rfl)
theorem dX5_line_52 : decode cX5_line 52 = .ok (.aload_n 1, 1) := dk_43 (dk_at dksX5_line_2 6 rfl rfl)
theorem dX5_line_53 : decode cX5_line 53 = .ok (.aload_n 0, 1) := dk_42 (dk_at dksX5_line_2 7 rfl rfl)
theorem dX5_line_54 : decode cX5_line 54 = .ok (.invokevirtual 50, 3) := dk_182 0 50 (dk_at dksX5_line_2 8 rfl rfl)
theorem dX5_line_57 : decode cX5_line 57 = .ok (.putfield 54, 3) := dk_181 0 54 (dk_at dksX5_line_2 11 rfl rfl)
theorem dX5_line_60 : decode cX5_line 60 = .ok (.aload_n 1, 1) := dk_43 (dk_at dksX5_line_2 14 rfl rfl)
theorem dX5_line_61 : decode cX5_line 61 = .ok (.areturn, 1) := dk_176 (dk_at dksX5_line_2 15 rfl rfl)
abbrev cX5_either : ByteArray := prog_21_method_8_code
def yX5_either : MethodName := ⟨RX5, "either", "()LThreeSnowballs$Node;"⟩
def dkwX5_either_2 : List UInt8 := [176]
abbrev dktX5_either_2 : List UInt8 := dkwX5_either_2 ++ []
def dkwX5_either_1 : List UInt8 := [180, 0, 19, 4, 96, 181, 0, 19, 42, 16, 124, 43, 42, 182, 0, 66, 182, 0, 69, 76, 167, 255, 218, 43]
abbrev dktX5_either_1 : List UInt8 := dkwX5_either_1 ++ dktX5_either_2
def dkwX5_either_0 : List UInt8 := [42, 182, 0, 66, 76, 42, 180, 0, 15, 156, 0, 37, 42, 182, 0, 29, 16, 124, 160, 0, 28, 42, 89]
abbrev dktX5_either_0 : List UInt8 := dkwX5_either_0 ++ dktX5_either_1
theorem dksX5_either_0 : cX5_either.data.toList.drop 0 = dktX5_either_0 := by decide +kernel
theorem dksX5_either_1 : cX5_either.data.toList.drop 23 = dktX5_either_1 := dk_seg dksX5_either_0 23 rfl rfl
theorem dksX5_either_2 : cX5_either.data.toList.drop 47 = dktX5_either_2 := dk_seg dksX5_either_1 24 rfl rfl
theorem dX5_either_0 : decode cX5_either 0 = .ok (.aload_n 0, 1) := dk_42 (dk_at dksX5_either_0 0 rfl rfl)
theorem dX5_either_1 : decode cX5_either 1 = .ok (.invokevirtual 66, 3) := dk_182 0 66 (dk_at dksX5_either_0 1 rfl rfl)
theorem dX5_either_4 : decode cX5_either 4 = .ok (.astore_n 1, 1) := dk_76 (dk_at dksX5_either_0 4 rfl rfl)
theorem dX5_either_5 : decode cX5_either 5 = .ok (.aload_n 0, 1) := dk_42 (dk_at dksX5_either_0 5 rfl rfl)
theorem dX5_either_6 : decode cX5_either 6 = .ok (.getfield 15, 3) := dk_180 0 15 (dk_at dksX5_either_0 6 rfl rfl)
theorem dX5_either_9 : decode cX5_either 9 = .ok (.ifCond .ge 37, 3) := dk_156 0 37 (dk_at dksX5_either_0 9 rfl rfl)
theorem dX5_either_12 : decode cX5_either 12 = .ok (.aload_n 0, 1) := dk_42 (dk_at dksX5_either_0 12 rfl rfl)
theorem dX5_either_13 : decode cX5_either 13 = .ok (.invokevirtual 29, 3) := dk_182 0 29 (dk_at dksX5_either_0 13 rfl rfl)
theorem dX5_either_16 : decode cX5_either 16 = .ok (.bipush 124, 2) := dk_16 124 (dk_at dksX5_either_0 16 rfl rfl)
theorem dX5_either_18 : decode cX5_either 18 = .ok (.if_icmp .ne 28, 3) := dk_160 0 28 (dk_at dksX5_either_0 18 rfl rfl)
theorem dX5_either_21 : decode cX5_either 21 = .ok (.aload_n 0, 1) := dk_42 (dk_at dksX5_either_0 21 rfl rfl)
theorem dX5_either_22 : decode cX5_either 22 = .ok (.dup, 1) := dk_89 (dk_at dksX5_either_0 22 rfl rfl)
theorem dX5_either_23 : decode cX5_either 23 = .ok (.getfield 19, 3) := dk_180 0 19 (dk_at dksX5_either_1 0 rfl rfl)
theorem dX5_either_26 : decode cX5_either 26 = .ok (.iconst 1, 1) := dk_4 (dk_at dksX5_either_1 3 rfl rfl)
theorem dX5_either_27 : decode cX5_either 27 = .ok (.iadd, 1) := dk_96 (dk_at dksX5_either_1 4 rfl rfl)
theorem dX5_either_28 : decode cX5_either 28 = .ok (.putfield 19, 3) := dk_181 0 19 (dk_at dksX5_either_1 5 rfl rfl)
theorem dX5_either_31 : decode cX5_either 31 = .ok (.aload_n 0, 1) := dk_42 (dk_at dksX5_either_1 8 rfl rfl)
theorem dX5_either_32 : decode cX5_either 32 = .ok (.bipush 124, 2) := dk_16 124 (dk_at dksX5_either_1 9 rfl rfl)
theorem dX5_either_34 : decode cX5_either 34 = .ok (.aload_n 1, 1) := dk_43 (dk_at dksX5_either_1 11 rfl rfl)
theorem dX5_either_35 : decode cX5_either 35 = .ok (.aload_n 0, 1) := dk_42 (dk_at dksX5_either_1 12 rfl rfl)
theorem dX5_either_36 : decode cX5_either 36 = .ok (.invokevirtual 66, 3) := dk_182 0 66 (dk_at dksX5_either_1 13 rfl rfl)
theorem dX5_either_39 : decode cX5_either 39 = .ok (.invokevirtual 69, 3) := dk_182 0 69 (dk_at dksX5_either_1 16 rfl rfl)
theorem dX5_either_42 : decode cX5_either 42 = .ok (.astore_n 1, 1) := dk_76 (dk_at dksX5_either_1 19 rfl rfl)
theorem dX5_either_43 : decode cX5_either 43 = .ok (.goto (-38), 3) := dk_167 255 218 (dk_at dksX5_either_1 20 rfl rfl)
theorem dX5_either_46 : decode cX5_either 46 = .ok (.aload_n 1, 1) := dk_43 (dk_at dksX5_either_1 23 rfl rfl)
theorem dX5_either_47 : decode cX5_either 47 = .ok (.areturn, 1) := dk_176 (dk_at dksX5_either_2 0 rfl rfl)
abbrev cX5_all : ByteArray := prog_21_method_9_code
def yX5_all : MethodName := ⟨RX5, "all", "()LThreeSnowballs$Node;"⟩
def dkwX5_all_2 : List UInt8 := [176]
abbrev dktX5_all_2 : List UInt8 := dkwX5_all_2 ++ []
def dkwX5_all_1 : List UInt8 := [180, 0, 19, 4, 96, 181, 0, 19, 42, 16, 38, 43, 42, 182, 0, 73, 182, 0, 69, 76, 167, 255, 218, 43]
abbrev dktX5_all_1 : List UInt8 := dkwX5_all_1 ++ dktX5_all_2
def dkwX5_all_0 : List UInt8 := [42, 182, 0, 73, 76, 42, 180, 0, 15, 156, 0, 37, 42, 182, 0, 29, 16, 38, 160, 0, 28, 42, 89]
abbrev dktX5_all_0 : List UInt8 := dkwX5_all_0 ++ dktX5_all_1
theorem dksX5_all_0 : cX5_all.data.toList.drop 0 = dktX5_all_0 := by decide +kernel
theorem dksX5_all_1 : cX5_all.data.toList.drop 23 = dktX5_all_1 := dk_seg dksX5_all_0 23 rfl rfl
theorem dksX5_all_2 : cX5_all.data.toList.drop 47 = dktX5_all_2 := dk_seg dksX5_all_1 24 rfl rfl
theorem dX5_all_0 : decode cX5_all 0 = .ok (.aload_n 0, 1) := dk_42 (dk_at dksX5_all_0 0 rfl rfl)
theorem dX5_all_1 : decode cX5_all 1 = .ok (.invokevirtual 73, 3) := dk_182 0 73 (dk_at dksX5_all_0 1 rfl rfl)
theorem dX5_all_4 : decode cX5_all 4 = .ok (.astore_n 1, 1) := dk_76 (dk_at dksX5_all_0 4 rfl rfl)
theorem dX5_all_5 : decode cX5_all 5 = .ok (.aload_n 0, 1) := dk_42 (dk_at dksX5_all_0 5 rfl rfl)
theorem dX5_all_6 : decode cX5_all 6 = .ok (.getfield 15, 3) := dk_180 0 15 (dk_at dksX5_all_0 6 rfl rfl)
theorem dX5_all_9 : decode cX5_all 9 = .ok (.ifCond .ge 37, 3) := dk_156 0 37 (dk_at dksX5_all_0 9 rfl rfl)
theorem dX5_all_12 : decode cX5_all 12 = .ok (.aload_n 0, 1) := dk_42 (dk_at dksX5_all_0 12 rfl rfl)
theorem dX5_all_13 : decode cX5_all 13 = .ok (.invokevirtual 29, 3) := dk_182 0 29 (dk_at dksX5_all_0 13 rfl rfl)
theorem dX5_all_16 : decode cX5_all 16 = .ok (.bipush 38, 2) := dk_16 38 (dk_at dksX5_all_0 16 rfl rfl)
theorem dX5_all_18 : decode cX5_all 18 = .ok (.if_icmp .ne 28, 3) := dk_160 0 28 (dk_at dksX5_all_0 18 rfl rfl)
theorem dX5_all_21 : decode cX5_all 21 = .ok (.aload_n 0, 1) := dk_42 (dk_at dksX5_all_0 21 rfl rfl)
theorem dX5_all_22 : decode cX5_all 22 = .ok (.dup, 1) := dk_89 (dk_at dksX5_all_0 22 rfl rfl)
theorem dX5_all_23 : decode cX5_all 23 = .ok (.getfield 19, 3) := dk_180 0 19 (dk_at dksX5_all_1 0 rfl rfl)
theorem dX5_all_26 : decode cX5_all 26 = .ok (.iconst 1, 1) := dk_4 (dk_at dksX5_all_1 3 rfl rfl)
theorem dX5_all_27 : decode cX5_all 27 = .ok (.iadd, 1) := dk_96 (dk_at dksX5_all_1 4 rfl rfl)
theorem dX5_all_28 : decode cX5_all 28 = .ok (.putfield 19, 3) := dk_181 0 19 (dk_at dksX5_all_1 5 rfl rfl)
theorem dX5_all_31 : decode cX5_all 31 = .ok (.aload_n 0, 1) := dk_42 (dk_at dksX5_all_1 8 rfl rfl)
theorem dX5_all_32 : decode cX5_all 32 = .ok (.bipush 38, 2) := dk_16 38 (dk_at dksX5_all_1 9 rfl rfl)
theorem dX5_all_34 : decode cX5_all 34 = .ok (.aload_n 1, 1) := dk_43 (dk_at dksX5_all_1 11 rfl rfl)
theorem dX5_all_35 : decode cX5_all 35 = .ok (.aload_n 0, 1) := dk_42 (dk_at dksX5_all_1 12 rfl rfl)
theorem dX5_all_36 : decode cX5_all 36 = .ok (.invokevirtual 73, 3) := dk_182 0 73 (dk_at dksX5_all_1 13 rfl rfl)
theorem dX5_all_39 : decode cX5_all 39 = .ok (.invokevirtual 69, 3) := dk_182 0 69 (dk_at dksX5_all_1 16 rfl rfl)
theorem dX5_all_42 : decode cX5_all 42 = .ok (.astore_n 1, 1) := dk_76 (dk_at dksX5_all_1 19 rfl rfl)
theorem dX5_all_43 : decode cX5_all 43 = .ok (.goto (-38), 3) := dk_167 255 218 (dk_at dksX5_all_1 20 rfl rfl)
theorem dX5_all_46 : decode cX5_all 46 = .ok (.aload_n 1, 1) := dk_43 (dk_at dksX5_all_1 23 rfl rfl)
theorem dX5_all_47 : decode cX5_all 47 = .ok (.areturn, 1) := dk_176 (dk_at dksX5_all_2 0 rfl rfl)
abbrev cX5_compared : ByteArray := prog_21_method_10_code
def yX5_compared : MethodName := ⟨RX5, "compared", "()LThreeSnowballs$Node;"⟩
def dkwX5_compared_2 : List UInt8 := [176]
abbrev dktX5_compared_2 : List UInt8 := dkwX5_compared_2 ++ []
def dkwX5_compared_1 : List UInt8 := [182, 0, 29, 61, 42, 89, 180, 0, 19, 4, 96, 181, 0, 19, 42, 28, 43, 42, 182, 0, 76, 182, 0, 69]
abbrev dktX5_compared_1 : List UInt8 := dkwX5_compared_1 ++ dktX5_compared_2
def dkwX5_compared_0 : List UInt8 := [42, 182, 0, 76, 76, 42, 180, 0, 15, 156, 0, 12, 42, 18, 79, 182, 0, 81, 154, 0, 5, 43, 176, 42]
abbrev dktX5_compared_0 : List UInt8 := dkwX5_compared_0 ++ dktX5_compared_1
theorem dksX5_compared_0 : cX5_compared.data.toList.drop 0 = dktX5_compared_0 := by decide +kernel
theorem dksX5_compared_1 : cX5_compared.data.toList.drop 24 = dktX5_compared_1 := dk_seg dksX5_compared_0 24 rfl rfl
theorem dksX5_compared_2 : cX5_compared.data.toList.drop 48 = dktX5_compared_2 := dk_seg dksX5_compared_1 24 rfl rfl
theorem dX5_compared_0 : decode cX5_compared 0 = .ok (.aload_n 0, 1) := dk_42 (dk_at dksX5_compared_0 0 rfl rfl)
theorem dX5_compared_1 : decode cX5_compared 1 = .ok (.invokevirtual 76, 3) := dk_182 0 76 (dk_at dksX5_compared_0 1 rfl rfl)
theorem dX5_compared_4 : decode cX5_compared 4 = .ok (.astore_n 1, 1) := dk_76 (dk_at dksX5_compared_0 4 rfl rfl)
theorem dX5_compared_5 : decode cX5_compared 5 = .ok (.aload_n 0, 1) := dk_42 (dk_at dksX5_compared_0 5 rfl rfl)
theorem dX5_compared_6 : decode cX5_compared 6 = .ok (.getfield 15, 3) := dk_180 0 15 (dk_at dksX5_compared_0 6 rfl rfl)
theorem dX5_compared_9 : decode cX5_compared 9 = .ok (.ifCond .ge 12, 3) := dk_156 0 12 (dk_at dksX5_compared_0 9 rfl rfl)
theorem dX5_compared_12 : decode cX5_compared 12 = .ok (.aload_n 0, 1) := dk_42 (dk_at dksX5_compared_0 12 rfl rfl)
theorem dX5_compared_13 : decode cX5_compared 13 = .ok (.ldc 79, 2) := dk_18 79 (dk_at dksX5_compared_0 13 rfl rfl)
theorem dX5_compared_15 : decode cX5_compared 15 = .ok (.invokevirtual 81, 3) := dk_182 0 81 (dk_at dksX5_compared_0 15 rfl rfl)
theorem dX5_compared_18 : decode cX5_compared 18 = .ok (.ifCond .ne 5, 3) := dk_154 0 5 (dk_at dksX5_compared_0 18 rfl rfl)
theorem dX5_compared_21 : decode cX5_compared 21 = .ok (.aload_n 1, 1) := dk_43 (dk_at dksX5_compared_0 21 rfl rfl)
theorem dX5_compared_22 : decode cX5_compared 22 = .ok (.areturn, 1) := dk_176 (dk_at dksX5_compared_0 22 rfl rfl)
theorem dX5_compared_23 : decode cX5_compared 23 = .ok (.aload_n 0, 1) := dk_42 (dk_at dksX5_compared_0 23 rfl rfl)
theorem dX5_compared_24 : decode cX5_compared 24 = .ok (.invokevirtual 29, 3) := dk_182 0 29 (dk_at dksX5_compared_1 0 rfl rfl)
theorem dX5_compared_27 : decode cX5_compared 27 = .ok (.istore_n 2, 1) := dk_61 (dk_at dksX5_compared_1 3 rfl rfl)
theorem dX5_compared_28 : decode cX5_compared 28 = .ok (.aload_n 0, 1) := dk_42 (dk_at dksX5_compared_1 4 rfl rfl)
theorem dX5_compared_29 : decode cX5_compared 29 = .ok (.dup, 1) := dk_89 (dk_at dksX5_compared_1 5 rfl rfl)
theorem dX5_compared_30 : decode cX5_compared 30 = .ok (.getfield 19, 3) := dk_180 0 19 (dk_at dksX5_compared_1 6 rfl rfl)
theorem dX5_compared_33 : decode cX5_compared 33 = .ok (.iconst 1, 1) := dk_4 (dk_at dksX5_compared_1 9 rfl rfl)
theorem dX5_compared_34 : decode cX5_compared 34 = .ok (.iadd, 1) := dk_96 (dk_at dksX5_compared_1 10 rfl rfl)
theorem dX5_compared_35 : decode cX5_compared 35 = .ok (.putfield 19, 3) := dk_181 0 19 (dk_at dksX5_compared_1 11 rfl rfl)
theorem dX5_compared_38 : decode cX5_compared 38 = .ok (.aload_n 0, 1) := dk_42 (dk_at dksX5_compared_1 14 rfl rfl)
theorem dX5_compared_39 : decode cX5_compared 39 = .ok (.iload_n 2, 1) := dk_28 (dk_at dksX5_compared_1 15 rfl rfl)
theorem dX5_compared_40 : decode cX5_compared 40 = .ok (.aload_n 1, 1) := dk_43 (dk_at dksX5_compared_1 16 rfl rfl)
theorem dX5_compared_41 : decode cX5_compared 41 = .ok (.aload_n 0, 1) := dk_42 (dk_at dksX5_compared_1 17 rfl rfl)
theorem dX5_compared_42 : decode cX5_compared 42 = .ok (.invokevirtual 76, 3) := dk_182 0 76 (dk_at dksX5_compared_1 18 rfl rfl)
theorem dX5_compared_45 : decode cX5_compared 45 = .ok (.invokevirtual 69, 3) := dk_182 0 69 (dk_at dksX5_compared_1 21 rfl rfl)
theorem dX5_compared_48 : decode cX5_compared 48 = .ok (.areturn, 1) := dk_176 (dk_at dksX5_compared_2 0 rfl rfl)
abbrev cX5_sum : ByteArray := prog_21_method_11_code
def yX5_sum : MethodName := ⟨RX5, "sum", "()LThreeSnowballs$Node;"⟩
def dkwX5_sum_2 : List UInt8 := [76, 167, 255, 214, 43, 176]
abbrev dktX5_sum_2 : List UInt8 := dkwX5_sum_2 ++ []
def dkwX5_sum_1 : List UInt8 := [182, 0, 29, 61, 42, 89, 180, 0, 19, 4, 96, 181, 0, 19, 42, 28, 43, 42, 182, 0, 85, 182, 0, 69]
abbrev dktX5_sum_1 : List UInt8 := dkwX5_sum_1 ++ dktX5_sum_2
def dkwX5_sum_0 : List UInt8 := [42, 182, 0, 85, 76, 42, 180, 0, 15, 156, 0, 41, 42, 18, 88, 182, 0, 81, 153, 0, 32, 42]
abbrev dktX5_sum_0 : List UInt8 := dkwX5_sum_0 ++ dktX5_sum_1
theorem dksX5_sum_0 : cX5_sum.data.toList.drop 0 = dktX5_sum_0 := by decide +kernel
theorem dksX5_sum_1 : cX5_sum.data.toList.drop 22 = dktX5_sum_1 := dk_seg dksX5_sum_0 22 rfl rfl
theorem dksX5_sum_2 : cX5_sum.data.toList.drop 46 = dktX5_sum_2 := dk_seg dksX5_sum_1 24 rfl rfl
theorem dX5_sum_0 : decode cX5_sum 0 = .ok (.aload_n 0, 1) := dk_42 (dk_at dksX5_sum_0 0 rfl rfl)
theorem dX5_sum_1 : decode cX5_sum 1 = .ok (.invokevirtual 85, 3) := dk_182 0 85 (dk_at dksX5_sum_0 1 rfl rfl)
theorem dX5_sum_4 : decode cX5_sum 4 = .ok (.astore_n 1, 1) := dk_76 (dk_at dksX5_sum_0 4 rfl rfl)
theorem dX5_sum_5 : decode cX5_sum 5 = .ok (.aload_n 0, 1) := dk_42 (dk_at dksX5_sum_0 5 rfl rfl)
theorem dX5_sum_6 : decode cX5_sum 6 = .ok (.getfield 15, 3) := dk_180 0 15 (dk_at dksX5_sum_0 6 rfl rfl)
theorem dX5_sum_9 : decode cX5_sum 9 = .ok (.ifCond .ge 41, 3) := dk_156 0 41 (dk_at dksX5_sum_0 9 rfl rfl)
theorem dX5_sum_12 : decode cX5_sum 12 = .ok (.aload_n 0, 1) := dk_42 (dk_at dksX5_sum_0 12 rfl rfl)
theorem dX5_sum_13 : decode cX5_sum 13 = .ok (.ldc 88, 2) := dk_18 88 (dk_at dksX5_sum_0 13 rfl rfl)
theorem dX5_sum_15 : decode cX5_sum 15 = .ok (.invokevirtual 81, 3) := dk_182 0 81 (dk_at dksX5_sum_0 15 rfl rfl)
theorem dX5_sum_18 : decode cX5_sum 18 = .ok (.ifCond .eq 32, 3) := dk_153 0 32 (dk_at dksX5_sum_0 18 rfl rfl)
theorem dX5_sum_21 : decode cX5_sum 21 = .ok (.aload_n 0, 1) := dk_42 (dk_at dksX5_sum_0 21 rfl rfl)
theorem dX5_sum_22 : decode cX5_sum 22 = .ok (.invokevirtual 29, 3) := dk_182 0 29 (dk_at dksX5_sum_1 0 rfl rfl)
theorem dX5_sum_25 : decode cX5_sum 25 = .ok (.istore_n 2, 1) := dk_61 (dk_at dksX5_sum_1 3 rfl rfl)
theorem dX5_sum_26 : decode cX5_sum 26 = .ok (.aload_n 0, 1) := dk_42 (dk_at dksX5_sum_1 4 rfl rfl)
theorem dX5_sum_27 : decode cX5_sum 27 = .ok (.dup, 1) := dk_89 (dk_at dksX5_sum_1 5 rfl rfl)
theorem dX5_sum_28 : decode cX5_sum 28 = .ok (.getfield 19, 3) := dk_180 0 19 (dk_at dksX5_sum_1 6 rfl rfl)
theorem dX5_sum_31 : decode cX5_sum 31 = .ok (.iconst 1, 1) := dk_4 (dk_at dksX5_sum_1 9 rfl rfl)
theorem dX5_sum_32 : decode cX5_sum 32 = .ok (.iadd, 1) := dk_96 (dk_at dksX5_sum_1 10 rfl rfl)
theorem dX5_sum_33 : decode cX5_sum 33 = .ok (.putfield 19, 3) := dk_181 0 19 (dk_at dksX5_sum_1 11 rfl rfl)
theorem dX5_sum_36 : decode cX5_sum 36 = .ok (.aload_n 0, 1) := dk_42 (dk_at dksX5_sum_1 14 rfl rfl)
theorem dX5_sum_37 : decode cX5_sum 37 = .ok (.iload_n 2, 1) := dk_28 (dk_at dksX5_sum_1 15 rfl rfl)
theorem dX5_sum_38 : decode cX5_sum 38 = .ok (.aload_n 1, 1) := dk_43 (dk_at dksX5_sum_1 16 rfl rfl)
theorem dX5_sum_39 : decode cX5_sum 39 = .ok (.aload_n 0, 1) := dk_42 (dk_at dksX5_sum_1 17 rfl rfl)
theorem dX5_sum_40 : decode cX5_sum 40 = .ok (.invokevirtual 85, 3) := dk_182 0 85 (dk_at dksX5_sum_1 18 rfl rfl)
theorem dX5_sum_43 : decode cX5_sum 43 = .ok (.invokevirtual 69, 3) := dk_182 0 69 (dk_at dksX5_sum_1 21 rfl rfl)
theorem dX5_sum_46 : decode cX5_sum 46 = .ok (.astore_n 1, 1) := dk_76 (dk_at dksX5_sum_2 0 rfl rfl)
theorem dX5_sum_47 : decode cX5_sum 47 = .ok (.goto (-42), 3) := dk_167 255 214 (dk_at dksX5_sum_2 1 rfl rfl)
theorem dX5_sum_50 : decode cX5_sum 50 = .ok (.aload_n 1, 1) := dk_43 (dk_at dksX5_sum_2 4 rfl rfl)
theorem dX5_sum_51 : decode cX5_sum 51 = .ok (.areturn, 1) := dk_176 (dk_at dksX5_sum_2 5 rfl rfl)
abbrev cX5_product : ByteArray := prog_21_method_12_code
def yX5_product : MethodName := ⟨RX5, "product", "()LThreeSnowballs$Node;"⟩
def dkwX5_product_2 : List UInt8 := [76, 167, 255, 214, 43, 176]
abbrev dktX5_product_2 : List UInt8 := dkwX5_product_2 ++ []
def dkwX5_product_1 : List UInt8 := [182, 0, 29, 61, 42, 89, 180, 0, 19, 4, 96, 181, 0, 19, 42, 28, 43, 42, 182, 0, 90, 182, 0, 69]
abbrev dktX5_product_1 : List UInt8 := dkwX5_product_1 ++ dktX5_product_2
def dkwX5_product_0 : List UInt8 := [42, 182, 0, 90, 76, 42, 180, 0, 15, 156, 0, 41, 42, 18, 93, 182, 0, 81, 153, 0, 32, 42]
abbrev dktX5_product_0 : List UInt8 := dkwX5_product_0 ++ dktX5_product_1
theorem dksX5_product_0 : cX5_product.data.toList.drop 0 = dktX5_product_0 := by decide +kernel
theorem dksX5_product_1 : cX5_product.data.toList.drop 22 = dktX5_product_1 := dk_seg dksX5_product_0 22 rfl rfl
theorem dksX5_product_2 : cX5_product.data.toList.drop 46 = dktX5_product_2 := dk_seg dksX5_product_1 24 rfl rfl
theorem dX5_product_0 : decode cX5_product 0 = .ok (.aload_n 0, 1) := dk_42 (dk_at dksX5_product_0 0 rfl rfl)
theorem dX5_product_1 : decode cX5_product 1 = .ok (.invokevirtual 90, 3) := dk_182 0 90 (dk_at dksX5_product_0 1 rfl rfl)
theorem dX5_product_4 : decode cX5_product 4 = .ok (.astore_n 1, 1) := dk_76 (dk_at dksX5_product_0 4 rfl rfl)
theorem dX5_product_5 : decode cX5_product 5 = .ok (.aload_n 0, 1) := dk_42 (dk_at dksX5_product_0 5 rfl rfl)
theorem dX5_product_6 : decode cX5_product 6 = .ok (.getfield 15, 3) := dk_180 0 15 (dk_at dksX5_product_0 6 rfl rfl)
theorem dX5_product_9 : decode cX5_product 9 = .ok (.ifCond .ge 41, 3) := dk_156 0 41 (dk_at dksX5_product_0 9 rfl rfl)
theorem dX5_product_12 : decode cX5_product 12 = .ok (.aload_n 0, 1) := dk_42 (dk_at dksX5_product_0 12 rfl rfl)
theorem dX5_product_13 : decode cX5_product 13 = .ok (.ldc 93, 2) := dk_18 93 (dk_at dksX5_product_0 13 rfl rfl)
theorem dX5_product_15 : decode cX5_product 15 = .ok (.invokevirtual 81, 3) := dk_182 0 81 (dk_at dksX5_product_0 15 rfl rfl)
theorem dX5_product_18 : decode cX5_product 18 = .ok (.ifCond .eq 32, 3) := dk_153 0 32 (dk_at dksX5_product_0 18 rfl rfl)
theorem dX5_product_21 : decode cX5_product 21 = .ok (.aload_n 0, 1) := dk_42 (dk_at dksX5_product_0 21 rfl rfl)
theorem dX5_product_22 : decode cX5_product 22 = .ok (.invokevirtual 29, 3) := dk_182 0 29 (dk_at dksX5_product_1 0 rfl rfl)
theorem dX5_product_25 : decode cX5_product 25 = .ok (.istore_n 2, 1) := dk_61 (dk_at dksX5_product_1 3 rfl rfl)
theorem dX5_product_26 : decode cX5_product 26 = .ok (.aload_n 0, 1) := dk_42 (dk_at dksX5_product_1 4 rfl rfl)
theorem dX5_product_27 : decode cX5_product 27 = .ok (.dup, 1) := dk_89 (dk_at dksX5_product_1 5 rfl rfl)
theorem dX5_product_28 : decode cX5_product 28 = .ok (.getfield 19, 3) := dk_180 0 19 (dk_at dksX5_product_1 6 rfl rfl)
theorem dX5_product_31 : decode cX5_product 31 = .ok (.iconst 1, 1) := dk_4 (dk_at dksX5_product_1 9 rfl rfl)
theorem dX5_product_32 : decode cX5_product 32 = .ok (.iadd, 1) := dk_96 (dk_at dksX5_product_1 10 rfl rfl)
theorem dX5_product_33 : decode cX5_product 33 = .ok (.putfield 19, 3) := dk_181 0 19 (dk_at dksX5_product_1 11 rfl rfl)
theorem dX5_product_36 : decode cX5_product 36 = .ok (.aload_n 0, 1) := dk_42 (dk_at dksX5_product_1 14 rfl rfl)
theorem dX5_product_37 : decode cX5_product 37 = .ok (.iload_n 2, 1) := dk_28 (dk_at dksX5_product_1 15 rfl rfl)
theorem dX5_product_38 : decode cX5_product 38 = .ok (.aload_n 1, 1) := dk_43 (dk_at dksX5_product_1 16 rfl rfl)
theorem dX5_product_39 : decode cX5_product 39 = .ok (.aload_n 0, 1) := dk_42 (dk_at dksX5_product_1 17 rfl rfl)
theorem dX5_product_40 : decode cX5_product 40 = .ok (.invokevirtual 90, 3) := dk_182 0 90 (dk_at dksX5_product_1 18 rfl rfl)
theorem dX5_product_43 : decode cX5_product 43 = .ok (.invokevirtual 69, 3) := dk_182 0 69 (dk_at dksX5_product_1 21 rfl rfl)
theorem dX5_product_46 : decode cX5_product 46 = .ok (.astore_n 1, 1) := dk_76 (dk_at dksX5_product_2 0 rfl rfl)
theorem dX5_product_47 : decode cX5_product 47 = .ok (.goto (-42), 3) := dk_167 255 214 (dk_at dksX5_product_2 1 rfl rfl)
theorem dX5_product_50 : decode cX5_product 50 = .ok (.aload_n 1, 1) := dk_43 (dk_at dksX5_product_2 4 rfl rfl)
theorem dX5_product_51 : decode cX5_product 51 = .ok (.areturn, 1) := dk_176 (dk_at dksX5_product_2 5 rfl rfl)
abbrev cX5_operand : ByteArray := prog_21_method_14_code
def yX5_operand : MethodName := ⟨RX5, "operand", "()LThreeSnowballs$Node;"⟩
def dkwX5_operand_11 : List UInt8 := [89, 29, 183, 0, 126, 176]
abbrev dktX5_operand_11 : List UInt8 := dkwX5_operand_11 ++ []
def dkwX5_operand_10 : List UInt8 := [42, 182, 0, 29, 16, 48, 16, 57, 184, 0, 120, 153, 0, 10, 42, 182, 0, 109, 167, 0, 11, 187, 0, 124]
abbrev dktX5_operand_10 : List UInt8 := dkwX5_operand_10 ++ dktX5_operand_11
def dkwX5_operand_9 : List UInt8 := [16, 48, 100, 62, 132, 2, 1, 42, 89, 180, 0, 19, 4, 96, 181, 0, 19, 167, 255, 211, 28, 153, 0, 17]
abbrev dktX5_operand_9 : List UInt8 := dkwX5_operand_9 ++ dktX5_operand_10
def dkwX5_operand_8 : List UInt8 := [42, 182, 0, 29, 16, 48, 16, 57, 184, 0, 120, 153, 0, 32, 16, 10, 29, 104, 42, 182, 0, 29, 96]
abbrev dktX5_operand_8 : List UInt8 := dkwX5_operand_8 ++ dktX5_operand_9
def dkwX5_operand_7 : List UInt8 := [181, 0, 19, 42, 89, 180, 0, 95, 4, 100, 181, 0, 95, 44, 176, 3, 61, 3, 62, 28, 7, 162, 0, 46]
abbrev dktX5_operand_7 : List UInt8 := dkwX5_operand_7 ++ dktX5_operand_8
def dkwX5_operand_6 : List UInt8 := [176, 42, 182, 0, 29, 16, 41, 159, 0, 8, 42, 182, 0, 109, 176, 42, 89, 180, 0, 19, 4, 96]
abbrev dktX5_operand_6 : List UInt8 := dkwX5_operand_6 ++ dktX5_operand_7
def dkwX5_operand_5 : List UInt8 := [182, 0, 105, 154, 0, 8, 42, 182, 0, 109, 176, 42, 182, 0, 50, 77, 42, 180, 0, 15, 155, 0, 5, 1]
abbrev dktX5_operand_5 : List UInt8 := dkwX5_operand_5 ++ dktX5_operand_6
def dkwX5_operand_4 : List UInt8 := [183, 0, 114, 167, 0, 11, 187, 0, 117, 89, 44, 183, 0, 119, 176, 27, 16, 40, 160, 0, 65, 42]
abbrev dktX5_operand_4 : List UInt8 := dkwX5_operand_4 ++ dktX5_operand_5
def dkwX5_operand_3 : List UInt8 := [181, 0, 95, 42, 180, 0, 15, 155, 0, 5, 1, 176, 27, 16, 33, 160, 0, 14, 187, 0, 112, 89, 44]
abbrev dktX5_operand_3 : List UInt8 := dkwX5_operand_3 ++ dktX5_operand_4
def dkwX5_operand_2 : List UInt8 := [182, 0, 105, 154, 0, 8, 42, 182, 0, 109, 176, 42, 182, 0, 90, 77, 42, 89, 180, 0, 95, 4, 100]
abbrev dktX5_operand_2 : List UInt8 := dkwX5_operand_2 ++ dktX5_operand_3
def dkwX5_operand_1 : List UInt8 := [187, 0, 100, 89, 27, 183, 0, 102, 176, 27, 16, 33, 159, 0, 9, 27, 16, 45, 160, 0, 65, 42]
abbrev dktX5_operand_1 : List UInt8 := dkwX5_operand_1 ++ dktX5_operand_2
def dkwX5_operand_0 : List UInt8 := [42, 182, 0, 29, 60, 42, 18, 98, 182, 0, 81, 153, 0, 22, 42, 89, 180, 0, 19, 4, 96, 181, 0, 19]
abbrev dktX5_operand_0 : List UInt8 := dkwX5_operand_0 ++ dktX5_operand_1
theorem dksX5_operand_0 : cX5_operand.data.toList.drop 0 = dktX5_operand_0 := by decide +kernel
theorem dksX5_operand_1 : cX5_operand.data.toList.drop 24 = dktX5_operand_1 := dk_seg dksX5_operand_0 24 rfl rfl
theorem dksX5_operand_2 : cX5_operand.data.toList.drop 46 = dktX5_operand_2 := dk_seg dksX5_operand_1 22 rfl rfl
theorem dksX5_operand_3 : cX5_operand.data.toList.drop 69 = dktX5_operand_3 := dk_seg dksX5_operand_2 23 rfl rfl
theorem dksX5_operand_4 : cX5_operand.data.toList.drop 92 = dktX5_operand_4 := dk_seg dksX5_operand_3 23 rfl rfl
theorem dksX5_operand_5 : cX5_operand.data.toList.drop 114 = dktX5_operand_5 := dk_seg dksX5_operand_4 22 rfl rfl
theorem dksX5_operand_6 : cX5_operand.data.toList.drop 138 = dktX5_operand_6 := dk_seg dksX5_operand_5 24 rfl rfl
theorem dksX5_operand_7 : cX5_operand.data.toList.drop 160 = dktX5_operand_7 := dk_seg dksX5_operand_6 22 rfl rfl
theorem dksX5_operand_8 : cX5_operand.data.toList.drop 184 = dktX5_operand_8 := dk_seg dksX5_operand_7 24 rfl rfl
theorem dksX5_operand_9 : cX5_operand.data.toList.drop 207 = dktX5_operand_9 := dk_seg dksX5_operand_8 23 rfl rfl
theorem dksX5_operand_10 : cX5_operand.data.toList.drop 231 = dktX5_operand_10 := dk_seg dksX5_operand_9 24 rfl rfl
theorem dksX5_operand_11 : cX5_operand.data.toList.drop 255 = dktX5_operand_11 := dk_seg dksX5_operand_10 24 rfl rfl
theorem dX5_operand_0 : decode cX5_operand 0 = .ok (.aload_n 0, 1) := dk_42 (dk_at dksX5_operand_0 0 rfl rfl)
theorem dX5_operand_1 : decode cX5_operand 1 = .ok (.invokevirtual 29, 3) := dk_182 0 29 (dk_at dksX5_operand_0 1 rfl rfl)
theorem dX5_operand_4 : decode cX5_operand 4 = .ok (.istore_n 1, 1) := dk_60 (dk_at dksX5_operand_0 4 rfl rfl)
theorem dX5_operand_5 : decode cX5_operand 5 = .ok (.aload_n 0, 1) := dk_42 (dk_at dksX5_operand_0 5 rfl rfl)
theorem dX5_operand_6 : decode cX5_operand 6 = .ok (.ldc 98, 2) := dk_18 98 (dk_at dksX5_operand_0 6 rfl rfl)
theorem dX5_operand_8 : decode cX5_operand 8 = .ok (.invokevirtual 81, 3) := dk_182 0 81 (dk_at dksX5_operand_0 8 rfl rfl)
theorem dX5_operand_11 : decode cX5_operand 11 = .ok (.ifCond .eq 22, 3) := dk_153 0 22 (dk_at dksX5_operand_0 11 rfl rfl)
theorem dX5_operand_14 : decode cX5_operand 14 = .ok (.aload_n 0, 1) := dk_42 (dk_at dksX5_operand_0 14 rfl rfl)
theorem dX5_operand_15 : decode cX5_operand 15 = .ok (.dup, 1) := dk_89 (dk_at dksX5_operand_0 15 rfl rfl)
theorem dX5_operand_16 : decode cX5_operand 16 = .ok (.getfield 19, 3) := dk_180 0 19 (dk_at dksX5_operand_0 16 rfl rfl)
theorem dX5_operand_19 : decode cX5_operand 19 = .ok (.iconst 1, 1) := dk_4 (dk_at dksX5_operand_0 19 rfl rfl)
theorem dX5_operand_20 : decode cX5_operand 20 = .ok (.iadd, 1) := dk_96 (dk_at dksX5_operand_0 20 rfl rfl)
theorem dX5_operand_21 : decode cX5_operand 21 = .ok (.putfield 19, 3) := dk_181 0 19 (dk_at dksX5_operand_0 21 rfl rfl)
theorem dX5_operand_24 : decode cX5_operand 24 = .ok (.new 100, 3) := dk_187 0 100 (dk_at dksX5_operand_1 0 rfl rfl)
theorem dX5_operand_27 : decode cX5_operand 27 = .ok (.dup, 1) := dk_89 (dk_at dksX5_operand_1 3 rfl rfl)
theorem dX5_operand_28 : decode cX5_operand 28 = .ok (.iload_n 1, 1) := dk_27 (dk_at dksX5_operand_1 4 rfl rfl)
theorem dX5_operand_29 : decode cX5_operand 29 = .ok (.invokespecial 102, 3) := dk_183 0 102 (dk_at dksX5_operand_1 5 rfl rfl)
theorem dX5_operand_32 : decode cX5_operand 32 = .ok (.areturn, 1) := dk_176 (dk_at dksX5_operand_1 8 rfl rfl)
theorem dX5_operand_33 : decode cX5_operand 33 = .ok (.iload_n 1, 1) := dk_27 (dk_at dksX5_operand_1 9 rfl rfl)
theorem dX5_operand_34 : decode cX5_operand 34 = .ok (.bipush 33, 2) := dk_16 33 (dk_at dksX5_operand_1 10 rfl rfl)
theorem dX5_operand_36 : decode cX5_operand 36 = .ok (.if_icmp .eq 9, 3) := dk_159 0 9 (dk_at dksX5_operand_1 12 rfl rfl)
theorem dX5_operand_39 : decode cX5_operand 39 = .ok (.iload_n 1, 1) := dk_27 (dk_at dksX5_operand_1 15 rfl rfl)
theorem dX5_operand_40 : decode cX5_operand 40 = .ok (.bipush 45, 2) := dk_16 45 (dk_at dksX5_operand_1 16 rfl rfl)
theorem dX5_operand_42 : decode cX5_operand 42 = .ok (.if_icmp .ne 65, 3) := dk_160 0 65 (dk_at dksX5_operand_1 18 rfl rfl)
theorem dX5_operand_45 : decode cX5_operand 45 = .ok (.aload_n 0, 1) := dk_42 (dk_at dksX5_operand_1 21 rfl rfl)
theorem dX5_operand_46 : decode cX5_operand 46 = .ok (.invokevirtual 105, 3) := dk_182 0 105 (dk_at dksX5_operand_2 0 rfl rfl)
theorem dX5_operand_49 : decode cX5_operand 49 = .ok (.ifCond .ne 8, 3) := dk_154 0 8 (dk_at dksX5_operand_2 3 rfl rfl)
theorem dX5_operand_52 : decode cX5_operand 52 = .ok (.aload_n 0, 1) := dk_42 (dk_at dksX5_operand_2 6 rfl rfl)
theorem dX5_operand_53 : decode cX5_operand 53 = .ok (.invokevirtual 109, 3) := dk_182 0 109 (dk_at dksX5_operand_2 7 rfl rfl)
theorem dX5_operand_56 : decode cX5_operand 56 = .ok (.areturn, 1) := dk_176 (dk_at dksX5_operand_2 10 rfl rfl)
theorem dX5_operand_57 : decode cX5_operand 57 = .ok (.aload_n 0, 1) := dk_42 (dk_at dksX5_operand_2 11 rfl rfl)
theorem dX5_operand_58 : decode cX5_operand 58 = .ok (.invokevirtual 90, 3) := dk_182 0 90 (dk_at dksX5_operand_2 12 rfl rfl)
theorem dX5_operand_61 : decode cX5_operand 61 = .ok (.astore_n 2, 1) := dk_77 (dk_at dksX5_operand_2 15 rfl rfl)
theorem dX5_operand_62 : decode cX5_operand 62 = .ok (.aload_n 0, 1) := dk_42 (dk_at dksX5_operand_2 16 rfl rfl)
theorem dX5_operand_63 : decode cX5_operand 63 = .ok (.dup, 1) := dk_89 (dk_at dksX5_operand_2 17 rfl rfl)
theorem dX5_operand_64 : decode cX5_operand 64 = .ok (.getfield 95, 3) := dk_180 0 95 (dk_at dksX5_operand_2 18 rfl rfl)
theorem dX5_operand_67 : decode cX5_operand 67 = .ok (.iconst 1, 1) := dk_4 (dk_at dksX5_operand_2 21 rfl rfl)
theorem dX5_operand_68 : decode cX5_operand 68 = .ok (.isub, 1) := dk_100 (dk_at dksX5_operand_2 22 rfl rfl)
theorem dX5_operand_69 : decode cX5_operand 69 = .ok (.putfield 95, 3) := dk_181 0 95 (dk_at dksX5_operand_3 0 rfl rfl)
theorem dX5_operand_72 : decode cX5_operand 72 = .ok (.aload_n 0, 1) := dk_42 (dk_at dksX5_operand_3 3 rfl rfl)
theorem dX5_operand_73 : decode cX5_operand 73 = .ok (.getfield 15, 3) := dk_180 0 15 (dk_at dksX5_operand_3 4 rfl rfl)
theorem dX5_operand_76 : decode cX5_operand 76 = .ok (.ifCond .lt 5, 3) := dk_155 0 5 (dk_at dksX5_operand_3 7 rfl rfl)
theorem dX5_operand_79 : decode cX5_operand 79 = .ok (.aconst_null, 1) := dk_1 (dk_at dksX5_operand_3 10 rfl rfl)
theorem dX5_operand_80 : decode cX5_operand 80 = .ok (.areturn, 1) := dk_176 (dk_at dksX5_operand_3 11 rfl rfl)
theorem dX5_operand_81 : decode cX5_operand 81 = .ok (.iload_n 1, 1) := dk_27 (dk_at dksX5_operand_3 12 rfl rfl)
theorem dX5_operand_82 : decode cX5_operand 82 = .ok (.bipush 33, 2) := dk_16 33 (dk_at dksX5_operand_3 13 rfl rfl)
theorem dX5_operand_84 : decode cX5_operand 84 = .ok (.if_icmp .ne 14, 3) := dk_160 0 14 (dk_at dksX5_operand_3 15 rfl rfl)
theorem dX5_operand_87 : decode cX5_operand 87 = .ok (.new 112, 3) := dk_187 0 112 (dk_at dksX5_operand_3 18 rfl rfl)
theorem dX5_operand_90 : decode cX5_operand 90 = .ok (.dup, 1) := dk_89 (dk_at dksX5_operand_3 21 rfl rfl)
theorem dX5_operand_91 : decode cX5_operand 91 = .ok (.aload_n 2, 1) := dk_44 (dk_at dksX5_operand_3 22 rfl rfl)
theorem dX5_operand_92 : decode cX5_operand 92 = .ok (.invokespecial 114, 3) := dk_183 0 114 (dk_at dksX5_operand_4 0 rfl rfl)
theorem dX5_operand_95 : decode cX5_operand 95 = .ok (.goto 11, 3) := dk_167 0 11 (dk_at dksX5_operand_4 3 rfl rfl)
theorem dX5_operand_98 : decode cX5_operand 98 = .ok (.new 117, 3) := dk_187 0 117 (dk_at dksX5_operand_4 6 rfl rfl)
theorem dX5_operand_101 : decode cX5_operand 101 = .ok (.dup, 1) := dk_89 (dk_at dksX5_operand_4 9 rfl rfl)
theorem dX5_operand_102 : decode cX5_operand 102 = .ok (.aload_n 2, 1) := dk_44 (dk_at dksX5_operand_4 10 rfl rfl)
theorem dX5_operand_103 : decode cX5_operand 103 = .ok (.invokespecial 119, 3) := dk_183 0 119 (dk_at dksX5_operand_4 11 rfl rfl)
theorem dX5_operand_106 : decode cX5_operand 106 = .ok (.areturn, 1) := dk_176 (dk_at dksX5_operand_4 14 rfl rfl)
theorem dX5_operand_107 : decode cX5_operand 107 = .ok (.iload_n 1, 1) := dk_27 (dk_at dksX5_operand_4 15 rfl rfl)
theorem dX5_operand_108 : decode cX5_operand 108 = .ok (.bipush 40, 2) := dk_16 40 (dk_at dksX5_operand_4 16 rfl rfl)
theorem dX5_operand_110 : decode cX5_operand 110 = .ok (.if_icmp .ne 65, 3) := dk_160 0 65 (dk_at dksX5_operand_4 18 rfl rfl)
theorem dX5_operand_113 : decode cX5_operand 113 = .ok (.aload_n 0, 1) := dk_42 (dk_at dksX5_operand_4 21 rfl rfl)
theorem dX5_operand_114 : decode cX5_operand 114 = .ok (.invokevirtual 105, 3) := dk_182 0 105 (dk_at dksX5_operand_5 0 rfl rfl)
theorem dX5_operand_117 : decode cX5_operand 117 = .ok (.ifCond .ne 8, 3) := dk_154 0 8 (dk_at dksX5_operand_5 3 rfl rfl)
theorem dX5_operand_120 : decode cX5_operand 120 = .ok (.aload_n 0, 1) := dk_42 (dk_at dksX5_operand_5 6 rfl rfl)
theorem dX5_operand_121 : decode cX5_operand 121 = .ok (.invokevirtual 109, 3) := dk_182 0 109 (dk_at dksX5_operand_5 7 rfl rfl)
theorem dX5_operand_124 : decode cX5_operand 124 = .ok (.areturn, 1) := dk_176 (dk_at dksX5_operand_5 10 rfl rfl)
theorem dX5_operand_125 : decode cX5_operand 125 = .ok (.aload_n 0, 1) := dk_42 (dk_at dksX5_operand_5 11 rfl rfl)
theorem dX5_operand_126 : decode cX5_operand 126 = .ok (.invokevirtual 50, 3) := dk_182 0 50 (dk_at dksX5_operand_5 12 rfl rfl)
theorem dX5_operand_129 : decode cX5_operand 129 = .ok (.astore_n 2, 1) := dk_77 (dk_at dksX5_operand_5 15 rfl rfl)
theorem dX5_operand_130 : decode cX5_operand 130 = .ok (.aload_n 0, 1) := dk_42 (dk_at dksX5_operand_5 16 rfl rfl)
theorem dX5_operand_131 : decode cX5_operand 131 = .ok (.getfield 15, 3) := dk_180 0 15 (dk_at dksX5_operand_5 17 rfl rfl)
theorem dX5_operand_134 : decode cX5_operand 134 = .ok (.ifCond .lt 5, 3) := dk_155 0 5 (dk_at dksX5_operand_5 20 rfl rfl)
theorem dX5_operand_137 : decode cX5_operand 137 = .ok (.aconst_null, 1) := dk_1 (dk_at dksX5_operand_5 23 rfl rfl)
theorem dX5_operand_138 : decode cX5_operand 138 = .ok (.areturn, 1) := dk_176 (dk_at dksX5_operand_6 0 rfl rfl)
theorem dX5_operand_139 : decode cX5_operand 139 = .ok (.aload_n 0, 1) := dk_42 (dk_at dksX5_operand_6 1 rfl rfl)
theorem dX5_operand_140 : decode cX5_operand 140 = .ok (.invokevirtual 29, 3) := dk_182 0 29 (dk_at dksX5_operand_6 2 rfl rfl)
theorem dX5_operand_143 : decode cX5_operand 143 = .ok (.bipush 41, 2) := dk_16 41 (dk_at dksX5_operand_6 5 rfl rfl)
theorem dX5_operand_145 : decode cX5_operand 145 = .ok (.if_icmp .eq 8, 3) := dk_159 0 8 (dk_at dksX5_operand_6 7 rfl rfl)
theorem dX5_operand_148 : decode cX5_operand 148 = .ok (.aload_n 0, 1) := dk_42 (dk_at dksX5_operand_6 10 rfl rfl)
theorem dX5_operand_149 : decode cX5_operand 149 = .ok (.invokevirtual 109, 3) := dk_182 0 109 (dk_at dksX5_operand_6 11 rfl rfl)
theorem dX5_operand_152 : decode cX5_operand 152 = .ok (.areturn, 1) := dk_176 (dk_at dksX5_operand_6 14 rfl rfl)
theorem dX5_operand_153 : decode cX5_operand 153 = .ok (.aload_n 0, 1) := dk_42 (dk_at dksX5_operand_6 15 rfl rfl)
theorem dX5_operand_154 : decode cX5_operand 154 = .ok (.dup, 1) := dk_89 (dk_at dksX5_operand_6 16 rfl rfl)
theorem dX5_operand_155 : decode cX5_operand 155 = .ok (.getfield 19, 3) := dk_180 0 19 (dk_at dksX5_operand_6 17 rfl rfl)
theorem dX5_operand_158 : decode cX5_operand 158 = .ok (.iconst 1, 1) := dk_4 (dk_at dksX5_operand_6 20 rfl rfl)
theorem dX5_operand_159 : decode cX5_operand 159 = .ok (.iadd, 1) := dk_96 (dk_at dksX5_operand_6 21 rfl rfl)
theorem dX5_operand_160 : decode cX5_operand 160 = .ok (.putfield 19, 3) := dk_181 0 19 (dk_at dksX5_operand_7 0 rfl rfl)
theorem dX5_operand_163 : decode cX5_operand 163 = .ok (.aload_n 0, 1) := dk_42 (dk_at dksX5_operand_7 3 rfl rfl)
theorem dX5_operand_164 : decode cX5_operand 164 = .ok (.dup, 1) := dk_89 (dk_at dksX5_operand_7 4 rfl rfl)
theorem dX5_operand_165 : decode cX5_operand 165 = .ok (.getfield 95, 3) := dk_180 0 95 (dk_at dksX5_operand_7 5 rfl rfl)
theorem dX5_operand_168 : decode cX5_operand 168 = .ok (.iconst 1, 1) := dk_4 (dk_at dksX5_operand_7 8 rfl rfl)
theorem dX5_operand_169 : decode cX5_operand 169 = .ok (.isub, 1) := dk_100 (dk_at dksX5_operand_7 9 rfl rfl)
theorem dX5_operand_170 : decode cX5_operand 170 = .ok (.putfield 95, 3) := dk_181 0 95 (dk_at dksX5_operand_7 10 rfl rfl)
theorem dX5_operand_173 : decode cX5_operand 173 = .ok (.aload_n 2, 1) := dk_44 (dk_at dksX5_operand_7 13 rfl rfl)
theorem dX5_operand_174 : decode cX5_operand 174 = .ok (.areturn, 1) := dk_176 (dk_at dksX5_operand_7 14 rfl rfl)
theorem dX5_operand_175 : decode cX5_operand 175 = .ok (.iconst 0, 1) := dk_3 (dk_at dksX5_operand_7 15 rfl rfl)
theorem dX5_operand_176 : decode cX5_operand 176 = .ok (.istore_n 2, 1) := dk_61 (dk_at dksX5_operand_7 16 rfl rfl)
theorem dX5_operand_177 : decode cX5_operand 177 = .ok (.iconst 0, 1) := dk_3 (dk_at dksX5_operand_7 17 rfl rfl)
theorem dX5_operand_178 : decode cX5_operand 178 = .ok (.istore_n 3, 1) := dk_62 (dk_at dksX5_operand_7 18 rfl rfl)
theorem dX5_operand_179 : decode cX5_operand 179 = .ok (.iload_n 2, 1) := dk_28 (dk_at dksX5_operand_7 19 rfl rfl)
theorem dX5_operand_180 : decode cX5_operand 180 = .ok (.iconst 4, 1) := dk_7 (dk_at dksX5_operand_7 20 rfl rfl)
theorem dX5_operand_181 : decode cX5_operand 181 = .ok (.if_icmp .ge 46, 3) := dk_162 0 46 (dk_at dksX5_operand_7 21 rfl rfl)
theorem dX5_operand_184 : decode cX5_operand 184 = .ok (.aload_n 0, 1) := dk_42 (dk_at dksX5_operand_8 0 rfl rfl)
theorem dX5_operand_185 : decode cX5_operand 185 = .ok (.invokevirtual 29, 3) := dk_182 0 29 (dk_at dksX5_operand_8 1 rfl rfl)
theorem dX5_operand_188 : decode cX5_operand 188 = .ok (.bipush 48, 2) := dk_16 48 (dk_at dksX5_operand_8 4 rfl rfl)
theorem dX5_operand_190 : decode cX5_operand 190 = .ok (.bipush 57, 2) := dk_16 57 (dk_at dksX5_operand_8 6 rfl rfl)
theorem dX5_operand_192 : decode cX5_operand 192 = .ok (.invokestatic 120, 3) := dk_184 0 120 (dk_at dksX5_operand_8 8 rfl rfl)
theorem dX5_operand_195 : decode cX5_operand 195 = .ok (.ifCond .eq 32, 3) := dk_153 0 32 (dk_at dksX5_operand_8 11 rfl rfl)
theorem dX5_operand_198 : decode cX5_operand 198 = .ok (.bipush 10, 2) := dk_16 10 (dk_at dksX5_operand_8 14 rfl rfl)
theorem dX5_operand_200 : decode cX5_operand 200 = .ok (.iload_n 3, 1) := dk_29 (dk_at dksX5_operand_8 16 rfl rfl)
theorem dX5_operand_201 : decode cX5_operand 201 = .ok (.imul, 1) := dk_104 (dk_at dksX5_operand_8 17 rfl rfl)
theorem dX5_operand_202 : decode cX5_operand 202 = .ok (.aload_n 0, 1) := dk_42 (dk_at dksX5_operand_8 18 rfl rfl)
theorem dX5_operand_203 : decode cX5_operand 203 = .ok (.invokevirtual 29, 3) := dk_182 0 29 (dk_at dksX5_operand_8 19 rfl rfl)
theorem dX5_operand_206 : decode cX5_operand 206 = .ok (.iadd, 1) := dk_96 (dk_at dksX5_operand_8 22 rfl rfl)
theorem dX5_operand_207 : decode cX5_operand 207 = .ok (.bipush 48, 2) := dk_16 48 (dk_at dksX5_operand_9 0 rfl rfl)
theorem dX5_operand_209 : decode cX5_operand 209 = .ok (.isub, 1) := dk_100 (dk_at dksX5_operand_9 2 rfl rfl)
theorem dX5_operand_210 : decode cX5_operand 210 = .ok (.istore_n 3, 1) := dk_62 (dk_at dksX5_operand_9 3 rfl rfl)
theorem dX5_operand_211 : decode cX5_operand 211 = .ok (.iinc 2 1, 3) := dk_132 2 1 (dk_at dksX5_operand_9 4 rfl rfl)
theorem dX5_operand_214 : decode cX5_operand 214 = .ok (.aload_n 0, 1) := dk_42 (dk_at dksX5_operand_9 7 rfl rfl)
theorem dX5_operand_215 : decode cX5_operand 215 = .ok (.dup, 1) := dk_89 (dk_at dksX5_operand_9 8 rfl rfl)
theorem dX5_operand_216 : decode cX5_operand 216 = .ok (.getfield 19, 3) := dk_180 0 19 (dk_at dksX5_operand_9 9 rfl rfl)
theorem dX5_operand_219 : decode cX5_operand 219 = .ok (.iconst 1, 1) := dk_4 (dk_at dksX5_operand_9 12 rfl rfl)
theorem dX5_operand_220 : decode cX5_operand 220 = .ok (.iadd, 1) := dk_96 (dk_at dksX5_operand_9 13 rfl rfl)
theorem dX5_operand_221 : decode cX5_operand 221 = .ok (.putfield 19, 3) := dk_181 0 19 (dk_at dksX5_operand_9 14 rfl rfl)
theorem dX5_operand_224 : decode cX5_operand 224 = .ok (.goto (-45), 3) := dk_167 255 211 (dk_at dksX5_operand_9 17 rfl rfl)
theorem dX5_operand_227 : decode cX5_operand 227 = .ok (.iload_n 2, 1) := dk_28 (dk_at dksX5_operand_9 20 rfl rfl)
theorem dX5_operand_228 : decode cX5_operand 228 = .ok (.ifCond .eq 17, 3) := dk_153 0 17 (dk_at dksX5_operand_9 21 rfl rfl)
theorem dX5_operand_231 : decode cX5_operand 231 = .ok (.aload_n 0, 1) := dk_42 (dk_at dksX5_operand_10 0 rfl rfl)
theorem dX5_operand_232 : decode cX5_operand 232 = .ok (.invokevirtual 29, 3) := dk_182 0 29 (dk_at dksX5_operand_10 1 rfl rfl)
theorem dX5_operand_235 : decode cX5_operand 235 = .ok (.bipush 48, 2) := dk_16 48 (dk_at dksX5_operand_10 4 rfl rfl)
theorem dX5_operand_237 : decode cX5_operand 237 = .ok (.bipush 57, 2) := dk_16 57 (dk_at dksX5_operand_10 6 rfl rfl)
theorem dX5_operand_239 : decode cX5_operand 239 = .ok (.invokestatic 120, 3) := dk_184 0 120 (dk_at dksX5_operand_10 8 rfl rfl)
theorem dX5_operand_242 : decode cX5_operand 242 = .ok (.ifCond .eq 10, 3) := dk_153 0 10 (dk_at dksX5_operand_10 11 rfl rfl)
theorem dX5_operand_245 : decode cX5_operand 245 = .ok (.aload_n 0, 1) := dk_42 (dk_at dksX5_operand_10 14 rfl rfl)
theorem dX5_operand_246 : decode cX5_operand 246 = .ok (.invokevirtual 109, 3) := dk_182 0 109 (dk_at dksX5_operand_10 15 rfl rfl)
theorem dX5_operand_249 : decode cX5_operand 249 = .ok (.goto 11, 3) := dk_167 0 11 (dk_at dksX5_operand_10 18 rfl rfl)
theorem dX5_operand_252 : decode cX5_operand 252 = .ok (.new 124, 3) := dk_187 0 124 (dk_at dksX5_operand_10 21 rfl rfl)
theorem dX5_operand_255 : decode cX5_operand 255 = .ok (.dup, 1) := dk_89 (dk_at dksX5_operand_11 0 rfl rfl)
theorem dX5_operand_256 : decode cX5_operand 256 = .ok (.iload_n 3, 1) := dk_29 (dk_at dksX5_operand_11 1 rfl rfl)
theorem dX5_operand_257 : decode cX5_operand 257 = .ok (.invokespecial 126, 3) := dk_183 0 126 (dk_at dksX5_operand_11 2 rfl rfl)
theorem dX5_operand_260 : decode cX5_operand 260 = .ok (.areturn, 1) := dk_176 (dk_at dksX5_operand_11 5 rfl rfl)
abbrev cX5_here : ByteArray := prog_21_method_2_code
def yX5_here : MethodName := ⟨RX5, "here", "()I"⟩
def dkwX5_here_1 : List UInt8 := [180, 0, 19, 51, 167, 0, 4, 2, 172]
abbrev dktX5_here_1 : List UInt8 := dkwX5_here_1 ++ []
def dkwX5_here_0 : List UInt8 := [42, 180, 0, 19, 42, 180, 0, 3, 180, 0, 22, 162, 0, 18, 42, 180, 0, 3, 180, 0, 25, 42]
abbrev dktX5_here_0 : List UInt8 := dkwX5_here_0 ++ dktX5_here_1
theorem dksX5_here_0 : cX5_here.data.toList.drop 0 = dktX5_here_0 := by decide +kernel
theorem dksX5_here_1 : cX5_here.data.toList.drop 22 = dktX5_here_1 := dk_seg dksX5_here_0 22 rfl rfl
theorem dX5_here_0 : decode cX5_here 0 = .ok (.aload_n 0, 1) := dk_42 (dk_at dksX5_here_0 0 rfl rfl)
theorem dX5_here_1 : decode cX5_here 1 = .ok (.getfield 19, 3) := dk_180 0 19 (dk_at dksX5_here_0 1 rfl rfl)
theorem dX5_here_4 : decode cX5_here 4 = .ok (.aload_n 0, 1) := dk_42 (dk_at dksX5_here_0 4 rfl rfl)
theorem dX5_here_5 : decode cX5_here 5 = .ok (.getfield 3, 3) := dk_180 0 3 (dk_at dksX5_here_0 5 rfl rfl)
theorem dX5_here_8 : decode cX5_here 8 = .ok (.getfield 22, 3) := dk_180 0 22 (dk_at dksX5_here_0 8 rfl rfl)
theorem dX5_here_11 : decode cX5_here 11 = .ok (.if_icmp .ge 18, 3) := dk_162 0 18 (dk_at dksX5_here_0 11 rfl rfl)
theorem dX5_here_14 : decode cX5_here 14 = .ok (.aload_n 0, 1) := dk_42 (dk_at dksX5_here_0 14 rfl rfl)
theorem dX5_here_15 : decode cX5_here 15 = .ok (.getfield 3, 3) := dk_180 0 3 (dk_at dksX5_here_0 15 rfl rfl)
theorem dX5_here_18 : decode cX5_here 18 = .ok (.getfield 25, 3) := dk_180 0 25 (dk_at dksX5_here_0 18 rfl rfl)
theorem dX5_here_21 : decode cX5_here 21 = .ok (.aload_n 0, 1) := dk_42 (dk_at dksX5_here_0 21 rfl rfl)
theorem dX5_here_22 : decode cX5_here 22 = .ok (.getfield 19, 3) := dk_180 0 19 (dk_at dksX5_here_1 0 rfl rfl)
theorem dX5_here_25 : decode cX5_here 25 = .ok (.baload, 1) := dk_51 (dk_at dksX5_here_1 3 rfl rfl)
theorem dX5_here_26 : decode cX5_here 26 = .ok (.goto 4, 3) := dk_167 0 4 (dk_at dksX5_here_1 4 rfl rfl)
theorem dX5_here_29 : decode cX5_here 29 = .ok (.iconst (-1), 1) := dk_2 (dk_at dksX5_here_1 7 rfl rfl)
theorem dX5_here_30 : decode cX5_here 30 = .ok (.ireturn, 1) := dk_172 (dk_at dksX5_here_1 8 rfl rfl)
abbrev cX5_isOne : ByteArray := prog_21_method_3_code
def yX5_isOne : MethodName := ⟨RX5, "isOne", "(Ljava/lang/String;)Z"⟩
def dkwX5_isOne_0 : List UInt8 := [42, 182, 0, 29, 155, 0, 18, 43, 42, 182, 0, 29, 182, 0, 33, 155, 0, 7, 4, 167, 0, 4, 3, 172]
abbrev dktX5_isOne_0 : List UInt8 := dkwX5_isOne_0 ++ []
theorem dksX5_isOne_0 : cX5_isOne.data.toList.drop 0 = dktX5_isOne_0 := by decide +kernel
theorem dX5_isOne_0 : decode cX5_isOne 0 = .ok (.aload_n 0, 1) := dk_42 (dk_at dksX5_isOne_0 0 rfl rfl)
theorem dX5_isOne_1 : decode cX5_isOne 1 = .ok (.invokevirtual 29, 3) := dk_182 0 29 (dk_at dksX5_isOne_0 1 rfl rfl)
theorem dX5_isOne_4 : decode cX5_isOne 4 = .ok (.ifCond .lt 18, 3) := dk_155 0 18 (dk_at dksX5_isOne_0 4 rfl rfl)
theorem dX5_isOne_7 : decode cX5_isOne 7 = .ok (.aload_n 1, 1) := dk_43 (dk_at dksX5_isOne_0 7 rfl rfl)
theorem dX5_isOne_8 : decode cX5_isOne 8 = .ok (.aload_n 0, 1) := dk_42 (dk_at dksX5_isOne_0 8 rfl rfl)
theorem dX5_isOne_9 : decode cX5_isOne 9 = .ok (.invokevirtual 29, 3) := dk_182 0 29 (dk_at dksX5_isOne_0 9 rfl rfl)
theorem dX5_isOne_12 : decode cX5_isOne 12 = .ok (.invokevirtual 33, 3) := dk_182 0 33 (dk_at dksX5_isOne_0 12 rfl rfl)
theorem dX5_isOne_15 : decode cX5_isOne 15 = .ok (.ifCond .lt 7, 3) := dk_155 0 7 (dk_at dksX5_isOne_0 15 rfl rfl)
theorem dX5_isOne_18 : decode cX5_isOne 18 = .ok (.iconst 1, 1) := dk_4 (dk_at dksX5_isOne_0 18 rfl rfl)
theorem dX5_isOne_19 : decode cX5_isOne 19 = .ok (.goto 4, 3) := dk_167 0 4 (dk_at dksX5_isOne_0 19 rfl rfl)
theorem dX5_isOne_22 : decode cX5_isOne 22 = .ok (.iconst 0, 1) := dk_3 (dk_at dksX5_isOne_0 22 rfl rfl)
theorem dX5_isOne_23 : decode cX5_isOne 23 = .ok (.ireturn, 1) := dk_172 (dk_at dksX5_isOne_0 23 rfl rfl)
abbrev cX5_opens : ByteArray := prog_21_method_13_code
def yX5_opens : MethodName := ⟨RX5, "opens", "()Z"⟩
def dkwX5_opens_1 : List UInt8 := [180, 0, 19, 4, 96, 181, 0, 19, 4, 172]
abbrev dktX5_opens_1 : List UInt8 := dkwX5_opens_1 ++ []
def dkwX5_opens_0 : List UInt8 := [42, 180, 0, 95, 16, 6, 160, 0, 5, 3, 172, 42, 89, 180, 0, 95, 4, 96, 181, 0, 95, 42, 89]
abbrev dktX5_opens_0 : List UInt8 := dkwX5_opens_0 ++ dktX5_opens_1
theorem dksX5_opens_0 : cX5_opens.data.toList.drop 0 = dktX5_opens_0 := by decide +kernel
theorem dksX5_opens_1 : cX5_opens.data.toList.drop 23 = dktX5_opens_1 := dk_seg dksX5_opens_0 23 rfl rfl
theorem dX5_opens_0 : decode cX5_opens 0 = .ok (.aload_n 0, 1) := dk_42 (dk_at dksX5_opens_0 0 rfl rfl)
theorem dX5_opens_1 : decode cX5_opens 1 = .ok (.getfield 95, 3) := dk_180 0 95 (dk_at dksX5_opens_0 1 rfl rfl)
theorem dX5_opens_4 : decode cX5_opens 4 = .ok (.bipush 6, 2) := dk_16 6 (dk_at dksX5_opens_0 4 rfl rfl)
theorem dX5_opens_6 : decode cX5_opens 6 = .ok (.if_icmp .ne 5, 3) := dk_160 0 5 (dk_at dksX5_opens_0 6 rfl rfl)
theorem dX5_opens_9 : decode cX5_opens 9 = .ok (.iconst 0, 1) := dk_3 (dk_at dksX5_opens_0 9 rfl rfl)
theorem dX5_opens_10 : decode cX5_opens 10 = .ok (.ireturn, 1) := dk_172 (dk_at dksX5_opens_0 10 rfl rfl)
theorem dX5_opens_11 : decode cX5_opens 11 = .ok (.aload_n 0, 1) := dk_42 (dk_at dksX5_opens_0 11 rfl rfl)
theorem dX5_opens_12 : decode cX5_opens 12 = .ok (.dup, 1) := dk_89 (dk_at dksX5_opens_0 12 rfl rfl)
theorem dX5_opens_13 : decode cX5_opens 13 = .ok (.getfield 95, 3) := dk_180 0 95 (dk_at dksX5_opens_0 13 rfl rfl)
theorem dX5_opens_16 : decode cX5_opens 16 = .ok (.iconst 1, 1) := dk_4 (dk_at dksX5_opens_0 16 rfl rfl)
theorem dX5_opens_17 : decode cX5_opens 17 = .ok (.iadd, 1) := dk_96 (dk_at dksX5_opens_0 17 rfl rfl)
theorem dX5_opens_18 : decode cX5_opens 18 = .ok (.putfield 95, 3) := dk_181 0 95 (dk_at dksX5_opens_0 18 rfl rfl)
theorem dX5_opens_21 : decode cX5_opens 21 = .ok (.aload_n 0, 1) := dk_42 (dk_at dksX5_opens_0 21 rfl rfl)
theorem dX5_opens_22 : decode cX5_opens 22 = .ok (.dup, 1) := dk_89 (dk_at dksX5_opens_0 22 rfl rfl)
theorem dX5_opens_23 : decode cX5_opens 23 = .ok (.getfield 19, 3) := dk_180 0 19 (dk_at dksX5_opens_1 0 rfl rfl)
theorem dX5_opens_26 : decode cX5_opens 26 = .ok (.iconst 1, 1) := dk_4 (dk_at dksX5_opens_1 3 rfl rfl)
theorem dX5_opens_27 : decode cX5_opens 27 = .ok (.iadd, 1) := dk_96 (dk_at dksX5_opens_1 4 rfl rfl)
theorem dX5_opens_28 : decode cX5_opens 28 = .ok (.putfield 19, 3) := dk_181 0 19 (dk_at dksX5_opens_1 5 rfl rfl)
theorem dX5_opens_31 : decode cX5_opens 31 = .ok (.iconst 1, 1) := dk_4 (dk_at dksX5_opens_1 8 rfl rfl)
theorem dX5_opens_32 : decode cX5_opens 32 = .ok (.ireturn, 1) := dk_172 (dk_at dksX5_opens_1 9 rfl rfl)
abbrev cX5_wrong : ByteArray := prog_21_method_4_code
def yX5_wrong : MethodName := ⟨RX5, "wrong", "()LThreeSnowballs$Node;"⟩
def dkwX5_wrong_0 : List UInt8 := [42, 180, 0, 15, 156, 0, 11, 42, 42, 180, 0, 19, 181, 0, 15, 1, 176]
abbrev dktX5_wrong_0 : List UInt8 := dkwX5_wrong_0 ++ []
theorem dksX5_wrong_0 : cX5_wrong.data.toList.drop 0 = dktX5_wrong_0 := by decide +kernel
theorem dX5_wrong_0 : decode cX5_wrong 0 = .ok (.aload_n 0, 1) := dk_42 (dk_at dksX5_wrong_0 0 rfl rfl)
theorem dX5_wrong_1 : decode cX5_wrong 1 = .ok (.getfield 15, 3) := dk_180 0 15 (dk_at dksX5_wrong_0 1 rfl rfl)
theorem dX5_wrong_4 : decode cX5_wrong 4 = .ok (.ifCond .ge 11, 3) := dk_156 0 11 (dk_at dksX5_wrong_0 4 rfl rfl)
theorem dX5_wrong_7 : decode cX5_wrong 7 = .ok (.aload_n 0, 1) := dk_42 (dk_at dksX5_wrong_0 7 rfl rfl)
theorem dX5_wrong_8 : decode cX5_wrong 8 = .ok (.aload_n 0, 1) := dk_42 (dk_at dksX5_wrong_0 8 rfl rfl)
theorem dX5_wrong_9 : decode cX5_wrong 9 = .ok (.getfield 19, 3) := dk_180 0 19 (dk_at dksX5_wrong_0 9 rfl rfl)
theorem dX5_wrong_12 : decode cX5_wrong 12 = .ok (.putfield 15, 3) := dk_181 0 15 (dk_at dksX5_wrong_0 12 rfl rfl)
theorem dX5_wrong_15 : decode cX5_wrong 15 = .ok (.aconst_null, 1) := dk_1 (dk_at dksX5_wrong_0 15 rfl rfl)
theorem dX5_wrong_16 : decode cX5_wrong 16 = .ok (.areturn, 1) := dk_176 (dk_at dksX5_wrong_0 16 rfl rfl)
abbrev cX5_joined : ByteArray := prog_21_method_7_code
def yX5_joined : MethodName := ⟨RX5, "joined", "(ILThreeSnowballs$Node;LThreeSnowballs$Node;)LThreeSnowballs$Node;"⟩
def dkwX5_joined_0 : List UInt8 := [42, 180, 0, 15, 155, 0, 7, 1, 167, 0, 13, 187, 0, 61, 89, 27, 44, 45, 183, 0, 63, 176]
abbrev dktX5_joined_0 : List UInt8 := dkwX5_joined_0 ++ []
theorem dksX5_joined_0 : cX5_joined.data.toList.drop 0 = dktX5_joined_0 := by decide +kernel
theorem dX5_joined_0 : decode cX5_joined 0 = .ok (.aload_n 0, 1) := dk_42 (dk_at dksX5_joined_0 0 rfl rfl)
theorem dX5_joined_1 : decode cX5_joined 1 = .ok (.getfield 15, 3) := dk_180 0 15 (dk_at dksX5_joined_0 1 rfl rfl)
theorem dX5_joined_4 : decode cX5_joined 4 = .ok (.ifCond .lt 7, 3) := dk_155 0 7 (dk_at dksX5_joined_0 4 rfl rfl)
theorem dX5_joined_7 : decode cX5_joined 7 = .ok (.aconst_null, 1) := dk_1 (dk_at dksX5_joined_0 7 rfl rfl)
theorem dX5_joined_8 : decode cX5_joined 8 = .ok (.goto 13, 3) := dk_167 0 13 (dk_at dksX5_joined_0 8 rfl rfl)
theorem dX5_joined_11 : decode cX5_joined 11 = .ok (.new 61, 3) := dk_187 0 61 (dk_at dksX5_joined_0 11 rfl rfl)
theorem dX5_joined_14 : decode cX5_joined 14 = .ok (.dup, 1) := dk_89 (dk_at dksX5_joined_0 14 rfl rfl)
theorem dX5_joined_15 : decode cX5_joined 15 = .ok (.iload_n 1, 1) := dk_27 (dk_at dksX5_joined_0 15 rfl rfl)
theorem dX5_joined_16 : decode cX5_joined 16 = .ok (.aload_n 2, 1) := dk_44 (dk_at dksX5_joined_0 16 rfl rfl)
theorem dX5_joined_17 : decode cX5_joined 17 = .ok (.aload_n 3, 1) := dk_45 (dk_at dksX5_joined_0 17 rfl rfl)
theorem dX5_joined_18 : decode cX5_joined 18 = .ok (.invokespecial 63, 3) := dk_183 0 63 (dk_at dksX5_joined_0 18 rfl rfl)
theorem dX5_joined_21 : decode cX5_joined 21 = .ok (.areturn, 1) := dk_176 (dk_at dksX5_joined_0 21 rfl rfl)
theorem q105 : (Jvm.Cond.initialized "ThreeSnowballs$Reader") ∈ lw_all := lw_g (lw_at lw_m1 14 rfl) rfl
theorem q184 : (Jvm.Cond.fieldLinkNest "ThreeSnowballs$Reader" (25 : Nat) "ThreeSnowballs" "tape" "[B" "ThreeSnowballs") ∈ lw_tbl := lw_at lw_m1 93 rfl
theorem q185 : (Jvm.Cond.fieldLinkNest "ThreeSnowballs$Reader" (22 : Nat) "ThreeSnowballs" "taped" "I" "ThreeSnowballs") ∈ lw_tbl := lw_at lw_m1 94 rfl
theorem q551 : (Jvm.Cond.instantiable "ThreeSnowballs$Reader" (4 : Nat)) ∈ lw_all := lw_g (lw_at lw_m2 220 rfl) rfl
theorem q553 : (Jvm.Cond.instanceMethod ({ cls := "ThreeSnowballs$Reader", name := "<init>", desc := "(LThreeSnowballs;)V" } : Jvm.MethodName)) ∈ lw_all := lw_g (lw_at lw_m2 222 rfl) rfl
theorem q554 : (Jvm.Cond.code ({ cls := "ThreeSnowballs$Reader", name := "<init>", desc := "(LThreeSnowballs;)V" } : Jvm.MethodName) prog_21_method_1_code (2 : Nat) (Option.none : Option Jvm.ClassFile.FieldType)) ∈ lw_all := lw_g (lw_at lw_m2 223 rfl) rfl
theorem q555 : (Jvm.Cond.methodLink "ThreeSnowballs$Reader" (9 : Nat) ({ cls := "java/lang/Object", name := "<init>", desc := "()V" } : Jvm.MethodName)) ∈ lw_all := lw_g (lw_at lw_m2 224 rfl) rfl
theorem q556 : (Jvm.Cond.fieldLink "ThreeSnowballs$Reader" (19 : Nat) "ThreeSnowballs$Reader" "at" "I") ∈ lw_all := lw_g (lw_at lw_m2 225 rfl) rfl
theorem q557 : (Jvm.Cond.fieldLink "ThreeSnowballs$Reader" (15 : Nat) "ThreeSnowballs$Reader" "fault" "I") ∈ lw_all := lw_g (lw_at lw_m2 226 rfl) rfl
theorem q559 : (Jvm.Cond.fieldLink "ThreeSnowballs$Reader" (95 : Nat) "ThreeSnowballs$Reader" "open" "I") ∈ lw_all := lw_g (lw_at lw_m2 228 rfl) rfl
theorem q560 : (Jvm.Cond.fieldLink "ThreeSnowballs$Reader" (3 : Nat) "ThreeSnowballs$Reader" "this$0" "LThreeSnowballs;") ∈ lw_all := lw_g (lw_at lw_m2 229 rfl) rfl
theorem q561 : (Jvm.Cond.lays "ThreeSnowballs$Reader" "ThreeSnowballs$Reader" "at" "I") ∈ lw_all := lw_g (lw_at lw_m2 230 rfl) rfl
theorem q562 : (Jvm.Cond.soleField "ThreeSnowballs$Reader" "at") ∈ lw_all := lw_g (lw_at lw_m2 231 rfl) rfl
theorem q563 : (Jvm.Cond.lays "ThreeSnowballs$Reader" "ThreeSnowballs$Reader" "fault" "I") ∈ lw_all := lw_g (lw_at lw_m2 232 rfl) rfl
theorem q564 : (Jvm.Cond.soleField "ThreeSnowballs$Reader" "fault") ∈ lw_all := lw_g (lw_at lw_m2 233 rfl) rfl
theorem q565 : (Jvm.Cond.lays "ThreeSnowballs$Reader" "ThreeSnowballs$Reader" "open" "I") ∈ lw_all := lw_g (lw_at lw_m2 234 rfl) rfl
theorem q566 : (Jvm.Cond.soleField "ThreeSnowballs$Reader" "open") ∈ lw_all := lw_g (lw_at lw_m2 235 rfl) rfl
theorem q567 : (Jvm.Cond.laysFinal "ThreeSnowballs$Reader" "ThreeSnowballs$Reader" "this$0" "LThreeSnowballs;") ∈ lw_all := lw_g (lw_at lw_m2 236 rfl) rfl
theorem q568 : (Jvm.Cond.soleField "ThreeSnowballs$Reader" "this$0") ∈ lw_all := lw_g (lw_at lw_m2 237 rfl) rfl
theorem q569 : (Jvm.Cond.superclass "ThreeSnowballs$Reader" "java/lang/Object") ∈ lw_all := lw_g (lw_at lw_m2 238 rfl) rfl
theorem q571 : (Jvm.Cond.instanceMethod ({ cls := "ThreeSnowballs$Reader", name := "lines", desc := "()LThreeSnowballs$Line;" } : Jvm.MethodName)) ∈ lw_all := lw_g (lw_at lw_m3 0 rfl) rfl
theorem q572 : (Jvm.Cond.selects "ThreeSnowballs$Reader" ({ cls := "ThreeSnowballs$Reader", name := "lines", desc := "()LThreeSnowballs$Line;" } : Jvm.MethodName) ({ cls := "ThreeSnowballs$Reader", name := "lines", desc := "()LThreeSnowballs$Line;" } : Jvm.MethodName)) ∈ lw_all := lw_g (lw_at lw_m3 1 rfl) rfl
theorem q573 : (Jvm.Cond.code ({ cls := "ThreeSnowballs$Reader", name := "lines", desc := "()LThreeSnowballs$Line;" } : Jvm.MethodName) prog_21_method_5_code (3 : Nat) (Option.some (Jvm.ClassFile.FieldType.object "ThreeSnowballs$Line"))) ∈ lw_all := lw_g (lw_at lw_m3 2 rfl) rfl
theorem q574 : (Jvm.Cond.methodLink "ThreeSnowballs$Reader" (39 : Nat) ({ cls := "ThreeSnowballs$Reader", name := "line", desc := "()LThreeSnowballs$Line;" } : Jvm.MethodName)) ∈ lw_all := lw_g (lw_at lw_m3 3 rfl) rfl
theorem q575 : (Jvm.Cond.privateMethod ({ cls := "ThreeSnowballs$Reader", name := "line", desc := "()LThreeSnowballs$Line;" } : Jvm.MethodName)) ∈ lw_tbl := lw_at lw_m3 4 rfl
theorem q576 : (Jvm.Cond.instanceMethod ({ cls := "ThreeSnowballs$Reader", name := "line", desc := "()LThreeSnowballs$Line;" } : Jvm.MethodName)) ∈ lw_all := lw_g (lw_at lw_m3 5 rfl) rfl
theorem q577 : (Jvm.Cond.code ({ cls := "ThreeSnowballs$Reader", name := "line", desc := "()LThreeSnowballs$Line;" } : Jvm.MethodName) prog_21_method_6_code (2 : Nat) (Option.some (Jvm.ClassFile.FieldType.object "ThreeSnowballs$Line"))) ∈ lw_all := lw_g (lw_at lw_m3 6 rfl) rfl
theorem q578 : (Jvm.Cond.classLink "ThreeSnowballs$Reader" (44 : Nat) "ThreeSnowballs$Line") ∈ lw_all := lw_g (lw_at lw_m3 7 rfl) rfl
theorem q580 : (Jvm.Cond.methodLinkNest "ThreeSnowballs$Reader" (49 : Nat) ({ cls := "ThreeSnowballs$Line", name := "<init>", desc := "()V" } : Jvm.MethodName) "ThreeSnowballs") ∈ lw_tbl := lw_at lw_m3 9 rfl
theorem q584 : (Jvm.Cond.fieldLinkNest "ThreeSnowballs$Reader" (58 : Nat) "ThreeSnowballs$Line" "test" "LThreeSnowballs$Node;" "ThreeSnowballs") ∈ lw_tbl := lw_at lw_m3 13 rfl
theorem q586 : (Jvm.Cond.fieldLinkNest "ThreeSnowballs$Reader" (54 : Nat) "ThreeSnowballs$Line" "gives" "LThreeSnowballs$Node;" "ThreeSnowballs") ∈ lw_tbl := lw_at lw_m3 15 rfl
theorem q588 : (Jvm.Cond.fieldLinkNest "ThreeSnowballs$Reader" (43 : Nat) "ThreeSnowballs$Line" "next" "LThreeSnowballs$Line;" "ThreeSnowballs") ∈ lw_tbl := lw_at lw_m3 17 rfl
theorem q597 : (Jvm.Cond.methodLink "ThreeSnowballs$Reader" (50 : Nat) ({ cls := "ThreeSnowballs$Reader", name := "either", desc := "()LThreeSnowballs$Node;" } : Jvm.MethodName)) ∈ lw_all := lw_g (lw_at lw_m3 26 rfl) rfl
theorem q598 : (Jvm.Cond.privateMethod ({ cls := "ThreeSnowballs$Reader", name := "either", desc := "()LThreeSnowballs$Node;" } : Jvm.MethodName)) ∈ lw_tbl := lw_at lw_m3 27 rfl
theorem q599 : (Jvm.Cond.instanceMethod ({ cls := "ThreeSnowballs$Reader", name := "either", desc := "()LThreeSnowballs$Node;" } : Jvm.MethodName)) ∈ lw_all := lw_g (lw_at lw_m3 28 rfl) rfl
theorem q600 : (Jvm.Cond.code ({ cls := "ThreeSnowballs$Reader", name := "either", desc := "()LThreeSnowballs$Node;" } : Jvm.MethodName) prog_21_method_8_code (2 : Nat) (Option.some (Jvm.ClassFile.FieldType.object "ThreeSnowballs$Node"))) ∈ lw_all := lw_g (lw_at lw_m3 29 rfl) rfl
theorem q601 : (Jvm.Cond.methodLink "ThreeSnowballs$Reader" (66 : Nat) ({ cls := "ThreeSnowballs$Reader", name := "all", desc := "()LThreeSnowballs$Node;" } : Jvm.MethodName)) ∈ lw_all := lw_g (lw_at lw_m3 30 rfl) rfl
theorem q602 : (Jvm.Cond.privateMethod ({ cls := "ThreeSnowballs$Reader", name := "all", desc := "()LThreeSnowballs$Node;" } : Jvm.MethodName)) ∈ lw_tbl := lw_at lw_m3 31 rfl
theorem q603 : (Jvm.Cond.instanceMethod ({ cls := "ThreeSnowballs$Reader", name := "all", desc := "()LThreeSnowballs$Node;" } : Jvm.MethodName)) ∈ lw_all := lw_g (lw_at lw_m3 32 rfl) rfl
theorem q604 : (Jvm.Cond.code ({ cls := "ThreeSnowballs$Reader", name := "all", desc := "()LThreeSnowballs$Node;" } : Jvm.MethodName) prog_21_method_9_code (2 : Nat) (Option.some (Jvm.ClassFile.FieldType.object "ThreeSnowballs$Node"))) ∈ lw_all := lw_g (lw_at lw_m3 33 rfl) rfl
theorem q605 : (Jvm.Cond.methodLink "ThreeSnowballs$Reader" (73 : Nat) ({ cls := "ThreeSnowballs$Reader", name := "compared", desc := "()LThreeSnowballs$Node;" } : Jvm.MethodName)) ∈ lw_all := lw_g (lw_at lw_m3 34 rfl) rfl
theorem q606 : (Jvm.Cond.privateMethod ({ cls := "ThreeSnowballs$Reader", name := "compared", desc := "()LThreeSnowballs$Node;" } : Jvm.MethodName)) ∈ lw_tbl := lw_at lw_m3 35 rfl
theorem q607 : (Jvm.Cond.instanceMethod ({ cls := "ThreeSnowballs$Reader", name := "compared", desc := "()LThreeSnowballs$Node;" } : Jvm.MethodName)) ∈ lw_all := lw_g (lw_at lw_m3 36 rfl) rfl
theorem q608 : (Jvm.Cond.code ({ cls := "ThreeSnowballs$Reader", name := "compared", desc := "()LThreeSnowballs$Node;" } : Jvm.MethodName) prog_21_method_10_code (3 : Nat) (Option.some (Jvm.ClassFile.FieldType.object "ThreeSnowballs$Node"))) ∈ lw_all := lw_g (lw_at lw_m3 37 rfl) rfl
theorem q609 : (Jvm.Cond.methodLink "ThreeSnowballs$Reader" (76 : Nat) ({ cls := "ThreeSnowballs$Reader", name := "sum", desc := "()LThreeSnowballs$Node;" } : Jvm.MethodName)) ∈ lw_all := lw_g (lw_at lw_m3 38 rfl) rfl
theorem q610 : (Jvm.Cond.privateMethod ({ cls := "ThreeSnowballs$Reader", name := "sum", desc := "()LThreeSnowballs$Node;" } : Jvm.MethodName)) ∈ lw_tbl := lw_at lw_m3 39 rfl
theorem q611 : (Jvm.Cond.instanceMethod ({ cls := "ThreeSnowballs$Reader", name := "sum", desc := "()LThreeSnowballs$Node;" } : Jvm.MethodName)) ∈ lw_all := lw_g (lw_at lw_m3 40 rfl) rfl
theorem q612 : (Jvm.Cond.code ({ cls := "ThreeSnowballs$Reader", name := "sum", desc := "()LThreeSnowballs$Node;" } : Jvm.MethodName) prog_21_method_11_code (3 : Nat) (Option.some (Jvm.ClassFile.FieldType.object "ThreeSnowballs$Node"))) ∈ lw_all := lw_g (lw_at lw_m3 41 rfl) rfl
theorem q613 : (Jvm.Cond.methodLink "ThreeSnowballs$Reader" (85 : Nat) ({ cls := "ThreeSnowballs$Reader", name := "product", desc := "()LThreeSnowballs$Node;" } : Jvm.MethodName)) ∈ lw_all := lw_g (lw_at lw_m3 42 rfl) rfl
theorem q614 : (Jvm.Cond.privateMethod ({ cls := "ThreeSnowballs$Reader", name := "product", desc := "()LThreeSnowballs$Node;" } : Jvm.MethodName)) ∈ lw_tbl := lw_at lw_m3 43 rfl
theorem q615 : (Jvm.Cond.instanceMethod ({ cls := "ThreeSnowballs$Reader", name := "product", desc := "()LThreeSnowballs$Node;" } : Jvm.MethodName)) ∈ lw_all := lw_g (lw_at lw_m3 44 rfl) rfl
theorem q616 : (Jvm.Cond.code ({ cls := "ThreeSnowballs$Reader", name := "product", desc := "()LThreeSnowballs$Node;" } : Jvm.MethodName) prog_21_method_12_code (3 : Nat) (Option.some (Jvm.ClassFile.FieldType.object "ThreeSnowballs$Node"))) ∈ lw_all := lw_g (lw_at lw_m3 45 rfl) rfl
theorem q617 : (Jvm.Cond.methodLink "ThreeSnowballs$Reader" (90 : Nat) ({ cls := "ThreeSnowballs$Reader", name := "operand", desc := "()LThreeSnowballs$Node;" } : Jvm.MethodName)) ∈ lw_all := lw_g (lw_at lw_m3 46 rfl) rfl
theorem q618 : (Jvm.Cond.privateMethod ({ cls := "ThreeSnowballs$Reader", name := "operand", desc := "()LThreeSnowballs$Node;" } : Jvm.MethodName)) ∈ lw_tbl := lw_at lw_m3 47 rfl
theorem q619 : (Jvm.Cond.instanceMethod ({ cls := "ThreeSnowballs$Reader", name := "operand", desc := "()LThreeSnowballs$Node;" } : Jvm.MethodName)) ∈ lw_all := lw_g (lw_at lw_m3 48 rfl) rfl
theorem q620 : (Jvm.Cond.code ({ cls := "ThreeSnowballs$Reader", name := "operand", desc := "()LThreeSnowballs$Node;" } : Jvm.MethodName) prog_21_method_14_code (4 : Nat) (Option.some (Jvm.ClassFile.FieldType.object "ThreeSnowballs$Node"))) ∈ lw_all := lw_g (lw_at lw_m3 49 rfl) rfl
theorem q621 : (Jvm.Cond.methodLink "ThreeSnowballs$Reader" (29 : Nat) ({ cls := "ThreeSnowballs$Reader", name := "here", desc := "()I" } : Jvm.MethodName)) ∈ lw_all := lw_g (lw_at lw_m3 50 rfl) rfl
theorem q622 : (Jvm.Cond.privateMethod ({ cls := "ThreeSnowballs$Reader", name := "here", desc := "()I" } : Jvm.MethodName)) ∈ lw_tbl := lw_at lw_m3 51 rfl
theorem q623 : (Jvm.Cond.instanceMethod ({ cls := "ThreeSnowballs$Reader", name := "here", desc := "()I" } : Jvm.MethodName)) ∈ lw_all := lw_g (lw_at lw_m3 52 rfl) rfl
theorem q624 : (Jvm.Cond.code ({ cls := "ThreeSnowballs$Reader", name := "here", desc := "()I" } : Jvm.MethodName) prog_21_method_2_code (1 : Nat) (Option.some Jvm.ClassFile.FieldType.int)) ∈ lw_all := lw_g (lw_at lw_m3 53 rfl) rfl
theorem q625 : (Jvm.Cond.stringRef "ThreeSnowballs$Reader" (98 : Nat) "hatmn") ∈ lw_tbl := lw_at lw_m3 54 rfl
theorem q626 : (Jvm.Cond.methodLink "ThreeSnowballs$Reader" (81 : Nat) ({ cls := "ThreeSnowballs$Reader", name := "isOne", desc := "(Ljava/lang/String;)Z" } : Jvm.MethodName)) ∈ lw_all := lw_g (lw_at lw_m3 55 rfl) rfl
theorem q627 : (Jvm.Cond.privateMethod ({ cls := "ThreeSnowballs$Reader", name := "isOne", desc := "(Ljava/lang/String;)Z" } : Jvm.MethodName)) ∈ lw_tbl := lw_at lw_m3 56 rfl
theorem q628 : (Jvm.Cond.instanceMethod ({ cls := "ThreeSnowballs$Reader", name := "isOne", desc := "(Ljava/lang/String;)Z" } : Jvm.MethodName)) ∈ lw_all := lw_g (lw_at lw_m3 57 rfl) rfl
theorem q629 : (Jvm.Cond.code ({ cls := "ThreeSnowballs$Reader", name := "isOne", desc := "(Ljava/lang/String;)Z" } : Jvm.MethodName) prog_21_method_3_code (2 : Nat) (Option.some Jvm.ClassFile.FieldType.boolean)) ∈ lw_all := lw_g (lw_at lw_m3 58 rfl) rfl
theorem q630 : (Jvm.Cond.methodLink "ThreeSnowballs$Reader" (33 : Nat) ({ cls := "java/lang/String", name := "indexOf", desc := "(I)I" } : Jvm.MethodName)) ∈ lw_all := lw_g (lw_at lw_m3 59 rfl) rfl
theorem q716 : (Jvm.Cond.classLink "ThreeSnowballs$Reader" (100 : Nat) "ThreeSnowballs$Name") ∈ lw_all := lw_g (lw_at lw_m3 145 rfl) rfl
theorem q718 : (Jvm.Cond.methodLink "ThreeSnowballs$Reader" (102 : Nat) ({ cls := "ThreeSnowballs$Name", name := "<init>", desc := "(I)V" } : Jvm.MethodName)) ∈ lw_all := lw_g (lw_at lw_m3 147 rfl) rfl
theorem q729 : (Jvm.Cond.methodLink "ThreeSnowballs$Reader" (105 : Nat) ({ cls := "ThreeSnowballs$Reader", name := "opens", desc := "()Z" } : Jvm.MethodName)) ∈ lw_all := lw_g (lw_at lw_m3 158 rfl) rfl
theorem q730 : (Jvm.Cond.privateMethod ({ cls := "ThreeSnowballs$Reader", name := "opens", desc := "()Z" } : Jvm.MethodName)) ∈ lw_tbl := lw_at lw_m3 159 rfl
theorem q731 : (Jvm.Cond.instanceMethod ({ cls := "ThreeSnowballs$Reader", name := "opens", desc := "()Z" } : Jvm.MethodName)) ∈ lw_all := lw_g (lw_at lw_m3 160 rfl) rfl
theorem q732 : (Jvm.Cond.code ({ cls := "ThreeSnowballs$Reader", name := "opens", desc := "()Z" } : Jvm.MethodName) prog_21_method_13_code (1 : Nat) (Option.some Jvm.ClassFile.FieldType.boolean)) ∈ lw_all := lw_g (lw_at lw_m3 161 rfl) rfl
theorem q733 : (Jvm.Cond.methodLink "ThreeSnowballs$Reader" (109 : Nat) ({ cls := "ThreeSnowballs$Reader", name := "wrong", desc := "()LThreeSnowballs$Node;" } : Jvm.MethodName)) ∈ lw_all := lw_g (lw_at lw_m3 162 rfl) rfl
theorem q734 : (Jvm.Cond.privateMethod ({ cls := "ThreeSnowballs$Reader", name := "wrong", desc := "()LThreeSnowballs$Node;" } : Jvm.MethodName)) ∈ lw_tbl := lw_at lw_m3 163 rfl
theorem q735 : (Jvm.Cond.instanceMethod ({ cls := "ThreeSnowballs$Reader", name := "wrong", desc := "()LThreeSnowballs$Node;" } : Jvm.MethodName)) ∈ lw_all := lw_g (lw_at lw_m3 164 rfl) rfl
theorem q736 : (Jvm.Cond.code ({ cls := "ThreeSnowballs$Reader", name := "wrong", desc := "()LThreeSnowballs$Node;" } : Jvm.MethodName) prog_21_method_4_code (1 : Nat) (Option.some (Jvm.ClassFile.FieldType.object "ThreeSnowballs$Node"))) ∈ lw_all := lw_g (lw_at lw_m3 165 rfl) rfl
theorem q737 : (Jvm.Cond.classLink "ThreeSnowballs$Reader" (112 : Nat) "ThreeSnowballs$Denied") ∈ lw_all := lw_g (lw_at lw_m3 166 rfl) rfl
theorem q739 : (Jvm.Cond.methodLink "ThreeSnowballs$Reader" (114 : Nat) ({ cls := "ThreeSnowballs$Denied", name := "<init>", desc := "(LThreeSnowballs$Node;)V" } : Jvm.MethodName)) ∈ lw_all := lw_g (lw_at lw_m3 168 rfl) rfl
theorem q747 : (Jvm.Cond.classLink "ThreeSnowballs$Reader" (117 : Nat) "ThreeSnowballs$Turned") ∈ lw_all := lw_g (lw_at lw_m3 176 rfl) rfl
theorem q749 : (Jvm.Cond.methodLink "ThreeSnowballs$Reader" (119 : Nat) ({ cls := "ThreeSnowballs$Turned", name := "<init>", desc := "(LThreeSnowballs$Node;)V" } : Jvm.MethodName)) ∈ lw_all := lw_g (lw_at lw_m3 178 rfl) rfl
theorem q757 : (Jvm.Cond.methodLinkNest "ThreeSnowballs$Reader" (120 : Nat) ({ cls := "ThreeSnowballs", name := "in", desc := "(III)Z" } : Jvm.MethodName) "ThreeSnowballs") ∈ lw_tbl := lw_at lw_m3 186 rfl
theorem q758 : (Jvm.Cond.classLink "ThreeSnowballs$Reader" (124 : Nat) "ThreeSnowballs$Leaf") ∈ lw_all := lw_g (lw_at lw_m3 187 rfl) rfl
theorem q760 : (Jvm.Cond.methodLink "ThreeSnowballs$Reader" (126 : Nat) ({ cls := "ThreeSnowballs$Leaf", name := "<init>", desc := "(I)V" } : Jvm.MethodName)) ∈ lw_all := lw_g (lw_at lw_m3 189 rfl) rfl
theorem q768 : (Jvm.Cond.stringRef "ThreeSnowballs$Reader" (93 : Nat) "*/%") ∈ lw_tbl := lw_at lw_m3 197 rfl
theorem q769 : (Jvm.Cond.methodLink "ThreeSnowballs$Reader" (69 : Nat) ({ cls := "ThreeSnowballs$Reader", name := "joined", desc := "(ILThreeSnowballs$Node;LThreeSnowballs$Node;)LThreeSnowballs$Node;" } : Jvm.MethodName)) ∈ lw_all := lw_g (lw_at lw_m3 198 rfl) rfl
theorem q770 : (Jvm.Cond.privateMethod ({ cls := "ThreeSnowballs$Reader", name := "joined", desc := "(ILThreeSnowballs$Node;LThreeSnowballs$Node;)LThreeSnowballs$Node;" } : Jvm.MethodName)) ∈ lw_tbl := lw_at lw_m3 199 rfl
theorem q771 : (Jvm.Cond.instanceMethod ({ cls := "ThreeSnowballs$Reader", name := "joined", desc := "(ILThreeSnowballs$Node;LThreeSnowballs$Node;)LThreeSnowballs$Node;" } : Jvm.MethodName)) ∈ lw_all := lw_g (lw_at lw_m3 200 rfl) rfl
theorem q772 : (Jvm.Cond.code ({ cls := "ThreeSnowballs$Reader", name := "joined", desc := "(ILThreeSnowballs$Node;LThreeSnowballs$Node;)LThreeSnowballs$Node;" } : Jvm.MethodName) prog_21_method_7_code (4 : Nat) (Option.some (Jvm.ClassFile.FieldType.object "ThreeSnowballs$Node"))) ∈ lw_all := lw_g (lw_at lw_m3 201 rfl) rfl
theorem q773 : (Jvm.Cond.classLink "ThreeSnowballs$Reader" (61 : Nat) "ThreeSnowballs$Pair") ∈ lw_all := lw_g (lw_at lw_m3 202 rfl) rfl
theorem q775 : (Jvm.Cond.methodLink "ThreeSnowballs$Reader" (63 : Nat) ({ cls := "ThreeSnowballs$Pair", name := "<init>", desc := "(ILThreeSnowballs$Node;LThreeSnowballs$Node;)V" } : Jvm.MethodName)) ∈ lw_all := lw_g (lw_at lw_m3 204 rfl) rfl
theorem q789 : (Jvm.Cond.stringRef "ThreeSnowballs$Reader" (88 : Nat) "+-") ∈ lw_tbl := lw_at lw_m3 218 rfl
theorem q790 : (Jvm.Cond.stringRef "ThreeSnowballs$Reader" (79 : Nat) "<=>") ∈ lw_tbl := lw_at lw_m3 219 rfl
theorem in_X5 : ∀ w ∈ wsX50, w ∈ lw_all := lw_in wsX50 [561, 563, 565, 567] (by decide +kernel) (by decide +kernel)
/-! ThreeSnowballs$Line -/
set_option maxRecDepth 100000
def RX6 : String := "ThreeSnowballs$Line"
def TX6 : u_T := fun k => match k with
  | 0 => ("ThreeSnowballs$Line", "test", "LThreeSnowballs$Node;", false)
  | 1 => ("ThreeSnowballs$Line", "gives", "LThreeSnowballs$Node;", false)
  | _ => ("ThreeSnowballs$Line", "next", "LThreeSnowballs$Line;", false)
def tyX6 : Nat → FieldType := fun k => match k with
  | 0 => .object "ThreeSnowballs$Node"
  | 1 => .object "ThreeSnowballs$Node"
  | _ => .object "ThreeSnowballs$Line"
abbrev wsX60 : List Cond := u_ws RX6 TX6 3
theorem nmX6 : ∀ a, a < 3 → ∀ b, b < 3 → a ≠ b → (TX6 a).2.1 ≠ (TX6 b).2.1 := by decide +kernel
theorem tyX6_ok : ∀ k, k < 3 → parseFieldDescriptor (TX6 k).2.2.1 = some (tyX6 k) := by decide +kernel
abbrev cX6_init : ByteArray := prog_15_method_1_code
def yX6_init : MethodName := ⟨RX6, "<init>", "()V"⟩
theorem dX6_init_0 : decode cX6_init 0 = .ok (.aload_n 0, 1) := by decide +kernel
theorem dX6_init_1 : decode cX6_init 1 = .ok (.invokespecial 1, 3) := by decide +kernel
theorem dX6_init_4 : decode cX6_init 4 = .ok (.return_, 1) := by decide +kernel
theorem q106 : (Jvm.Cond.initialized "ThreeSnowballs$Line") ∈ lw_all := lw_g (lw_at lw_m1 15 rfl) rfl
theorem q579 : (Jvm.Cond.instantiable "ThreeSnowballs$Line" (3 : Nat)) ∈ lw_all := lw_g (lw_at lw_m3 8 rfl) rfl
theorem q581 : (Jvm.Cond.instanceMethod ({ cls := "ThreeSnowballs$Line", name := "<init>", desc := "()V" } : Jvm.MethodName)) ∈ lw_all := lw_g (lw_at lw_m3 10 rfl) rfl
theorem q582 : (Jvm.Cond.code ({ cls := "ThreeSnowballs$Line", name := "<init>", desc := "()V" } : Jvm.MethodName) prog_15_method_1_code (1 : Nat) (Option.none : Option Jvm.ClassFile.FieldType)) ∈ lw_all := lw_g (lw_at lw_m3 11 rfl) rfl
theorem q583 : (Jvm.Cond.methodLink "ThreeSnowballs$Line" (1 : Nat) ({ cls := "java/lang/Object", name := "<init>", desc := "()V" } : Jvm.MethodName)) ∈ lw_all := lw_g (lw_at lw_m3 12 rfl) rfl
theorem q590 : (Jvm.Cond.lays "ThreeSnowballs$Line" "ThreeSnowballs$Line" "test" "LThreeSnowballs$Node;") ∈ lw_all := lw_g (lw_at lw_m3 19 rfl) rfl
theorem q591 : (Jvm.Cond.soleField "ThreeSnowballs$Line" "test") ∈ lw_all := lw_g (lw_at lw_m3 20 rfl) rfl
theorem q592 : (Jvm.Cond.lays "ThreeSnowballs$Line" "ThreeSnowballs$Line" "gives" "LThreeSnowballs$Node;") ∈ lw_all := lw_g (lw_at lw_m3 21 rfl) rfl
theorem q593 : (Jvm.Cond.soleField "ThreeSnowballs$Line" "gives") ∈ lw_all := lw_g (lw_at lw_m3 22 rfl) rfl
theorem q594 : (Jvm.Cond.lays "ThreeSnowballs$Line" "ThreeSnowballs$Line" "next" "LThreeSnowballs$Line;") ∈ lw_all := lw_g (lw_at lw_m3 23 rfl) rfl
theorem q595 : (Jvm.Cond.soleField "ThreeSnowballs$Line" "next") ∈ lw_all := lw_g (lw_at lw_m3 24 rfl) rfl
theorem q596 : (Jvm.Cond.superclass "ThreeSnowballs$Line" "java/lang/Object") ∈ lw_all := lw_g (lw_at lw_m3 25 rfl) rfl
theorem in_X6 : ∀ w ∈ wsX60, w ∈ lw_all := lw_in wsX60 [590, 592, 594] (by decide +kernel) (by decide +kernel)
/-! ThreeSnowballs$Node -/
set_option maxRecDepth 100000
def RX7 : String := "ThreeSnowballs$Node"
abbrev cX7_init : ByteArray := prog_18_method_1_code
def yX7_init : MethodName := ⟨RX7, "<init>", "()V"⟩
theorem dX7_init_0 : decode cX7_init 0 = .ok (.aload_n 0, 1) := by decide +kernel
theorem dX7_init_1 : decode cX7_init 1 = .ok (.invokespecial 1, 3) := by decide +kernel
theorem dX7_init_4 : decode cX7_init 4 = .ok (.return_, 1) := by decide +kernel
theorem q112 : (Jvm.Cond.initialized "ThreeSnowballs$Node") ∈ lw_all := lw_g (lw_at lw_m1 21 rfl) rfl
theorem q722 : (Jvm.Cond.instanceMethod ({ cls := "ThreeSnowballs$Node", name := "<init>", desc := "()V" } : Jvm.MethodName)) ∈ lw_all := lw_g (lw_at lw_m3 151 rfl) rfl
theorem q723 : (Jvm.Cond.code ({ cls := "ThreeSnowballs$Node", name := "<init>", desc := "()V" } : Jvm.MethodName) prog_18_method_1_code (1 : Nat) (Option.none : Option Jvm.ClassFile.FieldType)) ∈ lw_all := lw_g (lw_at lw_m3 152 rfl) rfl
theorem q724 : (Jvm.Cond.methodLink "ThreeSnowballs$Node" (1 : Nat) ({ cls := "java/lang/Object", name := "<init>", desc := "()V" } : Jvm.MethodName)) ∈ lw_all := lw_g (lw_at lw_m3 153 rfl) rfl
theorem q858 : (Jvm.Cond.declares ({ cls := "ThreeSnowballs$Node", name := "value", desc := "(LThreeSnowballs$Facts;)I" } : Jvm.MethodName)) ∈ lw_tbl := lw_at lw_m4 47 rfl
theorem q859 : (Jvm.Cond.sameMethod "ThreeSnowballs$Node" "ThreeSnowballs$Node" "value" "(LThreeSnowballs$Facts;)I") ∈ lw_all := lw_g (lw_at lw_m4 48 rfl) rfl
/-! ThreeSnowballs$Name -/
set_option maxRecDepth 100000
def RX8 : String := "ThreeSnowballs$Name"
def TX8 : u_T := fun k => match k with
  | _ => ("ThreeSnowballs$Name", "letter", "I", true)
def tyX8 : Nat → FieldType := fun k => match k with
  | _ => .int
abbrev wsX80 : List Cond := u_ws RX8 TX8 1
theorem nmX8 : ∀ a, a < 1 → ∀ b, b < 1 → a ≠ b → (TX8 a).2.1 ≠ (TX8 b).2.1 := by decide +kernel
theorem tyX8_ok : ∀ k, k < 1 → parseFieldDescriptor (TX8 k).2.2.1 = some (tyX8 k) := by decide +kernel
abbrev cX8_init : ByteArray := prog_17_method_1_code
def yX8_init : MethodName := ⟨RX8, "<init>", "(I)V"⟩
def dkwX8_init_0 : List UInt8 := [42, 183, 0, 1, 42, 27, 181, 0, 7, 177]
abbrev dktX8_init_0 : List UInt8 := dkwX8_init_0 ++ []
theorem dksX8_init_0 : cX8_init.data.toList.drop 0 = dktX8_init_0 := by decide +kernel
theorem dX8_init_0 : decode cX8_init 0 = .ok (.aload_n 0, 1) := dk_42 (dk_at dksX8_init_0 0 rfl rfl)
theorem dX8_init_1 : decode cX8_init 1 = .ok (.invokespecial 1, 3) := dk_183 0 1 (dk_at dksX8_init_0 1 rfl rfl)
theorem dX8_init_4 : decode cX8_init 4 = .ok (.aload_n 0, 1) := dk_42 (dk_at dksX8_init_0 4 rfl rfl)
theorem dX8_init_5 : decode cX8_init 5 = .ok (.iload_n 1, 1) := dk_27 (dk_at dksX8_init_0 5 rfl rfl)
theorem dX8_init_6 : decode cX8_init 6 = .ok (.putfield 7, 3) := dk_181 0 7 (dk_at dksX8_init_0 6 rfl rfl)
theorem dX8_init_9 : decode cX8_init 9 = .ok (.return_, 1) := dk_177 (dk_at dksX8_init_0 9 rfl rfl)
abbrev cX8_value : ByteArray := prog_17_method_2_code
def yX8_value : MethodName := ⟨RX8, "value", "(LThreeSnowballs$Facts;)I"⟩
def dkwX8_value_0 : List UInt8 := [43, 180, 0, 13, 42, 180, 0, 7, 46, 172]
abbrev dktX8_value_0 : List UInt8 := dkwX8_value_0 ++ []
theorem dksX8_value_0 : cX8_value.data.toList.drop 0 = dktX8_value_0 := by decide +kernel
theorem dX8_value_0 : decode cX8_value 0 = .ok (.aload_n 1, 1) := dk_43 (dk_at dksX8_value_0 0 rfl rfl)
theorem dX8_value_1 : decode cX8_value 1 = .ok (.getfield 13, 3) := dk_180 0 13 (dk_at dksX8_value_0 1 rfl rfl)
theorem dX8_value_4 : decode cX8_value 4 = .ok (.aload_n 0, 1) := dk_42 (dk_at dksX8_value_0 4 rfl rfl)
theorem dX8_value_5 : decode cX8_value 5 = .ok (.getfield 7, 3) := dk_180 0 7 (dk_at dksX8_value_0 5 rfl rfl)
theorem dX8_value_8 : decode cX8_value 8 = .ok (.iaload, 1) := dk_46 (dk_at dksX8_value_0 8 rfl rfl)
theorem dX8_value_9 : decode cX8_value 9 = .ok (.ireturn, 1) := dk_172 (dk_at dksX8_value_0 9 rfl rfl)
theorem q113 : (Jvm.Cond.initialized "ThreeSnowballs$Name") ∈ lw_all := lw_g (lw_at lw_m1 22 rfl) rfl
theorem q155 : (Jvm.Cond.fieldLinkNest "ThreeSnowballs$Name" (13 : Nat) "ThreeSnowballs$Facts" "named" "[I" "ThreeSnowballs") ∈ lw_tbl := lw_at lw_m1 64 rfl
theorem q717 : (Jvm.Cond.instantiable "ThreeSnowballs$Name" (1 : Nat)) ∈ lw_all := lw_g (lw_at lw_m3 146 rfl) rfl
theorem q719 : (Jvm.Cond.instanceMethod ({ cls := "ThreeSnowballs$Name", name := "<init>", desc := "(I)V" } : Jvm.MethodName)) ∈ lw_all := lw_g (lw_at lw_m3 148 rfl) rfl
theorem q720 : (Jvm.Cond.code ({ cls := "ThreeSnowballs$Name", name := "<init>", desc := "(I)V" } : Jvm.MethodName) prog_17_method_1_code (2 : Nat) (Option.none : Option Jvm.ClassFile.FieldType)) ∈ lw_all := lw_g (lw_at lw_m3 149 rfl) rfl
theorem q721 : (Jvm.Cond.methodLinkNest "ThreeSnowballs$Name" (1 : Nat) ({ cls := "ThreeSnowballs$Node", name := "<init>", desc := "()V" } : Jvm.MethodName) "ThreeSnowballs") ∈ lw_tbl := lw_at lw_m3 150 rfl
theorem q725 : (Jvm.Cond.fieldLink "ThreeSnowballs$Name" (7 : Nat) "ThreeSnowballs$Name" "letter" "I") ∈ lw_all := lw_g (lw_at lw_m3 154 rfl) rfl
theorem q726 : (Jvm.Cond.laysFinal "ThreeSnowballs$Name" "ThreeSnowballs$Name" "letter" "I") ∈ lw_all := lw_g (lw_at lw_m3 155 rfl) rfl
theorem q727 : (Jvm.Cond.soleField "ThreeSnowballs$Name" "letter") ∈ lw_all := lw_g (lw_at lw_m3 156 rfl) rfl
theorem q728 : (Jvm.Cond.superclass "ThreeSnowballs$Name" "ThreeSnowballs$Node") ∈ lw_all := lw_g (lw_at lw_m3 157 rfl) rfl
theorem q866 : (Jvm.Cond.instanceMethod ({ cls := "ThreeSnowballs$Name", name := "value", desc := "(LThreeSnowballs$Facts;)I" } : Jvm.MethodName)) ∈ lw_all := lw_g (lw_at lw_m4 55 rfl) rfl
theorem q867 : (Jvm.Cond.code ({ cls := "ThreeSnowballs$Name", name := "value", desc := "(LThreeSnowballs$Facts;)I" } : Jvm.MethodName) prog_17_method_2_code (2 : Nat) (Option.some Jvm.ClassFile.FieldType.int)) ∈ lw_all := lw_g (lw_at lw_m4 56 rfl) rfl
theorem q878 : (Jvm.Cond.selects "ThreeSnowballs$Name" ({ cls := "ThreeSnowballs$Node", name := "value", desc := "(LThreeSnowballs$Facts;)I" } : Jvm.MethodName) ({ cls := "ThreeSnowballs$Name", name := "value", desc := "(LThreeSnowballs$Facts;)I" } : Jvm.MethodName)) ∈ lw_all := lw_g (lw_at lw_m4 67 rfl) rfl
theorem in_X8 : ∀ w ∈ wsX80, w ∈ lw_all := lw_in wsX80 [726] (by decide +kernel) (by decide +kernel)
/-! ThreeSnowballs$Denied -/
set_option maxRecDepth 100000
def RX9 : String := "ThreeSnowballs$Denied"
def TX9 : u_T := fun k => match k with
  | _ => ("ThreeSnowballs$Denied", "of", "LThreeSnowballs$Node;", true)
def tyX9 : Nat → FieldType := fun k => match k with
  | _ => .object "ThreeSnowballs$Node"
abbrev wsX90 : List Cond := u_ws RX9 TX9 1
theorem nmX9 : ∀ a, a < 1 → ∀ b, b < 1 → a ≠ b → (TX9 a).2.1 ≠ (TX9 b).2.1 := by decide +kernel
theorem tyX9_ok : ∀ k, k < 1 → parseFieldDescriptor (TX9 k).2.2.1 = some (tyX9 k) := by decide +kernel
abbrev cX9_init : ByteArray := prog_7_method_1_code
def yX9_init : MethodName := ⟨RX9, "<init>", "(LThreeSnowballs$Node;)V"⟩
def dkwX9_init_0 : List UInt8 := [42, 183, 0, 1, 42, 43, 181, 0, 7, 177]
abbrev dktX9_init_0 : List UInt8 := dkwX9_init_0 ++ []
theorem dksX9_init_0 : cX9_init.data.toList.drop 0 = dktX9_init_0 := by decide +kernel
theorem dX9_init_0 : decode cX9_init 0 = .ok (.aload_n 0, 1) := dk_42 (dk_at dksX9_init_0 0 rfl rfl)
theorem dX9_init_1 : decode cX9_init 1 = .ok (.invokespecial 1, 3) := dk_183 0 1 (dk_at dksX9_init_0 1 rfl rfl)
theorem dX9_init_4 : decode cX9_init 4 = .ok (.aload_n 0, 1) := dk_42 (dk_at dksX9_init_0 4 rfl rfl)
theorem dX9_init_5 : decode cX9_init 5 = .ok (.aload_n 1, 1) := dk_43 (dk_at dksX9_init_0 5 rfl rfl)
theorem dX9_init_6 : decode cX9_init 6 = .ok (.putfield 7, 3) := dk_181 0 7 (dk_at dksX9_init_0 6 rfl rfl)
theorem dX9_init_9 : decode cX9_init 9 = .ok (.return_, 1) := dk_177 (dk_at dksX9_init_0 9 rfl rfl)
abbrev cX9_value : ByteArray := prog_7_method_2_code
def yX9_value : MethodName := ⟨RX9, "value", "(LThreeSnowballs$Facts;)I"⟩
def dkwX9_value_0 : List UInt8 := [42, 180, 0, 7, 43, 182, 0, 13, 154, 0, 7, 4, 167, 0, 4, 3, 172]
abbrev dktX9_value_0 : List UInt8 := dkwX9_value_0 ++ []
theorem dksX9_value_0 : cX9_value.data.toList.drop 0 = dktX9_value_0 := by decide +kernel
theorem dX9_value_0 : decode cX9_value 0 = .ok (.aload_n 0, 1) := dk_42 (dk_at dksX9_value_0 0 rfl rfl)
theorem dX9_value_1 : decode cX9_value 1 = .ok (.getfield 7, 3) := dk_180 0 7 (dk_at dksX9_value_0 1 rfl rfl)
theorem dX9_value_4 : decode cX9_value 4 = .ok (.aload_n 1, 1) := dk_43 (dk_at dksX9_value_0 4 rfl rfl)
theorem dX9_value_5 : decode cX9_value 5 = .ok (.invokevirtual 13, 3) := dk_182 0 13 (dk_at dksX9_value_0 5 rfl rfl)
theorem dX9_value_8 : decode cX9_value 8 = .ok (.ifCond .ne 7, 3) := dk_154 0 7 (dk_at dksX9_value_0 8 rfl rfl)
theorem dX9_value_11 : decode cX9_value 11 = .ok (.iconst 1, 1) := dk_4 (dk_at dksX9_value_0 11 rfl rfl)
theorem dX9_value_12 : decode cX9_value 12 = .ok (.goto 4, 3) := dk_167 0 4 (dk_at dksX9_value_0 12 rfl rfl)
theorem dX9_value_15 : decode cX9_value 15 = .ok (.iconst 0, 1) := dk_3 (dk_at dksX9_value_0 15 rfl rfl)
theorem dX9_value_16 : decode cX9_value 16 = .ok (.ireturn, 1) := dk_172 (dk_at dksX9_value_0 16 rfl rfl)
theorem q114 : (Jvm.Cond.initialized "ThreeSnowballs$Denied") ∈ lw_all := lw_g (lw_at lw_m1 23 rfl) rfl
theorem q738 : (Jvm.Cond.instantiable "ThreeSnowballs$Denied" (1 : Nat)) ∈ lw_all := lw_g (lw_at lw_m3 167 rfl) rfl
theorem q740 : (Jvm.Cond.instanceMethod ({ cls := "ThreeSnowballs$Denied", name := "<init>", desc := "(LThreeSnowballs$Node;)V" } : Jvm.MethodName)) ∈ lw_all := lw_g (lw_at lw_m3 169 rfl) rfl
theorem q741 : (Jvm.Cond.code ({ cls := "ThreeSnowballs$Denied", name := "<init>", desc := "(LThreeSnowballs$Node;)V" } : Jvm.MethodName) prog_7_method_1_code (2 : Nat) (Option.none : Option Jvm.ClassFile.FieldType)) ∈ lw_all := lw_g (lw_at lw_m3 170 rfl) rfl
theorem q742 : (Jvm.Cond.methodLinkNest "ThreeSnowballs$Denied" (1 : Nat) ({ cls := "ThreeSnowballs$Node", name := "<init>", desc := "()V" } : Jvm.MethodName) "ThreeSnowballs") ∈ lw_tbl := lw_at lw_m3 171 rfl
theorem q743 : (Jvm.Cond.fieldLink "ThreeSnowballs$Denied" (7 : Nat) "ThreeSnowballs$Denied" "of" "LThreeSnowballs$Node;") ∈ lw_all := lw_g (lw_at lw_m3 172 rfl) rfl
theorem q744 : (Jvm.Cond.laysFinal "ThreeSnowballs$Denied" "ThreeSnowballs$Denied" "of" "LThreeSnowballs$Node;") ∈ lw_all := lw_g (lw_at lw_m3 173 rfl) rfl
theorem q745 : (Jvm.Cond.soleField "ThreeSnowballs$Denied" "of") ∈ lw_all := lw_g (lw_at lw_m3 174 rfl) rfl
theorem q746 : (Jvm.Cond.superclass "ThreeSnowballs$Denied" "ThreeSnowballs$Node") ∈ lw_all := lw_g (lw_at lw_m3 175 rfl) rfl
theorem q860 : (Jvm.Cond.selects "ThreeSnowballs$Denied" ({ cls := "ThreeSnowballs$Node", name := "value", desc := "(LThreeSnowballs$Facts;)I" } : Jvm.MethodName) ({ cls := "ThreeSnowballs$Denied", name := "value", desc := "(LThreeSnowballs$Facts;)I" } : Jvm.MethodName)) ∈ lw_all := lw_g (lw_at lw_m4 49 rfl) rfl
theorem q861 : (Jvm.Cond.instanceMethod ({ cls := "ThreeSnowballs$Denied", name := "value", desc := "(LThreeSnowballs$Facts;)I" } : Jvm.MethodName)) ∈ lw_all := lw_g (lw_at lw_m4 50 rfl) rfl
theorem q862 : (Jvm.Cond.code ({ cls := "ThreeSnowballs$Denied", name := "value", desc := "(LThreeSnowballs$Facts;)I" } : Jvm.MethodName) prog_7_method_2_code (2 : Nat) (Option.some Jvm.ClassFile.FieldType.int)) ∈ lw_all := lw_g (lw_at lw_m4 51 rfl) rfl
theorem q863 : (Jvm.Cond.methodLink "ThreeSnowballs$Denied" (13 : Nat) ({ cls := "ThreeSnowballs$Node", name := "value", desc := "(LThreeSnowballs$Facts;)I" } : Jvm.MethodName)) ∈ lw_all := lw_g (lw_at lw_m4 52 rfl) rfl
theorem in_X9 : ∀ w ∈ wsX90, w ∈ lw_all := lw_in wsX90 [744] (by decide +kernel) (by decide +kernel)
/-! ThreeSnowballs$Turned -/
set_option maxRecDepth 100000
def RX10 : String := "ThreeSnowballs$Turned"
def TX10 : u_T := fun k => match k with
  | _ => ("ThreeSnowballs$Turned", "of", "LThreeSnowballs$Node;", true)
def tyX10 : Nat → FieldType := fun k => match k with
  | _ => .object "ThreeSnowballs$Node"
abbrev wsX100 : List Cond := u_ws RX10 TX10 1
theorem nmX10 : ∀ a, a < 1 → ∀ b, b < 1 → a ≠ b → (TX10 a).2.1 ≠ (TX10 b).2.1 := by decide +kernel
theorem tyX10_ok : ∀ k, k < 1 → parseFieldDescriptor (TX10 k).2.2.1 = some (tyX10 k) := by decide +kernel
abbrev cX10_init : ByteArray := prog_28_method_1_code
def yX10_init : MethodName := ⟨RX10, "<init>", "(LThreeSnowballs$Node;)V"⟩
def dkwX10_init_0 : List UInt8 := [42, 183, 0, 1, 42, 43, 181, 0, 7, 177]
abbrev dktX10_init_0 : List UInt8 := dkwX10_init_0 ++ []
theorem dksX10_init_0 : cX10_init.data.toList.drop 0 = dktX10_init_0 := by decide +kernel
theorem dX10_init_0 : decode cX10_init 0 = .ok (.aload_n 0, 1) := dk_42 (dk_at dksX10_init_0 0 rfl rfl)
theorem dX10_init_1 : decode cX10_init 1 = .ok (.invokespecial 1, 3) := dk_183 0 1 (dk_at dksX10_init_0 1 rfl rfl)
theorem dX10_init_4 : decode cX10_init 4 = .ok (.aload_n 0, 1) := dk_42 (dk_at dksX10_init_0 4 rfl rfl)
theorem dX10_init_5 : decode cX10_init 5 = .ok (.aload_n 1, 1) := dk_43 (dk_at dksX10_init_0 5 rfl rfl)
theorem dX10_init_6 : decode cX10_init 6 = .ok (.putfield 7, 3) := dk_181 0 7 (dk_at dksX10_init_0 6 rfl rfl)
theorem dX10_init_9 : decode cX10_init 9 = .ok (.return_, 1) := dk_177 (dk_at dksX10_init_0 9 rfl rfl)
abbrev cX10_value : ByteArray := prog_28_method_2_code
def yX10_value : MethodName := ⟨RX10, "value", "(LThreeSnowballs$Facts;)I"⟩
def dkwX10_value_0 : List UInt8 := [42, 180, 0, 7, 43, 182, 0, 13, 116, 172]
abbrev dktX10_value_0 : List UInt8 := dkwX10_value_0 ++ []
theorem dksX10_value_0 : cX10_value.data.toList.drop 0 = dktX10_value_0 := by decide +kernel
theorem dX10_value_0 : decode cX10_value 0 = .ok (.aload_n 0, 1) := dk_42 (dk_at dksX10_value_0 0 rfl rfl)
theorem dX10_value_1 : decode cX10_value 1 = .ok (.getfield 7, 3) := dk_180 0 7 (dk_at dksX10_value_0 1 rfl rfl)
theorem dX10_value_4 : decode cX10_value 4 = .ok (.aload_n 1, 1) := dk_43 (dk_at dksX10_value_0 4 rfl rfl)
theorem dX10_value_5 : decode cX10_value 5 = .ok (.invokevirtual 13, 3) := dk_182 0 13 (dk_at dksX10_value_0 5 rfl rfl)
theorem dX10_value_8 : decode cX10_value 8 = .ok (.ineg, 1) := dk_116 (dk_at dksX10_value_0 8 rfl rfl)
theorem dX10_value_9 : decode cX10_value 9 = .ok (.ireturn, 1) := dk_172 (dk_at dksX10_value_0 9 rfl rfl)
theorem q115 : (Jvm.Cond.initialized "ThreeSnowballs$Turned") ∈ lw_all := lw_g (lw_at lw_m1 24 rfl) rfl
theorem q748 : (Jvm.Cond.instantiable "ThreeSnowballs$Turned" (1 : Nat)) ∈ lw_all := lw_g (lw_at lw_m3 177 rfl) rfl
theorem q750 : (Jvm.Cond.instanceMethod ({ cls := "ThreeSnowballs$Turned", name := "<init>", desc := "(LThreeSnowballs$Node;)V" } : Jvm.MethodName)) ∈ lw_all := lw_g (lw_at lw_m3 179 rfl) rfl
theorem q751 : (Jvm.Cond.code ({ cls := "ThreeSnowballs$Turned", name := "<init>", desc := "(LThreeSnowballs$Node;)V" } : Jvm.MethodName) prog_28_method_1_code (2 : Nat) (Option.none : Option Jvm.ClassFile.FieldType)) ∈ lw_all := lw_g (lw_at lw_m3 180 rfl) rfl
theorem q752 : (Jvm.Cond.methodLinkNest "ThreeSnowballs$Turned" (1 : Nat) ({ cls := "ThreeSnowballs$Node", name := "<init>", desc := "()V" } : Jvm.MethodName) "ThreeSnowballs") ∈ lw_tbl := lw_at lw_m3 181 rfl
theorem q753 : (Jvm.Cond.fieldLink "ThreeSnowballs$Turned" (7 : Nat) "ThreeSnowballs$Turned" "of" "LThreeSnowballs$Node;") ∈ lw_all := lw_g (lw_at lw_m3 182 rfl) rfl
theorem q754 : (Jvm.Cond.laysFinal "ThreeSnowballs$Turned" "ThreeSnowballs$Turned" "of" "LThreeSnowballs$Node;") ∈ lw_all := lw_g (lw_at lw_m3 183 rfl) rfl
theorem q755 : (Jvm.Cond.soleField "ThreeSnowballs$Turned" "of") ∈ lw_all := lw_g (lw_at lw_m3 184 rfl) rfl
theorem q756 : (Jvm.Cond.superclass "ThreeSnowballs$Turned" "ThreeSnowballs$Node") ∈ lw_all := lw_g (lw_at lw_m3 185 rfl) rfl
theorem q871 : (Jvm.Cond.instanceMethod ({ cls := "ThreeSnowballs$Turned", name := "value", desc := "(LThreeSnowballs$Facts;)I" } : Jvm.MethodName)) ∈ lw_all := lw_g (lw_at lw_m4 60 rfl) rfl
theorem q872 : (Jvm.Cond.code ({ cls := "ThreeSnowballs$Turned", name := "value", desc := "(LThreeSnowballs$Facts;)I" } : Jvm.MethodName) prog_28_method_2_code (2 : Nat) (Option.some Jvm.ClassFile.FieldType.int)) ∈ lw_all := lw_g (lw_at lw_m4 61 rfl) rfl
theorem q873 : (Jvm.Cond.methodLink "ThreeSnowballs$Turned" (13 : Nat) ({ cls := "ThreeSnowballs$Node", name := "value", desc := "(LThreeSnowballs$Facts;)I" } : Jvm.MethodName)) ∈ lw_all := lw_g (lw_at lw_m4 62 rfl) rfl
theorem q880 : (Jvm.Cond.selects "ThreeSnowballs$Turned" ({ cls := "ThreeSnowballs$Node", name := "value", desc := "(LThreeSnowballs$Facts;)I" } : Jvm.MethodName) ({ cls := "ThreeSnowballs$Turned", name := "value", desc := "(LThreeSnowballs$Facts;)I" } : Jvm.MethodName)) ∈ lw_all := lw_g (lw_at lw_m4 69 rfl) rfl
theorem in_X10 : ∀ w ∈ wsX100, w ∈ lw_all := lw_in wsX100 [754] (by decide +kernel) (by decide +kernel)
/-! ThreeSnowballs$Leaf -/
set_option maxRecDepth 100000
def RX11 : String := "ThreeSnowballs$Leaf"
def TX11 : u_T := fun k => match k with
  | _ => ("ThreeSnowballs$Leaf", "number", "I", true)
def tyX11 : Nat → FieldType := fun k => match k with
  | _ => .int
abbrev wsX110 : List Cond := u_ws RX11 TX11 1
theorem nmX11 : ∀ a, a < 1 → ∀ b, b < 1 → a ≠ b → (TX11 a).2.1 ≠ (TX11 b).2.1 := by decide +kernel
theorem tyX11_ok : ∀ k, k < 1 → parseFieldDescriptor (TX11 k).2.2.1 = some (tyX11 k) := by decide +kernel
abbrev cX11_init : ByteArray := prog_13_method_1_code
def yX11_init : MethodName := ⟨RX11, "<init>", "(I)V"⟩
def dkwX11_init_0 : List UInt8 := [42, 183, 0, 1, 42, 27, 181, 0, 7, 177]
abbrev dktX11_init_0 : List UInt8 := dkwX11_init_0 ++ []
theorem dksX11_init_0 : cX11_init.data.toList.drop 0 = dktX11_init_0 := by decide +kernel
theorem dX11_init_0 : decode cX11_init 0 = .ok (.aload_n 0, 1) := dk_42 (dk_at dksX11_init_0 0 rfl rfl)
theorem dX11_init_1 : decode cX11_init 1 = .ok (.invokespecial 1, 3) := dk_183 0 1 (dk_at dksX11_init_0 1 rfl rfl)
theorem dX11_init_4 : decode cX11_init 4 = .ok (.aload_n 0, 1) := dk_42 (dk_at dksX11_init_0 4 rfl rfl)
theorem dX11_init_5 : decode cX11_init 5 = .ok (.iload_n 1, 1) := dk_27 (dk_at dksX11_init_0 5 rfl rfl)
theorem dX11_init_6 : decode cX11_init 6 = .ok (.putfield 7, 3) := dk_181 0 7 (dk_at dksX11_init_0 6 rfl rfl)
theorem dX11_init_9 : decode cX11_init 9 = .ok (.return_, 1) := dk_177 (dk_at dksX11_init_0 9 rfl rfl)
abbrev cX11_value : ByteArray := prog_13_method_2_code
def yX11_value : MethodName := ⟨RX11, "value", "(LThreeSnowballs$Facts;)I"⟩
theorem dX11_value_0 : decode cX11_value 0 = .ok (.aload_n 0, 1) := by decide +kernel
theorem dX11_value_1 : decode cX11_value 1 = .ok (.getfield 7, 3) := by decide +kernel
theorem dX11_value_4 : decode cX11_value 4 = .ok (.ireturn, 1) := by decide +kernel
theorem q116 : (Jvm.Cond.initialized "ThreeSnowballs$Leaf") ∈ lw_all := lw_g (lw_at lw_m1 25 rfl) rfl
theorem q759 : (Jvm.Cond.instantiable "ThreeSnowballs$Leaf" (1 : Nat)) ∈ lw_all := lw_g (lw_at lw_m3 188 rfl) rfl
theorem q761 : (Jvm.Cond.instanceMethod ({ cls := "ThreeSnowballs$Leaf", name := "<init>", desc := "(I)V" } : Jvm.MethodName)) ∈ lw_all := lw_g (lw_at lw_m3 190 rfl) rfl
theorem q762 : (Jvm.Cond.code ({ cls := "ThreeSnowballs$Leaf", name := "<init>", desc := "(I)V" } : Jvm.MethodName) prog_13_method_1_code (2 : Nat) (Option.none : Option Jvm.ClassFile.FieldType)) ∈ lw_all := lw_g (lw_at lw_m3 191 rfl) rfl
theorem q763 : (Jvm.Cond.methodLinkNest "ThreeSnowballs$Leaf" (1 : Nat) ({ cls := "ThreeSnowballs$Node", name := "<init>", desc := "()V" } : Jvm.MethodName) "ThreeSnowballs") ∈ lw_tbl := lw_at lw_m3 192 rfl
theorem q764 : (Jvm.Cond.fieldLink "ThreeSnowballs$Leaf" (7 : Nat) "ThreeSnowballs$Leaf" "number" "I") ∈ lw_all := lw_g (lw_at lw_m3 193 rfl) rfl
theorem q765 : (Jvm.Cond.laysFinal "ThreeSnowballs$Leaf" "ThreeSnowballs$Leaf" "number" "I") ∈ lw_all := lw_g (lw_at lw_m3 194 rfl) rfl
theorem q766 : (Jvm.Cond.soleField "ThreeSnowballs$Leaf" "number") ∈ lw_all := lw_g (lw_at lw_m3 195 rfl) rfl
theorem q767 : (Jvm.Cond.superclass "ThreeSnowballs$Leaf" "ThreeSnowballs$Node") ∈ lw_all := lw_g (lw_at lw_m3 196 rfl) rfl
theorem q864 : (Jvm.Cond.instanceMethod ({ cls := "ThreeSnowballs$Leaf", name := "value", desc := "(LThreeSnowballs$Facts;)I" } : Jvm.MethodName)) ∈ lw_all := lw_g (lw_at lw_m4 53 rfl) rfl
theorem q865 : (Jvm.Cond.code ({ cls := "ThreeSnowballs$Leaf", name := "value", desc := "(LThreeSnowballs$Facts;)I" } : Jvm.MethodName) prog_13_method_2_code (2 : Nat) (Option.some Jvm.ClassFile.FieldType.int)) ∈ lw_all := lw_g (lw_at lw_m4 54 rfl) rfl
theorem q877 : (Jvm.Cond.selects "ThreeSnowballs$Leaf" ({ cls := "ThreeSnowballs$Node", name := "value", desc := "(LThreeSnowballs$Facts;)I" } : Jvm.MethodName) ({ cls := "ThreeSnowballs$Leaf", name := "value", desc := "(LThreeSnowballs$Facts;)I" } : Jvm.MethodName)) ∈ lw_all := lw_g (lw_at lw_m4 66 rfl) rfl
theorem in_X11 : ∀ w ∈ wsX110, w ∈ lw_all := lw_in wsX110 [765] (by decide +kernel) (by decide +kernel)
/-! ThreeSnowballs$Pair -/
set_option maxRecDepth 100000
def RX12 : String := "ThreeSnowballs$Pair"
def TX12 : u_T := fun k => match k with
  | 0 => ("ThreeSnowballs$Pair", "sign", "I", true)
  | 1 => ("ThreeSnowballs$Pair", "left", "LThreeSnowballs$Node;", true)
  | _ => ("ThreeSnowballs$Pair", "right", "LThreeSnowballs$Node;", true)
def tyX12 : Nat → FieldType := fun k => match k with
  | 0 => .int
  | 1 => .object "ThreeSnowballs$Node"
  | _ => .object "ThreeSnowballs$Node"
abbrev wsX120 : List Cond := u_ws RX12 TX12 3
theorem nmX12 : ∀ a, a < 3 → ∀ b, b < 3 → a ≠ b → (TX12 a).2.1 ≠ (TX12 b).2.1 := by decide +kernel
theorem tyX12_ok : ∀ k, k < 3 → parseFieldDescriptor (TX12 k).2.2.1 = some (tyX12 k) := by decide +kernel
abbrev cX12_init : ByteArray := prog_19_method_1_code
def yX12_init : MethodName := ⟨RX12, "<init>", "(ILThreeSnowballs$Node;LThreeSnowballs$Node;)V"⟩
def dkwX12_init_0 : List UInt8 := [42, 183, 0, 1, 42, 27, 181, 0, 7, 42, 44, 181, 0, 13, 42, 45, 181, 0, 17, 177]
abbrev dktX12_init_0 : List UInt8 := dkwX12_init_0 ++ []
theorem dksX12_init_0 : cX12_init.data.toList.drop 0 = dktX12_init_0 := by decide +kernel
theorem dX12_init_0 : decode cX12_init 0 = .ok (.aload_n 0, 1) := dk_42 (dk_at dksX12_init_0 0 rfl rfl)
theorem dX12_init_1 : decode cX12_init 1 = .ok (.invokespecial 1, 3) := dk_183 0 1 (dk_at dksX12_init_0 1 rfl rfl)
theorem dX12_init_4 : decode cX12_init 4 = .ok (.aload_n 0, 1) := dk_42 (dk_at dksX12_init_0 4 rfl rfl)
theorem dX12_init_5 : decode cX12_init 5 = .ok (.iload_n 1, 1) := dk_27 (dk_at dksX12_init_0 5 rfl rfl)
theorem dX12_init_6 : decode cX12_init 6 = .ok (.putfield 7, 3) := dk_181 0 7 (dk_at dksX12_init_0 6 rfl rfl)
theorem dX12_init_9 : decode cX12_init 9 = .ok (.aload_n 0, 1) := dk_42 (dk_at dksX12_init_0 9 rfl rfl)
theorem dX12_init_10 : decode cX12_init 10 = .ok (.aload_n 2, 1) := dk_44 (dk_at dksX12_init_0 10 rfl rfl)
theorem dX12_init_11 : decode cX12_init 11 = .ok (.putfield 13, 3) := dk_181 0 13 (dk_at dksX12_init_0 11 rfl rfl)
theorem dX12_init_14 : decode cX12_init 14 = .ok (.aload_n 0, 1) := dk_42 (dk_at dksX12_init_0 14 rfl rfl)
theorem dX12_init_15 : decode cX12_init 15 = .ok (.aload_n 3, 1) := dk_45 (dk_at dksX12_init_0 15 rfl rfl)
theorem dX12_init_16 : decode cX12_init 16 = .ok (.putfield 17, 3) := dk_181 0 17 (dk_at dksX12_init_0 16 rfl rfl)
theorem dX12_init_19 : decode cX12_init 19 = .ok (.return_, 1) := dk_177 (dk_at dksX12_init_0 19 rfl rfl)
abbrev cX12_value : ByteArray := prog_19_method_3_code
def yX12_value : MethodName := ⟨RX12, "value", "(LThreeSnowballs$Facts;)I"⟩
def dkwX12_value_7 : List UInt8 := [154, 0, 7, 29, 153, 0, 7, 4, 167, 0, 4, 3, 184, 0, 24, 172]
abbrev dktX12_value_7 : List UInt8 := dkwX12_value_7 ++ []
def dkwX12_value_6 : List UInt8 := [184, 0, 24, 172, 28, 153, 0, 11, 29, 153, 0, 7, 4, 167, 0, 4, 3, 184, 0, 24, 172, 28]
abbrev dktX12_value_6 : List UInt8 := dkwX12_value_6 ++ dktX12_value_7
def dkwX12_value_5 : List UInt8 := [160, 0, 7, 4, 167, 0, 4, 3, 184, 0, 24, 172, 28, 29, 164, 0, 7, 4, 167, 0, 4, 3]
abbrev dktX12_value_5 : List UInt8 := dkwX12_value_5 ++ dktX12_value_6
def dkwX12_value_4 : List UInt8 := [167, 0, 6, 28, 29, 112, 172, 28, 29, 162, 0, 7, 4, 167, 0, 4, 3, 184, 0, 24, 172, 28, 29]
abbrev dktX12_value_4 : List UInt8 := dkwX12_value_4 ++ dktX12_value_5
def dkwX12_value_3 : List UInt8 := [160, 0, 8, 28, 116, 167, 0, 6, 28, 29, 108, 172, 29, 153, 0, 8, 29, 2, 160, 0, 7, 3]
abbrev dktX12_value_3 : List UInt8 := dkwX12_value_3 ++ dktX12_value_4
def dkwX12_value_2 : List UInt8 := [28, 29, 96, 172, 28, 29, 100, 172, 28, 29, 104, 172, 29, 154, 0, 7, 3, 167, 0, 16, 29, 2]
abbrev dktX12_value_2 : List UInt8 := dkwX12_value_2 ++ dktX12_value_3
def dkwX12_value_1 : List UInt8 := [170, 0, 0, 0, 0, 228, 0, 0, 0, 37, 0, 0, 0, 62, 0, 0, 0, 152, 0, 0, 0, 211, 0, 0, 0, 228, 0, 0, 0, 228, 0, 0, 0, 228, 0, 0, 0, 126, 0, 0, 0, 118, 0, 0, 0, 228, 0, 0, 0, 122, 0, 0, 0, 228, 0, 0, 0, 130, 0, 0, 0, 228, 0, 0, 0, 228, 0, 0, 0, 228, 0, 0, 0, 228, 0, 0, 0, 228, 0, 0, 0, 228, 0, 0, 0, 228, 0, 0, 0, 228, 0, 0, 0, 228, 0, 0, 0, 228, 0, 0, 0, 228, 0, 0, 0, 228, 0, 0, 0, 169, 0, 0, 0, 183, 0, 0, 0, 197]
abbrev dktX12_value_1 : List UInt8 := dkwX12_value_1 ++ dktX12_value_2
def dkwX12_value_0 : List UInt8 := [42, 180, 0, 13, 43, 182, 0, 20, 61, 42, 180, 0, 17, 43, 182, 0, 20, 62, 42, 180, 0, 7]
abbrev dktX12_value_0 : List UInt8 := dkwX12_value_0 ++ dktX12_value_1
theorem dksX12_value_0 : cX12_value.data.toList.drop 0 = dktX12_value_0 := by decide +kernel
theorem dksX12_value_1 : cX12_value.data.toList.drop 22 = dktX12_value_1 := dk_seg dksX12_value_0 22 rfl rfl
theorem dksX12_value_2 : cX12_value.data.toList.drop 140 = dktX12_value_2 := dk_seg dksX12_value_1 118 rfl rfl
theorem dksX12_value_3 : cX12_value.data.toList.drop 162 = dktX12_value_3 := dk_seg dksX12_value_2 22 rfl rfl
theorem dksX12_value_4 : cX12_value.data.toList.drop 184 = dktX12_value_4 := dk_seg dksX12_value_3 22 rfl rfl
theorem dksX12_value_5 : cX12_value.data.toList.drop 207 = dktX12_value_5 := dk_seg dksX12_value_4 23 rfl rfl
theorem dksX12_value_6 : cX12_value.data.toList.drop 229 = dktX12_value_6 := dk_seg dksX12_value_5 22 rfl rfl
theorem dksX12_value_7 : cX12_value.data.toList.drop 251 = dktX12_value_7 := dk_seg dksX12_value_6 22 rfl rfl
theorem dX12_value_0 : decode cX12_value 0 = .ok (.aload_n 0, 1) := dk_42 (dk_at dksX12_value_0 0 rfl rfl)
theorem dX12_value_1 : decode cX12_value 1 = .ok (.getfield 13, 3) := dk_180 0 13 (dk_at dksX12_value_0 1 rfl rfl)
theorem dX12_value_4 : decode cX12_value 4 = .ok (.aload_n 1, 1) := dk_43 (dk_at dksX12_value_0 4 rfl rfl)
theorem dX12_value_5 : decode cX12_value 5 = .ok (.invokevirtual 20, 3) := dk_182 0 20 (dk_at dksX12_value_0 5 rfl rfl)
theorem dX12_value_8 : decode cX12_value 8 = .ok (.istore_n 2, 1) := dk_61 (dk_at dksX12_value_0 8 rfl rfl)
theorem dX12_value_9 : decode cX12_value 9 = .ok (.aload_n 0, 1) := dk_42 (dk_at dksX12_value_0 9 rfl rfl)
theorem dX12_value_10 : decode cX12_value 10 = .ok (.getfield 17, 3) := dk_180 0 17 (dk_at dksX12_value_0 10 rfl rfl)
theorem dX12_value_13 : decode cX12_value 13 = .ok (.aload_n 1, 1) := dk_43 (dk_at dksX12_value_0 13 rfl rfl)
theorem dX12_value_14 : decode cX12_value 14 = .ok (.invokevirtual 20, 3) := dk_182 0 20 (dk_at dksX12_value_0 14 rfl rfl)
theorem dX12_value_17 : decode cX12_value 17 = .ok (.istore_n 3, 1) := dk_62 (dk_at dksX12_value_0 17 rfl rfl)
theorem dX12_value_18 : decode cX12_value 18 = .ok (.aload_n 0, 1) := dk_42 (dk_at dksX12_value_0 18 rfl rfl)
theorem dX12_value_19 : decode cX12_value 19 = .ok (.getfield 7, 3) := dk_180 0 7 (dk_at dksX12_value_0 19 rfl rfl)
theorem dX12_value_22 : decode cX12_value 22 = .ok (.tableswitch 228 37 62 #[152, 211, 228, 228, 228, 126, 118, 228, 122, 228, 130, 228, 228, 228, 228, 228, 228, 228, 228, 228, 228, 228, 228, 169, 183, 197], 118) := by decide +kernel
theorem dX12_value_140 : decode cX12_value 140 = .ok (.iload_n 2, 1) := dk_28 (dk_at dksX12_value_2 0 rfl rfl)
theorem dX12_value_141 : decode cX12_value 141 = .ok (.iload_n 3, 1) := dk_29 (dk_at dksX12_value_2 1 rfl rfl)
theorem dX12_value_142 : decode cX12_value 142 = .ok (.iadd, 1) := dk_96 (dk_at dksX12_value_2 2 rfl rfl)
theorem dX12_value_143 : decode cX12_value 143 = .ok (.ireturn, 1) := dk_172 (dk_at dksX12_value_2 3 rfl rfl)
theorem dX12_value_144 : decode cX12_value 144 = .ok (.iload_n 2, 1) := dk_28 (dk_at dksX12_value_2 4 rfl rfl)
theorem dX12_value_145 : decode cX12_value 145 = .ok (.iload_n 3, 1) := dk_29 (dk_at dksX12_value_2 5 rfl rfl)
theorem dX12_value_146 : decode cX12_value 146 = .ok (.isub, 1) := dk_100 (dk_at dksX12_value_2 6 rfl rfl)
theorem dX12_value_147 : decode cX12_value 147 = .ok (.ireturn, 1) := dk_172 (dk_at dksX12_value_2 7 rfl rfl)
theorem dX12_value_148 : decode cX12_value 148 = .ok (.iload_n 2, 1) := dk_28 (dk_at dksX12_value_2 8 rfl rfl)
theorem dX12_value_149 : decode cX12_value 149 = .ok (.iload_n 3, 1) := dk_29 (dk_at dksX12_value_2 9 rfl rfl)
theorem dX12_value_150 : decode cX12_value 150 = .ok (.imul, 1) := dk_104 (dk_at dksX12_value_2 10 rfl rfl)
theorem dX12_value_151 : decode cX12_value 151 = .ok (.ireturn, 1) := dk_172 (dk_at dksX12_value_2 11 rfl rfl)
theorem dX12_value_152 : decode cX12_value 152 = .ok (.iload_n 3, 1) := dk_29 (dk_at dksX12_value_2 12 rfl rfl)
theorem dX12_value_153 : decode cX12_value 153 = .ok (.ifCond .ne 7, 3) := dk_154 0 7 (dk_at dksX12_value_2 13 rfl rfl)
theorem dX12_value_156 : decode cX12_value 156 = .ok (.iconst 0, 1) := dk_3 (dk_at dksX12_value_2 16 rfl rfl)
theorem dX12_value_157 : decode cX12_value 157 = .ok (.goto 16, 3) := dk_167 0 16 (dk_at dksX12_value_2 17 rfl rfl)
theorem dX12_value_160 : decode cX12_value 160 = .ok (.iload_n 3, 1) := dk_29 (dk_at dksX12_value_2 20 rfl rfl)
theorem dX12_value_161 : decode cX12_value 161 = .ok (.iconst (-1), 1) := dk_2 (dk_at dksX12_value_2 21 rfl rfl)
theorem dX12_value_162 : decode cX12_value 162 = .ok (.if_icmp .ne 8, 3) := dk_160 0 8 (dk_at dksX12_value_3 0 rfl rfl)
theorem dX12_value_165 : decode cX12_value 165 = .ok (.iload_n 2, 1) := dk_28 (dk_at dksX12_value_3 3 rfl rfl)
theorem dX12_value_166 : decode cX12_value 166 = .ok (.ineg, 1) := dk_116 (dk_at dksX12_value_3 4 rfl rfl)
theorem dX12_value_167 : decode cX12_value 167 = .ok (.goto 6, 3) := dk_167 0 6 (dk_at dksX12_value_3 5 rfl rfl)
theorem dX12_value_170 : decode cX12_value 170 = .ok (.iload_n 2, 1) := dk_28 (dk_at dksX12_value_3 8 rfl rfl)
theorem dX12_value_171 : decode cX12_value 171 = .ok (.iload_n 3, 1) := dk_29 (dk_at dksX12_value_3 9 rfl rfl)
theorem dX12_value_172 : decode cX12_value 172 = .ok (.idiv, 1) := dk_108 (dk_at dksX12_value_3 10 rfl rfl)
theorem dX12_value_173 : decode cX12_value 173 = .ok (.ireturn, 1) := dk_172 (dk_at dksX12_value_3 11 rfl rfl)
theorem dX12_value_174 : decode cX12_value 174 = .ok (.iload_n 3, 1) := dk_29 (dk_at dksX12_value_3 12 rfl rfl)
theorem dX12_value_175 : decode cX12_value 175 = .ok (.ifCond .eq 8, 3) := dk_153 0 8 (dk_at dksX12_value_3 13 rfl rfl)
theorem dX12_value_178 : decode cX12_value 178 = .ok (.iload_n 3, 1) := dk_29 (dk_at dksX12_value_3 16 rfl rfl)
theorem dX12_value_179 : decode cX12_value 179 = .ok (.iconst (-1), 1) := dk_2 (dk_at dksX12_value_3 17 rfl rfl)
theorem dX12_value_180 : decode cX12_value 180 = .ok (.if_icmp .ne 7, 3) := dk_160 0 7 (dk_at dksX12_value_3 18 rfl rfl)
theorem dX12_value_183 : decode cX12_value 183 = .ok (.iconst 0, 1) := dk_3 (dk_at dksX12_value_3 21 rfl rfl)
theorem dX12_value_184 : decode cX12_value 184 = .ok (.goto 6, 3) := dk_167 0 6 (dk_at dksX12_value_4 0 rfl rfl)
theorem dX12_value_187 : decode cX12_value 187 = .ok (.iload_n 2, 1) := dk_28 (dk_at dksX12_value_4 3 rfl rfl)
theorem dX12_value_188 : decode cX12_value 188 = .ok (.iload_n 3, 1) := dk_29 (dk_at dksX12_value_4 4 rfl rfl)
theorem dX12_value_189 : decode cX12_value 189 = .ok (.irem, 1) := dk_112 (dk_at dksX12_value_4 5 rfl rfl)
theorem dX12_value_190 : decode cX12_value 190 = .ok (.ireturn, 1) := dk_172 (dk_at dksX12_value_4 6 rfl rfl)
theorem dX12_value_191 : decode cX12_value 191 = .ok (.iload_n 2, 1) := dk_28 (dk_at dksX12_value_4 7 rfl rfl)
theorem dX12_value_192 : decode cX12_value 192 = .ok (.iload_n 3, 1) := dk_29 (dk_at dksX12_value_4 8 rfl rfl)
theorem dX12_value_193 : decode cX12_value 193 = .ok (.if_icmp .ge 7, 3) := dk_162 0 7 (dk_at dksX12_value_4 9 rfl rfl)
theorem dX12_value_196 : decode cX12_value 196 = .ok (.iconst 1, 1) := dk_4 (dk_at dksX12_value_4 12 rfl rfl)
theorem dX12_value_197 : decode cX12_value 197 = .ok (.goto 4, 3) := dk_167 0 4 (dk_at dksX12_value_4 13 rfl rfl)
theorem dX12_value_200 : decode cX12_value 200 = .ok (.iconst 0, 1) := dk_3 (dk_at dksX12_value_4 16 rfl rfl)
theorem dX12_value_201 : decode cX12_value 201 = .ok (.invokestatic 24, 3) := dk_184 0 24 (dk_at dksX12_value_4 17 rfl rfl)
theorem dX12_value_204 : decode cX12_value 204 = .ok (.ireturn, 1) := dk_172 (dk_at dksX12_value_4 20 rfl rfl)
theorem dX12_value_205 : decode cX12_value 205 = .ok (.iload_n 2, 1) := dk_28 (dk_at dksX12_value_4 21 rfl rfl)
theorem dX12_value_206 : decode cX12_value 206 = .ok (.iload_n 3, 1) := dk_29 (dk_at dksX12_value_4 22 rfl rfl)
theorem dX12_value_207 : decode cX12_value 207 = .ok (.if_icmp .ne 7, 3) := dk_160 0 7 (dk_at dksX12_value_5 0 rfl rfl)
theorem dX12_value_210 : decode cX12_value 210 = .ok (.iconst 1, 1) := dk_4 (dk_at dksX12_value_5 3 rfl rfl)
theorem dX12_value_211 : decode cX12_value 211 = .ok (.goto 4, 3) := dk_167 0 4 (dk_at dksX12_value_5 4 rfl rfl)
theorem dX12_value_214 : decode cX12_value 214 = .ok (.iconst 0, 1) := dk_3 (dk_at dksX12_value_5 7 rfl rfl)
theorem dX12_value_215 : decode cX12_value 215 = .ok (.invokestatic 24, 3) := dk_184 0 24 (dk_at dksX12_value_5 8 rfl rfl)
theorem dX12_value_218 : decode cX12_value 218 = .ok (.ireturn, 1) := dk_172 (dk_at dksX12_value_5 11 rfl rfl)
theorem dX12_value_219 : decode cX12_value 219 = .ok (.iload_n 2, 1) := dk_28 (dk_at dksX12_value_5 12 rfl rfl)
theorem dX12_value_220 : decode cX12_value 220 = .ok (.iload_n 3, 1) := dk_29 (dk_at dksX12_value_5 13 rfl rfl)
theorem dX12_value_221 : decode cX12_value 221 = .ok (.if_icmp .le 7, 3) := dk_164 0 7 (dk_at dksX12_value_5 14 rfl rfl)
theorem dX12_value_224 : decode cX12_value 224 = .ok (.iconst 1, 1) := dk_4 (dk_at dksX12_value_5 17 rfl rfl)
theorem dX12_value_225 : decode cX12_value 225 = .ok (.goto 4, 3) := dk_167 0 4 (dk_at dksX12_value_5 18 rfl rfl)
theorem dX12_value_228 : decode cX12_value 228 = .ok (.iconst 0, 1) := dk_3 (dk_at dksX12_value_5 21 rfl rfl)
theorem dX12_value_229 : decode cX12_value 229 = .ok (.invokestatic 24, 3) := dk_184 0 24 (dk_at dksX12_value_6 0 rfl rfl)
theorem dX12_value_232 : decode cX12_value 232 = .ok (.ireturn, 1) := dk_172 (dk_at dksX12_value_6 3 rfl rfl)
theorem dX12_value_233 : decode cX12_value 233 = .ok (.iload_n 2, 1) := dk_28 (dk_at dksX12_value_6 4 rfl rfl)
theorem dX12_value_234 : decode cX12_value 234 = .ok (.ifCond .eq 11, 3) := dk_153 0 11 (dk_at dksX12_value_6 5 rfl rfl)
theorem dX12_value_237 : decode cX12_value 237 = .ok (.iload_n 3, 1) := dk_29 (dk_at dksX12_value_6 8 rfl rfl)
theorem dX12_value_238 : decode cX12_value 238 = .ok (.ifCond .eq 7, 3) := dk_153 0 7 (dk_at dksX12_value_6 9 rfl rfl)
theorem dX12_value_241 : decode cX12_value 241 = .ok (.iconst 1, 1) := dk_4 (dk_at dksX12_value_6 12 rfl rfl)
theorem dX12_value_242 : decode cX12_value 242 = .ok (.goto 4, 3) := dk_167 0 4 (dk_at dksX12_value_6 13 rfl rfl)
theorem dX12_value_245 : decode cX12_value 245 = .ok (.iconst 0, 1) := dk_3 (dk_at dksX12_value_6 16 rfl rfl)
theorem dX12_value_246 : decode cX12_value 246 = .ok (.invokestatic 24, 3) := dk_184 0 24 (dk_at dksX12_value_6 17 rfl rfl)
theorem dX12_value_249 : decode cX12_value 249 = .ok (.ireturn, 1) := dk_172 (dk_at dksX12_value_6 20 rfl rfl)
theorem dX12_value_250 : decode cX12_value 250 = .ok (.iload_n 2, 1) := dk_28 (dk_at dksX12_value_6 21 rfl rfl)
theorem dX12_value_251 : decode cX12_value 251 = .ok (.ifCond .ne 7, 3) := dk_154 0 7 (dk_at dksX12_value_7 0 rfl rfl)
theorem dX12_value_254 : decode cX12_value 254 = .ok (.iload_n 3, 1) := dk_29 (dk_at dksX12_value_7 3 rfl rfl)
theorem dX12_value_255 : decode cX12_value 255 = .ok (.ifCond .eq 7, 3) := dk_153 0 7 (dk_at dksX12_value_7 4 rfl rfl)
theorem dX12_value_258 : decode cX12_value 258 = .ok (.iconst 1, 1) := dk_4 (dk_at dksX12_value_7 7 rfl rfl)
theorem dX12_value_259 : decode cX12_value 259 = .ok (.goto 4, 3) := dk_167 0 4 (dk_at dksX12_value_7 8 rfl rfl)
theorem dX12_value_262 : decode cX12_value 262 = .ok (.iconst 0, 1) := dk_3 (dk_at dksX12_value_7 11 rfl rfl)
theorem dX12_value_263 : decode cX12_value 263 = .ok (.invokestatic 24, 3) := dk_184 0 24 (dk_at dksX12_value_7 12 rfl rfl)
theorem dX12_value_266 : decode cX12_value 266 = .ok (.ireturn, 1) := dk_172 (dk_at dksX12_value_7 15 rfl rfl)
abbrev cX12_is : ByteArray := prog_19_method_2_code
def yX12_is : MethodName := ⟨RX12, "is", "(Z)I"⟩
def dkwX12_is_0 : List UInt8 := [26, 153, 0, 7, 4, 167, 0, 4, 3, 172]
abbrev dktX12_is_0 : List UInt8 := dkwX12_is_0 ++ []
theorem dksX12_is_0 : cX12_is.data.toList.drop 0 = dktX12_is_0 := by decide +kernel
theorem dX12_is_0 : decode cX12_is 0 = .ok (.iload_n 0, 1) := dk_26 (dk_at dksX12_is_0 0 rfl rfl)
theorem dX12_is_1 : decode cX12_is 1 = .ok (.ifCond .eq 7, 3) := dk_153 0 7 (dk_at dksX12_is_0 1 rfl rfl)
theorem dX12_is_4 : decode cX12_is 4 = .ok (.iconst 1, 1) := dk_4 (dk_at dksX12_is_0 4 rfl rfl)
theorem dX12_is_5 : decode cX12_is 5 = .ok (.goto 4, 3) := dk_167 0 4 (dk_at dksX12_is_0 5 rfl rfl)
theorem dX12_is_8 : decode cX12_is 8 = .ok (.iconst 0, 1) := dk_3 (dk_at dksX12_is_0 8 rfl rfl)
theorem dX12_is_9 : decode cX12_is 9 = .ok (.ireturn, 1) := dk_172 (dk_at dksX12_is_0 9 rfl rfl)
theorem q117 : (Jvm.Cond.initialized "ThreeSnowballs$Pair") ∈ lw_all := lw_g (lw_at lw_m1 26 rfl) rfl
theorem q774 : (Jvm.Cond.instantiable "ThreeSnowballs$Pair" (3 : Nat)) ∈ lw_all := lw_g (lw_at lw_m3 203 rfl) rfl
theorem q776 : (Jvm.Cond.instanceMethod ({ cls := "ThreeSnowballs$Pair", name := "<init>", desc := "(ILThreeSnowballs$Node;LThreeSnowballs$Node;)V" } : Jvm.MethodName)) ∈ lw_all := lw_g (lw_at lw_m3 205 rfl) rfl
theorem q777 : (Jvm.Cond.code ({ cls := "ThreeSnowballs$Pair", name := "<init>", desc := "(ILThreeSnowballs$Node;LThreeSnowballs$Node;)V" } : Jvm.MethodName) prog_19_method_1_code (4 : Nat) (Option.none : Option Jvm.ClassFile.FieldType)) ∈ lw_all := lw_g (lw_at lw_m3 206 rfl) rfl
theorem q778 : (Jvm.Cond.methodLinkNest "ThreeSnowballs$Pair" (1 : Nat) ({ cls := "ThreeSnowballs$Node", name := "<init>", desc := "()V" } : Jvm.MethodName) "ThreeSnowballs") ∈ lw_tbl := lw_at lw_m3 207 rfl
theorem q779 : (Jvm.Cond.fieldLink "ThreeSnowballs$Pair" (7 : Nat) "ThreeSnowballs$Pair" "sign" "I") ∈ lw_all := lw_g (lw_at lw_m3 208 rfl) rfl
theorem q780 : (Jvm.Cond.fieldLink "ThreeSnowballs$Pair" (13 : Nat) "ThreeSnowballs$Pair" "left" "LThreeSnowballs$Node;") ∈ lw_all := lw_g (lw_at lw_m3 209 rfl) rfl
theorem q781 : (Jvm.Cond.fieldLink "ThreeSnowballs$Pair" (17 : Nat) "ThreeSnowballs$Pair" "right" "LThreeSnowballs$Node;") ∈ lw_all := lw_g (lw_at lw_m3 210 rfl) rfl
theorem q782 : (Jvm.Cond.laysFinal "ThreeSnowballs$Pair" "ThreeSnowballs$Pair" "sign" "I") ∈ lw_all := lw_g (lw_at lw_m3 211 rfl) rfl
theorem q783 : (Jvm.Cond.soleField "ThreeSnowballs$Pair" "sign") ∈ lw_all := lw_g (lw_at lw_m3 212 rfl) rfl
theorem q784 : (Jvm.Cond.laysFinal "ThreeSnowballs$Pair" "ThreeSnowballs$Pair" "left" "LThreeSnowballs$Node;") ∈ lw_all := lw_g (lw_at lw_m3 213 rfl) rfl
theorem q785 : (Jvm.Cond.soleField "ThreeSnowballs$Pair" "left") ∈ lw_all := lw_g (lw_at lw_m3 214 rfl) rfl
theorem q786 : (Jvm.Cond.laysFinal "ThreeSnowballs$Pair" "ThreeSnowballs$Pair" "right" "LThreeSnowballs$Node;") ∈ lw_all := lw_g (lw_at lw_m3 215 rfl) rfl
theorem q787 : (Jvm.Cond.soleField "ThreeSnowballs$Pair" "right") ∈ lw_all := lw_g (lw_at lw_m3 216 rfl) rfl
theorem q788 : (Jvm.Cond.superclass "ThreeSnowballs$Pair" "ThreeSnowballs$Node") ∈ lw_all := lw_g (lw_at lw_m3 217 rfl) rfl
theorem q868 : (Jvm.Cond.instanceMethod ({ cls := "ThreeSnowballs$Pair", name := "value", desc := "(LThreeSnowballs$Facts;)I" } : Jvm.MethodName)) ∈ lw_all := lw_g (lw_at lw_m4 57 rfl) rfl
theorem q869 : (Jvm.Cond.code ({ cls := "ThreeSnowballs$Pair", name := "value", desc := "(LThreeSnowballs$Facts;)I" } : Jvm.MethodName) prog_19_method_3_code (4 : Nat) (Option.some Jvm.ClassFile.FieldType.int)) ∈ lw_all := lw_g (lw_at lw_m4 58 rfl) rfl
theorem q870 : (Jvm.Cond.methodLink "ThreeSnowballs$Pair" (20 : Nat) ({ cls := "ThreeSnowballs$Node", name := "value", desc := "(LThreeSnowballs$Facts;)I" } : Jvm.MethodName)) ∈ lw_all := lw_g (lw_at lw_m4 59 rfl) rfl
theorem q874 : (Jvm.Cond.methodLink "ThreeSnowballs$Pair" (24 : Nat) ({ cls := "ThreeSnowballs$Pair", name := "is", desc := "(Z)I" } : Jvm.MethodName)) ∈ lw_all := lw_g (lw_at lw_m4 63 rfl) rfl
theorem q875 : (Jvm.Cond.static ({ cls := "ThreeSnowballs$Pair", name := "is", desc := "(Z)I" } : Jvm.MethodName)) ∈ lw_all := lw_g (lw_at lw_m4 64 rfl) rfl
theorem q876 : (Jvm.Cond.code ({ cls := "ThreeSnowballs$Pair", name := "is", desc := "(Z)I" } : Jvm.MethodName) prog_19_method_2_code (1 : Nat) (Option.some Jvm.ClassFile.FieldType.int)) ∈ lw_all := lw_g (lw_at lw_m4 65 rfl) rfl
theorem q879 : (Jvm.Cond.selects "ThreeSnowballs$Pair" ({ cls := "ThreeSnowballs$Node", name := "value", desc := "(LThreeSnowballs$Facts;)I" } : Jvm.MethodName) ({ cls := "ThreeSnowballs$Pair", name := "value", desc := "(LThreeSnowballs$Facts;)I" } : Jvm.MethodName)) ∈ lw_all := lw_g (lw_at lw_m4 68 rfl) rfl
theorem in_X12 : ∀ w ∈ wsX120, w ∈ lw_all := lw_in wsX120 [782, 784, 786] (by decide +kernel) (by decide +kernel)
/-! ThreeSnowballs$Held -/
set_option maxRecDepth 100000
def RX13 : String := "ThreeSnowballs$Held"
abbrev cX13_init : ByteArray := prog_9_method_1_code
def yX13_init : MethodName := ⟨RX13, "<init>", "()V"⟩
theorem dX13_init_0 : decode cX13_init 0 = .ok (.aload_n 0, 1) := by decide +kernel
theorem dX13_init_1 : decode cX13_init 1 = .ok (.invokespecial 1, 3) := by decide +kernel
theorem dX13_init_4 : decode cX13_init 4 = .ok (.return_, 1) := by decide +kernel
theorem q119 : (Jvm.Cond.initialized "ThreeSnowballs$Held") ∈ lw_all := lw_g (lw_at lw_m1 28 rfl) rfl
theorem q1045 : (Jvm.Cond.instanceMethod ({ cls := "ThreeSnowballs$Held", name := "<init>", desc := "()V" } : Jvm.MethodName)) ∈ lw_all := lw_g (lw_at lw_m4 234 rfl) rfl
theorem q1046 : (Jvm.Cond.code ({ cls := "ThreeSnowballs$Held", name := "<init>", desc := "()V" } : Jvm.MethodName) prog_9_method_1_code (1 : Nat) (Option.none : Option Jvm.ClassFile.FieldType)) ∈ lw_all := lw_g (lw_at lw_m4 235 rfl) rfl
theorem q1047 : (Jvm.Cond.methodLink "ThreeSnowballs$Held" (1 : Nat) ({ cls := "java/lang/Object", name := "<init>", desc := "()V" } : Jvm.MethodName)) ∈ lw_all := lw_g (lw_at lw_m4 236 rfl) rfl
/-! ThreeSnowballs$Thrower -/
set_option maxRecDepth 100000
def RX14 : String := "ThreeSnowballs$Thrower"
def TX14 : u_T := fun k => match k with
  | 0 => ("ThreeSnowballs$Thrower", "number", "I", true)
  | _ => ("ThreeSnowballs$Thrower", "this$0", "LThreeSnowballs;", true)
def tyX14 : Nat → FieldType := fun k => match k with
  | 0 => .int
  | _ => .object "ThreeSnowballs"
abbrev wsX140 : List Cond := u_ws RX14 TX14 2
theorem nmX14 : ∀ a, a < 2 → ∀ b, b < 2 → a ≠ b → (TX14 a).2.1 ≠ (TX14 b).2.1 := by decide +kernel
theorem tyX14_ok : ∀ k, k < 2 → parseFieldDescriptor (TX14 k).2.2.1 = some (tyX14 k) := by decide +kernel
abbrev cX14_init : ByteArray := prog_26_method_1_code
def yX14_init : MethodName := ⟨RX14, "<init>", "(LThreeSnowballs;I)V"⟩
def dkwX14_init_0 : List UInt8 := [42, 43, 181, 0, 3, 42, 183, 0, 9, 42, 28, 181, 0, 15, 177]
abbrev dktX14_init_0 : List UInt8 := dkwX14_init_0 ++ []
theorem dksX14_init_0 : cX14_init.data.toList.drop 0 = dktX14_init_0 := by decide +kernel
theorem dX14_init_0 : decode cX14_init 0 = .ok (.aload_n 0, 1) := dk_42 (dk_at dksX14_init_0 0 rfl rfl)
theorem dX14_init_1 : decode cX14_init 1 = .ok (.aload_n 1, 1) := dk_43 (dk_at dksX14_init_0 1 rfl rfl)
theorem dX14_init_2 : decode cX14_init 2 = .ok (.putfield 3, 3) := dk_181 0 3 (dk_at dksX14_init_0 2 rfl rfl)
theorem dX14_init_5 : decode cX14_init 5 = .ok (.aload_n 0, 1) := dk_42 (dk_at dksX14_init_0 5 rfl rfl)
theorem dX14_init_6 : decode cX14_init 6 = .ok (.invokespecial 9, 3) := dk_183 0 9 (dk_at dksX14_init_0 6 rfl rfl)
theorem dX14_init_9 : decode cX14_init 9 = .ok (.aload_n 0, 1) := dk_42 (dk_at dksX14_init_0 9 rfl rfl)
theorem dX14_init_10 : decode cX14_init 10 = .ok (.iload_n 2, 1) := dk_28 (dk_at dksX14_init_0 10 rfl rfl)
theorem dX14_init_11 : decode cX14_init 11 = .ok (.putfield 15, 3) := dk_181 0 15 (dk_at dksX14_init_0 11 rfl rfl)
theorem dX14_init_14 : decode cX14_init 14 = .ok (.return_, 1) := dk_177 (dk_at dksX14_init_0 14 rfl rfl)
abbrev cX14_aiming : ByteArray := prog_26_method_5_code
def yX14_aiming : MethodName := ⟨RX14, "aiming", "(I)I"⟩
def dkwX14_aiming_0 : List UInt8 := [42, 180, 0, 3, 4, 182, 0, 23, 27, 42, 180, 0, 15, 96, 172]
abbrev dktX14_aiming_0 : List UInt8 := dkwX14_aiming_0 ++ []
theorem dksX14_aiming_0 : cX14_aiming.data.toList.drop 0 = dktX14_aiming_0 := by decide +kernel
theorem dX14_aiming_0 : decode cX14_aiming 0 = .ok (.aload_n 0, 1) := dk_42 (dk_at dksX14_aiming_0 0 rfl rfl)
theorem dX14_aiming_1 : decode cX14_aiming 1 = .ok (.getfield 3, 3) := dk_180 0 3 (dk_at dksX14_aiming_0 1 rfl rfl)
theorem dX14_aiming_4 : decode cX14_aiming 4 = .ok (.iconst 1, 1) := dk_4 (dk_at dksX14_aiming_0 4 rfl rfl)
theorem dX14_aiming_5 : decode cX14_aiming 5 = .ok (.invokevirtual 23, 3) := dk_182 0 23 (dk_at dksX14_aiming_0 5 rfl rfl)
theorem dX14_aiming_8 : decode cX14_aiming 8 = .ok (.iload_n 1, 1) := dk_27 (dk_at dksX14_aiming_0 8 rfl rfl)
theorem dX14_aiming_9 : decode cX14_aiming 9 = .ok (.aload_n 0, 1) := dk_42 (dk_at dksX14_aiming_0 9 rfl rfl)
theorem dX14_aiming_10 : decode cX14_aiming 10 = .ok (.getfield 15, 3) := dk_180 0 15 (dk_at dksX14_aiming_0 10 rfl rfl)
theorem dX14_aiming_13 : decode cX14_aiming 13 = .ok (.iadd, 1) := dk_96 (dk_at dksX14_aiming_0 13 rfl rfl)
theorem dX14_aiming_14 : decode cX14_aiming 14 = .ok (.ireturn, 1) := dk_172 (dk_at dksX14_aiming_0 14 rfl rfl)
abbrev cX14_tells : ByteArray := prog_26_method_8_code
def yX14_tells : MethodName := ⟨RX14, "tells", "(I)I"⟩
def dkwX14_tells_0 : List UInt8 := [42, 180, 0, 3, 5, 182, 0, 23, 42, 27, 182, 0, 31, 61, 28, 42, 4, 182, 0, 34, 100, 172]
abbrev dktX14_tells_0 : List UInt8 := dkwX14_tells_0 ++ []
theorem dksX14_tells_0 : cX14_tells.data.toList.drop 0 = dktX14_tells_0 := by decide +kernel
theorem dX14_tells_0 : decode cX14_tells 0 = .ok (.aload_n 0, 1) := dk_42 (dk_at dksX14_tells_0 0 rfl rfl)
theorem dX14_tells_1 : decode cX14_tells 1 = .ok (.getfield 3, 3) := dk_180 0 3 (dk_at dksX14_tells_0 1 rfl rfl)
theorem dX14_tells_4 : decode cX14_tells 4 = .ok (.iconst 2, 1) := dk_5 (dk_at dksX14_tells_0 4 rfl rfl)
theorem dX14_tells_5 : decode cX14_tells 5 = .ok (.invokevirtual 23, 3) := dk_182 0 23 (dk_at dksX14_tells_0 5 rfl rfl)
theorem dX14_tells_8 : decode cX14_tells 8 = .ok (.aload_n 0, 1) := dk_42 (dk_at dksX14_tells_0 8 rfl rfl)
theorem dX14_tells_9 : decode cX14_tells 9 = .ok (.iload_n 1, 1) := dk_27 (dk_at dksX14_tells_0 9 rfl rfl)
theorem dX14_tells_10 : decode cX14_tells 10 = .ok (.invokevirtual 31, 3) := dk_182 0 31 (dk_at dksX14_tells_0 10 rfl rfl)
theorem dX14_tells_13 : decode cX14_tells 13 = .ok (.istore_n 2, 1) := dk_61 (dk_at dksX14_tells_0 13 rfl rfl)
theorem dX14_tells_14 : decode cX14_tells 14 = .ok (.iload_n 2, 1) := dk_28 (dk_at dksX14_tells_0 14 rfl rfl)
theorem dX14_tells_15 : decode cX14_tells 15 = .ok (.aload_n 0, 1) := dk_42 (dk_at dksX14_tells_0 15 rfl rfl)
theorem dX14_tells_16 : decode cX14_tells 16 = .ok (.iconst 1, 1) := dk_4 (dk_at dksX14_tells_0 16 rfl rfl)
theorem dX14_tells_17 : decode cX14_tells 17 = .ok (.invokevirtual 34, 3) := dk_182 0 34 (dk_at dksX14_tells_0 17 rfl rfl)
theorem dX14_tells_20 : decode cX14_tells 20 = .ok (.isub, 1) := dk_100 (dk_at dksX14_tells_0 20 rfl rfl)
theorem dX14_tells_21 : decode cX14_tells 21 = .ok (.ireturn, 1) := dk_172 (dk_at dksX14_tells_0 21 rfl rfl)
abbrev cX14_hitting : ByteArray := prog_26_method_7_code
def yX14_hitting : MethodName := ⟨RX14, "hitting", "(I)I"⟩
def dkwX14_hitting_0 : List UInt8 := [42, 180, 0, 3, 16, 11, 182, 0, 23, 27, 42, 180, 0, 15, 130, 172]
abbrev dktX14_hitting_0 : List UInt8 := dkwX14_hitting_0 ++ []
theorem dksX14_hitting_0 : cX14_hitting.data.toList.drop 0 = dktX14_hitting_0 := by decide +kernel
theorem dX14_hitting_0 : decode cX14_hitting 0 = .ok (.aload_n 0, 1) := dk_42 (dk_at dksX14_hitting_0 0 rfl rfl)
theorem dX14_hitting_1 : decode cX14_hitting 1 = .ok (.getfield 3, 3) := dk_180 0 3 (dk_at dksX14_hitting_0 1 rfl rfl)
theorem dX14_hitting_4 : decode cX14_hitting 4 = .ok (.bipush 11, 2) := dk_16 11 (dk_at dksX14_hitting_0 4 rfl rfl)
theorem dX14_hitting_6 : decode cX14_hitting 6 = .ok (.invokevirtual 23, 3) := dk_182 0 23 (dk_at dksX14_hitting_0 6 rfl rfl)
theorem dX14_hitting_9 : decode cX14_hitting 9 = .ok (.iload_n 1, 1) := dk_27 (dk_at dksX14_hitting_0 9 rfl rfl)
theorem dX14_hitting_10 : decode cX14_hitting 10 = .ok (.aload_n 0, 1) := dk_42 (dk_at dksX14_hitting_0 10 rfl rfl)
theorem dX14_hitting_11 : decode cX14_hitting 11 = .ok (.getfield 15, 3) := dk_180 0 15 (dk_at dksX14_hitting_0 11 rfl rfl)
theorem dX14_hitting_14 : decode cX14_hitting 14 = .ok (.ixor, 1) := dk_130 (dk_at dksX14_hitting_0 14 rfl rfl)
theorem dX14_hitting_15 : decode cX14_hitting 15 = .ok (.ireturn, 1) := dk_172 (dk_at dksX14_hitting_0 15 rfl rfl)
abbrev cX14_throwsBy : ByteArray := prog_26_method_6_code
def yX14_throwsBy : MethodName := ⟨RX14, "throwsBy", "(I)I"⟩
def dkwX14_throwsBy_0 : List UInt8 := [42, 180, 0, 3, 16, 10, 182, 0, 23, 42, 27, 182, 0, 27, 5, 104, 172]
abbrev dktX14_throwsBy_0 : List UInt8 := dkwX14_throwsBy_0 ++ []
theorem dksX14_throwsBy_0 : cX14_throwsBy.data.toList.drop 0 = dktX14_throwsBy_0 := by decide +kernel
theorem dX14_throwsBy_0 : decode cX14_throwsBy 0 = .ok (.aload_n 0, 1) := dk_42 (dk_at dksX14_throwsBy_0 0 rfl rfl)
theorem dX14_throwsBy_1 : decode cX14_throwsBy 1 = .ok (.getfield 3, 3) := dk_180 0 3 (dk_at dksX14_throwsBy_0 1 rfl rfl)
theorem dX14_throwsBy_4 : decode cX14_throwsBy 4 = .ok (.bipush 10, 2) := dk_16 10 (dk_at dksX14_throwsBy_0 4 rfl rfl)
theorem dX14_throwsBy_6 : decode cX14_throwsBy 6 = .ok (.invokevirtual 23, 3) := dk_182 0 23 (dk_at dksX14_throwsBy_0 6 rfl rfl)
theorem dX14_throwsBy_9 : decode cX14_throwsBy 9 = .ok (.aload_n 0, 1) := dk_42 (dk_at dksX14_throwsBy_0 9 rfl rfl)
theorem dX14_throwsBy_10 : decode cX14_throwsBy 10 = .ok (.iload_n 1, 1) := dk_27 (dk_at dksX14_throwsBy_0 10 rfl rfl)
theorem dX14_throwsBy_11 : decode cX14_throwsBy 11 = .ok (.invokevirtual 27, 3) := dk_182 0 27 (dk_at dksX14_throwsBy_0 11 rfl rfl)
theorem dX14_throwsBy_14 : decode cX14_throwsBy 14 = .ok (.iconst 2, 1) := dk_5 (dk_at dksX14_throwsBy_0 14 rfl rfl)
theorem dX14_throwsBy_15 : decode cX14_throwsBy 15 = .ok (.imul, 1) := dk_104 (dk_at dksX14_throwsBy_0 15 rfl rfl)
theorem dX14_throwsBy_16 : decode cX14_throwsBy 16 = .ok (.ireturn, 1) := dk_172 (dk_at dksX14_throwsBy_0 16 rfl rfl)
abbrev cX14_isUnder : ByteArray := prog_26_method_4_code
def yX14_isUnder : MethodName := ⟨RX14, "isUnder", "(I)Z"⟩
def dkwX14_isUnder_0 : List UInt8 := [27, 153, 0, 11, 27, 42, 182, 0, 19, 160, 0, 7, 4, 167, 0, 4, 3, 172]
abbrev dktX14_isUnder_0 : List UInt8 := dkwX14_isUnder_0 ++ []
theorem dksX14_isUnder_0 : cX14_isUnder.data.toList.drop 0 = dktX14_isUnder_0 := by decide +kernel
theorem dX14_isUnder_0 : decode cX14_isUnder 0 = .ok (.iload_n 1, 1) := dk_27 (dk_at dksX14_isUnder_0 0 rfl rfl)
theorem dX14_isUnder_1 : decode cX14_isUnder 1 = .ok (.ifCond .eq 11, 3) := dk_153 0 11 (dk_at dksX14_isUnder_0 1 rfl rfl)
theorem dX14_isUnder_4 : decode cX14_isUnder 4 = .ok (.iload_n 1, 1) := dk_27 (dk_at dksX14_isUnder_0 4 rfl rfl)
theorem dX14_isUnder_5 : decode cX14_isUnder 5 = .ok (.aload_n 0, 1) := dk_42 (dk_at dksX14_isUnder_0 5 rfl rfl)
theorem dX14_isUnder_6 : decode cX14_isUnder 6 = .ok (.invokevirtual 19, 3) := dk_182 0 19 (dk_at dksX14_isUnder_0 6 rfl rfl)
theorem dX14_isUnder_9 : decode cX14_isUnder 9 = .ok (.if_icmp .ne 7, 3) := dk_160 0 7 (dk_at dksX14_isUnder_0 9 rfl rfl)
theorem dX14_isUnder_12 : decode cX14_isUnder 12 = .ok (.iconst 1, 1) := dk_4 (dk_at dksX14_isUnder_0 12 rfl rfl)
theorem dX14_isUnder_13 : decode cX14_isUnder 13 = .ok (.goto 4, 3) := dk_167 0 4 (dk_at dksX14_isUnder_0 13 rfl rfl)
theorem dX14_isUnder_16 : decode cX14_isUnder 16 = .ok (.iconst 0, 1) := dk_3 (dk_at dksX14_isUnder_0 16 rfl rfl)
theorem dX14_isUnder_17 : decode cX14_isUnder 17 = .ok (.ireturn, 1) := dk_172 (dk_at dksX14_isUnder_0 17 rfl rfl)
abbrev cX14_kind : ByteArray := prog_26_method_3_code
def yX14_kind : MethodName := ⟨RX14, "kind", "()I"⟩
theorem dX14_kind_0 : decode cX14_kind 0 = .ok (.iconst 0, 1) := by decide +kernel
theorem dX14_kind_1 : decode cX14_kind 1 = .ok (.ireturn, 1) := by decide +kernel
theorem q120 : (Jvm.Cond.initialized "ThreeSnowballs$Thrower") ∈ lw_all := lw_g (lw_at lw_m1 29 rfl) rfl
theorem q1042 : (Jvm.Cond.instanceMethod ({ cls := "ThreeSnowballs$Thrower", name := "<init>", desc := "(LThreeSnowballs;I)V" } : Jvm.MethodName)) ∈ lw_all := lw_g (lw_at lw_m4 231 rfl) rfl
theorem q1043 : (Jvm.Cond.code ({ cls := "ThreeSnowballs$Thrower", name := "<init>", desc := "(LThreeSnowballs;I)V" } : Jvm.MethodName) prog_26_method_1_code (3 : Nat) (Option.none : Option Jvm.ClassFile.FieldType)) ∈ lw_all := lw_g (lw_at lw_m4 232 rfl) rfl
theorem q1044 : (Jvm.Cond.methodLinkNest "ThreeSnowballs$Thrower" (9 : Nat) ({ cls := "ThreeSnowballs$Held", name := "<init>", desc := "()V" } : Jvm.MethodName) "ThreeSnowballs") ∈ lw_tbl := lw_at lw_m4 233 rfl
theorem q1049 : (Jvm.Cond.fieldLink "ThreeSnowballs$Thrower" (15 : Nat) "ThreeSnowballs$Thrower" "number" "I") ∈ lw_all := lw_g (lw_at lw_m4 238 rfl) rfl
theorem q1050 : (Jvm.Cond.fieldLink "ThreeSnowballs$Thrower" (3 : Nat) "ThreeSnowballs$Thrower" "this$0" "LThreeSnowballs;") ∈ lw_all := lw_g (lw_at lw_m4 239 rfl) rfl
theorem q1054 : (Jvm.Cond.soleField "ThreeSnowballs$Thrower" "number") ∈ lw_all := lw_g (lw_at lw_m5 3 rfl) rfl
theorem q1056 : (Jvm.Cond.soleField "ThreeSnowballs$Thrower" "this$0") ∈ lw_all := lw_g (lw_at lw_m5 5 rfl) rfl
theorem q1136 : (Jvm.Cond.instantiable "ThreeSnowballs$Thrower" (2 : Nat)) ∈ lw_all := lw_g (lw_at lw_m5 85 rfl) rfl
theorem q1138 : (Jvm.Cond.laysFinal "ThreeSnowballs$Thrower" "ThreeSnowballs$Thrower" "number" "I") ∈ lw_all := lw_g (lw_at lw_m5 87 rfl) rfl
theorem q1139 : (Jvm.Cond.laysFinal "ThreeSnowballs$Thrower" "ThreeSnowballs$Thrower" "this$0" "LThreeSnowballs;") ∈ lw_all := lw_g (lw_at lw_m5 88 rfl) rfl
theorem q1140 : (Jvm.Cond.superclass "ThreeSnowballs$Thrower" "ThreeSnowballs$Held") ∈ lw_all := lw_g (lw_at lw_m5 89 rfl) rfl
theorem q1164 : (Jvm.Cond.instanceMethod ({ cls := "ThreeSnowballs$Thrower", name := "aiming", desc := "(I)I" } : Jvm.MethodName)) ∈ lw_all := lw_g (lw_at lw_m5 113 rfl) rfl
theorem q1165 : (Jvm.Cond.code ({ cls := "ThreeSnowballs$Thrower", name := "aiming", desc := "(I)I" } : Jvm.MethodName) prog_26_method_5_code (2 : Nat) (Option.some Jvm.ClassFile.FieldType.int)) ∈ lw_all := lw_g (lw_at lw_m5 114 rfl) rfl
theorem q1166 : (Jvm.Cond.methodLinkNest "ThreeSnowballs$Thrower" (23 : Nat) ({ cls := "ThreeSnowballs", name := "ran", desc := "(I)V" } : Jvm.MethodName) "ThreeSnowballs") ∈ lw_tbl := lw_at lw_m5 115 rfl
theorem q1170 : (Jvm.Cond.publicMethod ({ cls := "ThreeSnowballs$Thrower", name := "aiming", desc := "(I)I" } : Jvm.MethodName)) ∈ lw_tbl := lw_at lw_m5 119 rfl
theorem q1180 : (Jvm.Cond.castable "ThreeSnowballs$Thrower" "ThreeSnowballs$Aims") ∈ lw_tbl := lw_at lw_m5 129 rfl
theorem q1181 : (Jvm.Cond.selects "ThreeSnowballs$Thrower" ({ cls := "ThreeSnowballs$Aims", name := "aiming", desc := "(I)I" } : Jvm.MethodName) ({ cls := "ThreeSnowballs$Thrower", name := "aiming", desc := "(I)I" } : Jvm.MethodName)) ∈ lw_all := lw_g (lw_at lw_m5 130 rfl) rfl
theorem q1182 : (Jvm.Cond.unhidden "ThreeSnowballs$Thrower" "aiming" "(I)I") ∈ lw_tbl := lw_at lw_m5 131 rfl
theorem q1201 : (Jvm.Cond.instanceMethod ({ cls := "ThreeSnowballs$Thrower", name := "tells", desc := "(I)I" } : Jvm.MethodName)) ∈ lw_all := lw_g (lw_at lw_m5 150 rfl) rfl
theorem q1202 : (Jvm.Cond.publicMethod ({ cls := "ThreeSnowballs$Thrower", name := "tells", desc := "(I)I" } : Jvm.MethodName)) ∈ lw_tbl := lw_at lw_m5 151 rfl
theorem q1203 : (Jvm.Cond.code ({ cls := "ThreeSnowballs$Thrower", name := "tells", desc := "(I)I" } : Jvm.MethodName) prog_26_method_8_code (3 : Nat) (Option.some Jvm.ClassFile.FieldType.int)) ∈ lw_all := lw_g (lw_at lw_m5 152 rfl) rfl
theorem q1204 : (Jvm.Cond.methodLink "ThreeSnowballs$Thrower" (31 : Nat) ({ cls := "ThreeSnowballs$Thrower", name := "throwsBy", desc := "(I)I" } : Jvm.MethodName)) ∈ lw_all := lw_g (lw_at lw_m5 153 rfl) rfl
theorem q1205 : (Jvm.Cond.instanceMethod ({ cls := "ThreeSnowballs$Thrower", name := "throwsBy", desc := "(I)I" } : Jvm.MethodName)) ∈ lw_all := lw_g (lw_at lw_m5 154 rfl) rfl
theorem q1206 : (Jvm.Cond.selects "ThreeSnowballs$Thrower" ({ cls := "ThreeSnowballs$Thrower", name := "throwsBy", desc := "(I)I" } : Jvm.MethodName) ({ cls := "ThreeSnowballs$Thrower", name := "throwsBy", desc := "(I)I" } : Jvm.MethodName)) ∈ lw_all := lw_g (lw_at lw_m5 155 rfl) rfl
theorem q1207 : (Jvm.Cond.sameMethod "ThreeSnowballs$Thrower" "ThreeSnowballs$Thrower" "throwsBy" "(I)I") ∈ lw_all := lw_g (lw_at lw_m5 156 rfl) rfl
theorem q1220 : (Jvm.Cond.declares ({ cls := "ThreeSnowballs$Thrower", name := "throwsBy", desc := "(I)I" } : Jvm.MethodName)) ∈ lw_tbl := lw_at lw_m5 169 rfl
theorem q1230 : (Jvm.Cond.declares ({ cls := "ThreeSnowballs$Thrower", name := "hitting", desc := "(I)I" } : Jvm.MethodName)) ∈ lw_tbl := lw_at lw_m5 179 rfl
theorem q1231 : (Jvm.Cond.instanceMethod ({ cls := "ThreeSnowballs$Thrower", name := "hitting", desc := "(I)I" } : Jvm.MethodName)) ∈ lw_all := lw_g (lw_at lw_m5 180 rfl) rfl
theorem q1232 : (Jvm.Cond.code ({ cls := "ThreeSnowballs$Thrower", name := "hitting", desc := "(I)I" } : Jvm.MethodName) prog_26_method_7_code (2 : Nat) (Option.some Jvm.ClassFile.FieldType.int)) ∈ lw_all := lw_g (lw_at lw_m5 181 rfl) rfl
theorem q1246 : (Jvm.Cond.code ({ cls := "ThreeSnowballs$Thrower", name := "throwsBy", desc := "(I)I" } : Jvm.MethodName) prog_26_method_6_code (2 : Nat) (Option.some Jvm.ClassFile.FieldType.int)) ∈ lw_all := lw_g (lw_at lw_m5 195 rfl) rfl
theorem q1247 : (Jvm.Cond.methodLink "ThreeSnowballs$Thrower" (27 : Nat) ({ cls := "ThreeSnowballs$Thrower", name := "aiming", desc := "(I)I" } : Jvm.MethodName)) ∈ lw_all := lw_g (lw_at lw_m5 196 rfl) rfl
theorem q1248 : (Jvm.Cond.methodLink "ThreeSnowballs$Thrower" (34 : Nat) ({ cls := "ThreeSnowballs$Thrower", name := "hitting", desc := "(I)I" } : Jvm.MethodName)) ∈ lw_all := lw_g (lw_at lw_m5 197 rfl) rfl
theorem q1264 : (Jvm.Cond.declares ({ cls := "ThreeSnowballs$Thrower", name := "tells", desc := "(I)I" } : Jvm.MethodName)) ∈ lw_tbl := lw_at lw_m5 213 rfl
theorem q1277 : (Jvm.Cond.castable "ThreeSnowballs$Thrower" "ThreeSnowballs$Tells") ∈ lw_tbl := lw_at lw_m5 226 rfl
theorem q1278 : (Jvm.Cond.selects "ThreeSnowballs$Thrower" ({ cls := "ThreeSnowballs$Tells", name := "tells", desc := "(I)I" } : Jvm.MethodName) ({ cls := "ThreeSnowballs$Thrower", name := "tells", desc := "(I)I" } : Jvm.MethodName)) ∈ lw_all := lw_g (lw_at lw_m5 227 rfl) rfl
theorem q1279 : (Jvm.Cond.unhidden "ThreeSnowballs$Thrower" "tells" "(I)I") ∈ lw_tbl := lw_at lw_m5 228 rfl
theorem q1453 : (Jvm.Cond.instanceMethod ({ cls := "ThreeSnowballs$Thrower", name := "isUnder", desc := "(I)Z" } : Jvm.MethodName)) ∈ lw_all := lw_g (lw_at lw_m6 162 rfl) rfl
theorem q1454 : (Jvm.Cond.selects "ThreeSnowballs$Thrower" ({ cls := "ThreeSnowballs$Thrower", name := "isUnder", desc := "(I)Z" } : Jvm.MethodName) ({ cls := "ThreeSnowballs$Thrower", name := "isUnder", desc := "(I)Z" } : Jvm.MethodName)) ∈ lw_all := lw_g (lw_at lw_m6 163 rfl) rfl
theorem q1455 : (Jvm.Cond.sameMethod "ThreeSnowballs$Thrower" "ThreeSnowballs$Thrower" "isUnder" "(I)Z") ∈ lw_all := lw_g (lw_at lw_m6 164 rfl) rfl
theorem q1475 : (Jvm.Cond.code ({ cls := "ThreeSnowballs$Thrower", name := "isUnder", desc := "(I)Z" } : Jvm.MethodName) prog_26_method_4_code (2 : Nat) (Option.some Jvm.ClassFile.FieldType.boolean)) ∈ lw_all := lw_g (lw_at lw_m6 184 rfl) rfl
theorem q1476 : (Jvm.Cond.methodLink "ThreeSnowballs$Thrower" (19 : Nat) ({ cls := "ThreeSnowballs$Thrower", name := "kind", desc := "()I" } : Jvm.MethodName)) ∈ lw_all := lw_g (lw_at lw_m6 185 rfl) rfl
theorem q1477 : (Jvm.Cond.instanceMethod ({ cls := "ThreeSnowballs$Thrower", name := "kind", desc := "()I" } : Jvm.MethodName)) ∈ lw_all := lw_g (lw_at lw_m6 186 rfl) rfl
theorem q1478 : (Jvm.Cond.selects "ThreeSnowballs$Thrower" ({ cls := "ThreeSnowballs$Thrower", name := "kind", desc := "()I" } : Jvm.MethodName) ({ cls := "ThreeSnowballs$Thrower", name := "kind", desc := "()I" } : Jvm.MethodName)) ∈ lw_all := lw_g (lw_at lw_m6 187 rfl) rfl
theorem q1479 : (Jvm.Cond.sameMethod "ThreeSnowballs$Thrower" "ThreeSnowballs$Thrower" "kind" "()I") ∈ lw_all := lw_g (lw_at lw_m6 188 rfl) rfl
theorem q1501 : (Jvm.Cond.code ({ cls := "ThreeSnowballs$Thrower", name := "kind", desc := "()I" } : Jvm.MethodName) prog_26_method_3_code (1 : Nat) (Option.some Jvm.ClassFile.FieldType.int)) ∈ lw_all := lw_g (lw_at lw_m6 210 rfl) rfl
theorem q2042 : (Jvm.Cond.sameMethod "ThreeSnowballs$Thrower" "ThreeSnowballs$Thrower" "aiming" "(I)I") ∈ lw_all := lw_g (lw_at lw_m9 31 rfl) rfl
theorem q2049 : (Jvm.Cond.selects "ThreeSnowballs$Thrower" ({ cls := "ThreeSnowballs$Thrower", name := "aiming", desc := "(I)I" } : Jvm.MethodName) ({ cls := "ThreeSnowballs$Thrower", name := "aiming", desc := "(I)I" } : Jvm.MethodName)) ∈ lw_all := lw_g (lw_at lw_m9 38 rfl) rfl
theorem q2052 : (Jvm.Cond.sameMethod "ThreeSnowballs$Thrower" "ThreeSnowballs$Thrower" "hitting" "(I)I") ∈ lw_all := lw_g (lw_at lw_m9 41 rfl) rfl
theorem q2058 : (Jvm.Cond.selects "ThreeSnowballs$Thrower" ({ cls := "ThreeSnowballs$Thrower", name := "hitting", desc := "(I)I" } : Jvm.MethodName) ({ cls := "ThreeSnowballs$Thrower", name := "hitting", desc := "(I)I" } : Jvm.MethodName)) ∈ lw_all := lw_g (lw_at lw_m9 47 rfl) rfl
theorem q2083 : (Jvm.Cond.castable "ThreeSnowballs$Thrower" "ThreeSnowballs$Held") ∈ lw_tbl := lw_at lw_m9 72 rfl
theorem in_X14 : ∀ w ∈ wsX140, w ∈ lw_all := lw_in wsX140 [1138, 1139] (by decide +kernel) (by decide +kernel)
/-! ThreeSnowballs$Strong -/
set_option maxRecDepth 100000
def RX15 : String := "ThreeSnowballs$Strong"
def TX15 : u_T := fun k => match k with
  | 0 => ("ThreeSnowballs$Thrower", "number", "I", true)
  | 1 => ("ThreeSnowballs$Thrower", "this$0", "LThreeSnowballs;", true)
  | _ => ("ThreeSnowballs$Strong", "this$0", "LThreeSnowballs;", true)
def tyX15 : Nat → FieldType := fun k => match k with
  | 0 => .int
  | 1 => .object "ThreeSnowballs"
  | _ => .object "ThreeSnowballs"
abbrev wsX150 : List Cond := u_ws RX15 TX15 3
-- two fields of one name: no nmX15
theorem tyX15_ok : ∀ k, k < 3 → parseFieldDescriptor (TX15 k).2.2.1 = some (tyX15 k) := by decide +kernel
abbrev cX15_init : ByteArray := prog_24_method_1_code
def yX15_init : MethodName := ⟨RX15, "<init>", "(LThreeSnowballs;I)V"⟩
def dkwX15_init_0 : List UInt8 := [42, 43, 181, 0, 1, 42, 43, 28, 183, 0, 7, 177]
abbrev dktX15_init_0 : List UInt8 := dkwX15_init_0 ++ []
theorem dksX15_init_0 : cX15_init.data.toList.drop 0 = dktX15_init_0 := by decide +kernel
theorem dX15_init_0 : decode cX15_init 0 = .ok (.aload_n 0, 1) := dk_42 (dk_at dksX15_init_0 0 rfl rfl)
theorem dX15_init_1 : decode cX15_init 1 = .ok (.aload_n 1, 1) := dk_43 (dk_at dksX15_init_0 1 rfl rfl)
theorem dX15_init_2 : decode cX15_init 2 = .ok (.putfield 1, 3) := dk_181 0 1 (dk_at dksX15_init_0 2 rfl rfl)
theorem dX15_init_5 : decode cX15_init 5 = .ok (.aload_n 0, 1) := dk_42 (dk_at dksX15_init_0 5 rfl rfl)
theorem dX15_init_6 : decode cX15_init 6 = .ok (.aload_n 1, 1) := dk_43 (dk_at dksX15_init_0 6 rfl rfl)
theorem dX15_init_7 : decode cX15_init 7 = .ok (.iload_n 2, 1) := dk_28 (dk_at dksX15_init_0 7 rfl rfl)
theorem dX15_init_8 : decode cX15_init 8 = .ok (.invokespecial 7, 3) := dk_183 0 7 (dk_at dksX15_init_0 8 rfl rfl)
theorem dX15_init_11 : decode cX15_init 11 = .ok (.return_, 1) := dk_177 (dk_at dksX15_init_0 11 rfl rfl)
abbrev cX15_aiming : ByteArray := prog_24_method_4_code
def yX15_aiming : MethodName := ⟨RX15, "aiming", "(I)I"⟩
def dkwX15_aiming_0 : List UInt8 := [42, 180, 0, 1, 16, 20, 182, 0, 17, 42, 27, 183, 0, 23, 6, 96, 172]
abbrev dktX15_aiming_0 : List UInt8 := dkwX15_aiming_0 ++ []
theorem dksX15_aiming_0 : cX15_aiming.data.toList.drop 0 = dktX15_aiming_0 := by decide +kernel
theorem dX15_aiming_0 : decode cX15_aiming 0 = .ok (.aload_n 0, 1) := dk_42 (dk_at dksX15_aiming_0 0 rfl rfl)
theorem dX15_aiming_1 : decode cX15_aiming 1 = .ok (.getfield 1, 3) := dk_180 0 1 (dk_at dksX15_aiming_0 1 rfl rfl)
theorem dX15_aiming_4 : decode cX15_aiming 4 = .ok (.bipush 20, 2) := dk_16 20 (dk_at dksX15_aiming_0 4 rfl rfl)
theorem dX15_aiming_6 : decode cX15_aiming 6 = .ok (.invokevirtual 17, 3) := dk_182 0 17 (dk_at dksX15_aiming_0 6 rfl rfl)
theorem dX15_aiming_9 : decode cX15_aiming 9 = .ok (.aload_n 0, 1) := dk_42 (dk_at dksX15_aiming_0 9 rfl rfl)
theorem dX15_aiming_10 : decode cX15_aiming 10 = .ok (.iload_n 1, 1) := dk_27 (dk_at dksX15_aiming_0 10 rfl rfl)
theorem dX15_aiming_11 : decode cX15_aiming 11 = .ok (.invokespecial 23, 3) := dk_183 0 23 (dk_at dksX15_aiming_0 11 rfl rfl)
theorem dX15_aiming_14 : decode cX15_aiming 14 = .ok (.iconst 3, 1) := dk_6 (dk_at dksX15_aiming_0 14 rfl rfl)
theorem dX15_aiming_15 : decode cX15_aiming 15 = .ok (.iadd, 1) := dk_96 (dk_at dksX15_aiming_0 15 rfl rfl)
theorem dX15_aiming_16 : decode cX15_aiming 16 = .ok (.ireturn, 1) := dk_172 (dk_at dksX15_aiming_0 16 rfl rfl)
abbrev cX15_isUnder : ByteArray := prog_24_method_3_code
def yX15_isUnder : MethodName := ⟨RX15, "isUnder", "(I)Z"⟩
def dkwX15_isUnder_0 : List UInt8 := [27, 4, 159, 0, 11, 42, 27, 183, 0, 13, 153, 0, 7, 4, 167, 0, 4, 3, 172]
abbrev dktX15_isUnder_0 : List UInt8 := dkwX15_isUnder_0 ++ []
theorem dksX15_isUnder_0 : cX15_isUnder.data.toList.drop 0 = dktX15_isUnder_0 := by decide +kernel
theorem dX15_isUnder_0 : decode cX15_isUnder 0 = .ok (.iload_n 1, 1) := dk_27 (dk_at dksX15_isUnder_0 0 rfl rfl)
theorem dX15_isUnder_1 : decode cX15_isUnder 1 = .ok (.iconst 1, 1) := dk_4 (dk_at dksX15_isUnder_0 1 rfl rfl)
theorem dX15_isUnder_2 : decode cX15_isUnder 2 = .ok (.if_icmp .eq 11, 3) := dk_159 0 11 (dk_at dksX15_isUnder_0 2 rfl rfl)
theorem dX15_isUnder_5 : decode cX15_isUnder 5 = .ok (.aload_n 0, 1) := dk_42 (dk_at dksX15_isUnder_0 5 rfl rfl)
theorem dX15_isUnder_6 : decode cX15_isUnder 6 = .ok (.iload_n 1, 1) := dk_27 (dk_at dksX15_isUnder_0 6 rfl rfl)
theorem dX15_isUnder_7 : decode cX15_isUnder 7 = .ok (.invokespecial 13, 3) := dk_183 0 13 (dk_at dksX15_isUnder_0 7 rfl rfl)
theorem dX15_isUnder_10 : decode cX15_isUnder 10 = .ok (.ifCond .eq 7, 3) := dk_153 0 7 (dk_at dksX15_isUnder_0 10 rfl rfl)
theorem dX15_isUnder_13 : decode cX15_isUnder 13 = .ok (.iconst 1, 1) := dk_4 (dk_at dksX15_isUnder_0 13 rfl rfl)
theorem dX15_isUnder_14 : decode cX15_isUnder 14 = .ok (.goto 4, 3) := dk_167 0 4 (dk_at dksX15_isUnder_0 14 rfl rfl)
theorem dX15_isUnder_17 : decode cX15_isUnder 17 = .ok (.iconst 0, 1) := dk_3 (dk_at dksX15_isUnder_0 17 rfl rfl)
theorem dX15_isUnder_18 : decode cX15_isUnder 18 = .ok (.ireturn, 1) := dk_172 (dk_at dksX15_isUnder_0 18 rfl rfl)
abbrev cX15_kind : ByteArray := prog_24_method_2_code
def yX15_kind : MethodName := ⟨RX15, "kind", "()I"⟩
theorem dX15_kind_0 : decode cX15_kind 0 = .ok (.iconst 1, 1) := by decide +kernel
theorem dX15_kind_1 : decode cX15_kind 1 = .ok (.ireturn, 1) := by decide +kernel
theorem q121 : (Jvm.Cond.initialized "ThreeSnowballs$Strong") ∈ lw_all := lw_g (lw_at lw_m1 30 rfl) rfl
theorem q1037 : (Jvm.Cond.instantiable "ThreeSnowballs$Strong" (3 : Nat)) ∈ lw_all := lw_g (lw_at lw_m4 226 rfl) rfl
theorem q1039 : (Jvm.Cond.instanceMethod ({ cls := "ThreeSnowballs$Strong", name := "<init>", desc := "(LThreeSnowballs;I)V" } : Jvm.MethodName)) ∈ lw_all := lw_g (lw_at lw_m4 228 rfl) rfl
theorem q1040 : (Jvm.Cond.code ({ cls := "ThreeSnowballs$Strong", name := "<init>", desc := "(LThreeSnowballs;I)V" } : Jvm.MethodName) prog_24_method_1_code (3 : Nat) (Option.none : Option Jvm.ClassFile.FieldType)) ∈ lw_all := lw_g (lw_at lw_m4 229 rfl) rfl
theorem q1041 : (Jvm.Cond.methodLink "ThreeSnowballs$Strong" (7 : Nat) ({ cls := "ThreeSnowballs$Thrower", name := "<init>", desc := "(LThreeSnowballs;I)V" } : Jvm.MethodName)) ∈ lw_all := lw_g (lw_at lw_m4 230 rfl) rfl
theorem q1048 : (Jvm.Cond.fieldLink "ThreeSnowballs$Strong" (1 : Nat) "ThreeSnowballs$Strong" "this$0" "LThreeSnowballs;") ∈ lw_all := lw_g (lw_at lw_m4 237 rfl) rfl
theorem q1051 : (Jvm.Cond.laysFinal "ThreeSnowballs$Strong" "ThreeSnowballs$Strong" "this$0" "LThreeSnowballs;") ∈ lw_all := lw_g (lw_at lw_m5 0 rfl) rfl
theorem q1052 : (Jvm.Cond.soleField "ThreeSnowballs$Strong" "this$0") ∈ lw_all := lw_g (lw_at lw_m5 1 rfl) rfl
theorem q1053 : (Jvm.Cond.laysFinal "ThreeSnowballs$Strong" "ThreeSnowballs$Thrower" "number" "I") ∈ lw_all := lw_g (lw_at lw_m5 2 rfl) rfl
theorem q1055 : (Jvm.Cond.laysFinal "ThreeSnowballs$Strong" "ThreeSnowballs$Thrower" "this$0" "LThreeSnowballs;") ∈ lw_all := lw_g (lw_at lw_m5 4 rfl) rfl
theorem q1057 : (Jvm.Cond.superclass "ThreeSnowballs$Strong" "ThreeSnowballs$Thrower") ∈ lw_all := lw_g (lw_at lw_m5 6 rfl) rfl
theorem q1156 : (Jvm.Cond.instanceMethod ({ cls := "ThreeSnowballs$Strong", name := "aiming", desc := "(I)I" } : Jvm.MethodName)) ∈ lw_all := lw_g (lw_at lw_m5 105 rfl) rfl
theorem q1157 : (Jvm.Cond.publicMethod ({ cls := "ThreeSnowballs$Strong", name := "aiming", desc := "(I)I" } : Jvm.MethodName)) ∈ lw_tbl := lw_at lw_m5 106 rfl
theorem q1158 : (Jvm.Cond.code ({ cls := "ThreeSnowballs$Strong", name := "aiming", desc := "(I)I" } : Jvm.MethodName) prog_24_method_4_code (2 : Nat) (Option.some Jvm.ClassFile.FieldType.int)) ∈ lw_all := lw_g (lw_at lw_m5 107 rfl) rfl
theorem q1159 : (Jvm.Cond.methodLinkNest "ThreeSnowballs$Strong" (17 : Nat) ({ cls := "ThreeSnowballs", name := "ran", desc := "(I)V" } : Jvm.MethodName) "ThreeSnowballs") ∈ lw_tbl := lw_at lw_m5 108 rfl
theorem q1163 : (Jvm.Cond.methodLink "ThreeSnowballs$Strong" (23 : Nat) ({ cls := "ThreeSnowballs$Thrower", name := "aiming", desc := "(I)I" } : Jvm.MethodName)) ∈ lw_all := lw_g (lw_at lw_m5 112 rfl) rfl
theorem q1177 : (Jvm.Cond.castable "ThreeSnowballs$Strong" "ThreeSnowballs$Aims") ∈ lw_tbl := lw_at lw_m5 126 rfl
theorem q1178 : (Jvm.Cond.selects "ThreeSnowballs$Strong" ({ cls := "ThreeSnowballs$Aims", name := "aiming", desc := "(I)I" } : Jvm.MethodName) ({ cls := "ThreeSnowballs$Strong", name := "aiming", desc := "(I)I" } : Jvm.MethodName)) ∈ lw_all := lw_g (lw_at lw_m5 127 rfl) rfl
theorem q1179 : (Jvm.Cond.unhidden "ThreeSnowballs$Strong" "aiming" "(I)I") ∈ lw_tbl := lw_at lw_m5 128 rfl
theorem q1229 : (Jvm.Cond.sameMethod "ThreeSnowballs$Strong" "ThreeSnowballs$Thrower" "hitting" "(I)I") ∈ lw_all := lw_g (lw_at lw_m5 178 rfl) rfl
theorem q1235 : (Jvm.Cond.declares ({ cls := "ThreeSnowballs$Strong", name := "aiming", desc := "(I)I" } : Jvm.MethodName)) ∈ lw_tbl := lw_at lw_m5 184 rfl
theorem q1243 : (Jvm.Cond.selects "ThreeSnowballs$Strong" ({ cls := "ThreeSnowballs$Thrower", name := "throwsBy", desc := "(I)I" } : Jvm.MethodName) ({ cls := "ThreeSnowballs$Thrower", name := "throwsBy", desc := "(I)I" } : Jvm.MethodName)) ∈ lw_all := lw_g (lw_at lw_m5 192 rfl) rfl
theorem q1274 : (Jvm.Cond.castable "ThreeSnowballs$Strong" "ThreeSnowballs$Tells") ∈ lw_tbl := lw_at lw_m5 223 rfl
theorem q1275 : (Jvm.Cond.selects "ThreeSnowballs$Strong" ({ cls := "ThreeSnowballs$Tells", name := "tells", desc := "(I)I" } : Jvm.MethodName) ({ cls := "ThreeSnowballs$Thrower", name := "tells", desc := "(I)I" } : Jvm.MethodName)) ∈ lw_all := lw_g (lw_at lw_m5 224 rfl) rfl
theorem q1276 : (Jvm.Cond.unhidden "ThreeSnowballs$Strong" "tells" "(I)I") ∈ lw_tbl := lw_at lw_m5 225 rfl
theorem q1460 : (Jvm.Cond.instanceMethod ({ cls := "ThreeSnowballs$Strong", name := "isUnder", desc := "(I)Z" } : Jvm.MethodName)) ∈ lw_all := lw_g (lw_at lw_m6 169 rfl) rfl
theorem q1461 : (Jvm.Cond.code ({ cls := "ThreeSnowballs$Strong", name := "isUnder", desc := "(I)Z" } : Jvm.MethodName) prog_24_method_3_code (2 : Nat) (Option.some Jvm.ClassFile.FieldType.boolean)) ∈ lw_all := lw_g (lw_at lw_m6 170 rfl) rfl
theorem q1462 : (Jvm.Cond.methodLink "ThreeSnowballs$Strong" (13 : Nat) ({ cls := "ThreeSnowballs$Thrower", name := "isUnder", desc := "(I)Z" } : Jvm.MethodName)) ∈ lw_all := lw_g (lw_at lw_m6 171 rfl) rfl
theorem q1472 : (Jvm.Cond.selects "ThreeSnowballs$Strong" ({ cls := "ThreeSnowballs$Thrower", name := "isUnder", desc := "(I)Z" } : Jvm.MethodName) ({ cls := "ThreeSnowballs$Strong", name := "isUnder", desc := "(I)Z" } : Jvm.MethodName)) ∈ lw_all := lw_g (lw_at lw_m6 181 rfl) rfl
theorem q1492 : (Jvm.Cond.selects "ThreeSnowballs$Strong" ({ cls := "ThreeSnowballs$Thrower", name := "kind", desc := "()I" } : Jvm.MethodName) ({ cls := "ThreeSnowballs$Strong", name := "kind", desc := "()I" } : Jvm.MethodName)) ∈ lw_all := lw_g (lw_at lw_m6 201 rfl) rfl
theorem q1493 : (Jvm.Cond.instanceMethod ({ cls := "ThreeSnowballs$Strong", name := "kind", desc := "()I" } : Jvm.MethodName)) ∈ lw_all := lw_g (lw_at lw_m6 202 rfl) rfl
theorem q1494 : (Jvm.Cond.code ({ cls := "ThreeSnowballs$Strong", name := "kind", desc := "()I" } : Jvm.MethodName) prog_24_method_2_code (1 : Nat) (Option.some Jvm.ClassFile.FieldType.int)) ∈ lw_all := lw_g (lw_at lw_m6 203 rfl) rfl
theorem q2048 : (Jvm.Cond.selects "ThreeSnowballs$Strong" ({ cls := "ThreeSnowballs$Thrower", name := "aiming", desc := "(I)I" } : Jvm.MethodName) ({ cls := "ThreeSnowballs$Strong", name := "aiming", desc := "(I)I" } : Jvm.MethodName)) ∈ lw_all := lw_g (lw_at lw_m9 37 rfl) rfl
theorem q2057 : (Jvm.Cond.selects "ThreeSnowballs$Strong" ({ cls := "ThreeSnowballs$Thrower", name := "hitting", desc := "(I)I" } : Jvm.MethodName) ({ cls := "ThreeSnowballs$Thrower", name := "hitting", desc := "(I)I" } : Jvm.MethodName)) ∈ lw_all := lw_g (lw_at lw_m9 46 rfl) rfl
theorem q2061 : (Jvm.Cond.sameMethod "ThreeSnowballs$Strong" "ThreeSnowballs$Strong" "isUnder" "(I)Z") ∈ lw_all := lw_g (lw_at lw_m9 50 rfl) rfl
theorem q2073 : (Jvm.Cond.castable "ThreeSnowballs$Strong" "ThreeSnowballs$Thrower") ∈ lw_tbl := lw_at lw_m9 62 rfl
theorem q2076 : (Jvm.Cond.castable "ThreeSnowballs$Strong" "ThreeSnowballs$Held") ∈ lw_tbl := lw_at lw_m9 65 rfl
theorem in_X15 : ∀ w ∈ wsX150, w ∈ lw_all := lw_in wsX150 [1053, 1055, 1051] (by decide +kernel) (by decide +kernel)
/-! ThreeSnowballs$InAir -/
set_option maxRecDepth 100000
def RX16 : String := "ThreeSnowballs$InAir"
def TX16 : u_T := fun k => match k with
  | 0 => ("ThreeSnowballs$Thrower", "number", "I", true)
  | 1 => ("ThreeSnowballs$Thrower", "this$0", "LThreeSnowballs;", true)
  | _ => ("ThreeSnowballs$InAir", "this$0", "LThreeSnowballs;", true)
def tyX16 : Nat → FieldType := fun k => match k with
  | 0 => .int
  | 1 => .object "ThreeSnowballs"
  | _ => .object "ThreeSnowballs"
abbrev wsX160 : List Cond := u_ws RX16 TX16 3
-- two fields of one name: no nmX16
theorem tyX16_ok : ∀ k, k < 3 → parseFieldDescriptor (TX16 k).2.2.1 = some (tyX16 k) := by decide +kernel
abbrev cX16_init : ByteArray := prog_10_method_1_code
def yX16_init : MethodName := ⟨RX16, "<init>", "(LThreeSnowballs;I)V"⟩
def dkwX16_init_0 : List UInt8 := [42, 43, 181, 0, 1, 42, 43, 28, 183, 0, 7, 177]
abbrev dktX16_init_0 : List UInt8 := dkwX16_init_0 ++ []
theorem dksX16_init_0 : cX16_init.data.toList.drop 0 = dktX16_init_0 := by decide +kernel
theorem dX16_init_0 : decode cX16_init 0 = .ok (.aload_n 0, 1) := dk_42 (dk_at dksX16_init_0 0 rfl rfl)
theorem dX16_init_1 : decode cX16_init 1 = .ok (.aload_n 1, 1) := dk_43 (dk_at dksX16_init_0 1 rfl rfl)
theorem dX16_init_2 : decode cX16_init 2 = .ok (.putfield 1, 3) := dk_181 0 1 (dk_at dksX16_init_0 2 rfl rfl)
theorem dX16_init_5 : decode cX16_init 5 = .ok (.aload_n 0, 1) := dk_42 (dk_at dksX16_init_0 5 rfl rfl)
theorem dX16_init_6 : decode cX16_init 6 = .ok (.aload_n 1, 1) := dk_43 (dk_at dksX16_init_0 6 rfl rfl)
theorem dX16_init_7 : decode cX16_init 7 = .ok (.iload_n 2, 1) := dk_28 (dk_at dksX16_init_0 7 rfl rfl)
theorem dX16_init_8 : decode cX16_init 8 = .ok (.invokespecial 7, 3) := dk_183 0 7 (dk_at dksX16_init_0 8 rfl rfl)
theorem dX16_init_11 : decode cX16_init 11 = .ok (.return_, 1) := dk_177 (dk_at dksX16_init_0 11 rfl rfl)
abbrev cX16_throwsBy : ByteArray := prog_10_method_4_code
def yX16_throwsBy : MethodName := ⟨RX16, "throwsBy", "(I)I"⟩
def dkwX16_throwsBy_0 : List UInt8 := [42, 180, 0, 1, 16, 30, 182, 0, 17, 42, 27, 183, 0, 23, 116, 172]
abbrev dktX16_throwsBy_0 : List UInt8 := dkwX16_throwsBy_0 ++ []
theorem dksX16_throwsBy_0 : cX16_throwsBy.data.toList.drop 0 = dktX16_throwsBy_0 := by decide +kernel
theorem dX16_throwsBy_0 : decode cX16_throwsBy 0 = .ok (.aload_n 0, 1) := dk_42 (dk_at dksX16_throwsBy_0 0 rfl rfl)
theorem dX16_throwsBy_1 : decode cX16_throwsBy 1 = .ok (.getfield 1, 3) := dk_180 0 1 (dk_at dksX16_throwsBy_0 1 rfl rfl)
theorem dX16_throwsBy_4 : decode cX16_throwsBy 4 = .ok (.bipush 30, 2) := dk_16 30 (dk_at dksX16_throwsBy_0 4 rfl rfl)
theorem dX16_throwsBy_6 : decode cX16_throwsBy 6 = .ok (.invokevirtual 17, 3) := dk_182 0 17 (dk_at dksX16_throwsBy_0 6 rfl rfl)
theorem dX16_throwsBy_9 : decode cX16_throwsBy 9 = .ok (.aload_n 0, 1) := dk_42 (dk_at dksX16_throwsBy_0 9 rfl rfl)
theorem dX16_throwsBy_10 : decode cX16_throwsBy 10 = .ok (.iload_n 1, 1) := dk_27 (dk_at dksX16_throwsBy_0 10 rfl rfl)
theorem dX16_throwsBy_11 : decode cX16_throwsBy 11 = .ok (.invokespecial 23, 3) := dk_183 0 23 (dk_at dksX16_throwsBy_0 11 rfl rfl)
theorem dX16_throwsBy_14 : decode cX16_throwsBy 14 = .ok (.ineg, 1) := dk_116 (dk_at dksX16_throwsBy_0 14 rfl rfl)
theorem dX16_throwsBy_15 : decode cX16_throwsBy 15 = .ok (.ireturn, 1) := dk_172 (dk_at dksX16_throwsBy_0 15 rfl rfl)
abbrev cX16_isUnder : ByteArray := prog_10_method_3_code
def yX16_isUnder : MethodName := ⟨RX16, "isUnder", "(I)Z"⟩
def dkwX16_isUnder_0 : List UInt8 := [27, 5, 159, 0, 11, 42, 27, 183, 0, 13, 153, 0, 7, 4, 167, 0, 4, 3, 172]
abbrev dktX16_isUnder_0 : List UInt8 := dkwX16_isUnder_0 ++ []
theorem dksX16_isUnder_0 : cX16_isUnder.data.toList.drop 0 = dktX16_isUnder_0 := by decide +kernel
theorem dX16_isUnder_0 : decode cX16_isUnder 0 = .ok (.iload_n 1, 1) := dk_27 (dk_at dksX16_isUnder_0 0 rfl rfl)
theorem dX16_isUnder_1 : decode cX16_isUnder 1 = .ok (.iconst 2, 1) := dk_5 (dk_at dksX16_isUnder_0 1 rfl rfl)
theorem dX16_isUnder_2 : decode cX16_isUnder 2 = .ok (.if_icmp .eq 11, 3) := dk_159 0 11 (dk_at dksX16_isUnder_0 2 rfl rfl)
theorem dX16_isUnder_5 : decode cX16_isUnder 5 = .ok (.aload_n 0, 1) := dk_42 (dk_at dksX16_isUnder_0 5 rfl rfl)
theorem dX16_isUnder_6 : decode cX16_isUnder 6 = .ok (.iload_n 1, 1) := dk_27 (dk_at dksX16_isUnder_0 6 rfl rfl)
theorem dX16_isUnder_7 : decode cX16_isUnder 7 = .ok (.invokespecial 13, 3) := dk_183 0 13 (dk_at dksX16_isUnder_0 7 rfl rfl)
theorem dX16_isUnder_10 : decode cX16_isUnder 10 = .ok (.ifCond .eq 7, 3) := dk_153 0 7 (dk_at dksX16_isUnder_0 10 rfl rfl)
theorem dX16_isUnder_13 : decode cX16_isUnder 13 = .ok (.iconst 1, 1) := dk_4 (dk_at dksX16_isUnder_0 13 rfl rfl)
theorem dX16_isUnder_14 : decode cX16_isUnder 14 = .ok (.goto 4, 3) := dk_167 0 4 (dk_at dksX16_isUnder_0 14 rfl rfl)
theorem dX16_isUnder_17 : decode cX16_isUnder 17 = .ok (.iconst 0, 1) := dk_3 (dk_at dksX16_isUnder_0 17 rfl rfl)
theorem dX16_isUnder_18 : decode cX16_isUnder 18 = .ok (.ireturn, 1) := dk_172 (dk_at dksX16_isUnder_0 18 rfl rfl)
abbrev cX16_kind : ByteArray := prog_10_method_2_code
def yX16_kind : MethodName := ⟨RX16, "kind", "()I"⟩
theorem dX16_kind_0 : decode cX16_kind 0 = .ok (.iconst 2, 1) := by decide +kernel
theorem dX16_kind_1 : decode cX16_kind 1 = .ok (.ireturn, 1) := by decide +kernel
theorem q122 : (Jvm.Cond.initialized "ThreeSnowballs$InAir") ∈ lw_all := lw_g (lw_at lw_m1 31 rfl) rfl
theorem q1059 : (Jvm.Cond.instantiable "ThreeSnowballs$InAir" (3 : Nat)) ∈ lw_all := lw_g (lw_at lw_m5 8 rfl) rfl
theorem q1061 : (Jvm.Cond.instanceMethod ({ cls := "ThreeSnowballs$InAir", name := "<init>", desc := "(LThreeSnowballs;I)V" } : Jvm.MethodName)) ∈ lw_all := lw_g (lw_at lw_m5 10 rfl) rfl
theorem q1062 : (Jvm.Cond.code ({ cls := "ThreeSnowballs$InAir", name := "<init>", desc := "(LThreeSnowballs;I)V" } : Jvm.MethodName) prog_10_method_1_code (3 : Nat) (Option.none : Option Jvm.ClassFile.FieldType)) ∈ lw_all := lw_g (lw_at lw_m5 11 rfl) rfl
theorem q1063 : (Jvm.Cond.methodLink "ThreeSnowballs$InAir" (7 : Nat) ({ cls := "ThreeSnowballs$Thrower", name := "<init>", desc := "(LThreeSnowballs;I)V" } : Jvm.MethodName)) ∈ lw_all := lw_g (lw_at lw_m5 12 rfl) rfl
theorem q1064 : (Jvm.Cond.fieldLink "ThreeSnowballs$InAir" (1 : Nat) "ThreeSnowballs$InAir" "this$0" "LThreeSnowballs;") ∈ lw_all := lw_g (lw_at lw_m5 13 rfl) rfl
theorem q1065 : (Jvm.Cond.laysFinal "ThreeSnowballs$InAir" "ThreeSnowballs$InAir" "this$0" "LThreeSnowballs;") ∈ lw_all := lw_g (lw_at lw_m5 14 rfl) rfl
theorem q1066 : (Jvm.Cond.soleField "ThreeSnowballs$InAir" "this$0") ∈ lw_all := lw_g (lw_at lw_m5 15 rfl) rfl
theorem q1067 : (Jvm.Cond.laysFinal "ThreeSnowballs$InAir" "ThreeSnowballs$Thrower" "number" "I") ∈ lw_all := lw_g (lw_at lw_m5 16 rfl) rfl
theorem q1068 : (Jvm.Cond.laysFinal "ThreeSnowballs$InAir" "ThreeSnowballs$Thrower" "this$0" "LThreeSnowballs;") ∈ lw_all := lw_g (lw_at lw_m5 17 rfl) rfl
theorem q1069 : (Jvm.Cond.superclass "ThreeSnowballs$InAir" "ThreeSnowballs$Thrower") ∈ lw_all := lw_g (lw_at lw_m5 18 rfl) rfl
theorem q1167 : (Jvm.Cond.castable "ThreeSnowballs$InAir" "ThreeSnowballs$Aims") ∈ lw_tbl := lw_at lw_m5 116 rfl
theorem q1168 : (Jvm.Cond.selects "ThreeSnowballs$InAir" ({ cls := "ThreeSnowballs$Aims", name := "aiming", desc := "(I)I" } : Jvm.MethodName) ({ cls := "ThreeSnowballs$Thrower", name := "aiming", desc := "(I)I" } : Jvm.MethodName)) ∈ lw_all := lw_g (lw_at lw_m5 117 rfl) rfl
theorem q1169 : (Jvm.Cond.unhidden "ThreeSnowballs$InAir" "aiming" "(I)I") ∈ lw_tbl := lw_at lw_m5 118 rfl
theorem q1209 : (Jvm.Cond.selects "ThreeSnowballs$InAir" ({ cls := "ThreeSnowballs$Thrower", name := "throwsBy", desc := "(I)I" } : Jvm.MethodName) ({ cls := "ThreeSnowballs$InAir", name := "throwsBy", desc := "(I)I" } : Jvm.MethodName)) ∈ lw_all := lw_g (lw_at lw_m5 158 rfl) rfl
theorem q1210 : (Jvm.Cond.instanceMethod ({ cls := "ThreeSnowballs$InAir", name := "throwsBy", desc := "(I)I" } : Jvm.MethodName)) ∈ lw_all := lw_g (lw_at lw_m5 159 rfl) rfl
theorem q1211 : (Jvm.Cond.code ({ cls := "ThreeSnowballs$InAir", name := "throwsBy", desc := "(I)I" } : Jvm.MethodName) prog_10_method_4_code (2 : Nat) (Option.some Jvm.ClassFile.FieldType.int)) ∈ lw_all := lw_g (lw_at lw_m5 160 rfl) rfl
theorem q1212 : (Jvm.Cond.methodLinkNest "ThreeSnowballs$InAir" (17 : Nat) ({ cls := "ThreeSnowballs", name := "ran", desc := "(I)V" } : Jvm.MethodName) "ThreeSnowballs") ∈ lw_tbl := lw_at lw_m5 161 rfl
theorem q1213 : (Jvm.Cond.methodLink "ThreeSnowballs$InAir" (23 : Nat) ({ cls := "ThreeSnowballs$Thrower", name := "throwsBy", desc := "(I)I" } : Jvm.MethodName)) ∈ lw_all := lw_g (lw_at lw_m5 162 rfl) rfl
theorem q1252 : (Jvm.Cond.sameMethod "ThreeSnowballs$InAir" "ThreeSnowballs$Thrower" "hitting" "(I)I") ∈ lw_all := lw_g (lw_at lw_m5 201 rfl) rfl
theorem q1253 : (Jvm.Cond.castable "ThreeSnowballs$InAir" "ThreeSnowballs$Tells") ∈ lw_tbl := lw_at lw_m5 202 rfl
theorem q1254 : (Jvm.Cond.selects "ThreeSnowballs$InAir" ({ cls := "ThreeSnowballs$Tells", name := "tells", desc := "(I)I" } : Jvm.MethodName) ({ cls := "ThreeSnowballs$Thrower", name := "tells", desc := "(I)I" } : Jvm.MethodName)) ∈ lw_all := lw_g (lw_at lw_m5 203 rfl) rfl
theorem q1255 : (Jvm.Cond.unhidden "ThreeSnowballs$InAir" "tells" "(I)I") ∈ lw_tbl := lw_at lw_m5 204 rfl
theorem q1463 : (Jvm.Cond.selects "ThreeSnowballs$InAir" ({ cls := "ThreeSnowballs$Thrower", name := "isUnder", desc := "(I)Z" } : Jvm.MethodName) ({ cls := "ThreeSnowballs$InAir", name := "isUnder", desc := "(I)Z" } : Jvm.MethodName)) ∈ lw_all := lw_g (lw_at lw_m6 172 rfl) rfl
theorem q1464 : (Jvm.Cond.instanceMethod ({ cls := "ThreeSnowballs$InAir", name := "isUnder", desc := "(I)Z" } : Jvm.MethodName)) ∈ lw_all := lw_g (lw_at lw_m6 173 rfl) rfl
theorem q1465 : (Jvm.Cond.code ({ cls := "ThreeSnowballs$InAir", name := "isUnder", desc := "(I)Z" } : Jvm.MethodName) prog_10_method_3_code (2 : Nat) (Option.some Jvm.ClassFile.FieldType.boolean)) ∈ lw_all := lw_g (lw_at lw_m6 174 rfl) rfl
theorem q1466 : (Jvm.Cond.methodLink "ThreeSnowballs$InAir" (13 : Nat) ({ cls := "ThreeSnowballs$Thrower", name := "isUnder", desc := "(I)Z" } : Jvm.MethodName)) ∈ lw_all := lw_g (lw_at lw_m6 175 rfl) rfl
theorem q1483 : (Jvm.Cond.selects "ThreeSnowballs$InAir" ({ cls := "ThreeSnowballs$Thrower", name := "kind", desc := "()I" } : Jvm.MethodName) ({ cls := "ThreeSnowballs$InAir", name := "kind", desc := "()I" } : Jvm.MethodName)) ∈ lw_all := lw_g (lw_at lw_m6 192 rfl) rfl
theorem q1484 : (Jvm.Cond.instanceMethod ({ cls := "ThreeSnowballs$InAir", name := "kind", desc := "()I" } : Jvm.MethodName)) ∈ lw_all := lw_g (lw_at lw_m6 193 rfl) rfl
theorem q1485 : (Jvm.Cond.code ({ cls := "ThreeSnowballs$InAir", name := "kind", desc := "()I" } : Jvm.MethodName) prog_10_method_2_code (1 : Nat) (Option.some Jvm.ClassFile.FieldType.int)) ∈ lw_all := lw_g (lw_at lw_m6 194 rfl) rfl
theorem q2043 : (Jvm.Cond.sameMethod "ThreeSnowballs$InAir" "ThreeSnowballs$InAir" "throwsBy" "(I)I") ∈ lw_all := lw_g (lw_at lw_m9 32 rfl) rfl
theorem q2045 : (Jvm.Cond.selects "ThreeSnowballs$InAir" ({ cls := "ThreeSnowballs$Thrower", name := "aiming", desc := "(I)I" } : Jvm.MethodName) ({ cls := "ThreeSnowballs$Thrower", name := "aiming", desc := "(I)I" } : Jvm.MethodName)) ∈ lw_all := lw_g (lw_at lw_m9 34 rfl) rfl
theorem q2054 : (Jvm.Cond.selects "ThreeSnowballs$InAir" ({ cls := "ThreeSnowballs$Thrower", name := "hitting", desc := "(I)I" } : Jvm.MethodName) ({ cls := "ThreeSnowballs$Thrower", name := "hitting", desc := "(I)I" } : Jvm.MethodName)) ∈ lw_all := lw_g (lw_at lw_m9 43 rfl) rfl
theorem q2062 : (Jvm.Cond.sameMethod "ThreeSnowballs$InAir" "ThreeSnowballs$InAir" "isUnder" "(I)Z") ∈ lw_all := lw_g (lw_at lw_m9 51 rfl) rfl
theorem q2070 : (Jvm.Cond.castable "ThreeSnowballs$InAir" "ThreeSnowballs$Thrower") ∈ lw_tbl := lw_at lw_m9 59 rfl
theorem q2077 : (Jvm.Cond.castable "ThreeSnowballs$InAir" "ThreeSnowballs$Held") ∈ lw_tbl := lw_at lw_m9 66 rfl
theorem in_X16 : ∀ w ∈ wsX160, w ∈ lw_all := lw_in wsX160 [1067, 1068, 1065] (by decide +kernel) (by decide +kernel)
/-! ThreeSnowballs$Weak -/
set_option maxRecDepth 100000
def RX17 : String := "ThreeSnowballs$Weak"
def TX17 : u_T := fun k => match k with
  | 0 => ("ThreeSnowballs$Thrower", "number", "I", true)
  | 1 => ("ThreeSnowballs$Thrower", "this$0", "LThreeSnowballs;", true)
  | 2 => ("ThreeSnowballs$InAir", "this$0", "LThreeSnowballs;", true)
  | _ => ("ThreeSnowballs$Weak", "this$0", "LThreeSnowballs;", true)
def tyX17 : Nat → FieldType := fun k => match k with
  | 0 => .int
  | 1 => .object "ThreeSnowballs"
  | 2 => .object "ThreeSnowballs"
  | _ => .object "ThreeSnowballs"
abbrev wsX170 : List Cond := u_ws RX17 TX17 4
-- two fields of one name: no nmX17
theorem tyX17_ok : ∀ k, k < 4 → parseFieldDescriptor (TX17 k).2.2.1 = some (tyX17 k) := by decide +kernel
abbrev cX17_init : ByteArray := prog_29_method_1_code
def yX17_init : MethodName := ⟨RX17, "<init>", "(LThreeSnowballs;I)V"⟩
def dkwX17_init_0 : List UInt8 := [42, 43, 181, 0, 1, 42, 43, 28, 183, 0, 7, 177]
abbrev dktX17_init_0 : List UInt8 := dkwX17_init_0 ++ []
theorem dksX17_init_0 : cX17_init.data.toList.drop 0 = dktX17_init_0 := by decide +kernel
theorem dX17_init_0 : decode cX17_init 0 = .ok (.aload_n 0, 1) := dk_42 (dk_at dksX17_init_0 0 rfl rfl)
theorem dX17_init_1 : decode cX17_init 1 = .ok (.aload_n 1, 1) := dk_43 (dk_at dksX17_init_0 1 rfl rfl)
theorem dX17_init_2 : decode cX17_init 2 = .ok (.putfield 1, 3) := dk_181 0 1 (dk_at dksX17_init_0 2 rfl rfl)
theorem dX17_init_5 : decode cX17_init 5 = .ok (.aload_n 0, 1) := dk_42 (dk_at dksX17_init_0 5 rfl rfl)
theorem dX17_init_6 : decode cX17_init 6 = .ok (.aload_n 1, 1) := dk_43 (dk_at dksX17_init_0 6 rfl rfl)
theorem dX17_init_7 : decode cX17_init 7 = .ok (.iload_n 2, 1) := dk_28 (dk_at dksX17_init_0 7 rfl rfl)
theorem dX17_init_8 : decode cX17_init 8 = .ok (.invokespecial 7, 3) := dk_183 0 7 (dk_at dksX17_init_0 8 rfl rfl)
theorem dX17_init_11 : decode cX17_init 11 = .ok (.return_, 1) := dk_177 (dk_at dksX17_init_0 11 rfl rfl)
abbrev cX17_throwsBy : ByteArray := prog_29_method_5_code
def yX17_throwsBy : MethodName := ⟨RX17, "throwsBy", "(I)I"⟩
def dkwX17_throwsBy_0 : List UInt8 := [42, 180, 0, 1, 16, 41, 182, 0, 17, 42, 27, 4, 96, 183, 0, 27, 172]
abbrev dktX17_throwsBy_0 : List UInt8 := dkwX17_throwsBy_0 ++ []
theorem dksX17_throwsBy_0 : cX17_throwsBy.data.toList.drop 0 = dktX17_throwsBy_0 := by decide +kernel
theorem dX17_throwsBy_0 : decode cX17_throwsBy 0 = .ok (.aload_n 0, 1) := dk_42 (dk_at dksX17_throwsBy_0 0 rfl rfl)
theorem dX17_throwsBy_1 : decode cX17_throwsBy 1 = .ok (.getfield 1, 3) := dk_180 0 1 (dk_at dksX17_throwsBy_0 1 rfl rfl)
theorem dX17_throwsBy_4 : decode cX17_throwsBy 4 = .ok (.bipush 41, 2) := dk_16 41 (dk_at dksX17_throwsBy_0 4 rfl rfl)
theorem dX17_throwsBy_6 : decode cX17_throwsBy 6 = .ok (.invokevirtual 17, 3) := dk_182 0 17 (dk_at dksX17_throwsBy_0 6 rfl rfl)
theorem dX17_throwsBy_9 : decode cX17_throwsBy 9 = .ok (.aload_n 0, 1) := dk_42 (dk_at dksX17_throwsBy_0 9 rfl rfl)
theorem dX17_throwsBy_10 : decode cX17_throwsBy 10 = .ok (.iload_n 1, 1) := dk_27 (dk_at dksX17_throwsBy_0 10 rfl rfl)
theorem dX17_throwsBy_11 : decode cX17_throwsBy 11 = .ok (.iconst 1, 1) := dk_4 (dk_at dksX17_throwsBy_0 11 rfl rfl)
theorem dX17_throwsBy_12 : decode cX17_throwsBy 12 = .ok (.iadd, 1) := dk_96 (dk_at dksX17_throwsBy_0 12 rfl rfl)
theorem dX17_throwsBy_13 : decode cX17_throwsBy 13 = .ok (.invokespecial 27, 3) := dk_183 0 27 (dk_at dksX17_throwsBy_0 13 rfl rfl)
theorem dX17_throwsBy_16 : decode cX17_throwsBy 16 = .ok (.ireturn, 1) := dk_172 (dk_at dksX17_throwsBy_0 16 rfl rfl)
abbrev cX17_hitting : ByteArray := prog_29_method_4_code
def yX17_hitting : MethodName := ⟨RX17, "hitting", "(I)I"⟩
def dkwX17_hitting_0 : List UInt8 := [42, 180, 0, 1, 16, 40, 182, 0, 17, 42, 27, 183, 0, 23, 6, 104, 172]
abbrev dktX17_hitting_0 : List UInt8 := dkwX17_hitting_0 ++ []
theorem dksX17_hitting_0 : cX17_hitting.data.toList.drop 0 = dktX17_hitting_0 := by decide +kernel
theorem dX17_hitting_0 : decode cX17_hitting 0 = .ok (.aload_n 0, 1) := dk_42 (dk_at dksX17_hitting_0 0 rfl rfl)
theorem dX17_hitting_1 : decode cX17_hitting 1 = .ok (.getfield 1, 3) := dk_180 0 1 (dk_at dksX17_hitting_0 1 rfl rfl)
theorem dX17_hitting_4 : decode cX17_hitting 4 = .ok (.bipush 40, 2) := dk_16 40 (dk_at dksX17_hitting_0 4 rfl rfl)
theorem dX17_hitting_6 : decode cX17_hitting 6 = .ok (.invokevirtual 17, 3) := dk_182 0 17 (dk_at dksX17_hitting_0 6 rfl rfl)
theorem dX17_hitting_9 : decode cX17_hitting 9 = .ok (.aload_n 0, 1) := dk_42 (dk_at dksX17_hitting_0 9 rfl rfl)
theorem dX17_hitting_10 : decode cX17_hitting 10 = .ok (.iload_n 1, 1) := dk_27 (dk_at dksX17_hitting_0 10 rfl rfl)
theorem dX17_hitting_11 : decode cX17_hitting 11 = .ok (.invokespecial 23, 3) := dk_183 0 23 (dk_at dksX17_hitting_0 11 rfl rfl)
theorem dX17_hitting_14 : decode cX17_hitting 14 = .ok (.iconst 3, 1) := dk_6 (dk_at dksX17_hitting_0 14 rfl rfl)
theorem dX17_hitting_15 : decode cX17_hitting 15 = .ok (.imul, 1) := dk_104 (dk_at dksX17_hitting_0 15 rfl rfl)
theorem dX17_hitting_16 : decode cX17_hitting 16 = .ok (.ireturn, 1) := dk_172 (dk_at dksX17_hitting_0 16 rfl rfl)
abbrev cX17_isUnder : ByteArray := prog_29_method_3_code
def yX17_isUnder : MethodName := ⟨RX17, "isUnder", "(I)Z"⟩
def dkwX17_isUnder_0 : List UInt8 := [27, 6, 159, 0, 11, 42, 27, 183, 0, 13, 153, 0, 7, 4, 167, 0, 4, 3, 172]
abbrev dktX17_isUnder_0 : List UInt8 := dkwX17_isUnder_0 ++ []
theorem dksX17_isUnder_0 : cX17_isUnder.data.toList.drop 0 = dktX17_isUnder_0 := by decide +kernel
theorem dX17_isUnder_0 : decode cX17_isUnder 0 = .ok (.iload_n 1, 1) := dk_27 (dk_at dksX17_isUnder_0 0 rfl rfl)
theorem dX17_isUnder_1 : decode cX17_isUnder 1 = .ok (.iconst 3, 1) := dk_6 (dk_at dksX17_isUnder_0 1 rfl rfl)
theorem dX17_isUnder_2 : decode cX17_isUnder 2 = .ok (.if_icmp .eq 11, 3) := dk_159 0 11 (dk_at dksX17_isUnder_0 2 rfl rfl)
theorem dX17_isUnder_5 : decode cX17_isUnder 5 = .ok (.aload_n 0, 1) := dk_42 (dk_at dksX17_isUnder_0 5 rfl rfl)
theorem dX17_isUnder_6 : decode cX17_isUnder 6 = .ok (.iload_n 1, 1) := dk_27 (dk_at dksX17_isUnder_0 6 rfl rfl)
theorem dX17_isUnder_7 : decode cX17_isUnder 7 = .ok (.invokespecial 13, 3) := dk_183 0 13 (dk_at dksX17_isUnder_0 7 rfl rfl)
theorem dX17_isUnder_10 : decode cX17_isUnder 10 = .ok (.ifCond .eq 7, 3) := dk_153 0 7 (dk_at dksX17_isUnder_0 10 rfl rfl)
theorem dX17_isUnder_13 : decode cX17_isUnder 13 = .ok (.iconst 1, 1) := dk_4 (dk_at dksX17_isUnder_0 13 rfl rfl)
theorem dX17_isUnder_14 : decode cX17_isUnder 14 = .ok (.goto 4, 3) := dk_167 0 4 (dk_at dksX17_isUnder_0 14 rfl rfl)
theorem dX17_isUnder_17 : decode cX17_isUnder 17 = .ok (.iconst 0, 1) := dk_3 (dk_at dksX17_isUnder_0 17 rfl rfl)
theorem dX17_isUnder_18 : decode cX17_isUnder 18 = .ok (.ireturn, 1) := dk_172 (dk_at dksX17_isUnder_0 18 rfl rfl)
abbrev cX17_kind : ByteArray := prog_29_method_2_code
def yX17_kind : MethodName := ⟨RX17, "kind", "()I"⟩
theorem dX17_kind_0 : decode cX17_kind 0 = .ok (.iconst 3, 1) := by decide +kernel
theorem dX17_kind_1 : decode cX17_kind 1 = .ok (.ireturn, 1) := by decide +kernel
theorem q123 : (Jvm.Cond.initialized "ThreeSnowballs$Weak") ∈ lw_all := lw_g (lw_at lw_m1 32 rfl) rfl
theorem q1071 : (Jvm.Cond.instantiable "ThreeSnowballs$Weak" (4 : Nat)) ∈ lw_all := lw_g (lw_at lw_m5 20 rfl) rfl
theorem q1073 : (Jvm.Cond.instanceMethod ({ cls := "ThreeSnowballs$Weak", name := "<init>", desc := "(LThreeSnowballs;I)V" } : Jvm.MethodName)) ∈ lw_all := lw_g (lw_at lw_m5 22 rfl) rfl
theorem q1074 : (Jvm.Cond.code ({ cls := "ThreeSnowballs$Weak", name := "<init>", desc := "(LThreeSnowballs;I)V" } : Jvm.MethodName) prog_29_method_1_code (3 : Nat) (Option.none : Option Jvm.ClassFile.FieldType)) ∈ lw_all := lw_g (lw_at lw_m5 23 rfl) rfl
theorem q1075 : (Jvm.Cond.methodLink "ThreeSnowballs$Weak" (7 : Nat) ({ cls := "ThreeSnowballs$InAir", name := "<init>", desc := "(LThreeSnowballs;I)V" } : Jvm.MethodName)) ∈ lw_all := lw_g (lw_at lw_m5 24 rfl) rfl
theorem q1076 : (Jvm.Cond.fieldLink "ThreeSnowballs$Weak" (1 : Nat) "ThreeSnowballs$Weak" "this$0" "LThreeSnowballs;") ∈ lw_all := lw_g (lw_at lw_m5 25 rfl) rfl
theorem q1077 : (Jvm.Cond.laysFinal "ThreeSnowballs$Weak" "ThreeSnowballs$Weak" "this$0" "LThreeSnowballs;") ∈ lw_all := lw_g (lw_at lw_m5 26 rfl) rfl
theorem q1078 : (Jvm.Cond.soleField "ThreeSnowballs$Weak" "this$0") ∈ lw_all := lw_g (lw_at lw_m5 27 rfl) rfl
theorem q1079 : (Jvm.Cond.laysFinal "ThreeSnowballs$Weak" "ThreeSnowballs$InAir" "this$0" "LThreeSnowballs;") ∈ lw_all := lw_g (lw_at lw_m5 28 rfl) rfl
theorem q1080 : (Jvm.Cond.laysFinal "ThreeSnowballs$Weak" "ThreeSnowballs$Thrower" "number" "I") ∈ lw_all := lw_g (lw_at lw_m5 29 rfl) rfl
theorem q1081 : (Jvm.Cond.laysFinal "ThreeSnowballs$Weak" "ThreeSnowballs$Thrower" "this$0" "LThreeSnowballs;") ∈ lw_all := lw_g (lw_at lw_m5 30 rfl) rfl
theorem q1082 : (Jvm.Cond.superclass "ThreeSnowballs$Weak" "ThreeSnowballs$InAir") ∈ lw_all := lw_g (lw_at lw_m5 31 rfl) rfl
theorem q1191 : (Jvm.Cond.castable "ThreeSnowballs$Weak" "ThreeSnowballs$Aims") ∈ lw_tbl := lw_at lw_m5 140 rfl
theorem q1192 : (Jvm.Cond.selects "ThreeSnowballs$Weak" ({ cls := "ThreeSnowballs$Aims", name := "aiming", desc := "(I)I" } : Jvm.MethodName) ({ cls := "ThreeSnowballs$Thrower", name := "aiming", desc := "(I)I" } : Jvm.MethodName)) ∈ lw_all := lw_g (lw_at lw_m5 141 rfl) rfl
theorem q1193 : (Jvm.Cond.unhidden "ThreeSnowballs$Weak" "aiming" "(I)I") ∈ lw_tbl := lw_at lw_m5 142 rfl
theorem q1239 : (Jvm.Cond.instanceMethod ({ cls := "ThreeSnowballs$Weak", name := "throwsBy", desc := "(I)I" } : Jvm.MethodName)) ∈ lw_all := lw_g (lw_at lw_m5 188 rfl) rfl
theorem q1240 : (Jvm.Cond.code ({ cls := "ThreeSnowballs$Weak", name := "throwsBy", desc := "(I)I" } : Jvm.MethodName) prog_29_method_5_code (2 : Nat) (Option.some Jvm.ClassFile.FieldType.int)) ∈ lw_all := lw_g (lw_at lw_m5 189 rfl) rfl
theorem q1241 : (Jvm.Cond.methodLinkNest "ThreeSnowballs$Weak" (17 : Nat) ({ cls := "ThreeSnowballs", name := "ran", desc := "(I)V" } : Jvm.MethodName) "ThreeSnowballs") ∈ lw_tbl := lw_at lw_m5 190 rfl
theorem q1242 : (Jvm.Cond.methodLink "ThreeSnowballs$Weak" (27 : Nat) ({ cls := "ThreeSnowballs$InAir", name := "throwsBy", desc := "(I)I" } : Jvm.MethodName)) ∈ lw_all := lw_g (lw_at lw_m5 191 rfl) rfl
theorem q1245 : (Jvm.Cond.selects "ThreeSnowballs$Weak" ({ cls := "ThreeSnowballs$Thrower", name := "throwsBy", desc := "(I)I" } : Jvm.MethodName) ({ cls := "ThreeSnowballs$Weak", name := "throwsBy", desc := "(I)I" } : Jvm.MethodName)) ∈ lw_all := lw_g (lw_at lw_m5 194 rfl) rfl
theorem q1249 : (Jvm.Cond.instanceMethod ({ cls := "ThreeSnowballs$Weak", name := "hitting", desc := "(I)I" } : Jvm.MethodName)) ∈ lw_all := lw_g (lw_at lw_m5 198 rfl) rfl
theorem q1250 : (Jvm.Cond.code ({ cls := "ThreeSnowballs$Weak", name := "hitting", desc := "(I)I" } : Jvm.MethodName) prog_29_method_4_code (2 : Nat) (Option.some Jvm.ClassFile.FieldType.int)) ∈ lw_all := lw_g (lw_at lw_m5 199 rfl) rfl
theorem q1251 : (Jvm.Cond.methodLink "ThreeSnowballs$Weak" (23 : Nat) ({ cls := "ThreeSnowballs$InAir", name := "hitting", desc := "(I)I" } : Jvm.MethodName)) ∈ lw_all := lw_g (lw_at lw_m5 200 rfl) rfl
theorem q1273 : (Jvm.Cond.sameMethod "ThreeSnowballs$Weak" "ThreeSnowballs$Thrower" "tells" "(I)I") ∈ lw_all := lw_g (lw_at lw_m5 222 rfl) rfl
theorem q1283 : (Jvm.Cond.castable "ThreeSnowballs$Weak" "ThreeSnowballs$Tells") ∈ lw_tbl := lw_at lw_m5 232 rfl
theorem q1284 : (Jvm.Cond.selects "ThreeSnowballs$Weak" ({ cls := "ThreeSnowballs$Tells", name := "tells", desc := "(I)I" } : Jvm.MethodName) ({ cls := "ThreeSnowballs$Thrower", name := "tells", desc := "(I)I" } : Jvm.MethodName)) ∈ lw_all := lw_g (lw_at lw_m5 233 rfl) rfl
theorem q1285 : (Jvm.Cond.unhidden "ThreeSnowballs$Weak" "tells" "(I)I") ∈ lw_tbl := lw_at lw_m5 234 rfl
theorem q1469 : (Jvm.Cond.instanceMethod ({ cls := "ThreeSnowballs$Weak", name := "isUnder", desc := "(I)Z" } : Jvm.MethodName)) ∈ lw_all := lw_g (lw_at lw_m6 178 rfl) rfl
theorem q1470 : (Jvm.Cond.code ({ cls := "ThreeSnowballs$Weak", name := "isUnder", desc := "(I)Z" } : Jvm.MethodName) prog_29_method_3_code (2 : Nat) (Option.some Jvm.ClassFile.FieldType.boolean)) ∈ lw_all := lw_g (lw_at lw_m6 179 rfl) rfl
theorem q1471 : (Jvm.Cond.methodLink "ThreeSnowballs$Weak" (13 : Nat) ({ cls := "ThreeSnowballs$InAir", name := "isUnder", desc := "(I)Z" } : Jvm.MethodName)) ∈ lw_all := lw_g (lw_at lw_m6 180 rfl) rfl
theorem q1474 : (Jvm.Cond.selects "ThreeSnowballs$Weak" ({ cls := "ThreeSnowballs$Thrower", name := "isUnder", desc := "(I)Z" } : Jvm.MethodName) ({ cls := "ThreeSnowballs$Weak", name := "isUnder", desc := "(I)Z" } : Jvm.MethodName)) ∈ lw_all := lw_g (lw_at lw_m6 183 rfl) rfl
theorem q1498 : (Jvm.Cond.selects "ThreeSnowballs$Weak" ({ cls := "ThreeSnowballs$Thrower", name := "kind", desc := "()I" } : Jvm.MethodName) ({ cls := "ThreeSnowballs$Weak", name := "kind", desc := "()I" } : Jvm.MethodName)) ∈ lw_all := lw_g (lw_at lw_m6 207 rfl) rfl
theorem q1499 : (Jvm.Cond.instanceMethod ({ cls := "ThreeSnowballs$Weak", name := "kind", desc := "()I" } : Jvm.MethodName)) ∈ lw_all := lw_g (lw_at lw_m6 208 rfl) rfl
theorem q1500 : (Jvm.Cond.code ({ cls := "ThreeSnowballs$Weak", name := "kind", desc := "()I" } : Jvm.MethodName) prog_29_method_2_code (1 : Nat) (Option.some Jvm.ClassFile.FieldType.int)) ∈ lw_all := lw_g (lw_at lw_m6 209 rfl) rfl
theorem q2051 : (Jvm.Cond.selects "ThreeSnowballs$Weak" ({ cls := "ThreeSnowballs$Thrower", name := "aiming", desc := "(I)I" } : Jvm.MethodName) ({ cls := "ThreeSnowballs$Thrower", name := "aiming", desc := "(I)I" } : Jvm.MethodName)) ∈ lw_all := lw_g (lw_at lw_m9 40 rfl) rfl
theorem q2060 : (Jvm.Cond.selects "ThreeSnowballs$Weak" ({ cls := "ThreeSnowballs$Thrower", name := "hitting", desc := "(I)I" } : Jvm.MethodName) ({ cls := "ThreeSnowballs$Weak", name := "hitting", desc := "(I)I" } : Jvm.MethodName)) ∈ lw_all := lw_g (lw_at lw_m9 49 rfl) rfl
theorem q2075 : (Jvm.Cond.castable "ThreeSnowballs$Weak" "ThreeSnowballs$Thrower") ∈ lw_tbl := lw_at lw_m9 64 rfl
theorem q2078 : (Jvm.Cond.castable "ThreeSnowballs$Weak" "ThreeSnowballs$Held") ∈ lw_tbl := lw_at lw_m9 67 rfl
theorem in_X17 : ∀ w ∈ wsX170, w ∈ lw_all := lw_in wsX170 [1080, 1081, 1079, 1077] (by decide +kernel) (by decide +kernel)
/-! ThreeSnowballs$Best -/
set_option maxRecDepth 100000
def RX18 : String := "ThreeSnowballs$Best"
def TX18 : u_T := fun k => match k with
  | 0 => ("ThreeSnowballs$Thrower", "number", "I", true)
  | 1 => ("ThreeSnowballs$Thrower", "this$0", "LThreeSnowballs;", true)
  | 2 => ("ThreeSnowballs$Strong", "this$0", "LThreeSnowballs;", true)
  | _ => ("ThreeSnowballs$Best", "this$0", "LThreeSnowballs;", true)
def tyX18 : Nat → FieldType := fun k => match k with
  | 0 => .int
  | 1 => .object "ThreeSnowballs"
  | 2 => .object "ThreeSnowballs"
  | _ => .object "ThreeSnowballs"
abbrev wsX180 : List Cond := u_ws RX18 TX18 4
-- two fields of one name: no nmX18
theorem tyX18_ok : ∀ k, k < 4 → parseFieldDescriptor (TX18 k).2.2.1 = some (tyX18 k) := by decide +kernel
abbrev cX18_init : ByteArray := prog_3_method_1_code
def yX18_init : MethodName := ⟨RX18, "<init>", "(LThreeSnowballs;I)V"⟩
def dkwX18_init_0 : List UInt8 := [42, 43, 181, 0, 1, 42, 43, 28, 183, 0, 7, 177]
abbrev dktX18_init_0 : List UInt8 := dkwX18_init_0 ++ []
theorem dksX18_init_0 : cX18_init.data.toList.drop 0 = dktX18_init_0 := by decide +kernel
theorem dX18_init_0 : decode cX18_init 0 = .ok (.aload_n 0, 1) := dk_42 (dk_at dksX18_init_0 0 rfl rfl)
theorem dX18_init_1 : decode cX18_init 1 = .ok (.aload_n 1, 1) := dk_43 (dk_at dksX18_init_0 1 rfl rfl)
theorem dX18_init_2 : decode cX18_init 2 = .ok (.putfield 1, 3) := dk_181 0 1 (dk_at dksX18_init_0 2 rfl rfl)
theorem dX18_init_5 : decode cX18_init 5 = .ok (.aload_n 0, 1) := dk_42 (dk_at dksX18_init_0 5 rfl rfl)
theorem dX18_init_6 : decode cX18_init 6 = .ok (.aload_n 1, 1) := dk_43 (dk_at dksX18_init_0 6 rfl rfl)
theorem dX18_init_7 : decode cX18_init 7 = .ok (.iload_n 2, 1) := dk_28 (dk_at dksX18_init_0 7 rfl rfl)
theorem dX18_init_8 : decode cX18_init 8 = .ok (.invokespecial 7, 3) := dk_183 0 7 (dk_at dksX18_init_0 8 rfl rfl)
theorem dX18_init_11 : decode cX18_init 11 = .ok (.return_, 1) := dk_177 (dk_at dksX18_init_0 11 rfl rfl)
abbrev cX18_hitting : ByteArray := prog_3_method_4_code
def yX18_hitting : MethodName := ⟨RX18, "hitting", "(I)I"⟩
def dkwX18_hitting_0 : List UInt8 := [42, 180, 0, 1, 16, 50, 182, 0, 17, 42, 27, 183, 0, 23, 61, 28, 42, 5, 182, 0, 27, 100, 172]
abbrev dktX18_hitting_0 : List UInt8 := dkwX18_hitting_0 ++ []
theorem dksX18_hitting_0 : cX18_hitting.data.toList.drop 0 = dktX18_hitting_0 := by decide +kernel
theorem dX18_hitting_0 : decode cX18_hitting 0 = .ok (.aload_n 0, 1) := dk_42 (dk_at dksX18_hitting_0 0 rfl rfl)
theorem dX18_hitting_1 : decode cX18_hitting 1 = .ok (.getfield 1, 3) := dk_180 0 1 (dk_at dksX18_hitting_0 1 rfl rfl)
theorem dX18_hitting_4 : decode cX18_hitting 4 = .ok (.bipush 50, 2) := dk_16 50 (dk_at dksX18_hitting_0 4 rfl rfl)
theorem dX18_hitting_6 : decode cX18_hitting 6 = .ok (.invokevirtual 17, 3) := dk_182 0 17 (dk_at dksX18_hitting_0 6 rfl rfl)
theorem dX18_hitting_9 : decode cX18_hitting 9 = .ok (.aload_n 0, 1) := dk_42 (dk_at dksX18_hitting_0 9 rfl rfl)
theorem dX18_hitting_10 : decode cX18_hitting 10 = .ok (.iload_n 1, 1) := dk_27 (dk_at dksX18_hitting_0 10 rfl rfl)
theorem dX18_hitting_11 : decode cX18_hitting 11 = .ok (.invokespecial 23, 3) := dk_183 0 23 (dk_at dksX18_hitting_0 11 rfl rfl)
theorem dX18_hitting_14 : decode cX18_hitting 14 = .ok (.istore_n 2, 1) := dk_61 (dk_at dksX18_hitting_0 14 rfl rfl)
theorem dX18_hitting_15 : decode cX18_hitting 15 = .ok (.iload_n 2, 1) := dk_28 (dk_at dksX18_hitting_0 15 rfl rfl)
theorem dX18_hitting_16 : decode cX18_hitting 16 = .ok (.aload_n 0, 1) := dk_42 (dk_at dksX18_hitting_0 16 rfl rfl)
theorem dX18_hitting_17 : decode cX18_hitting 17 = .ok (.iconst 2, 1) := dk_5 (dk_at dksX18_hitting_0 17 rfl rfl)
theorem dX18_hitting_18 : decode cX18_hitting 18 = .ok (.invokevirtual 27, 3) := dk_182 0 27 (dk_at dksX18_hitting_0 18 rfl rfl)
theorem dX18_hitting_21 : decode cX18_hitting 21 = .ok (.isub, 1) := dk_100 (dk_at dksX18_hitting_0 21 rfl rfl)
theorem dX18_hitting_22 : decode cX18_hitting 22 = .ok (.ireturn, 1) := dk_172 (dk_at dksX18_hitting_0 22 rfl rfl)
abbrev cX18_isUnder : ByteArray := prog_3_method_3_code
def yX18_isUnder : MethodName := ⟨RX18, "isUnder", "(I)Z"⟩
def dkwX18_isUnder_0 : List UInt8 := [27, 7, 159, 0, 11, 42, 27, 183, 0, 13, 153, 0, 7, 4, 167, 0, 4, 3, 172]
abbrev dktX18_isUnder_0 : List UInt8 := dkwX18_isUnder_0 ++ []
theorem dksX18_isUnder_0 : cX18_isUnder.data.toList.drop 0 = dktX18_isUnder_0 := by decide +kernel
theorem dX18_isUnder_0 : decode cX18_isUnder 0 = .ok (.iload_n 1, 1) := dk_27 (dk_at dksX18_isUnder_0 0 rfl rfl)
theorem dX18_isUnder_1 : decode cX18_isUnder 1 = .ok (.iconst 4, 1) := dk_7 (dk_at dksX18_isUnder_0 1 rfl rfl)
theorem dX18_isUnder_2 : decode cX18_isUnder 2 = .ok (.if_icmp .eq 11, 3) := dk_159 0 11 (dk_at dksX18_isUnder_0 2 rfl rfl)
theorem dX18_isUnder_5 : decode cX18_isUnder 5 = .ok (.aload_n 0, 1) := dk_42 (dk_at dksX18_isUnder_0 5 rfl rfl)
theorem dX18_isUnder_6 : decode cX18_isUnder 6 = .ok (.iload_n 1, 1) := dk_27 (dk_at dksX18_isUnder_0 6 rfl rfl)
theorem dX18_isUnder_7 : decode cX18_isUnder 7 = .ok (.invokespecial 13, 3) := dk_183 0 13 (dk_at dksX18_isUnder_0 7 rfl rfl)
theorem dX18_isUnder_10 : decode cX18_isUnder 10 = .ok (.ifCond .eq 7, 3) := dk_153 0 7 (dk_at dksX18_isUnder_0 10 rfl rfl)
theorem dX18_isUnder_13 : decode cX18_isUnder 13 = .ok (.iconst 1, 1) := dk_4 (dk_at dksX18_isUnder_0 13 rfl rfl)
theorem dX18_isUnder_14 : decode cX18_isUnder 14 = .ok (.goto 4, 3) := dk_167 0 4 (dk_at dksX18_isUnder_0 14 rfl rfl)
theorem dX18_isUnder_17 : decode cX18_isUnder 17 = .ok (.iconst 0, 1) := dk_3 (dk_at dksX18_isUnder_0 17 rfl rfl)
theorem dX18_isUnder_18 : decode cX18_isUnder 18 = .ok (.ireturn, 1) := dk_172 (dk_at dksX18_isUnder_0 18 rfl rfl)
abbrev cX18_kind : ByteArray := prog_3_method_2_code
def yX18_kind : MethodName := ⟨RX18, "kind", "()I"⟩
theorem dX18_kind_0 : decode cX18_kind 0 = .ok (.iconst 4, 1) := by decide +kernel
theorem dX18_kind_1 : decode cX18_kind 1 = .ok (.ireturn, 1) := by decide +kernel
theorem q124 : (Jvm.Cond.initialized "ThreeSnowballs$Best") ∈ lw_all := lw_g (lw_at lw_m1 33 rfl) rfl
theorem q1084 : (Jvm.Cond.instantiable "ThreeSnowballs$Best" (4 : Nat)) ∈ lw_all := lw_g (lw_at lw_m5 33 rfl) rfl
theorem q1086 : (Jvm.Cond.instanceMethod ({ cls := "ThreeSnowballs$Best", name := "<init>", desc := "(LThreeSnowballs;I)V" } : Jvm.MethodName)) ∈ lw_all := lw_g (lw_at lw_m5 35 rfl) rfl
theorem q1087 : (Jvm.Cond.code ({ cls := "ThreeSnowballs$Best", name := "<init>", desc := "(LThreeSnowballs;I)V" } : Jvm.MethodName) prog_3_method_1_code (3 : Nat) (Option.none : Option Jvm.ClassFile.FieldType)) ∈ lw_all := lw_g (lw_at lw_m5 36 rfl) rfl
theorem q1088 : (Jvm.Cond.methodLink "ThreeSnowballs$Best" (7 : Nat) ({ cls := "ThreeSnowballs$Strong", name := "<init>", desc := "(LThreeSnowballs;I)V" } : Jvm.MethodName)) ∈ lw_all := lw_g (lw_at lw_m5 37 rfl) rfl
theorem q1089 : (Jvm.Cond.fieldLink "ThreeSnowballs$Best" (1 : Nat) "ThreeSnowballs$Best" "this$0" "LThreeSnowballs;") ∈ lw_all := lw_g (lw_at lw_m5 38 rfl) rfl
theorem q1090 : (Jvm.Cond.laysFinal "ThreeSnowballs$Best" "ThreeSnowballs$Best" "this$0" "LThreeSnowballs;") ∈ lw_all := lw_g (lw_at lw_m5 39 rfl) rfl
theorem q1091 : (Jvm.Cond.soleField "ThreeSnowballs$Best" "this$0") ∈ lw_all := lw_g (lw_at lw_m5 40 rfl) rfl
theorem q1092 : (Jvm.Cond.laysFinal "ThreeSnowballs$Best" "ThreeSnowballs$Strong" "this$0" "LThreeSnowballs;") ∈ lw_all := lw_g (lw_at lw_m5 41 rfl) rfl
theorem q1093 : (Jvm.Cond.laysFinal "ThreeSnowballs$Best" "ThreeSnowballs$Thrower" "number" "I") ∈ lw_all := lw_g (lw_at lw_m5 42 rfl) rfl
theorem q1094 : (Jvm.Cond.laysFinal "ThreeSnowballs$Best" "ThreeSnowballs$Thrower" "this$0" "LThreeSnowballs;") ∈ lw_all := lw_g (lw_at lw_m5 43 rfl) rfl
theorem q1095 : (Jvm.Cond.superclass "ThreeSnowballs$Best" "ThreeSnowballs$Strong") ∈ lw_all := lw_g (lw_at lw_m5 44 rfl) rfl
theorem q1153 : (Jvm.Cond.castable "ThreeSnowballs$Best" "ThreeSnowballs$Aims") ∈ lw_tbl := lw_at lw_m5 102 rfl
theorem q1154 : (Jvm.Cond.selects "ThreeSnowballs$Best" ({ cls := "ThreeSnowballs$Aims", name := "aiming", desc := "(I)I" } : Jvm.MethodName) ({ cls := "ThreeSnowballs$Strong", name := "aiming", desc := "(I)I" } : Jvm.MethodName)) ∈ lw_all := lw_g (lw_at lw_m5 103 rfl) rfl
theorem q1155 : (Jvm.Cond.unhidden "ThreeSnowballs$Best" "aiming" "(I)I") ∈ lw_tbl := lw_at lw_m5 104 rfl
theorem q1198 : (Jvm.Cond.castable "ThreeSnowballs$Best" "ThreeSnowballs$Tells") ∈ lw_tbl := lw_at lw_m5 147 rfl
theorem q1199 : (Jvm.Cond.selects "ThreeSnowballs$Best" ({ cls := "ThreeSnowballs$Tells", name := "tells", desc := "(I)I" } : Jvm.MethodName) ({ cls := "ThreeSnowballs$Thrower", name := "tells", desc := "(I)I" } : Jvm.MethodName)) ∈ lw_all := lw_g (lw_at lw_m5 148 rfl) rfl
theorem q1200 : (Jvm.Cond.unhidden "ThreeSnowballs$Best" "tells" "(I)I") ∈ lw_tbl := lw_at lw_m5 149 rfl
theorem q1208 : (Jvm.Cond.selects "ThreeSnowballs$Best" ({ cls := "ThreeSnowballs$Thrower", name := "throwsBy", desc := "(I)I" } : Jvm.MethodName) ({ cls := "ThreeSnowballs$Thrower", name := "throwsBy", desc := "(I)I" } : Jvm.MethodName)) ∈ lw_all := lw_g (lw_at lw_m5 157 rfl) rfl
theorem q1219 : (Jvm.Cond.sameMethod "ThreeSnowballs$Best" "ThreeSnowballs$Thrower" "throwsBy" "(I)I") ∈ lw_all := lw_g (lw_at lw_m5 168 rfl) rfl
theorem q1223 : (Jvm.Cond.declares ({ cls := "ThreeSnowballs$Best", name := "hitting", desc := "(I)I" } : Jvm.MethodName)) ∈ lw_tbl := lw_at lw_m5 172 rfl
theorem q1225 : (Jvm.Cond.instanceMethod ({ cls := "ThreeSnowballs$Best", name := "hitting", desc := "(I)I" } : Jvm.MethodName)) ∈ lw_all := lw_g (lw_at lw_m5 174 rfl) rfl
theorem q1226 : (Jvm.Cond.code ({ cls := "ThreeSnowballs$Best", name := "hitting", desc := "(I)I" } : Jvm.MethodName) prog_3_method_4_code (3 : Nat) (Option.some Jvm.ClassFile.FieldType.int)) ∈ lw_all := lw_g (lw_at lw_m5 175 rfl) rfl
theorem q1227 : (Jvm.Cond.methodLinkNest "ThreeSnowballs$Best" (17 : Nat) ({ cls := "ThreeSnowballs", name := "ran", desc := "(I)V" } : Jvm.MethodName) "ThreeSnowballs") ∈ lw_tbl := lw_at lw_m5 176 rfl
theorem q1228 : (Jvm.Cond.methodLink "ThreeSnowballs$Best" (23 : Nat) ({ cls := "ThreeSnowballs$Strong", name := "hitting", desc := "(I)I" } : Jvm.MethodName)) ∈ lw_all := lw_g (lw_at lw_m5 177 rfl) rfl
theorem q1233 : (Jvm.Cond.methodLink "ThreeSnowballs$Best" (27 : Nat) ({ cls := "ThreeSnowballs$Best", name := "aiming", desc := "(I)I" } : Jvm.MethodName)) ∈ lw_all := lw_g (lw_at lw_m5 182 rfl) rfl
theorem q1234 : (Jvm.Cond.sameMethod "ThreeSnowballs$Best" "ThreeSnowballs$Strong" "aiming" "(I)I") ∈ lw_all := lw_g (lw_at lw_m5 183 rfl) rfl
theorem q1236 : (Jvm.Cond.selects "ThreeSnowballs$Best" ({ cls := "ThreeSnowballs$Best", name := "aiming", desc := "(I)I" } : Jvm.MethodName) ({ cls := "ThreeSnowballs$Strong", name := "aiming", desc := "(I)I" } : Jvm.MethodName)) ∈ lw_all := lw_g (lw_at lw_m5 185 rfl) rfl
theorem q1263 : (Jvm.Cond.sameMethod "ThreeSnowballs$Best" "ThreeSnowballs$Thrower" "tells" "(I)I") ∈ lw_all := lw_g (lw_at lw_m5 212 rfl) rfl
theorem q1456 : (Jvm.Cond.selects "ThreeSnowballs$Best" ({ cls := "ThreeSnowballs$Thrower", name := "isUnder", desc := "(I)Z" } : Jvm.MethodName) ({ cls := "ThreeSnowballs$Best", name := "isUnder", desc := "(I)Z" } : Jvm.MethodName)) ∈ lw_all := lw_g (lw_at lw_m6 165 rfl) rfl
theorem q1457 : (Jvm.Cond.instanceMethod ({ cls := "ThreeSnowballs$Best", name := "isUnder", desc := "(I)Z" } : Jvm.MethodName)) ∈ lw_all := lw_g (lw_at lw_m6 166 rfl) rfl
theorem q1458 : (Jvm.Cond.code ({ cls := "ThreeSnowballs$Best", name := "isUnder", desc := "(I)Z" } : Jvm.MethodName) prog_3_method_3_code (2 : Nat) (Option.some Jvm.ClassFile.FieldType.boolean)) ∈ lw_all := lw_g (lw_at lw_m6 167 rfl) rfl
theorem q1459 : (Jvm.Cond.methodLink "ThreeSnowballs$Best" (13 : Nat) ({ cls := "ThreeSnowballs$Strong", name := "isUnder", desc := "(I)Z" } : Jvm.MethodName)) ∈ lw_all := lw_g (lw_at lw_m6 168 rfl) rfl
theorem q1480 : (Jvm.Cond.selects "ThreeSnowballs$Best" ({ cls := "ThreeSnowballs$Thrower", name := "kind", desc := "()I" } : Jvm.MethodName) ({ cls := "ThreeSnowballs$Best", name := "kind", desc := "()I" } : Jvm.MethodName)) ∈ lw_all := lw_g (lw_at lw_m6 189 rfl) rfl
theorem q1481 : (Jvm.Cond.instanceMethod ({ cls := "ThreeSnowballs$Best", name := "kind", desc := "()I" } : Jvm.MethodName)) ∈ lw_all := lw_g (lw_at lw_m6 190 rfl) rfl
theorem q1482 : (Jvm.Cond.code ({ cls := "ThreeSnowballs$Best", name := "kind", desc := "()I" } : Jvm.MethodName) prog_3_method_2_code (1 : Nat) (Option.some Jvm.ClassFile.FieldType.int)) ∈ lw_all := lw_g (lw_at lw_m6 191 rfl) rfl
theorem q2044 : (Jvm.Cond.selects "ThreeSnowballs$Best" ({ cls := "ThreeSnowballs$Thrower", name := "aiming", desc := "(I)I" } : Jvm.MethodName) ({ cls := "ThreeSnowballs$Strong", name := "aiming", desc := "(I)I" } : Jvm.MethodName)) ∈ lw_all := lw_g (lw_at lw_m9 33 rfl) rfl
theorem q2053 : (Jvm.Cond.selects "ThreeSnowballs$Best" ({ cls := "ThreeSnowballs$Thrower", name := "hitting", desc := "(I)I" } : Jvm.MethodName) ({ cls := "ThreeSnowballs$Best", name := "hitting", desc := "(I)I" } : Jvm.MethodName)) ∈ lw_all := lw_g (lw_at lw_m9 42 rfl) rfl
theorem q2069 : (Jvm.Cond.castable "ThreeSnowballs$Best" "ThreeSnowballs$Thrower") ∈ lw_tbl := lw_at lw_m9 58 rfl
theorem q2079 : (Jvm.Cond.castable "ThreeSnowballs$Best" "ThreeSnowballs$Held") ∈ lw_tbl := lw_at lw_m9 68 rfl
theorem in_X18 : ∀ w ∈ wsX180, w ∈ lw_all := lw_in wsX180 [1093, 1094, 1092, 1090] (by decide +kernel) (by decide +kernel)
/-! ThreeSnowballs$League -/
set_option maxRecDepth 100000
def RX19 : String := "ThreeSnowballs$League"
def TX19 : u_T := fun k => match k with
  | 0 => ("ThreeSnowballs$Thrower", "number", "I", true)
  | 1 => ("ThreeSnowballs$Thrower", "this$0", "LThreeSnowballs;", true)
  | 2 => ("ThreeSnowballs$InAir", "this$0", "LThreeSnowballs;", true)
  | 3 => ("ThreeSnowballs$Weak", "this$0", "LThreeSnowballs;", true)
  | _ => ("ThreeSnowballs$League", "this$0", "LThreeSnowballs;", true)
def tyX19 : Nat → FieldType := fun k => match k with
  | 0 => .int
  | 1 => .object "ThreeSnowballs"
  | 2 => .object "ThreeSnowballs"
  | 3 => .object "ThreeSnowballs"
  | _ => .object "ThreeSnowballs"
abbrev wsX190 : List Cond := u_ws RX19 TX19 5
-- two fields of one name: no nmX19
theorem tyX19_ok : ∀ k, k < 5 → parseFieldDescriptor (TX19 k).2.2.1 = some (tyX19 k) := by decide +kernel
abbrev cX19_init : ByteArray := prog_14_method_1_code
def yX19_init : MethodName := ⟨RX19, "<init>", "(LThreeSnowballs;I)V"⟩
def dkwX19_init_0 : List UInt8 := [42, 43, 181, 0, 1, 42, 43, 28, 183, 0, 7, 177]
abbrev dktX19_init_0 : List UInt8 := dkwX19_init_0 ++ []
theorem dksX19_init_0 : cX19_init.data.toList.drop 0 = dktX19_init_0 := by decide +kernel
theorem dX19_init_0 : decode cX19_init 0 = .ok (.aload_n 0, 1) := dk_42 (dk_at dksX19_init_0 0 rfl rfl)
theorem dX19_init_1 : decode cX19_init 1 = .ok (.aload_n 1, 1) := dk_43 (dk_at dksX19_init_0 1 rfl rfl)
theorem dX19_init_2 : decode cX19_init 2 = .ok (.putfield 1, 3) := dk_181 0 1 (dk_at dksX19_init_0 2 rfl rfl)
theorem dX19_init_5 : decode cX19_init 5 = .ok (.aload_n 0, 1) := dk_42 (dk_at dksX19_init_0 5 rfl rfl)
theorem dX19_init_6 : decode cX19_init 6 = .ok (.aload_n 1, 1) := dk_43 (dk_at dksX19_init_0 6 rfl rfl)
theorem dX19_init_7 : decode cX19_init 7 = .ok (.iload_n 2, 1) := dk_28 (dk_at dksX19_init_0 7 rfl rfl)
theorem dX19_init_8 : decode cX19_init 8 = .ok (.invokespecial 7, 3) := dk_183 0 7 (dk_at dksX19_init_0 8 rfl rfl)
theorem dX19_init_11 : decode cX19_init 11 = .ok (.return_, 1) := dk_177 (dk_at dksX19_init_0 11 rfl rfl)
abbrev cX19_tells : ByteArray := prog_14_method_3_code
def yX19_tells : MethodName := ⟨RX19, "tells", "(I)I"⟩
def dkwX19_tells_0 : List UInt8 := [42, 180, 0, 1, 16, 60, 182, 0, 13, 42, 27, 183, 0, 19, 8, 130, 172]
abbrev dktX19_tells_0 : List UInt8 := dkwX19_tells_0 ++ []
theorem dksX19_tells_0 : cX19_tells.data.toList.drop 0 = dktX19_tells_0 := by decide +kernel
theorem dX19_tells_0 : decode cX19_tells 0 = .ok (.aload_n 0, 1) := dk_42 (dk_at dksX19_tells_0 0 rfl rfl)
theorem dX19_tells_1 : decode cX19_tells 1 = .ok (.getfield 1, 3) := dk_180 0 1 (dk_at dksX19_tells_0 1 rfl rfl)
theorem dX19_tells_4 : decode cX19_tells 4 = .ok (.bipush 60, 2) := dk_16 60 (dk_at dksX19_tells_0 4 rfl rfl)
theorem dX19_tells_6 : decode cX19_tells 6 = .ok (.invokevirtual 13, 3) := dk_182 0 13 (dk_at dksX19_tells_0 6 rfl rfl)
theorem dX19_tells_9 : decode cX19_tells 9 = .ok (.aload_n 0, 1) := dk_42 (dk_at dksX19_tells_0 9 rfl rfl)
theorem dX19_tells_10 : decode cX19_tells 10 = .ok (.iload_n 1, 1) := dk_27 (dk_at dksX19_tells_0 10 rfl rfl)
theorem dX19_tells_11 : decode cX19_tells 11 = .ok (.invokespecial 19, 3) := dk_183 0 19 (dk_at dksX19_tells_0 11 rfl rfl)
theorem dX19_tells_14 : decode cX19_tells 14 = .ok (.iconst 5, 1) := dk_8 (dk_at dksX19_tells_0 14 rfl rfl)
theorem dX19_tells_15 : decode cX19_tells 15 = .ok (.ixor, 1) := dk_130 (dk_at dksX19_tells_0 15 rfl rfl)
theorem dX19_tells_16 : decode cX19_tells 16 = .ok (.ireturn, 1) := dk_172 (dk_at dksX19_tells_0 16 rfl rfl)
abbrev cX19_kind : ByteArray := prog_14_method_2_code
def yX19_kind : MethodName := ⟨RX19, "kind", "()I"⟩
theorem dX19_kind_0 : decode cX19_kind 0 = .ok (.iconst 5, 1) := by decide +kernel
theorem dX19_kind_1 : decode cX19_kind 1 = .ok (.ireturn, 1) := by decide +kernel
theorem q125 : (Jvm.Cond.initialized "ThreeSnowballs$League") ∈ lw_all := lw_g (lw_at lw_m1 34 rfl) rfl
theorem q1097 : (Jvm.Cond.instantiable "ThreeSnowballs$League" (5 : Nat)) ∈ lw_all := lw_g (lw_at lw_m5 46 rfl) rfl
theorem q1099 : (Jvm.Cond.instanceMethod ({ cls := "ThreeSnowballs$League", name := "<init>", desc := "(LThreeSnowballs;I)V" } : Jvm.MethodName)) ∈ lw_all := lw_g (lw_at lw_m5 48 rfl) rfl
theorem q1100 : (Jvm.Cond.code ({ cls := "ThreeSnowballs$League", name := "<init>", desc := "(LThreeSnowballs;I)V" } : Jvm.MethodName) prog_14_method_1_code (3 : Nat) (Option.none : Option Jvm.ClassFile.FieldType)) ∈ lw_all := lw_g (lw_at lw_m5 49 rfl) rfl
theorem q1101 : (Jvm.Cond.methodLink "ThreeSnowballs$League" (7 : Nat) ({ cls := "ThreeSnowballs$Weak", name := "<init>", desc := "(LThreeSnowballs;I)V" } : Jvm.MethodName)) ∈ lw_all := lw_g (lw_at lw_m5 50 rfl) rfl
theorem q1102 : (Jvm.Cond.fieldLink "ThreeSnowballs$League" (1 : Nat) "ThreeSnowballs$League" "this$0" "LThreeSnowballs;") ∈ lw_all := lw_g (lw_at lw_m5 51 rfl) rfl
theorem q1103 : (Jvm.Cond.laysFinal "ThreeSnowballs$League" "ThreeSnowballs$League" "this$0" "LThreeSnowballs;") ∈ lw_all := lw_g (lw_at lw_m5 52 rfl) rfl
theorem q1104 : (Jvm.Cond.soleField "ThreeSnowballs$League" "this$0") ∈ lw_all := lw_g (lw_at lw_m5 53 rfl) rfl
theorem q1105 : (Jvm.Cond.laysFinal "ThreeSnowballs$League" "ThreeSnowballs$Weak" "this$0" "LThreeSnowballs;") ∈ lw_all := lw_g (lw_at lw_m5 54 rfl) rfl
theorem q1106 : (Jvm.Cond.laysFinal "ThreeSnowballs$League" "ThreeSnowballs$InAir" "this$0" "LThreeSnowballs;") ∈ lw_all := lw_g (lw_at lw_m5 55 rfl) rfl
theorem q1107 : (Jvm.Cond.laysFinal "ThreeSnowballs$League" "ThreeSnowballs$Thrower" "number" "I") ∈ lw_all := lw_g (lw_at lw_m5 56 rfl) rfl
theorem q1108 : (Jvm.Cond.laysFinal "ThreeSnowballs$League" "ThreeSnowballs$Thrower" "this$0" "LThreeSnowballs;") ∈ lw_all := lw_g (lw_at lw_m5 57 rfl) rfl
theorem q1109 : (Jvm.Cond.superclass "ThreeSnowballs$League" "ThreeSnowballs$Weak") ∈ lw_all := lw_g (lw_at lw_m5 58 rfl) rfl
theorem q1174 : (Jvm.Cond.castable "ThreeSnowballs$League" "ThreeSnowballs$Aims") ∈ lw_tbl := lw_at lw_m5 123 rfl
theorem q1175 : (Jvm.Cond.selects "ThreeSnowballs$League" ({ cls := "ThreeSnowballs$Aims", name := "aiming", desc := "(I)I" } : Jvm.MethodName) ({ cls := "ThreeSnowballs$Thrower", name := "aiming", desc := "(I)I" } : Jvm.MethodName)) ∈ lw_all := lw_g (lw_at lw_m5 124 rfl) rfl
theorem q1176 : (Jvm.Cond.unhidden "ThreeSnowballs$League" "aiming" "(I)I") ∈ lw_tbl := lw_at lw_m5 125 rfl
theorem q1238 : (Jvm.Cond.selects "ThreeSnowballs$League" ({ cls := "ThreeSnowballs$Thrower", name := "throwsBy", desc := "(I)I" } : Jvm.MethodName) ({ cls := "ThreeSnowballs$Weak", name := "throwsBy", desc := "(I)I" } : Jvm.MethodName)) ∈ lw_all := lw_g (lw_at lw_m5 187 rfl) rfl
theorem q1265 : (Jvm.Cond.castable "ThreeSnowballs$League" "ThreeSnowballs$Tells") ∈ lw_tbl := lw_at lw_m5 214 rfl
theorem q1266 : (Jvm.Cond.selects "ThreeSnowballs$League" ({ cls := "ThreeSnowballs$Tells", name := "tells", desc := "(I)I" } : Jvm.MethodName) ({ cls := "ThreeSnowballs$League", name := "tells", desc := "(I)I" } : Jvm.MethodName)) ∈ lw_all := lw_g (lw_at lw_m5 215 rfl) rfl
theorem q1267 : (Jvm.Cond.unhidden "ThreeSnowballs$League" "tells" "(I)I") ∈ lw_tbl := lw_at lw_m5 216 rfl
theorem q1268 : (Jvm.Cond.instanceMethod ({ cls := "ThreeSnowballs$League", name := "tells", desc := "(I)I" } : Jvm.MethodName)) ∈ lw_all := lw_g (lw_at lw_m5 217 rfl) rfl
theorem q1269 : (Jvm.Cond.publicMethod ({ cls := "ThreeSnowballs$League", name := "tells", desc := "(I)I" } : Jvm.MethodName)) ∈ lw_tbl := lw_at lw_m5 218 rfl
theorem q1270 : (Jvm.Cond.code ({ cls := "ThreeSnowballs$League", name := "tells", desc := "(I)I" } : Jvm.MethodName) prog_14_method_3_code (2 : Nat) (Option.some Jvm.ClassFile.FieldType.int)) ∈ lw_all := lw_g (lw_at lw_m5 219 rfl) rfl
theorem q1271 : (Jvm.Cond.methodLinkNest "ThreeSnowballs$League" (13 : Nat) ({ cls := "ThreeSnowballs", name := "ran", desc := "(I)V" } : Jvm.MethodName) "ThreeSnowballs") ∈ lw_tbl := lw_at lw_m5 220 rfl
theorem q1272 : (Jvm.Cond.methodLink "ThreeSnowballs$League" (19 : Nat) ({ cls := "ThreeSnowballs$Weak", name := "tells", desc := "(I)I" } : Jvm.MethodName)) ∈ lw_all := lw_g (lw_at lw_m5 221 rfl) rfl
theorem q1468 : (Jvm.Cond.selects "ThreeSnowballs$League" ({ cls := "ThreeSnowballs$Thrower", name := "isUnder", desc := "(I)Z" } : Jvm.MethodName) ({ cls := "ThreeSnowballs$Weak", name := "isUnder", desc := "(I)Z" } : Jvm.MethodName)) ∈ lw_all := lw_g (lw_at lw_m6 177 rfl) rfl
theorem q1489 : (Jvm.Cond.selects "ThreeSnowballs$League" ({ cls := "ThreeSnowballs$Thrower", name := "kind", desc := "()I" } : Jvm.MethodName) ({ cls := "ThreeSnowballs$League", name := "kind", desc := "()I" } : Jvm.MethodName)) ∈ lw_all := lw_g (lw_at lw_m6 198 rfl) rfl
theorem q1490 : (Jvm.Cond.instanceMethod ({ cls := "ThreeSnowballs$League", name := "kind", desc := "()I" } : Jvm.MethodName)) ∈ lw_all := lw_g (lw_at lw_m6 199 rfl) rfl
theorem q1491 : (Jvm.Cond.code ({ cls := "ThreeSnowballs$League", name := "kind", desc := "()I" } : Jvm.MethodName) prog_14_method_2_code (1 : Nat) (Option.some Jvm.ClassFile.FieldType.int)) ∈ lw_all := lw_g (lw_at lw_m6 200 rfl) rfl
theorem q2047 : (Jvm.Cond.selects "ThreeSnowballs$League" ({ cls := "ThreeSnowballs$Thrower", name := "aiming", desc := "(I)I" } : Jvm.MethodName) ({ cls := "ThreeSnowballs$Thrower", name := "aiming", desc := "(I)I" } : Jvm.MethodName)) ∈ lw_all := lw_g (lw_at lw_m9 36 rfl) rfl
theorem q2056 : (Jvm.Cond.selects "ThreeSnowballs$League" ({ cls := "ThreeSnowballs$Thrower", name := "hitting", desc := "(I)I" } : Jvm.MethodName) ({ cls := "ThreeSnowballs$Weak", name := "hitting", desc := "(I)I" } : Jvm.MethodName)) ∈ lw_all := lw_g (lw_at lw_m9 45 rfl) rfl
theorem q2072 : (Jvm.Cond.castable "ThreeSnowballs$League" "ThreeSnowballs$Thrower") ∈ lw_tbl := lw_at lw_m9 61 rfl
theorem q2080 : (Jvm.Cond.castable "ThreeSnowballs$League" "ThreeSnowballs$Held") ∈ lw_tbl := lw_at lw_m9 69 rfl
theorem in_X19 : ∀ w ∈ wsX190, w ∈ lw_all := lw_in wsX190 [1107, 1108, 1106, 1105, 1103] (by decide +kernel) (by decide +kernel)
/-! ThreeSnowballs$Told -/
set_option maxRecDepth 100000
def RX20 : String := "ThreeSnowballs$Told"
def TX20 : u_T := fun k => match k with
  | 0 => ("ThreeSnowballs$Thrower", "number", "I", true)
  | 1 => ("ThreeSnowballs$Thrower", "this$0", "LThreeSnowballs;", true)
  | _ => ("ThreeSnowballs$Told", "this$0", "LThreeSnowballs;", true)
def tyX20 : Nat → FieldType := fun k => match k with
  | 0 => .int
  | 1 => .object "ThreeSnowballs"
  | _ => .object "ThreeSnowballs"
abbrev wsX200 : List Cond := u_ws RX20 TX20 3
-- two fields of one name: no nmX20
theorem tyX20_ok : ∀ k, k < 3 → parseFieldDescriptor (TX20 k).2.2.1 = some (tyX20 k) := by decide +kernel
abbrev cX20_init : ByteArray := prog_27_method_1_code
def yX20_init : MethodName := ⟨RX20, "<init>", "(LThreeSnowballs;I)V"⟩
def dkwX20_init_0 : List UInt8 := [42, 43, 181, 0, 1, 42, 43, 28, 183, 0, 7, 177]
abbrev dktX20_init_0 : List UInt8 := dkwX20_init_0 ++ []
theorem dksX20_init_0 : cX20_init.data.toList.drop 0 = dktX20_init_0 := by decide +kernel
theorem dX20_init_0 : decode cX20_init 0 = .ok (.aload_n 0, 1) := dk_42 (dk_at dksX20_init_0 0 rfl rfl)
theorem dX20_init_1 : decode cX20_init 1 = .ok (.aload_n 1, 1) := dk_43 (dk_at dksX20_init_0 1 rfl rfl)
theorem dX20_init_2 : decode cX20_init 2 = .ok (.putfield 1, 3) := dk_181 0 1 (dk_at dksX20_init_0 2 rfl rfl)
theorem dX20_init_5 : decode cX20_init 5 = .ok (.aload_n 0, 1) := dk_42 (dk_at dksX20_init_0 5 rfl rfl)
theorem dX20_init_6 : decode cX20_init 6 = .ok (.aload_n 1, 1) := dk_43 (dk_at dksX20_init_0 6 rfl rfl)
theorem dX20_init_7 : decode cX20_init 7 = .ok (.iload_n 2, 1) := dk_28 (dk_at dksX20_init_0 7 rfl rfl)
theorem dX20_init_8 : decode cX20_init 8 = .ok (.invokespecial 7, 3) := dk_183 0 7 (dk_at dksX20_init_0 8 rfl rfl)
theorem dX20_init_11 : decode cX20_init 11 = .ok (.return_, 1) := dk_177 (dk_at dksX20_init_0 11 rfl rfl)
abbrev cX20_aiming : ByteArray := prog_27_method_3_code
def yX20_aiming : MethodName := ⟨RX20, "aiming", "(I)I"⟩
def dkwX20_aiming_0 : List UInt8 := [42, 180, 0, 1, 16, 70, 182, 0, 13, 42, 27, 183, 0, 19, 5, 104, 172]
abbrev dktX20_aiming_0 : List UInt8 := dkwX20_aiming_0 ++ []
theorem dksX20_aiming_0 : cX20_aiming.data.toList.drop 0 = dktX20_aiming_0 := by decide +kernel
theorem dX20_aiming_0 : decode cX20_aiming 0 = .ok (.aload_n 0, 1) := dk_42 (dk_at dksX20_aiming_0 0 rfl rfl)
theorem dX20_aiming_1 : decode cX20_aiming 1 = .ok (.getfield 1, 3) := dk_180 0 1 (dk_at dksX20_aiming_0 1 rfl rfl)
theorem dX20_aiming_4 : decode cX20_aiming 4 = .ok (.bipush 70, 2) := dk_16 70 (dk_at dksX20_aiming_0 4 rfl rfl)
theorem dX20_aiming_6 : decode cX20_aiming 6 = .ok (.invokevirtual 13, 3) := dk_182 0 13 (dk_at dksX20_aiming_0 6 rfl rfl)
theorem dX20_aiming_9 : decode cX20_aiming 9 = .ok (.aload_n 0, 1) := dk_42 (dk_at dksX20_aiming_0 9 rfl rfl)
theorem dX20_aiming_10 : decode cX20_aiming 10 = .ok (.iload_n 1, 1) := dk_27 (dk_at dksX20_aiming_0 10 rfl rfl)
theorem dX20_aiming_11 : decode cX20_aiming 11 = .ok (.invokespecial 19, 3) := dk_183 0 19 (dk_at dksX20_aiming_0 11 rfl rfl)
theorem dX20_aiming_14 : decode cX20_aiming 14 = .ok (.iconst 2, 1) := dk_5 (dk_at dksX20_aiming_0 14 rfl rfl)
theorem dX20_aiming_15 : decode cX20_aiming 15 = .ok (.imul, 1) := dk_104 (dk_at dksX20_aiming_0 15 rfl rfl)
theorem dX20_aiming_16 : decode cX20_aiming 16 = .ok (.ireturn, 1) := dk_172 (dk_at dksX20_aiming_0 16 rfl rfl)
abbrev cX20_kind : ByteArray := prog_27_method_2_code
def yX20_kind : MethodName := ⟨RX20, "kind", "()I"⟩
theorem dX20_kind_0 : decode cX20_kind 0 = .ok (.bipush 6, 2) := by decide +kernel
theorem dX20_kind_2 : decode cX20_kind 2 = .ok (.ireturn, 1) := by decide +kernel
theorem q126 : (Jvm.Cond.initialized "ThreeSnowballs$Told") ∈ lw_all := lw_g (lw_at lw_m1 35 rfl) rfl
theorem q1111 : (Jvm.Cond.instantiable "ThreeSnowballs$Told" (3 : Nat)) ∈ lw_all := lw_g (lw_at lw_m5 60 rfl) rfl
theorem q1113 : (Jvm.Cond.instanceMethod ({ cls := "ThreeSnowballs$Told", name := "<init>", desc := "(LThreeSnowballs;I)V" } : Jvm.MethodName)) ∈ lw_all := lw_g (lw_at lw_m5 62 rfl) rfl
theorem q1114 : (Jvm.Cond.code ({ cls := "ThreeSnowballs$Told", name := "<init>", desc := "(LThreeSnowballs;I)V" } : Jvm.MethodName) prog_27_method_1_code (3 : Nat) (Option.none : Option Jvm.ClassFile.FieldType)) ∈ lw_all := lw_g (lw_at lw_m5 63 rfl) rfl
theorem q1115 : (Jvm.Cond.methodLink "ThreeSnowballs$Told" (7 : Nat) ({ cls := "ThreeSnowballs$Thrower", name := "<init>", desc := "(LThreeSnowballs;I)V" } : Jvm.MethodName)) ∈ lw_all := lw_g (lw_at lw_m5 64 rfl) rfl
theorem q1116 : (Jvm.Cond.fieldLink "ThreeSnowballs$Told" (1 : Nat) "ThreeSnowballs$Told" "this$0" "LThreeSnowballs;") ∈ lw_all := lw_g (lw_at lw_m5 65 rfl) rfl
theorem q1117 : (Jvm.Cond.laysFinal "ThreeSnowballs$Told" "ThreeSnowballs$Told" "this$0" "LThreeSnowballs;") ∈ lw_all := lw_g (lw_at lw_m5 66 rfl) rfl
theorem q1118 : (Jvm.Cond.soleField "ThreeSnowballs$Told" "this$0") ∈ lw_all := lw_g (lw_at lw_m5 67 rfl) rfl
theorem q1119 : (Jvm.Cond.laysFinal "ThreeSnowballs$Told" "ThreeSnowballs$Thrower" "number" "I") ∈ lw_all := lw_g (lw_at lw_m5 68 rfl) rfl
theorem q1120 : (Jvm.Cond.laysFinal "ThreeSnowballs$Told" "ThreeSnowballs$Thrower" "this$0" "LThreeSnowballs;") ∈ lw_all := lw_g (lw_at lw_m5 69 rfl) rfl
theorem q1121 : (Jvm.Cond.superclass "ThreeSnowballs$Told" "ThreeSnowballs$Thrower") ∈ lw_all := lw_g (lw_at lw_m5 70 rfl) rfl
theorem q1183 : (Jvm.Cond.castable "ThreeSnowballs$Told" "ThreeSnowballs$Aims") ∈ lw_tbl := lw_at lw_m5 132 rfl
theorem q1184 : (Jvm.Cond.selects "ThreeSnowballs$Told" ({ cls := "ThreeSnowballs$Aims", name := "aiming", desc := "(I)I" } : Jvm.MethodName) ({ cls := "ThreeSnowballs$Told", name := "aiming", desc := "(I)I" } : Jvm.MethodName)) ∈ lw_all := lw_g (lw_at lw_m5 133 rfl) rfl
theorem q1185 : (Jvm.Cond.unhidden "ThreeSnowballs$Told" "aiming" "(I)I") ∈ lw_tbl := lw_at lw_m5 134 rfl
theorem q1186 : (Jvm.Cond.instanceMethod ({ cls := "ThreeSnowballs$Told", name := "aiming", desc := "(I)I" } : Jvm.MethodName)) ∈ lw_all := lw_g (lw_at lw_m5 135 rfl) rfl
theorem q1187 : (Jvm.Cond.publicMethod ({ cls := "ThreeSnowballs$Told", name := "aiming", desc := "(I)I" } : Jvm.MethodName)) ∈ lw_tbl := lw_at lw_m5 136 rfl
theorem q1188 : (Jvm.Cond.code ({ cls := "ThreeSnowballs$Told", name := "aiming", desc := "(I)I" } : Jvm.MethodName) prog_27_method_3_code (2 : Nat) (Option.some Jvm.ClassFile.FieldType.int)) ∈ lw_all := lw_g (lw_at lw_m5 137 rfl) rfl
theorem q1189 : (Jvm.Cond.methodLinkNest "ThreeSnowballs$Told" (13 : Nat) ({ cls := "ThreeSnowballs", name := "ran", desc := "(I)V" } : Jvm.MethodName) "ThreeSnowballs") ∈ lw_tbl := lw_at lw_m5 138 rfl
theorem q1190 : (Jvm.Cond.methodLink "ThreeSnowballs$Told" (19 : Nat) ({ cls := "ThreeSnowballs$Thrower", name := "aiming", desc := "(I)I" } : Jvm.MethodName)) ∈ lw_all := lw_g (lw_at lw_m5 139 rfl) rfl
theorem q1244 : (Jvm.Cond.selects "ThreeSnowballs$Told" ({ cls := "ThreeSnowballs$Thrower", name := "throwsBy", desc := "(I)I" } : Jvm.MethodName) ({ cls := "ThreeSnowballs$Thrower", name := "throwsBy", desc := "(I)I" } : Jvm.MethodName)) ∈ lw_all := lw_g (lw_at lw_m5 193 rfl) rfl
theorem q1280 : (Jvm.Cond.castable "ThreeSnowballs$Told" "ThreeSnowballs$Tells") ∈ lw_tbl := lw_at lw_m5 229 rfl
theorem q1281 : (Jvm.Cond.selects "ThreeSnowballs$Told" ({ cls := "ThreeSnowballs$Tells", name := "tells", desc := "(I)I" } : Jvm.MethodName) ({ cls := "ThreeSnowballs$Thrower", name := "tells", desc := "(I)I" } : Jvm.MethodName)) ∈ lw_all := lw_g (lw_at lw_m5 230 rfl) rfl
theorem q1282 : (Jvm.Cond.unhidden "ThreeSnowballs$Told" "tells" "(I)I") ∈ lw_tbl := lw_at lw_m5 231 rfl
theorem q1473 : (Jvm.Cond.selects "ThreeSnowballs$Told" ({ cls := "ThreeSnowballs$Thrower", name := "isUnder", desc := "(I)Z" } : Jvm.MethodName) ({ cls := "ThreeSnowballs$Thrower", name := "isUnder", desc := "(I)Z" } : Jvm.MethodName)) ∈ lw_all := lw_g (lw_at lw_m6 182 rfl) rfl
theorem q1495 : (Jvm.Cond.selects "ThreeSnowballs$Told" ({ cls := "ThreeSnowballs$Thrower", name := "kind", desc := "()I" } : Jvm.MethodName) ({ cls := "ThreeSnowballs$Told", name := "kind", desc := "()I" } : Jvm.MethodName)) ∈ lw_all := lw_g (lw_at lw_m6 204 rfl) rfl
theorem q1496 : (Jvm.Cond.instanceMethod ({ cls := "ThreeSnowballs$Told", name := "kind", desc := "()I" } : Jvm.MethodName)) ∈ lw_all := lw_g (lw_at lw_m6 205 rfl) rfl
theorem q1497 : (Jvm.Cond.code ({ cls := "ThreeSnowballs$Told", name := "kind", desc := "()I" } : Jvm.MethodName) prog_27_method_2_code (1 : Nat) (Option.some Jvm.ClassFile.FieldType.int)) ∈ lw_all := lw_g (lw_at lw_m6 206 rfl) rfl
theorem q2050 : (Jvm.Cond.selects "ThreeSnowballs$Told" ({ cls := "ThreeSnowballs$Thrower", name := "aiming", desc := "(I)I" } : Jvm.MethodName) ({ cls := "ThreeSnowballs$Told", name := "aiming", desc := "(I)I" } : Jvm.MethodName)) ∈ lw_all := lw_g (lw_at lw_m9 39 rfl) rfl
theorem q2059 : (Jvm.Cond.selects "ThreeSnowballs$Told" ({ cls := "ThreeSnowballs$Thrower", name := "hitting", desc := "(I)I" } : Jvm.MethodName) ({ cls := "ThreeSnowballs$Thrower", name := "hitting", desc := "(I)I" } : Jvm.MethodName)) ∈ lw_all := lw_g (lw_at lw_m9 48 rfl) rfl
theorem q2074 : (Jvm.Cond.castable "ThreeSnowballs$Told" "ThreeSnowballs$Thrower") ∈ lw_tbl := lw_at lw_m9 63 rfl
theorem q2081 : (Jvm.Cond.castable "ThreeSnowballs$Told" "ThreeSnowballs$Held") ∈ lw_tbl := lw_at lw_m9 70 rfl
theorem in_X20 : ∀ w ∈ wsX200, w ∈ lw_all := lw_in wsX200 [1119, 1120, 1117] (by decide +kernel) (by decide +kernel)
/-! ThreeSnowballs$Last -/
set_option maxRecDepth 100000
def RX21 : String := "ThreeSnowballs$Last"
def TX21 : u_T := fun k => match k with
  | 0 => ("ThreeSnowballs$Thrower", "number", "I", true)
  | 1 => ("ThreeSnowballs$Thrower", "this$0", "LThreeSnowballs;", true)
  | 2 => ("ThreeSnowballs$Strong", "this$0", "LThreeSnowballs;", true)
  | 3 => ("ThreeSnowballs$Best", "this$0", "LThreeSnowballs;", true)
  | _ => ("ThreeSnowballs$Last", "this$0", "LThreeSnowballs;", true)
def tyX21 : Nat → FieldType := fun k => match k with
  | 0 => .int
  | 1 => .object "ThreeSnowballs"
  | 2 => .object "ThreeSnowballs"
  | 3 => .object "ThreeSnowballs"
  | _ => .object "ThreeSnowballs"
abbrev wsX210 : List Cond := u_ws RX21 TX21 5
-- two fields of one name: no nmX21
theorem tyX21_ok : ∀ k, k < 5 → parseFieldDescriptor (TX21 k).2.2.1 = some (tyX21 k) := by decide +kernel
abbrev cX21_init : ByteArray := prog_12_method_1_code
def yX21_init : MethodName := ⟨RX21, "<init>", "(LThreeSnowballs;I)V"⟩
def dkwX21_init_0 : List UInt8 := [42, 43, 181, 0, 1, 42, 43, 28, 183, 0, 7, 177]
abbrev dktX21_init_0 : List UInt8 := dkwX21_init_0 ++ []
theorem dksX21_init_0 : cX21_init.data.toList.drop 0 = dktX21_init_0 := by decide +kernel
theorem dX21_init_0 : decode cX21_init 0 = .ok (.aload_n 0, 1) := dk_42 (dk_at dksX21_init_0 0 rfl rfl)
theorem dX21_init_1 : decode cX21_init 1 = .ok (.aload_n 1, 1) := dk_43 (dk_at dksX21_init_0 1 rfl rfl)
theorem dX21_init_2 : decode cX21_init 2 = .ok (.putfield 1, 3) := dk_181 0 1 (dk_at dksX21_init_0 2 rfl rfl)
theorem dX21_init_5 : decode cX21_init 5 = .ok (.aload_n 0, 1) := dk_42 (dk_at dksX21_init_0 5 rfl rfl)
theorem dX21_init_6 : decode cX21_init 6 = .ok (.aload_n 1, 1) := dk_43 (dk_at dksX21_init_0 6 rfl rfl)
theorem dX21_init_7 : decode cX21_init 7 = .ok (.iload_n 2, 1) := dk_28 (dk_at dksX21_init_0 7 rfl rfl)
theorem dX21_init_8 : decode cX21_init 8 = .ok (.invokespecial 7, 3) := dk_183 0 7 (dk_at dksX21_init_0 8 rfl rfl)
theorem dX21_init_11 : decode cX21_init 11 = .ok (.return_, 1) := dk_177 (dk_at dksX21_init_0 11 rfl rfl)
abbrev cX21_throwsBy : ByteArray := prog_12_method_3_code
def yX21_throwsBy : MethodName := ⟨RX21, "throwsBy", "(I)I"⟩
def dkwX21_throwsBy_0 : List UInt8 := [42, 180, 0, 1, 16, 80, 182, 0, 13, 42, 27, 183, 0, 19, 61, 28, 42, 5, 182, 0, 23, 96, 172]
abbrev dktX21_throwsBy_0 : List UInt8 := dkwX21_throwsBy_0 ++ []
theorem dksX21_throwsBy_0 : cX21_throwsBy.data.toList.drop 0 = dktX21_throwsBy_0 := by decide +kernel
theorem dX21_throwsBy_0 : decode cX21_throwsBy 0 = .ok (.aload_n 0, 1) := dk_42 (dk_at dksX21_throwsBy_0 0 rfl rfl)
theorem dX21_throwsBy_1 : decode cX21_throwsBy 1 = .ok (.getfield 1, 3) := dk_180 0 1 (dk_at dksX21_throwsBy_0 1 rfl rfl)
theorem dX21_throwsBy_4 : decode cX21_throwsBy 4 = .ok (.bipush 80, 2) := dk_16 80 (dk_at dksX21_throwsBy_0 4 rfl rfl)
theorem dX21_throwsBy_6 : decode cX21_throwsBy 6 = .ok (.invokevirtual 13, 3) := dk_182 0 13 (dk_at dksX21_throwsBy_0 6 rfl rfl)
theorem dX21_throwsBy_9 : decode cX21_throwsBy 9 = .ok (.aload_n 0, 1) := dk_42 (dk_at dksX21_throwsBy_0 9 rfl rfl)
theorem dX21_throwsBy_10 : decode cX21_throwsBy 10 = .ok (.iload_n 1, 1) := dk_27 (dk_at dksX21_throwsBy_0 10 rfl rfl)
theorem dX21_throwsBy_11 : decode cX21_throwsBy 11 = .ok (.invokespecial 19, 3) := dk_183 0 19 (dk_at dksX21_throwsBy_0 11 rfl rfl)
theorem dX21_throwsBy_14 : decode cX21_throwsBy 14 = .ok (.istore_n 2, 1) := dk_61 (dk_at dksX21_throwsBy_0 14 rfl rfl)
theorem dX21_throwsBy_15 : decode cX21_throwsBy 15 = .ok (.iload_n 2, 1) := dk_28 (dk_at dksX21_throwsBy_0 15 rfl rfl)
theorem dX21_throwsBy_16 : decode cX21_throwsBy 16 = .ok (.aload_n 0, 1) := dk_42 (dk_at dksX21_throwsBy_0 16 rfl rfl)
theorem dX21_throwsBy_17 : decode cX21_throwsBy 17 = .ok (.iconst 2, 1) := dk_5 (dk_at dksX21_throwsBy_0 17 rfl rfl)
theorem dX21_throwsBy_18 : decode cX21_throwsBy 18 = .ok (.invokevirtual 23, 3) := dk_182 0 23 (dk_at dksX21_throwsBy_0 18 rfl rfl)
theorem dX21_throwsBy_21 : decode cX21_throwsBy 21 = .ok (.iadd, 1) := dk_96 (dk_at dksX21_throwsBy_0 21 rfl rfl)
theorem dX21_throwsBy_22 : decode cX21_throwsBy 22 = .ok (.ireturn, 1) := dk_172 (dk_at dksX21_throwsBy_0 22 rfl rfl)
abbrev cX21_tells : ByteArray := prog_12_method_4_code
def yX21_tells : MethodName := ⟨RX21, "tells", "(I)I"⟩
def dkwX21_tells_0 : List UInt8 := [42, 180, 0, 1, 16, 81, 182, 0, 13, 42, 27, 183, 0, 26, 4, 100, 172]
abbrev dktX21_tells_0 : List UInt8 := dkwX21_tells_0 ++ []
theorem dksX21_tells_0 : cX21_tells.data.toList.drop 0 = dktX21_tells_0 := by decide +kernel
theorem dX21_tells_0 : decode cX21_tells 0 = .ok (.aload_n 0, 1) := dk_42 (dk_at dksX21_tells_0 0 rfl rfl)
theorem dX21_tells_1 : decode cX21_tells 1 = .ok (.getfield 1, 3) := dk_180 0 1 (dk_at dksX21_tells_0 1 rfl rfl)
theorem dX21_tells_4 : decode cX21_tells 4 = .ok (.bipush 81, 2) := dk_16 81 (dk_at dksX21_tells_0 4 rfl rfl)
theorem dX21_tells_6 : decode cX21_tells 6 = .ok (.invokevirtual 13, 3) := dk_182 0 13 (dk_at dksX21_tells_0 6 rfl rfl)
theorem dX21_tells_9 : decode cX21_tells 9 = .ok (.aload_n 0, 1) := dk_42 (dk_at dksX21_tells_0 9 rfl rfl)
theorem dX21_tells_10 : decode cX21_tells 10 = .ok (.iload_n 1, 1) := dk_27 (dk_at dksX21_tells_0 10 rfl rfl)
theorem dX21_tells_11 : decode cX21_tells 11 = .ok (.invokespecial 26, 3) := dk_183 0 26 (dk_at dksX21_tells_0 11 rfl rfl)
theorem dX21_tells_14 : decode cX21_tells 14 = .ok (.iconst 1, 1) := dk_4 (dk_at dksX21_tells_0 14 rfl rfl)
theorem dX21_tells_15 : decode cX21_tells 15 = .ok (.isub, 1) := dk_100 (dk_at dksX21_tells_0 15 rfl rfl)
theorem dX21_tells_16 : decode cX21_tells 16 = .ok (.ireturn, 1) := dk_172 (dk_at dksX21_tells_0 16 rfl rfl)
abbrev cX21_kind : ByteArray := prog_12_method_2_code
def yX21_kind : MethodName := ⟨RX21, "kind", "()I"⟩
theorem dX21_kind_0 : decode cX21_kind 0 = .ok (.bipush 7, 2) := by decide +kernel
theorem dX21_kind_2 : decode cX21_kind 2 = .ok (.ireturn, 1) := by decide +kernel
theorem q127 : (Jvm.Cond.initialized "ThreeSnowballs$Last") ∈ lw_all := lw_g (lw_at lw_m1 36 rfl) rfl
theorem q1123 : (Jvm.Cond.instantiable "ThreeSnowballs$Last" (5 : Nat)) ∈ lw_all := lw_g (lw_at lw_m5 72 rfl) rfl
theorem q1125 : (Jvm.Cond.instanceMethod ({ cls := "ThreeSnowballs$Last", name := "<init>", desc := "(LThreeSnowballs;I)V" } : Jvm.MethodName)) ∈ lw_all := lw_g (lw_at lw_m5 74 rfl) rfl
theorem q1126 : (Jvm.Cond.code ({ cls := "ThreeSnowballs$Last", name := "<init>", desc := "(LThreeSnowballs;I)V" } : Jvm.MethodName) prog_12_method_1_code (3 : Nat) (Option.none : Option Jvm.ClassFile.FieldType)) ∈ lw_all := lw_g (lw_at lw_m5 75 rfl) rfl
theorem q1127 : (Jvm.Cond.methodLink "ThreeSnowballs$Last" (7 : Nat) ({ cls := "ThreeSnowballs$Best", name := "<init>", desc := "(LThreeSnowballs;I)V" } : Jvm.MethodName)) ∈ lw_all := lw_g (lw_at lw_m5 76 rfl) rfl
theorem q1128 : (Jvm.Cond.fieldLink "ThreeSnowballs$Last" (1 : Nat) "ThreeSnowballs$Last" "this$0" "LThreeSnowballs;") ∈ lw_all := lw_g (lw_at lw_m5 77 rfl) rfl
theorem q1129 : (Jvm.Cond.laysFinal "ThreeSnowballs$Last" "ThreeSnowballs$Last" "this$0" "LThreeSnowballs;") ∈ lw_all := lw_g (lw_at lw_m5 78 rfl) rfl
theorem q1130 : (Jvm.Cond.soleField "ThreeSnowballs$Last" "this$0") ∈ lw_all := lw_g (lw_at lw_m5 79 rfl) rfl
theorem q1131 : (Jvm.Cond.laysFinal "ThreeSnowballs$Last" "ThreeSnowballs$Best" "this$0" "LThreeSnowballs;") ∈ lw_all := lw_g (lw_at lw_m5 80 rfl) rfl
theorem q1132 : (Jvm.Cond.laysFinal "ThreeSnowballs$Last" "ThreeSnowballs$Strong" "this$0" "LThreeSnowballs;") ∈ lw_all := lw_g (lw_at lw_m5 81 rfl) rfl
theorem q1133 : (Jvm.Cond.laysFinal "ThreeSnowballs$Last" "ThreeSnowballs$Thrower" "number" "I") ∈ lw_all := lw_g (lw_at lw_m5 82 rfl) rfl
theorem q1134 : (Jvm.Cond.laysFinal "ThreeSnowballs$Last" "ThreeSnowballs$Thrower" "this$0" "LThreeSnowballs;") ∈ lw_all := lw_g (lw_at lw_m5 83 rfl) rfl
theorem q1135 : (Jvm.Cond.superclass "ThreeSnowballs$Last" "ThreeSnowballs$Best") ∈ lw_all := lw_g (lw_at lw_m5 84 rfl) rfl
theorem q1171 : (Jvm.Cond.castable "ThreeSnowballs$Last" "ThreeSnowballs$Aims") ∈ lw_tbl := lw_at lw_m5 120 rfl
theorem q1172 : (Jvm.Cond.selects "ThreeSnowballs$Last" ({ cls := "ThreeSnowballs$Aims", name := "aiming", desc := "(I)I" } : Jvm.MethodName) ({ cls := "ThreeSnowballs$Strong", name := "aiming", desc := "(I)I" } : Jvm.MethodName)) ∈ lw_all := lw_g (lw_at lw_m5 121 rfl) rfl
theorem q1173 : (Jvm.Cond.unhidden "ThreeSnowballs$Last" "aiming" "(I)I") ∈ lw_tbl := lw_at lw_m5 122 rfl
theorem q1214 : (Jvm.Cond.selects "ThreeSnowballs$Last" ({ cls := "ThreeSnowballs$Thrower", name := "throwsBy", desc := "(I)I" } : Jvm.MethodName) ({ cls := "ThreeSnowballs$Last", name := "throwsBy", desc := "(I)I" } : Jvm.MethodName)) ∈ lw_all := lw_g (lw_at lw_m5 163 rfl) rfl
theorem q1215 : (Jvm.Cond.instanceMethod ({ cls := "ThreeSnowballs$Last", name := "throwsBy", desc := "(I)I" } : Jvm.MethodName)) ∈ lw_all := lw_g (lw_at lw_m5 164 rfl) rfl
theorem q1216 : (Jvm.Cond.code ({ cls := "ThreeSnowballs$Last", name := "throwsBy", desc := "(I)I" } : Jvm.MethodName) prog_12_method_3_code (3 : Nat) (Option.some Jvm.ClassFile.FieldType.int)) ∈ lw_all := lw_g (lw_at lw_m5 165 rfl) rfl
theorem q1217 : (Jvm.Cond.methodLinkNest "ThreeSnowballs$Last" (13 : Nat) ({ cls := "ThreeSnowballs", name := "ran", desc := "(I)V" } : Jvm.MethodName) "ThreeSnowballs") ∈ lw_tbl := lw_at lw_m5 166 rfl
theorem q1218 : (Jvm.Cond.methodLink "ThreeSnowballs$Last" (19 : Nat) ({ cls := "ThreeSnowballs$Best", name := "throwsBy", desc := "(I)I" } : Jvm.MethodName)) ∈ lw_all := lw_g (lw_at lw_m5 167 rfl) rfl
theorem q1221 : (Jvm.Cond.methodLink "ThreeSnowballs$Last" (23 : Nat) ({ cls := "ThreeSnowballs$Last", name := "hitting", desc := "(I)I" } : Jvm.MethodName)) ∈ lw_all := lw_g (lw_at lw_m5 170 rfl) rfl
theorem q1222 : (Jvm.Cond.sameMethod "ThreeSnowballs$Last" "ThreeSnowballs$Best" "hitting" "(I)I") ∈ lw_all := lw_g (lw_at lw_m5 171 rfl) rfl
theorem q1224 : (Jvm.Cond.selects "ThreeSnowballs$Last" ({ cls := "ThreeSnowballs$Last", name := "hitting", desc := "(I)I" } : Jvm.MethodName) ({ cls := "ThreeSnowballs$Best", name := "hitting", desc := "(I)I" } : Jvm.MethodName)) ∈ lw_all := lw_g (lw_at lw_m5 173 rfl) rfl
theorem q1237 : (Jvm.Cond.selects "ThreeSnowballs$Last" ({ cls := "ThreeSnowballs$Best", name := "aiming", desc := "(I)I" } : Jvm.MethodName) ({ cls := "ThreeSnowballs$Strong", name := "aiming", desc := "(I)I" } : Jvm.MethodName)) ∈ lw_all := lw_g (lw_at lw_m5 186 rfl) rfl
theorem q1256 : (Jvm.Cond.castable "ThreeSnowballs$Last" "ThreeSnowballs$Tells") ∈ lw_tbl := lw_at lw_m5 205 rfl
theorem q1257 : (Jvm.Cond.selects "ThreeSnowballs$Last" ({ cls := "ThreeSnowballs$Tells", name := "tells", desc := "(I)I" } : Jvm.MethodName) ({ cls := "ThreeSnowballs$Last", name := "tells", desc := "(I)I" } : Jvm.MethodName)) ∈ lw_all := lw_g (lw_at lw_m5 206 rfl) rfl
theorem q1258 : (Jvm.Cond.unhidden "ThreeSnowballs$Last" "tells" "(I)I") ∈ lw_tbl := lw_at lw_m5 207 rfl
theorem q1259 : (Jvm.Cond.instanceMethod ({ cls := "ThreeSnowballs$Last", name := "tells", desc := "(I)I" } : Jvm.MethodName)) ∈ lw_all := lw_g (lw_at lw_m5 208 rfl) rfl
theorem q1260 : (Jvm.Cond.publicMethod ({ cls := "ThreeSnowballs$Last", name := "tells", desc := "(I)I" } : Jvm.MethodName)) ∈ lw_tbl := lw_at lw_m5 209 rfl
theorem q1261 : (Jvm.Cond.code ({ cls := "ThreeSnowballs$Last", name := "tells", desc := "(I)I" } : Jvm.MethodName) prog_12_method_4_code (2 : Nat) (Option.some Jvm.ClassFile.FieldType.int)) ∈ lw_all := lw_g (lw_at lw_m5 210 rfl) rfl
theorem q1262 : (Jvm.Cond.methodLink "ThreeSnowballs$Last" (26 : Nat) ({ cls := "ThreeSnowballs$Best", name := "tells", desc := "(I)I" } : Jvm.MethodName)) ∈ lw_all := lw_g (lw_at lw_m5 211 rfl) rfl
theorem q1467 : (Jvm.Cond.selects "ThreeSnowballs$Last" ({ cls := "ThreeSnowballs$Thrower", name := "isUnder", desc := "(I)Z" } : Jvm.MethodName) ({ cls := "ThreeSnowballs$Best", name := "isUnder", desc := "(I)Z" } : Jvm.MethodName)) ∈ lw_all := lw_g (lw_at lw_m6 176 rfl) rfl
theorem q1486 : (Jvm.Cond.selects "ThreeSnowballs$Last" ({ cls := "ThreeSnowballs$Thrower", name := "kind", desc := "()I" } : Jvm.MethodName) ({ cls := "ThreeSnowballs$Last", name := "kind", desc := "()I" } : Jvm.MethodName)) ∈ lw_all := lw_g (lw_at lw_m6 195 rfl) rfl
theorem q1487 : (Jvm.Cond.instanceMethod ({ cls := "ThreeSnowballs$Last", name := "kind", desc := "()I" } : Jvm.MethodName)) ∈ lw_all := lw_g (lw_at lw_m6 196 rfl) rfl
theorem q1488 : (Jvm.Cond.code ({ cls := "ThreeSnowballs$Last", name := "kind", desc := "()I" } : Jvm.MethodName) prog_12_method_2_code (1 : Nat) (Option.some Jvm.ClassFile.FieldType.int)) ∈ lw_all := lw_g (lw_at lw_m6 197 rfl) rfl
theorem q2046 : (Jvm.Cond.selects "ThreeSnowballs$Last" ({ cls := "ThreeSnowballs$Thrower", name := "aiming", desc := "(I)I" } : Jvm.MethodName) ({ cls := "ThreeSnowballs$Strong", name := "aiming", desc := "(I)I" } : Jvm.MethodName)) ∈ lw_all := lw_g (lw_at lw_m9 35 rfl) rfl
theorem q2055 : (Jvm.Cond.selects "ThreeSnowballs$Last" ({ cls := "ThreeSnowballs$Thrower", name := "hitting", desc := "(I)I" } : Jvm.MethodName) ({ cls := "ThreeSnowballs$Best", name := "hitting", desc := "(I)I" } : Jvm.MethodName)) ∈ lw_all := lw_g (lw_at lw_m9 44 rfl) rfl
theorem q2071 : (Jvm.Cond.castable "ThreeSnowballs$Last" "ThreeSnowballs$Thrower") ∈ lw_tbl := lw_at lw_m9 60 rfl
theorem q2082 : (Jvm.Cond.castable "ThreeSnowballs$Last" "ThreeSnowballs$Held") ∈ lw_tbl := lw_at lw_m9 71 rfl
theorem in_X21 : ∀ w ∈ wsX210, w ∈ lw_all := lw_in wsX210 [1133, 1134, 1132, 1131, 1129] (by decide +kernel) (by decide +kernel)
/-! ThreeSnowballs$Row -/
set_option maxRecDepth 100000
def RX22 : String := "ThreeSnowballs$Row"
abbrev cX22_init : ByteArray := prog_22_method_1_code
def yX22_init : MethodName := ⟨RX22, "<init>", "()V"⟩
theorem dX22_init_0 : decode cX22_init 0 = .ok (.aload_n 0, 1) := by decide +kernel
theorem dX22_init_1 : decode cX22_init 1 = .ok (.invokespecial 1, 3) := by decide +kernel
theorem dX22_init_4 : decode cX22_init 4 = .ok (.return_, 1) := by decide +kernel
theorem q129 : (Jvm.Cond.initialized "ThreeSnowballs$Row") ∈ lw_all := lw_g (lw_at lw_m1 38 rfl) rfl
theorem q1322 : (Jvm.Cond.instanceMethod ({ cls := "ThreeSnowballs$Row", name := "<init>", desc := "()V" } : Jvm.MethodName)) ∈ lw_all := lw_g (lw_at lw_m6 31 rfl) rfl
theorem q1323 : (Jvm.Cond.code ({ cls := "ThreeSnowballs$Row", name := "<init>", desc := "()V" } : Jvm.MethodName) prog_22_method_1_code (1 : Nat) (Option.none : Option Jvm.ClassFile.FieldType)) ∈ lw_all := lw_g (lw_at lw_m6 32 rfl) rfl
theorem q1324 : (Jvm.Cond.methodLinkNest "ThreeSnowballs$Row" (1 : Nat) ({ cls := "ThreeSnowballs$Held", name := "<init>", desc := "()V" } : Jvm.MethodName) "ThreeSnowballs") ∈ lw_tbl := lw_at lw_m6 33 rfl
theorem q1377 : (Jvm.Cond.declares ({ cls := "ThreeSnowballs$Row", name := "put", desc := "(IJ)Z" } : Jvm.MethodName)) ∈ lw_tbl := lw_at lw_m6 86 rfl
theorem q1378 : (Jvm.Cond.sameMethod "ThreeSnowballs$Row" "ThreeSnowballs$Row" "put" "(IJ)Z") ∈ lw_all := lw_g (lw_at lw_m6 87 rfl) rfl
theorem q1399 : (Jvm.Cond.declares ({ cls := "ThreeSnowballs$Row", name := "at", desc := "(I)J" } : Jvm.MethodName)) ∈ lw_tbl := lw_at lw_m6 108 rfl
theorem q1400 : (Jvm.Cond.sameMethod "ThreeSnowballs$Row" "ThreeSnowballs$Row" "at" "(I)J") ∈ lw_all := lw_g (lw_at lw_m6 109 rfl) rfl
theorem q1419 : (Jvm.Cond.declares ({ cls := "ThreeSnowballs$Row", name := "copy", desc := "(ILThreeSnowballs$Row;II)V" } : Jvm.MethodName)) ∈ lw_tbl := lw_at lw_m6 128 rfl
theorem q1420 : (Jvm.Cond.sameMethod "ThreeSnowballs$Row" "ThreeSnowballs$Row" "copy" "(ILThreeSnowballs$Row;II)V") ∈ lw_all := lw_g (lw_at lw_m6 129 rfl) rfl
/-! ThreeSnowballs$ByteRow -/
set_option maxRecDepth 100000
def RX23 : String := "ThreeSnowballs$ByteRow"
def TX23 : u_T := fun k => match k with
  | _ => ("ThreeSnowballs$ByteRow", "items", "[B", true)
def tyX23 : Nat → FieldType := fun k => match k with
  | _ => .array .byte
abbrev wsX230 : List Cond := u_ws RX23 TX23 1
theorem nmX23 : ∀ a, a < 1 → ∀ b, b < 1 → a ≠ b → (TX23 a).2.1 ≠ (TX23 b).2.1 := by decide +kernel
theorem tyX23_ok : ∀ k, k < 1 → parseFieldDescriptor (TX23 k).2.2.1 = some (tyX23 k) := by decide +kernel
abbrev cX23_at : ByteArray := prog_5_method_4_code
def yX23_at : MethodName := ⟨RX23, "at", "(I)J"⟩
def dkwX23_at_0 : List UInt8 := [42, 180, 0, 7, 27, 51, 133, 173]
abbrev dktX23_at_0 : List UInt8 := dkwX23_at_0 ++ []
theorem dksX23_at_0 : cX23_at.data.toList.drop 0 = dktX23_at_0 := by decide +kernel
theorem dX23_at_0 : decode cX23_at 0 = .ok (.aload_n 0, 1) := dk_42 (dk_at dksX23_at_0 0 rfl rfl)
theorem dX23_at_1 : decode cX23_at 1 = .ok (.getfield 7, 3) := dk_180 0 7 (dk_at dksX23_at_0 1 rfl rfl)
theorem dX23_at_4 : decode cX23_at 4 = .ok (.iload_n 1, 1) := dk_27 (dk_at dksX23_at_0 4 rfl rfl)
theorem dX23_at_5 : decode cX23_at 5 = .ok (.baload, 1) := dk_51 (dk_at dksX23_at_0 5 rfl rfl)
theorem dX23_at_6 : decode cX23_at 6 = .ok (.i2l, 1) := dk_133 (dk_at dksX23_at_0 6 rfl rfl)
theorem dX23_at_7 : decode cX23_at 7 = .ok (.lreturn, 1) := dk_173 (dk_at dksX23_at_0 7 rfl rfl)
abbrev cX23_size : ByteArray := prog_5_method_3_code
def yX23_size : MethodName := ⟨RX23, "size", "()I"⟩
def dkwX23_size_0 : List UInt8 := [42, 180, 0, 7, 190, 172]
abbrev dktX23_size_0 : List UInt8 := dkwX23_size_0 ++ []
theorem dksX23_size_0 : cX23_size.data.toList.drop 0 = dktX23_size_0 := by decide +kernel
theorem dX23_size_0 : decode cX23_size 0 = .ok (.aload_n 0, 1) := dk_42 (dk_at dksX23_size_0 0 rfl rfl)
theorem dX23_size_1 : decode cX23_size 1 = .ok (.getfield 7, 3) := dk_180 0 7 (dk_at dksX23_size_0 1 rfl rfl)
theorem dX23_size_4 : decode cX23_size 4 = .ok (.arraylength, 1) := dk_190 (dk_at dksX23_size_0 4 rfl rfl)
theorem dX23_size_5 : decode cX23_size 5 = .ok (.ireturn, 1) := dk_172 (dk_at dksX23_size_0 5 rfl rfl)
abbrev cX23_init : ByteArray := prog_5_method_1_code
def yX23_init : MethodName := ⟨RX23, "<init>", "(I)V"⟩
def dkwX23_init_0 : List UInt8 := [42, 183, 0, 1, 42, 27, 188, 8, 181, 0, 7, 177]
abbrev dktX23_init_0 : List UInt8 := dkwX23_init_0 ++ []
theorem dksX23_init_0 : cX23_init.data.toList.drop 0 = dktX23_init_0 := by decide +kernel
theorem dX23_init_0 : decode cX23_init 0 = .ok (.aload_n 0, 1) := dk_42 (dk_at dksX23_init_0 0 rfl rfl)
theorem dX23_init_1 : decode cX23_init 1 = .ok (.invokespecial 1, 3) := dk_183 0 1 (dk_at dksX23_init_0 1 rfl rfl)
theorem dX23_init_4 : decode cX23_init 4 = .ok (.aload_n 0, 1) := dk_42 (dk_at dksX23_init_0 4 rfl rfl)
theorem dX23_init_5 : decode cX23_init 5 = .ok (.iload_n 1, 1) := dk_27 (dk_at dksX23_init_0 5 rfl rfl)
theorem dX23_init_6 : decode cX23_init 6 = .ok (.newarray .byte, 2) := dk_188_8 (dk_at dksX23_init_0 6 rfl rfl)
theorem dX23_init_8 : decode cX23_init 8 = .ok (.putfield 7, 3) := dk_181 0 7 (dk_at dksX23_init_0 8 rfl rfl)
theorem dX23_init_11 : decode cX23_init 11 = .ok (.return_, 1) := dk_177 (dk_at dksX23_init_0 11 rfl rfl)
abbrev cX23_put : ByteArray := prog_5_method_5_code
def yX23_put : MethodName := ⟨RX23, "put", "(IJ)Z"⟩
def dkwX23_put_0 : List UInt8 := [42, 180, 0, 7, 27, 32, 136, 145, 84, 4, 172]
abbrev dktX23_put_0 : List UInt8 := dkwX23_put_0 ++ []
theorem dksX23_put_0 : cX23_put.data.toList.drop 0 = dktX23_put_0 := by decide +kernel
theorem dX23_put_0 : decode cX23_put 0 = .ok (.aload_n 0, 1) := dk_42 (dk_at dksX23_put_0 0 rfl rfl)
theorem dX23_put_1 : decode cX23_put 1 = .ok (.getfield 7, 3) := dk_180 0 7 (dk_at dksX23_put_0 1 rfl rfl)
theorem dX23_put_4 : decode cX23_put 4 = .ok (.iload_n 1, 1) := dk_27 (dk_at dksX23_put_0 4 rfl rfl)
theorem dX23_put_5 : decode cX23_put 5 = .ok (.lload_n 2, 1) := dk_32 (dk_at dksX23_put_0 5 rfl rfl)
theorem dX23_put_6 : decode cX23_put 6 = .ok (.l2i, 1) := dk_136 (dk_at dksX23_put_0 6 rfl rfl)
theorem dX23_put_7 : decode cX23_put 7 = .ok (.i2b, 1) := dk_145 (dk_at dksX23_put_0 7 rfl rfl)
theorem dX23_put_8 : decode cX23_put 8 = .ok (.bastore, 1) := dk_84 (dk_at dksX23_put_0 8 rfl rfl)
theorem dX23_put_9 : decode cX23_put 9 = .ok (.iconst 1, 1) := dk_4 (dk_at dksX23_put_0 9 rfl rfl)
theorem dX23_put_10 : decode cX23_put 10 = .ok (.ireturn, 1) := dk_172 (dk_at dksX23_put_0 10 rfl rfl)
abbrev cX23_copy : ByteArray := prog_5_method_6_code
def yX23_copy : MethodName := ⟨RX23, "copy", "(ILThreeSnowballs$Row;II)V"⟩
def dkwX23_copy_0 : List UInt8 := [42, 180, 0, 7, 27, 44, 192, 0, 8, 180, 0, 7, 29, 21, 4, 184, 0, 13, 177]
abbrev dktX23_copy_0 : List UInt8 := dkwX23_copy_0 ++ []
theorem dksX23_copy_0 : cX23_copy.data.toList.drop 0 = dktX23_copy_0 := by decide +kernel
theorem dX23_copy_0 : decode cX23_copy 0 = .ok (.aload_n 0, 1) := dk_42 (dk_at dksX23_copy_0 0 rfl rfl)
theorem dX23_copy_1 : decode cX23_copy 1 = .ok (.getfield 7, 3) := dk_180 0 7 (dk_at dksX23_copy_0 1 rfl rfl)
theorem dX23_copy_4 : decode cX23_copy 4 = .ok (.iload_n 1, 1) := dk_27 (dk_at dksX23_copy_0 4 rfl rfl)
theorem dX23_copy_5 : decode cX23_copy 5 = .ok (.aload_n 2, 1) := dk_44 (dk_at dksX23_copy_0 5 rfl rfl)
theorem dX23_copy_6 : decode cX23_copy 6 = .ok (.checkcast 8, 3) := dk_192 0 8 (dk_at dksX23_copy_0 6 rfl rfl)
theorem dX23_copy_9 : decode cX23_copy 9 = .ok (.getfield 7, 3) := dk_180 0 7 (dk_at dksX23_copy_0 9 rfl rfl)
theorem dX23_copy_12 : decode cX23_copy 12 = .ok (.iload_n 3, 1) := dk_29 (dk_at dksX23_copy_0 12 rfl rfl)
theorem dX23_copy_13 : decode cX23_copy 13 = .ok (.iload 4, 2) := dk_21 4 (dk_at dksX23_copy_0 13 rfl rfl)
theorem dX23_copy_15 : decode cX23_copy 15 = .ok (.invokestatic 13, 3) := dk_184 0 13 (dk_at dksX23_copy_0 15 rfl rfl)
theorem dX23_copy_18 : decode cX23_copy 18 = .ok (.return_, 1) := dk_177 (dk_at dksX23_copy_0 18 rfl rfl)
theorem q130 : (Jvm.Cond.initialized "ThreeSnowballs$ByteRow") ∈ lw_all := lw_g (lw_at lw_m1 39 rfl) rfl
theorem q469 : (Jvm.Cond.instanceMethod ({ cls := "ThreeSnowballs$ByteRow", name := "at", desc := "(I)J" } : Jvm.MethodName)) ∈ lw_all := lw_g (lw_at lw_m2 138 rfl) rfl
theorem q470 : (Jvm.Cond.selects "ThreeSnowballs$ByteRow" ({ cls := "ThreeSnowballs$ByteRow", name := "at", desc := "(I)J" } : Jvm.MethodName) ({ cls := "ThreeSnowballs$ByteRow", name := "at", desc := "(I)J" } : Jvm.MethodName)) ∈ lw_all := lw_g (lw_at lw_m2 139 rfl) rfl
theorem q471 : (Jvm.Cond.code ({ cls := "ThreeSnowballs$ByteRow", name := "at", desc := "(I)J" } : Jvm.MethodName) prog_5_method_4_code (2 : Nat) (Option.some Jvm.ClassFile.FieldType.long)) ∈ lw_all := lw_g (lw_at lw_m2 140 rfl) rfl
theorem q981 : (Jvm.Cond.instanceMethod ({ cls := "ThreeSnowballs$ByteRow", name := "size", desc := "()I" } : Jvm.MethodName)) ∈ lw_all := lw_g (lw_at lw_m4 170 rfl) rfl
theorem q982 : (Jvm.Cond.selects "ThreeSnowballs$ByteRow" ({ cls := "ThreeSnowballs$ByteRow", name := "size", desc := "()I" } : Jvm.MethodName) ({ cls := "ThreeSnowballs$ByteRow", name := "size", desc := "()I" } : Jvm.MethodName)) ∈ lw_all := lw_g (lw_at lw_m4 171 rfl) rfl
theorem q983 : (Jvm.Cond.code ({ cls := "ThreeSnowballs$ByteRow", name := "size", desc := "()I" } : Jvm.MethodName) prog_5_method_3_code (1 : Nat) (Option.some Jvm.ClassFile.FieldType.int)) ∈ lw_all := lw_g (lw_at lw_m4 172 rfl) rfl
theorem q1317 : (Jvm.Cond.instantiable "ThreeSnowballs$ByteRow" (1 : Nat)) ∈ lw_all := lw_g (lw_at lw_m6 26 rfl) rfl
theorem q1319 : (Jvm.Cond.instanceMethod ({ cls := "ThreeSnowballs$ByteRow", name := "<init>", desc := "(I)V" } : Jvm.MethodName)) ∈ lw_all := lw_g (lw_at lw_m6 28 rfl) rfl
theorem q1320 : (Jvm.Cond.code ({ cls := "ThreeSnowballs$ByteRow", name := "<init>", desc := "(I)V" } : Jvm.MethodName) prog_5_method_1_code (2 : Nat) (Option.none : Option Jvm.ClassFile.FieldType)) ∈ lw_all := lw_g (lw_at lw_m6 29 rfl) rfl
theorem q1321 : (Jvm.Cond.methodLinkNest "ThreeSnowballs$ByteRow" (1 : Nat) ({ cls := "ThreeSnowballs$Row", name := "<init>", desc := "()V" } : Jvm.MethodName) "ThreeSnowballs") ∈ lw_tbl := lw_at lw_m6 30 rfl
theorem q1325 : (Jvm.Cond.fieldLink "ThreeSnowballs$ByteRow" (7 : Nat) "ThreeSnowballs$ByteRow" "items" "[B") ∈ lw_all := lw_g (lw_at lw_m6 34 rfl) rfl
theorem q1326 : (Jvm.Cond.laysFinal "ThreeSnowballs$ByteRow" "ThreeSnowballs$ByteRow" "items" "[B") ∈ lw_all := lw_g (lw_at lw_m6 35 rfl) rfl
theorem q1327 : (Jvm.Cond.soleField "ThreeSnowballs$ByteRow" "items") ∈ lw_all := lw_g (lw_at lw_m6 36 rfl) rfl
theorem q1328 : (Jvm.Cond.superclass "ThreeSnowballs$ByteRow" "ThreeSnowballs$Row") ∈ lw_all := lw_g (lw_at lw_m6 37 rfl) rfl
theorem q1382 : (Jvm.Cond.selects "ThreeSnowballs$ByteRow" ({ cls := "ThreeSnowballs$Row", name := "put", desc := "(IJ)Z" } : Jvm.MethodName) ({ cls := "ThreeSnowballs$ByteRow", name := "put", desc := "(IJ)Z" } : Jvm.MethodName)) ∈ lw_all := lw_g (lw_at lw_m6 91 rfl) rfl
theorem q1383 : (Jvm.Cond.instanceMethod ({ cls := "ThreeSnowballs$ByteRow", name := "put", desc := "(IJ)Z" } : Jvm.MethodName)) ∈ lw_all := lw_g (lw_at lw_m6 92 rfl) rfl
theorem q1384 : (Jvm.Cond.code ({ cls := "ThreeSnowballs$ByteRow", name := "put", desc := "(IJ)Z" } : Jvm.MethodName) prog_5_method_5_code (4 : Nat) (Option.some Jvm.ClassFile.FieldType.boolean)) ∈ lw_all := lw_g (lw_at lw_m6 93 rfl) rfl
theorem q1404 : (Jvm.Cond.selects "ThreeSnowballs$ByteRow" ({ cls := "ThreeSnowballs$Row", name := "at", desc := "(I)J" } : Jvm.MethodName) ({ cls := "ThreeSnowballs$ByteRow", name := "at", desc := "(I)J" } : Jvm.MethodName)) ∈ lw_all := lw_g (lw_at lw_m6 113 rfl) rfl
theorem q1428 : (Jvm.Cond.selects "ThreeSnowballs$ByteRow" ({ cls := "ThreeSnowballs$Row", name := "copy", desc := "(ILThreeSnowballs$Row;II)V" } : Jvm.MethodName) ({ cls := "ThreeSnowballs$ByteRow", name := "copy", desc := "(ILThreeSnowballs$Row;II)V" } : Jvm.MethodName)) ∈ lw_all := lw_g (lw_at lw_m6 137 rfl) rfl
theorem q1429 : (Jvm.Cond.instanceMethod ({ cls := "ThreeSnowballs$ByteRow", name := "copy", desc := "(ILThreeSnowballs$Row;II)V" } : Jvm.MethodName)) ∈ lw_all := lw_g (lw_at lw_m6 138 rfl) rfl
theorem q1430 : (Jvm.Cond.code ({ cls := "ThreeSnowballs$ByteRow", name := "copy", desc := "(ILThreeSnowballs$Row;II)V" } : Jvm.MethodName) prog_5_method_6_code (5 : Nat) (Option.none : Option Jvm.ClassFile.FieldType)) ∈ lw_all := lw_g (lw_at lw_m6 139 rfl) rfl
theorem q1431 : (Jvm.Cond.classLink "ThreeSnowballs$ByteRow" (8 : Nat) "ThreeSnowballs$ByteRow") ∈ lw_all := lw_g (lw_at lw_m6 140 rfl) rfl
theorem q1432 : (Jvm.Cond.methodLink "ThreeSnowballs$ByteRow" (13 : Nat) ({ cls := "java/lang/System", name := "arraycopy", desc := "(Ljava/lang/Object;ILjava/lang/Object;II)V" } : Jvm.MethodName)) ∈ lw_all := lw_g (lw_at lw_m6 141 rfl) rfl
theorem q2065 : (Jvm.Cond.castable "ThreeSnowballs$ByteRow" "ThreeSnowballs$Row") ∈ lw_tbl := lw_at lw_m9 54 rfl
theorem q2084 : (Jvm.Cond.castable "ThreeSnowballs$ByteRow" "ThreeSnowballs$Held") ∈ lw_tbl := lw_at lw_m9 73 rfl
theorem in_X23 : ∀ w ∈ wsX230, w ∈ lw_all := lw_in wsX230 [1326] (by decide +kernel) (by decide +kernel)
/-! ThreeSnowballs$ShortRow -/
set_option maxRecDepth 100000
def RX24 : String := "ThreeSnowballs$ShortRow"
def TX24 : u_T := fun k => match k with
  | _ => ("ThreeSnowballs$ShortRow", "items", "[S", true)
def tyX24 : Nat → FieldType := fun k => match k with
  | _ => .array .short
abbrev wsX240 : List Cond := u_ws RX24 TX24 1
theorem nmX24 : ∀ a, a < 1 → ∀ b, b < 1 → a ≠ b → (TX24 a).2.1 ≠ (TX24 b).2.1 := by decide +kernel
theorem tyX24_ok : ∀ k, k < 1 → parseFieldDescriptor (TX24 k).2.2.1 = some (tyX24 k) := by decide +kernel
abbrev cX24_init : ByteArray := prog_23_method_1_code
def yX24_init : MethodName := ⟨RX24, "<init>", "(I)V"⟩
def dkwX24_init_0 : List UInt8 := [42, 183, 0, 1, 42, 27, 188, 9, 181, 0, 7, 177]
abbrev dktX24_init_0 : List UInt8 := dkwX24_init_0 ++ []
theorem dksX24_init_0 : cX24_init.data.toList.drop 0 = dktX24_init_0 := by decide +kernel
theorem dX24_init_0 : decode cX24_init 0 = .ok (.aload_n 0, 1) := dk_42 (dk_at dksX24_init_0 0 rfl rfl)
theorem dX24_init_1 : decode cX24_init 1 = .ok (.invokespecial 1, 3) := dk_183 0 1 (dk_at dksX24_init_0 1 rfl rfl)
theorem dX24_init_4 : decode cX24_init 4 = .ok (.aload_n 0, 1) := dk_42 (dk_at dksX24_init_0 4 rfl rfl)
theorem dX24_init_5 : decode cX24_init 5 = .ok (.iload_n 1, 1) := dk_27 (dk_at dksX24_init_0 5 rfl rfl)
theorem dX24_init_6 : decode cX24_init 6 = .ok (.newarray .short, 2) := dk_188_9 (dk_at dksX24_init_0 6 rfl rfl)
theorem dX24_init_8 : decode cX24_init 8 = .ok (.putfield 7, 3) := dk_181 0 7 (dk_at dksX24_init_0 8 rfl rfl)
theorem dX24_init_11 : decode cX24_init 11 = .ok (.return_, 1) := dk_177 (dk_at dksX24_init_0 11 rfl rfl)
abbrev cX24_put : ByteArray := prog_23_method_5_code
def yX24_put : MethodName := ⟨RX24, "put", "(IJ)Z"⟩
def dkwX24_put_0 : List UInt8 := [42, 180, 0, 7, 27, 32, 136, 147, 86, 4, 172]
abbrev dktX24_put_0 : List UInt8 := dkwX24_put_0 ++ []
theorem dksX24_put_0 : cX24_put.data.toList.drop 0 = dktX24_put_0 := by decide +kernel
theorem dX24_put_0 : decode cX24_put 0 = .ok (.aload_n 0, 1) := dk_42 (dk_at dksX24_put_0 0 rfl rfl)
theorem dX24_put_1 : decode cX24_put 1 = .ok (.getfield 7, 3) := dk_180 0 7 (dk_at dksX24_put_0 1 rfl rfl)
theorem dX24_put_4 : decode cX24_put 4 = .ok (.iload_n 1, 1) := dk_27 (dk_at dksX24_put_0 4 rfl rfl)
theorem dX24_put_5 : decode cX24_put 5 = .ok (.lload_n 2, 1) := dk_32 (dk_at dksX24_put_0 5 rfl rfl)
theorem dX24_put_6 : decode cX24_put 6 = .ok (.l2i, 1) := dk_136 (dk_at dksX24_put_0 6 rfl rfl)
theorem dX24_put_7 : decode cX24_put 7 = .ok (.i2s, 1) := dk_147 (dk_at dksX24_put_0 7 rfl rfl)
theorem dX24_put_8 : decode cX24_put 8 = .ok (.sastore, 1) := dk_86 (dk_at dksX24_put_0 8 rfl rfl)
theorem dX24_put_9 : decode cX24_put 9 = .ok (.iconst 1, 1) := dk_4 (dk_at dksX24_put_0 9 rfl rfl)
theorem dX24_put_10 : decode cX24_put 10 = .ok (.ireturn, 1) := dk_172 (dk_at dksX24_put_0 10 rfl rfl)
abbrev cX24_at : ByteArray := prog_23_method_4_code
def yX24_at : MethodName := ⟨RX24, "at", "(I)J"⟩
def dkwX24_at_0 : List UInt8 := [42, 180, 0, 7, 27, 53, 133, 173]
abbrev dktX24_at_0 : List UInt8 := dkwX24_at_0 ++ []
theorem dksX24_at_0 : cX24_at.data.toList.drop 0 = dktX24_at_0 := by decide +kernel
theorem dX24_at_0 : decode cX24_at 0 = .ok (.aload_n 0, 1) := dk_42 (dk_at dksX24_at_0 0 rfl rfl)
theorem dX24_at_1 : decode cX24_at 1 = .ok (.getfield 7, 3) := dk_180 0 7 (dk_at dksX24_at_0 1 rfl rfl)
theorem dX24_at_4 : decode cX24_at 4 = .ok (.iload_n 1, 1) := dk_27 (dk_at dksX24_at_0 4 rfl rfl)
theorem dX24_at_5 : decode cX24_at 5 = .ok (.saload, 1) := dk_53 (dk_at dksX24_at_0 5 rfl rfl)
theorem dX24_at_6 : decode cX24_at 6 = .ok (.i2l, 1) := dk_133 (dk_at dksX24_at_0 6 rfl rfl)
theorem dX24_at_7 : decode cX24_at 7 = .ok (.lreturn, 1) := dk_173 (dk_at dksX24_at_0 7 rfl rfl)
abbrev cX24_copy : ByteArray := prog_23_method_6_code
def yX24_copy : MethodName := ⟨RX24, "copy", "(ILThreeSnowballs$Row;II)V"⟩
def dkwX24_copy_0 : List UInt8 := [42, 180, 0, 7, 27, 44, 192, 0, 8, 180, 0, 7, 29, 21, 4, 184, 0, 13, 177]
abbrev dktX24_copy_0 : List UInt8 := dkwX24_copy_0 ++ []
theorem dksX24_copy_0 : cX24_copy.data.toList.drop 0 = dktX24_copy_0 := by decide +kernel
theorem dX24_copy_0 : decode cX24_copy 0 = .ok (.aload_n 0, 1) := dk_42 (dk_at dksX24_copy_0 0 rfl rfl)
theorem dX24_copy_1 : decode cX24_copy 1 = .ok (.getfield 7, 3) := dk_180 0 7 (dk_at dksX24_copy_0 1 rfl rfl)
theorem dX24_copy_4 : decode cX24_copy 4 = .ok (.iload_n 1, 1) := dk_27 (dk_at dksX24_copy_0 4 rfl rfl)
theorem dX24_copy_5 : decode cX24_copy 5 = .ok (.aload_n 2, 1) := dk_44 (dk_at dksX24_copy_0 5 rfl rfl)
theorem dX24_copy_6 : decode cX24_copy 6 = .ok (.checkcast 8, 3) := dk_192 0 8 (dk_at dksX24_copy_0 6 rfl rfl)
theorem dX24_copy_9 : decode cX24_copy 9 = .ok (.getfield 7, 3) := dk_180 0 7 (dk_at dksX24_copy_0 9 rfl rfl)
theorem dX24_copy_12 : decode cX24_copy 12 = .ok (.iload_n 3, 1) := dk_29 (dk_at dksX24_copy_0 12 rfl rfl)
theorem dX24_copy_13 : decode cX24_copy 13 = .ok (.iload 4, 2) := dk_21 4 (dk_at dksX24_copy_0 13 rfl rfl)
theorem dX24_copy_15 : decode cX24_copy 15 = .ok (.invokestatic 13, 3) := dk_184 0 13 (dk_at dksX24_copy_0 15 rfl rfl)
theorem dX24_copy_18 : decode cX24_copy 18 = .ok (.return_, 1) := dk_177 (dk_at dksX24_copy_0 18 rfl rfl)
theorem q131 : (Jvm.Cond.initialized "ThreeSnowballs$ShortRow") ∈ lw_all := lw_g (lw_at lw_m1 40 rfl) rfl
theorem q1330 : (Jvm.Cond.instantiable "ThreeSnowballs$ShortRow" (1 : Nat)) ∈ lw_all := lw_g (lw_at lw_m6 39 rfl) rfl
theorem q1332 : (Jvm.Cond.instanceMethod ({ cls := "ThreeSnowballs$ShortRow", name := "<init>", desc := "(I)V" } : Jvm.MethodName)) ∈ lw_all := lw_g (lw_at lw_m6 41 rfl) rfl
theorem q1333 : (Jvm.Cond.code ({ cls := "ThreeSnowballs$ShortRow", name := "<init>", desc := "(I)V" } : Jvm.MethodName) prog_23_method_1_code (2 : Nat) (Option.none : Option Jvm.ClassFile.FieldType)) ∈ lw_all := lw_g (lw_at lw_m6 42 rfl) rfl
theorem q1334 : (Jvm.Cond.methodLinkNest "ThreeSnowballs$ShortRow" (1 : Nat) ({ cls := "ThreeSnowballs$Row", name := "<init>", desc := "()V" } : Jvm.MethodName) "ThreeSnowballs") ∈ lw_tbl := lw_at lw_m6 43 rfl
theorem q1335 : (Jvm.Cond.fieldLink "ThreeSnowballs$ShortRow" (7 : Nat) "ThreeSnowballs$ShortRow" "items" "[S") ∈ lw_all := lw_g (lw_at lw_m6 44 rfl) rfl
theorem q1336 : (Jvm.Cond.laysFinal "ThreeSnowballs$ShortRow" "ThreeSnowballs$ShortRow" "items" "[S") ∈ lw_all := lw_g (lw_at lw_m6 45 rfl) rfl
theorem q1337 : (Jvm.Cond.soleField "ThreeSnowballs$ShortRow" "items") ∈ lw_all := lw_g (lw_at lw_m6 46 rfl) rfl
theorem q1338 : (Jvm.Cond.superclass "ThreeSnowballs$ShortRow" "ThreeSnowballs$Row") ∈ lw_all := lw_g (lw_at lw_m6 47 rfl) rfl
theorem q1391 : (Jvm.Cond.selects "ThreeSnowballs$ShortRow" ({ cls := "ThreeSnowballs$Row", name := "put", desc := "(IJ)Z" } : Jvm.MethodName) ({ cls := "ThreeSnowballs$ShortRow", name := "put", desc := "(IJ)Z" } : Jvm.MethodName)) ∈ lw_all := lw_g (lw_at lw_m6 100 rfl) rfl
theorem q1392 : (Jvm.Cond.instanceMethod ({ cls := "ThreeSnowballs$ShortRow", name := "put", desc := "(IJ)Z" } : Jvm.MethodName)) ∈ lw_all := lw_g (lw_at lw_m6 101 rfl) rfl
theorem q1393 : (Jvm.Cond.code ({ cls := "ThreeSnowballs$ShortRow", name := "put", desc := "(IJ)Z" } : Jvm.MethodName) prog_23_method_5_code (4 : Nat) (Option.some Jvm.ClassFile.FieldType.boolean)) ∈ lw_all := lw_g (lw_at lw_m6 102 rfl) rfl
theorem q1411 : (Jvm.Cond.selects "ThreeSnowballs$ShortRow" ({ cls := "ThreeSnowballs$Row", name := "at", desc := "(I)J" } : Jvm.MethodName) ({ cls := "ThreeSnowballs$ShortRow", name := "at", desc := "(I)J" } : Jvm.MethodName)) ∈ lw_all := lw_g (lw_at lw_m6 120 rfl) rfl
theorem q1412 : (Jvm.Cond.instanceMethod ({ cls := "ThreeSnowballs$ShortRow", name := "at", desc := "(I)J" } : Jvm.MethodName)) ∈ lw_all := lw_g (lw_at lw_m6 121 rfl) rfl
theorem q1413 : (Jvm.Cond.code ({ cls := "ThreeSnowballs$ShortRow", name := "at", desc := "(I)J" } : Jvm.MethodName) prog_23_method_4_code (2 : Nat) (Option.some Jvm.ClassFile.FieldType.long)) ∈ lw_all := lw_g (lw_at lw_m6 122 rfl) rfl
theorem q1443 : (Jvm.Cond.selects "ThreeSnowballs$ShortRow" ({ cls := "ThreeSnowballs$Row", name := "copy", desc := "(ILThreeSnowballs$Row;II)V" } : Jvm.MethodName) ({ cls := "ThreeSnowballs$ShortRow", name := "copy", desc := "(ILThreeSnowballs$Row;II)V" } : Jvm.MethodName)) ∈ lw_all := lw_g (lw_at lw_m6 152 rfl) rfl
theorem q1444 : (Jvm.Cond.instanceMethod ({ cls := "ThreeSnowballs$ShortRow", name := "copy", desc := "(ILThreeSnowballs$Row;II)V" } : Jvm.MethodName)) ∈ lw_all := lw_g (lw_at lw_m6 153 rfl) rfl
theorem q1445 : (Jvm.Cond.code ({ cls := "ThreeSnowballs$ShortRow", name := "copy", desc := "(ILThreeSnowballs$Row;II)V" } : Jvm.MethodName) prog_23_method_6_code (5 : Nat) (Option.none : Option Jvm.ClassFile.FieldType)) ∈ lw_all := lw_g (lw_at lw_m6 154 rfl) rfl
theorem q1446 : (Jvm.Cond.classLink "ThreeSnowballs$ShortRow" (8 : Nat) "ThreeSnowballs$ShortRow") ∈ lw_all := lw_g (lw_at lw_m6 155 rfl) rfl
theorem q1447 : (Jvm.Cond.methodLink "ThreeSnowballs$ShortRow" (13 : Nat) ({ cls := "java/lang/System", name := "arraycopy", desc := "(Ljava/lang/Object;ILjava/lang/Object;II)V" } : Jvm.MethodName)) ∈ lw_all := lw_g (lw_at lw_m6 156 rfl) rfl
theorem q2068 : (Jvm.Cond.castable "ThreeSnowballs$ShortRow" "ThreeSnowballs$Row") ∈ lw_tbl := lw_at lw_m9 57 rfl
theorem q2085 : (Jvm.Cond.castable "ThreeSnowballs$ShortRow" "ThreeSnowballs$Held") ∈ lw_tbl := lw_at lw_m9 74 rfl
theorem in_X24 : ∀ w ∈ wsX240, w ∈ lw_all := lw_in wsX240 [1336] (by decide +kernel) (by decide +kernel)
/-! ThreeSnowballs$IntRow -/
set_option maxRecDepth 100000
def RX25 : String := "ThreeSnowballs$IntRow"
def TX25 : u_T := fun k => match k with
  | _ => ("ThreeSnowballs$IntRow", "items", "[I", true)
def tyX25 : Nat → FieldType := fun k => match k with
  | _ => .array .int
abbrev wsX250 : List Cond := u_ws RX25 TX25 1
theorem nmX25 : ∀ a, a < 1 → ∀ b, b < 1 → a ≠ b → (TX25 a).2.1 ≠ (TX25 b).2.1 := by decide +kernel
theorem tyX25_ok : ∀ k, k < 1 → parseFieldDescriptor (TX25 k).2.2.1 = some (tyX25 k) := by decide +kernel
abbrev cX25_init : ByteArray := prog_11_method_1_code
def yX25_init : MethodName := ⟨RX25, "<init>", "(I)V"⟩
def dkwX25_init_0 : List UInt8 := [42, 183, 0, 1, 42, 27, 188, 10, 181, 0, 7, 177]
abbrev dktX25_init_0 : List UInt8 := dkwX25_init_0 ++ []
theorem dksX25_init_0 : cX25_init.data.toList.drop 0 = dktX25_init_0 := by decide +kernel
theorem dX25_init_0 : decode cX25_init 0 = .ok (.aload_n 0, 1) := dk_42 (dk_at dksX25_init_0 0 rfl rfl)
theorem dX25_init_1 : decode cX25_init 1 = .ok (.invokespecial 1, 3) := dk_183 0 1 (dk_at dksX25_init_0 1 rfl rfl)
theorem dX25_init_4 : decode cX25_init 4 = .ok (.aload_n 0, 1) := dk_42 (dk_at dksX25_init_0 4 rfl rfl)
theorem dX25_init_5 : decode cX25_init 5 = .ok (.iload_n 1, 1) := dk_27 (dk_at dksX25_init_0 5 rfl rfl)
theorem dX25_init_6 : decode cX25_init 6 = .ok (.newarray .int, 2) := dk_188_10 (dk_at dksX25_init_0 6 rfl rfl)
theorem dX25_init_8 : decode cX25_init 8 = .ok (.putfield 7, 3) := dk_181 0 7 (dk_at dksX25_init_0 8 rfl rfl)
theorem dX25_init_11 : decode cX25_init 11 = .ok (.return_, 1) := dk_177 (dk_at dksX25_init_0 11 rfl rfl)
abbrev cX25_put : ByteArray := prog_11_method_5_code
def yX25_put : MethodName := ⟨RX25, "put", "(IJ)Z"⟩
def dkwX25_put_0 : List UInt8 := [42, 180, 0, 7, 27, 32, 136, 79, 4, 172]
abbrev dktX25_put_0 : List UInt8 := dkwX25_put_0 ++ []
theorem dksX25_put_0 : cX25_put.data.toList.drop 0 = dktX25_put_0 := by decide +kernel
theorem dX25_put_0 : decode cX25_put 0 = .ok (.aload_n 0, 1) := dk_42 (dk_at dksX25_put_0 0 rfl rfl)
theorem dX25_put_1 : decode cX25_put 1 = .ok (.getfield 7, 3) := dk_180 0 7 (dk_at dksX25_put_0 1 rfl rfl)
theorem dX25_put_4 : decode cX25_put 4 = .ok (.iload_n 1, 1) := dk_27 (dk_at dksX25_put_0 4 rfl rfl)
theorem dX25_put_5 : decode cX25_put 5 = .ok (.lload_n 2, 1) := dk_32 (dk_at dksX25_put_0 5 rfl rfl)
theorem dX25_put_6 : decode cX25_put 6 = .ok (.l2i, 1) := dk_136 (dk_at dksX25_put_0 6 rfl rfl)
theorem dX25_put_7 : decode cX25_put 7 = .ok (.iastore, 1) := dk_79 (dk_at dksX25_put_0 7 rfl rfl)
theorem dX25_put_8 : decode cX25_put 8 = .ok (.iconst 1, 1) := dk_4 (dk_at dksX25_put_0 8 rfl rfl)
theorem dX25_put_9 : decode cX25_put 9 = .ok (.ireturn, 1) := dk_172 (dk_at dksX25_put_0 9 rfl rfl)
abbrev cX25_at : ByteArray := prog_11_method_4_code
def yX25_at : MethodName := ⟨RX25, "at", "(I)J"⟩
def dkwX25_at_0 : List UInt8 := [42, 180, 0, 7, 27, 46, 133, 173]
abbrev dktX25_at_0 : List UInt8 := dkwX25_at_0 ++ []
theorem dksX25_at_0 : cX25_at.data.toList.drop 0 = dktX25_at_0 := by decide +kernel
theorem dX25_at_0 : decode cX25_at 0 = .ok (.aload_n 0, 1) := dk_42 (dk_at dksX25_at_0 0 rfl rfl)
theorem dX25_at_1 : decode cX25_at 1 = .ok (.getfield 7, 3) := dk_180 0 7 (dk_at dksX25_at_0 1 rfl rfl)
theorem dX25_at_4 : decode cX25_at 4 = .ok (.iload_n 1, 1) := dk_27 (dk_at dksX25_at_0 4 rfl rfl)
theorem dX25_at_5 : decode cX25_at 5 = .ok (.iaload, 1) := dk_46 (dk_at dksX25_at_0 5 rfl rfl)
theorem dX25_at_6 : decode cX25_at 6 = .ok (.i2l, 1) := dk_133 (dk_at dksX25_at_0 6 rfl rfl)
theorem dX25_at_7 : decode cX25_at 7 = .ok (.lreturn, 1) := dk_173 (dk_at dksX25_at_0 7 rfl rfl)
abbrev cX25_copy : ByteArray := prog_11_method_6_code
def yX25_copy : MethodName := ⟨RX25, "copy", "(ILThreeSnowballs$Row;II)V"⟩
def dkwX25_copy_0 : List UInt8 := [42, 180, 0, 7, 27, 44, 192, 0, 8, 180, 0, 7, 29, 21, 4, 184, 0, 13, 177]
abbrev dktX25_copy_0 : List UInt8 := dkwX25_copy_0 ++ []
theorem dksX25_copy_0 : cX25_copy.data.toList.drop 0 = dktX25_copy_0 := by decide +kernel
theorem dX25_copy_0 : decode cX25_copy 0 = .ok (.aload_n 0, 1) := dk_42 (dk_at dksX25_copy_0 0 rfl rfl)
theorem dX25_copy_1 : decode cX25_copy 1 = .ok (.getfield 7, 3) := dk_180 0 7 (dk_at dksX25_copy_0 1 rfl rfl)
theorem dX25_copy_4 : decode cX25_copy 4 = .ok (.iload_n 1, 1) := dk_27 (dk_at dksX25_copy_0 4 rfl rfl)
theorem dX25_copy_5 : decode cX25_copy 5 = .ok (.aload_n 2, 1) := dk_44 (dk_at dksX25_copy_0 5 rfl rfl)
theorem dX25_copy_6 : decode cX25_copy 6 = .ok (.checkcast 8, 3) := dk_192 0 8 (dk_at dksX25_copy_0 6 rfl rfl)
theorem dX25_copy_9 : decode cX25_copy 9 = .ok (.getfield 7, 3) := dk_180 0 7 (dk_at dksX25_copy_0 9 rfl rfl)
theorem dX25_copy_12 : decode cX25_copy 12 = .ok (.iload_n 3, 1) := dk_29 (dk_at dksX25_copy_0 12 rfl rfl)
theorem dX25_copy_13 : decode cX25_copy 13 = .ok (.iload 4, 2) := dk_21 4 (dk_at dksX25_copy_0 13 rfl rfl)
theorem dX25_copy_15 : decode cX25_copy 15 = .ok (.invokestatic 13, 3) := dk_184 0 13 (dk_at dksX25_copy_0 15 rfl rfl)
theorem dX25_copy_18 : decode cX25_copy 18 = .ok (.return_, 1) := dk_177 (dk_at dksX25_copy_0 18 rfl rfl)
theorem q132 : (Jvm.Cond.initialized "ThreeSnowballs$IntRow") ∈ lw_all := lw_g (lw_at lw_m1 41 rfl) rfl
theorem q1341 : (Jvm.Cond.instantiable "ThreeSnowballs$IntRow" (1 : Nat)) ∈ lw_all := lw_g (lw_at lw_m6 50 rfl) rfl
theorem q1343 : (Jvm.Cond.instanceMethod ({ cls := "ThreeSnowballs$IntRow", name := "<init>", desc := "(I)V" } : Jvm.MethodName)) ∈ lw_all := lw_g (lw_at lw_m6 52 rfl) rfl
theorem q1344 : (Jvm.Cond.code ({ cls := "ThreeSnowballs$IntRow", name := "<init>", desc := "(I)V" } : Jvm.MethodName) prog_11_method_1_code (2 : Nat) (Option.none : Option Jvm.ClassFile.FieldType)) ∈ lw_all := lw_g (lw_at lw_m6 53 rfl) rfl
theorem q1345 : (Jvm.Cond.methodLinkNest "ThreeSnowballs$IntRow" (1 : Nat) ({ cls := "ThreeSnowballs$Row", name := "<init>", desc := "()V" } : Jvm.MethodName) "ThreeSnowballs") ∈ lw_tbl := lw_at lw_m6 54 rfl
theorem q1346 : (Jvm.Cond.fieldLink "ThreeSnowballs$IntRow" (7 : Nat) "ThreeSnowballs$IntRow" "items" "[I") ∈ lw_all := lw_g (lw_at lw_m6 55 rfl) rfl
theorem q1347 : (Jvm.Cond.laysFinal "ThreeSnowballs$IntRow" "ThreeSnowballs$IntRow" "items" "[I") ∈ lw_all := lw_g (lw_at lw_m6 56 rfl) rfl
theorem q1348 : (Jvm.Cond.soleField "ThreeSnowballs$IntRow" "items") ∈ lw_all := lw_g (lw_at lw_m6 57 rfl) rfl
theorem q1349 : (Jvm.Cond.superclass "ThreeSnowballs$IntRow" "ThreeSnowballs$Row") ∈ lw_all := lw_g (lw_at lw_m6 58 rfl) rfl
theorem q1385 : (Jvm.Cond.selects "ThreeSnowballs$IntRow" ({ cls := "ThreeSnowballs$Row", name := "put", desc := "(IJ)Z" } : Jvm.MethodName) ({ cls := "ThreeSnowballs$IntRow", name := "put", desc := "(IJ)Z" } : Jvm.MethodName)) ∈ lw_all := lw_g (lw_at lw_m6 94 rfl) rfl
theorem q1386 : (Jvm.Cond.instanceMethod ({ cls := "ThreeSnowballs$IntRow", name := "put", desc := "(IJ)Z" } : Jvm.MethodName)) ∈ lw_all := lw_g (lw_at lw_m6 95 rfl) rfl
theorem q1387 : (Jvm.Cond.code ({ cls := "ThreeSnowballs$IntRow", name := "put", desc := "(IJ)Z" } : Jvm.MethodName) prog_11_method_5_code (4 : Nat) (Option.some Jvm.ClassFile.FieldType.boolean)) ∈ lw_all := lw_g (lw_at lw_m6 96 rfl) rfl
theorem q1405 : (Jvm.Cond.selects "ThreeSnowballs$IntRow" ({ cls := "ThreeSnowballs$Row", name := "at", desc := "(I)J" } : Jvm.MethodName) ({ cls := "ThreeSnowballs$IntRow", name := "at", desc := "(I)J" } : Jvm.MethodName)) ∈ lw_all := lw_g (lw_at lw_m6 114 rfl) rfl
theorem q1406 : (Jvm.Cond.instanceMethod ({ cls := "ThreeSnowballs$IntRow", name := "at", desc := "(I)J" } : Jvm.MethodName)) ∈ lw_all := lw_g (lw_at lw_m6 115 rfl) rfl
theorem q1407 : (Jvm.Cond.code ({ cls := "ThreeSnowballs$IntRow", name := "at", desc := "(I)J" } : Jvm.MethodName) prog_11_method_4_code (2 : Nat) (Option.some Jvm.ClassFile.FieldType.long)) ∈ lw_all := lw_g (lw_at lw_m6 116 rfl) rfl
theorem q1433 : (Jvm.Cond.selects "ThreeSnowballs$IntRow" ({ cls := "ThreeSnowballs$Row", name := "copy", desc := "(ILThreeSnowballs$Row;II)V" } : Jvm.MethodName) ({ cls := "ThreeSnowballs$IntRow", name := "copy", desc := "(ILThreeSnowballs$Row;II)V" } : Jvm.MethodName)) ∈ lw_all := lw_g (lw_at lw_m6 142 rfl) rfl
theorem q1434 : (Jvm.Cond.instanceMethod ({ cls := "ThreeSnowballs$IntRow", name := "copy", desc := "(ILThreeSnowballs$Row;II)V" } : Jvm.MethodName)) ∈ lw_all := lw_g (lw_at lw_m6 143 rfl) rfl
theorem q1435 : (Jvm.Cond.code ({ cls := "ThreeSnowballs$IntRow", name := "copy", desc := "(ILThreeSnowballs$Row;II)V" } : Jvm.MethodName) prog_11_method_6_code (5 : Nat) (Option.none : Option Jvm.ClassFile.FieldType)) ∈ lw_all := lw_g (lw_at lw_m6 144 rfl) rfl
theorem q1436 : (Jvm.Cond.classLink "ThreeSnowballs$IntRow" (8 : Nat) "ThreeSnowballs$IntRow") ∈ lw_all := lw_g (lw_at lw_m6 145 rfl) rfl
theorem q1437 : (Jvm.Cond.methodLink "ThreeSnowballs$IntRow" (13 : Nat) ({ cls := "java/lang/System", name := "arraycopy", desc := "(Ljava/lang/Object;ILjava/lang/Object;II)V" } : Jvm.MethodName)) ∈ lw_all := lw_g (lw_at lw_m6 146 rfl) rfl
theorem q2066 : (Jvm.Cond.castable "ThreeSnowballs$IntRow" "ThreeSnowballs$Row") ∈ lw_tbl := lw_at lw_m9 55 rfl
theorem q2086 : (Jvm.Cond.castable "ThreeSnowballs$IntRow" "ThreeSnowballs$Held") ∈ lw_tbl := lw_at lw_m9 75 rfl
theorem in_X25 : ∀ w ∈ wsX250, w ∈ lw_all := lw_in wsX250 [1347] (by decide +kernel) (by decide +kernel)
/-! ThreeSnowballs$LongRow -/
set_option maxRecDepth 100000
def RX26 : String := "ThreeSnowballs$LongRow"
def TX26 : u_T := fun k => match k with
  | _ => ("ThreeSnowballs$LongRow", "items", "[J", true)
def tyX26 : Nat → FieldType := fun k => match k with
  | _ => .array .long
abbrev wsX260 : List Cond := u_ws RX26 TX26 1
theorem nmX26 : ∀ a, a < 1 → ∀ b, b < 1 → a ≠ b → (TX26 a).2.1 ≠ (TX26 b).2.1 := by decide +kernel
theorem tyX26_ok : ∀ k, k < 1 → parseFieldDescriptor (TX26 k).2.2.1 = some (tyX26 k) := by decide +kernel
abbrev cX26_init : ByteArray := prog_16_method_1_code
def yX26_init : MethodName := ⟨RX26, "<init>", "(I)V"⟩
def dkwX26_init_0 : List UInt8 := [42, 183, 0, 1, 42, 27, 188, 11, 181, 0, 7, 177]
abbrev dktX26_init_0 : List UInt8 := dkwX26_init_0 ++ []
theorem dksX26_init_0 : cX26_init.data.toList.drop 0 = dktX26_init_0 := by decide +kernel
theorem dX26_init_0 : decode cX26_init 0 = .ok (.aload_n 0, 1) := dk_42 (dk_at dksX26_init_0 0 rfl rfl)
theorem dX26_init_1 : decode cX26_init 1 = .ok (.invokespecial 1, 3) := dk_183 0 1 (dk_at dksX26_init_0 1 rfl rfl)
theorem dX26_init_4 : decode cX26_init 4 = .ok (.aload_n 0, 1) := dk_42 (dk_at dksX26_init_0 4 rfl rfl)
theorem dX26_init_5 : decode cX26_init 5 = .ok (.iload_n 1, 1) := dk_27 (dk_at dksX26_init_0 5 rfl rfl)
theorem dX26_init_6 : decode cX26_init 6 = .ok (.newarray .long, 2) := dk_188_11 (dk_at dksX26_init_0 6 rfl rfl)
theorem dX26_init_8 : decode cX26_init 8 = .ok (.putfield 7, 3) := dk_181 0 7 (dk_at dksX26_init_0 8 rfl rfl)
theorem dX26_init_11 : decode cX26_init 11 = .ok (.return_, 1) := dk_177 (dk_at dksX26_init_0 11 rfl rfl)
abbrev cX26_put : ByteArray := prog_16_method_5_code
def yX26_put : MethodName := ⟨RX26, "put", "(IJ)Z"⟩
def dkwX26_put_0 : List UInt8 := [42, 180, 0, 7, 27, 32, 80, 4, 172]
abbrev dktX26_put_0 : List UInt8 := dkwX26_put_0 ++ []
theorem dksX26_put_0 : cX26_put.data.toList.drop 0 = dktX26_put_0 := by decide +kernel
theorem dX26_put_0 : decode cX26_put 0 = .ok (.aload_n 0, 1) := dk_42 (dk_at dksX26_put_0 0 rfl rfl)
theorem dX26_put_1 : decode cX26_put 1 = .ok (.getfield 7, 3) := dk_180 0 7 (dk_at dksX26_put_0 1 rfl rfl)
theorem dX26_put_4 : decode cX26_put 4 = .ok (.iload_n 1, 1) := dk_27 (dk_at dksX26_put_0 4 rfl rfl)
theorem dX26_put_5 : decode cX26_put 5 = .ok (.lload_n 2, 1) := dk_32 (dk_at dksX26_put_0 5 rfl rfl)
theorem dX26_put_6 : decode cX26_put 6 = .ok (.lastore, 1) := dk_80 (dk_at dksX26_put_0 6 rfl rfl)
theorem dX26_put_7 : decode cX26_put 7 = .ok (.iconst 1, 1) := dk_4 (dk_at dksX26_put_0 7 rfl rfl)
theorem dX26_put_8 : decode cX26_put 8 = .ok (.ireturn, 1) := dk_172 (dk_at dksX26_put_0 8 rfl rfl)
abbrev cX26_at : ByteArray := prog_16_method_4_code
def yX26_at : MethodName := ⟨RX26, "at", "(I)J"⟩
def dkwX26_at_0 : List UInt8 := [42, 180, 0, 7, 27, 47, 173]
abbrev dktX26_at_0 : List UInt8 := dkwX26_at_0 ++ []
theorem dksX26_at_0 : cX26_at.data.toList.drop 0 = dktX26_at_0 := by decide +kernel
theorem dX26_at_0 : decode cX26_at 0 = .ok (.aload_n 0, 1) := dk_42 (dk_at dksX26_at_0 0 rfl rfl)
theorem dX26_at_1 : decode cX26_at 1 = .ok (.getfield 7, 3) := dk_180 0 7 (dk_at dksX26_at_0 1 rfl rfl)
theorem dX26_at_4 : decode cX26_at 4 = .ok (.iload_n 1, 1) := dk_27 (dk_at dksX26_at_0 4 rfl rfl)
theorem dX26_at_5 : decode cX26_at 5 = .ok (.laload, 1) := dk_47 (dk_at dksX26_at_0 5 rfl rfl)
theorem dX26_at_6 : decode cX26_at 6 = .ok (.lreturn, 1) := dk_173 (dk_at dksX26_at_0 6 rfl rfl)
abbrev cX26_copy : ByteArray := prog_16_method_6_code
def yX26_copy : MethodName := ⟨RX26, "copy", "(ILThreeSnowballs$Row;II)V"⟩
def dkwX26_copy_0 : List UInt8 := [42, 180, 0, 7, 27, 44, 192, 0, 8, 180, 0, 7, 29, 21, 4, 184, 0, 13, 177]
abbrev dktX26_copy_0 : List UInt8 := dkwX26_copy_0 ++ []
theorem dksX26_copy_0 : cX26_copy.data.toList.drop 0 = dktX26_copy_0 := by decide +kernel
theorem dX26_copy_0 : decode cX26_copy 0 = .ok (.aload_n 0, 1) := dk_42 (dk_at dksX26_copy_0 0 rfl rfl)
theorem dX26_copy_1 : decode cX26_copy 1 = .ok (.getfield 7, 3) := dk_180 0 7 (dk_at dksX26_copy_0 1 rfl rfl)
theorem dX26_copy_4 : decode cX26_copy 4 = .ok (.iload_n 1, 1) := dk_27 (dk_at dksX26_copy_0 4 rfl rfl)
theorem dX26_copy_5 : decode cX26_copy 5 = .ok (.aload_n 2, 1) := dk_44 (dk_at dksX26_copy_0 5 rfl rfl)
theorem dX26_copy_6 : decode cX26_copy 6 = .ok (.checkcast 8, 3) := dk_192 0 8 (dk_at dksX26_copy_0 6 rfl rfl)
theorem dX26_copy_9 : decode cX26_copy 9 = .ok (.getfield 7, 3) := dk_180 0 7 (dk_at dksX26_copy_0 9 rfl rfl)
theorem dX26_copy_12 : decode cX26_copy 12 = .ok (.iload_n 3, 1) := dk_29 (dk_at dksX26_copy_0 12 rfl rfl)
theorem dX26_copy_13 : decode cX26_copy 13 = .ok (.iload 4, 2) := dk_21 4 (dk_at dksX26_copy_0 13 rfl rfl)
theorem dX26_copy_15 : decode cX26_copy 15 = .ok (.invokestatic 13, 3) := dk_184 0 13 (dk_at dksX26_copy_0 15 rfl rfl)
theorem dX26_copy_18 : decode cX26_copy 18 = .ok (.return_, 1) := dk_177 (dk_at dksX26_copy_0 18 rfl rfl)
theorem q133 : (Jvm.Cond.initialized "ThreeSnowballs$LongRow") ∈ lw_all := lw_g (lw_at lw_m1 42 rfl) rfl
theorem q1351 : (Jvm.Cond.instantiable "ThreeSnowballs$LongRow" (1 : Nat)) ∈ lw_all := lw_g (lw_at lw_m6 60 rfl) rfl
theorem q1353 : (Jvm.Cond.instanceMethod ({ cls := "ThreeSnowballs$LongRow", name := "<init>", desc := "(I)V" } : Jvm.MethodName)) ∈ lw_all := lw_g (lw_at lw_m6 62 rfl) rfl
theorem q1354 : (Jvm.Cond.code ({ cls := "ThreeSnowballs$LongRow", name := "<init>", desc := "(I)V" } : Jvm.MethodName) prog_16_method_1_code (2 : Nat) (Option.none : Option Jvm.ClassFile.FieldType)) ∈ lw_all := lw_g (lw_at lw_m6 63 rfl) rfl
theorem q1355 : (Jvm.Cond.methodLinkNest "ThreeSnowballs$LongRow" (1 : Nat) ({ cls := "ThreeSnowballs$Row", name := "<init>", desc := "()V" } : Jvm.MethodName) "ThreeSnowballs") ∈ lw_tbl := lw_at lw_m6 64 rfl
theorem q1356 : (Jvm.Cond.fieldLink "ThreeSnowballs$LongRow" (7 : Nat) "ThreeSnowballs$LongRow" "items" "[J") ∈ lw_all := lw_g (lw_at lw_m6 65 rfl) rfl
theorem q1357 : (Jvm.Cond.laysFinal "ThreeSnowballs$LongRow" "ThreeSnowballs$LongRow" "items" "[J") ∈ lw_all := lw_g (lw_at lw_m6 66 rfl) rfl
theorem q1358 : (Jvm.Cond.soleField "ThreeSnowballs$LongRow" "items") ∈ lw_all := lw_g (lw_at lw_m6 67 rfl) rfl
theorem q1359 : (Jvm.Cond.superclass "ThreeSnowballs$LongRow" "ThreeSnowballs$Row") ∈ lw_all := lw_g (lw_at lw_m6 68 rfl) rfl
theorem q1388 : (Jvm.Cond.selects "ThreeSnowballs$LongRow" ({ cls := "ThreeSnowballs$Row", name := "put", desc := "(IJ)Z" } : Jvm.MethodName) ({ cls := "ThreeSnowballs$LongRow", name := "put", desc := "(IJ)Z" } : Jvm.MethodName)) ∈ lw_all := lw_g (lw_at lw_m6 97 rfl) rfl
theorem q1389 : (Jvm.Cond.instanceMethod ({ cls := "ThreeSnowballs$LongRow", name := "put", desc := "(IJ)Z" } : Jvm.MethodName)) ∈ lw_all := lw_g (lw_at lw_m6 98 rfl) rfl
theorem q1390 : (Jvm.Cond.code ({ cls := "ThreeSnowballs$LongRow", name := "put", desc := "(IJ)Z" } : Jvm.MethodName) prog_16_method_5_code (4 : Nat) (Option.some Jvm.ClassFile.FieldType.boolean)) ∈ lw_all := lw_g (lw_at lw_m6 99 rfl) rfl
theorem q1408 : (Jvm.Cond.selects "ThreeSnowballs$LongRow" ({ cls := "ThreeSnowballs$Row", name := "at", desc := "(I)J" } : Jvm.MethodName) ({ cls := "ThreeSnowballs$LongRow", name := "at", desc := "(I)J" } : Jvm.MethodName)) ∈ lw_all := lw_g (lw_at lw_m6 117 rfl) rfl
theorem q1409 : (Jvm.Cond.instanceMethod ({ cls := "ThreeSnowballs$LongRow", name := "at", desc := "(I)J" } : Jvm.MethodName)) ∈ lw_all := lw_g (lw_at lw_m6 118 rfl) rfl
theorem q1410 : (Jvm.Cond.code ({ cls := "ThreeSnowballs$LongRow", name := "at", desc := "(I)J" } : Jvm.MethodName) prog_16_method_4_code (2 : Nat) (Option.some Jvm.ClassFile.FieldType.long)) ∈ lw_all := lw_g (lw_at lw_m6 119 rfl) rfl
theorem q1438 : (Jvm.Cond.selects "ThreeSnowballs$LongRow" ({ cls := "ThreeSnowballs$Row", name := "copy", desc := "(ILThreeSnowballs$Row;II)V" } : Jvm.MethodName) ({ cls := "ThreeSnowballs$LongRow", name := "copy", desc := "(ILThreeSnowballs$Row;II)V" } : Jvm.MethodName)) ∈ lw_all := lw_g (lw_at lw_m6 147 rfl) rfl
theorem q1439 : (Jvm.Cond.instanceMethod ({ cls := "ThreeSnowballs$LongRow", name := "copy", desc := "(ILThreeSnowballs$Row;II)V" } : Jvm.MethodName)) ∈ lw_all := lw_g (lw_at lw_m6 148 rfl) rfl
theorem q1440 : (Jvm.Cond.code ({ cls := "ThreeSnowballs$LongRow", name := "copy", desc := "(ILThreeSnowballs$Row;II)V" } : Jvm.MethodName) prog_16_method_6_code (5 : Nat) (Option.none : Option Jvm.ClassFile.FieldType)) ∈ lw_all := lw_g (lw_at lw_m6 149 rfl) rfl
theorem q1441 : (Jvm.Cond.classLink "ThreeSnowballs$LongRow" (8 : Nat) "ThreeSnowballs$LongRow") ∈ lw_all := lw_g (lw_at lw_m6 150 rfl) rfl
theorem q1442 : (Jvm.Cond.methodLink "ThreeSnowballs$LongRow" (13 : Nat) ({ cls := "java/lang/System", name := "arraycopy", desc := "(Ljava/lang/Object;ILjava/lang/Object;II)V" } : Jvm.MethodName)) ∈ lw_all := lw_g (lw_at lw_m6 151 rfl) rfl
theorem q2067 : (Jvm.Cond.castable "ThreeSnowballs$LongRow" "ThreeSnowballs$Row") ∈ lw_tbl := lw_at lw_m9 56 rfl
theorem q2087 : (Jvm.Cond.castable "ThreeSnowballs$LongRow" "ThreeSnowballs$Held") ∈ lw_tbl := lw_at lw_m9 76 rfl
theorem in_X26 : ∀ w ∈ wsX260, w ∈ lw_all := lw_in wsX260 [1357] (by decide +kernel) (by decide +kernel)
/-! ThreeSnowballs$BooleanRow -/
set_option maxRecDepth 100000
def RX27 : String := "ThreeSnowballs$BooleanRow"
def TX27 : u_T := fun k => match k with
  | _ => ("ThreeSnowballs$BooleanRow", "items", "[Z", true)
def tyX27 : Nat → FieldType := fun k => match k with
  | _ => .array .boolean
abbrev wsX270 : List Cond := u_ws RX27 TX27 1
theorem nmX27 : ∀ a, a < 1 → ∀ b, b < 1 → a ≠ b → (TX27 a).2.1 ≠ (TX27 b).2.1 := by decide +kernel
theorem tyX27_ok : ∀ k, k < 1 → parseFieldDescriptor (TX27 k).2.2.1 = some (tyX27 k) := by decide +kernel
abbrev cX27_init : ByteArray := prog_4_method_1_code
def yX27_init : MethodName := ⟨RX27, "<init>", "(I)V"⟩
def dkwX27_init_0 : List UInt8 := [42, 183, 0, 1, 42, 27, 188, 4, 181, 0, 7, 177]
abbrev dktX27_init_0 : List UInt8 := dkwX27_init_0 ++ []
theorem dksX27_init_0 : cX27_init.data.toList.drop 0 = dktX27_init_0 := by decide +kernel
theorem dX27_init_0 : decode cX27_init 0 = .ok (.aload_n 0, 1) := dk_42 (dk_at dksX27_init_0 0 rfl rfl)
theorem dX27_init_1 : decode cX27_init 1 = .ok (.invokespecial 1, 3) := dk_183 0 1 (dk_at dksX27_init_0 1 rfl rfl)
theorem dX27_init_4 : decode cX27_init 4 = .ok (.aload_n 0, 1) := dk_42 (dk_at dksX27_init_0 4 rfl rfl)
theorem dX27_init_5 : decode cX27_init 5 = .ok (.iload_n 1, 1) := dk_27 (dk_at dksX27_init_0 5 rfl rfl)
theorem dX27_init_6 : decode cX27_init 6 = .ok (.newarray .boolean, 2) := dk_188_4 (dk_at dksX27_init_0 6 rfl rfl)
theorem dX27_init_8 : decode cX27_init 8 = .ok (.putfield 7, 3) := dk_181 0 7 (dk_at dksX27_init_0 8 rfl rfl)
theorem dX27_init_11 : decode cX27_init 11 = .ok (.return_, 1) := dk_177 (dk_at dksX27_init_0 11 rfl rfl)
abbrev cX27_put : ByteArray := prog_4_method_5_code
def yX27_put : MethodName := ⟨RX27, "put", "(IJ)Z"⟩
def dkwX27_put_0 : List UInt8 := [42, 180, 0, 7, 27, 32, 9, 148, 153, 0, 7, 4, 167, 0, 4, 3, 84, 4, 172]
abbrev dktX27_put_0 : List UInt8 := dkwX27_put_0 ++ []
theorem dksX27_put_0 : cX27_put.data.toList.drop 0 = dktX27_put_0 := by decide +kernel
theorem dX27_put_0 : decode cX27_put 0 = .ok (.aload_n 0, 1) := dk_42 (dk_at dksX27_put_0 0 rfl rfl)
theorem dX27_put_1 : decode cX27_put 1 = .ok (.getfield 7, 3) := dk_180 0 7 (dk_at dksX27_put_0 1 rfl rfl)
theorem dX27_put_4 : decode cX27_put 4 = .ok (.iload_n 1, 1) := dk_27 (dk_at dksX27_put_0 4 rfl rfl)
theorem dX27_put_5 : decode cX27_put 5 = .ok (.lload_n 2, 1) := dk_32 (dk_at dksX27_put_0 5 rfl rfl)
theorem dX27_put_6 : decode cX27_put 6 = .ok (.lconst 0, 1) := dk_9 (dk_at dksX27_put_0 6 rfl rfl)
theorem dX27_put_7 : decode cX27_put 7 = .ok (.lcmp, 1) := dk_148 (dk_at dksX27_put_0 7 rfl rfl)
theorem dX27_put_8 : decode cX27_put 8 = .ok (.ifCond .eq 7, 3) := dk_153 0 7 (dk_at dksX27_put_0 8 rfl rfl)
theorem dX27_put_11 : decode cX27_put 11 = .ok (.iconst 1, 1) := dk_4 (dk_at dksX27_put_0 11 rfl rfl)
theorem dX27_put_12 : decode cX27_put 12 = .ok (.goto 4, 3) := dk_167 0 4 (dk_at dksX27_put_0 12 rfl rfl)
theorem dX27_put_15 : decode cX27_put 15 = .ok (.iconst 0, 1) := dk_3 (dk_at dksX27_put_0 15 rfl rfl)
theorem dX27_put_16 : decode cX27_put 16 = .ok (.bastore, 1) := dk_84 (dk_at dksX27_put_0 16 rfl rfl)
theorem dX27_put_17 : decode cX27_put 17 = .ok (.iconst 1, 1) := dk_4 (dk_at dksX27_put_0 17 rfl rfl)
theorem dX27_put_18 : decode cX27_put 18 = .ok (.ireturn, 1) := dk_172 (dk_at dksX27_put_0 18 rfl rfl)
abbrev cX27_at : ByteArray := prog_4_method_4_code
def yX27_at : MethodName := ⟨RX27, "at", "(I)J"⟩
def dkwX27_at_0 : List UInt8 := [42, 180, 0, 7, 27, 51, 153, 0, 7, 10, 167, 0, 4, 9, 173]
abbrev dktX27_at_0 : List UInt8 := dkwX27_at_0 ++ []
theorem dksX27_at_0 : cX27_at.data.toList.drop 0 = dktX27_at_0 := by decide +kernel
theorem dX27_at_0 : decode cX27_at 0 = .ok (.aload_n 0, 1) := dk_42 (dk_at dksX27_at_0 0 rfl rfl)
theorem dX27_at_1 : decode cX27_at 1 = .ok (.getfield 7, 3) := dk_180 0 7 (dk_at dksX27_at_0 1 rfl rfl)
theorem dX27_at_4 : decode cX27_at 4 = .ok (.iload_n 1, 1) := dk_27 (dk_at dksX27_at_0 4 rfl rfl)
theorem dX27_at_5 : decode cX27_at 5 = .ok (.baload, 1) := dk_51 (dk_at dksX27_at_0 5 rfl rfl)
theorem dX27_at_6 : decode cX27_at 6 = .ok (.ifCond .eq 7, 3) := dk_153 0 7 (dk_at dksX27_at_0 6 rfl rfl)
theorem dX27_at_9 : decode cX27_at 9 = .ok (.lconst 1, 1) := dk_10 (dk_at dksX27_at_0 9 rfl rfl)
theorem dX27_at_10 : decode cX27_at 10 = .ok (.goto 4, 3) := dk_167 0 4 (dk_at dksX27_at_0 10 rfl rfl)
theorem dX27_at_13 : decode cX27_at 13 = .ok (.lconst 0, 1) := dk_9 (dk_at dksX27_at_0 13 rfl rfl)
theorem dX27_at_14 : decode cX27_at 14 = .ok (.lreturn, 1) := dk_173 (dk_at dksX27_at_0 14 rfl rfl)
abbrev cX27_copy : ByteArray := prog_4_method_6_code
def yX27_copy : MethodName := ⟨RX27, "copy", "(ILThreeSnowballs$Row;II)V"⟩
def dkwX27_copy_0 : List UInt8 := [42, 180, 0, 7, 27, 44, 192, 0, 8, 180, 0, 7, 29, 21, 4, 184, 0, 13, 177]
abbrev dktX27_copy_0 : List UInt8 := dkwX27_copy_0 ++ []
theorem dksX27_copy_0 : cX27_copy.data.toList.drop 0 = dktX27_copy_0 := by decide +kernel
theorem dX27_copy_0 : decode cX27_copy 0 = .ok (.aload_n 0, 1) := dk_42 (dk_at dksX27_copy_0 0 rfl rfl)
theorem dX27_copy_1 : decode cX27_copy 1 = .ok (.getfield 7, 3) := dk_180 0 7 (dk_at dksX27_copy_0 1 rfl rfl)
theorem dX27_copy_4 : decode cX27_copy 4 = .ok (.iload_n 1, 1) := dk_27 (dk_at dksX27_copy_0 4 rfl rfl)
theorem dX27_copy_5 : decode cX27_copy 5 = .ok (.aload_n 2, 1) := dk_44 (dk_at dksX27_copy_0 5 rfl rfl)
theorem dX27_copy_6 : decode cX27_copy 6 = .ok (.checkcast 8, 3) := dk_192 0 8 (dk_at dksX27_copy_0 6 rfl rfl)
theorem dX27_copy_9 : decode cX27_copy 9 = .ok (.getfield 7, 3) := dk_180 0 7 (dk_at dksX27_copy_0 9 rfl rfl)
theorem dX27_copy_12 : decode cX27_copy 12 = .ok (.iload_n 3, 1) := dk_29 (dk_at dksX27_copy_0 12 rfl rfl)
theorem dX27_copy_13 : decode cX27_copy 13 = .ok (.iload 4, 2) := dk_21 4 (dk_at dksX27_copy_0 13 rfl rfl)
theorem dX27_copy_15 : decode cX27_copy 15 = .ok (.invokestatic 13, 3) := dk_184 0 13 (dk_at dksX27_copy_0 15 rfl rfl)
theorem dX27_copy_18 : decode cX27_copy 18 = .ok (.return_, 1) := dk_177 (dk_at dksX27_copy_0 18 rfl rfl)
theorem q134 : (Jvm.Cond.initialized "ThreeSnowballs$BooleanRow") ∈ lw_all := lw_g (lw_at lw_m1 43 rfl) rfl
theorem q1361 : (Jvm.Cond.instantiable "ThreeSnowballs$BooleanRow" (1 : Nat)) ∈ lw_all := lw_g (lw_at lw_m6 70 rfl) rfl
theorem q1363 : (Jvm.Cond.instanceMethod ({ cls := "ThreeSnowballs$BooleanRow", name := "<init>", desc := "(I)V" } : Jvm.MethodName)) ∈ lw_all := lw_g (lw_at lw_m6 72 rfl) rfl
theorem q1364 : (Jvm.Cond.code ({ cls := "ThreeSnowballs$BooleanRow", name := "<init>", desc := "(I)V" } : Jvm.MethodName) prog_4_method_1_code (2 : Nat) (Option.none : Option Jvm.ClassFile.FieldType)) ∈ lw_all := lw_g (lw_at lw_m6 73 rfl) rfl
theorem q1365 : (Jvm.Cond.methodLinkNest "ThreeSnowballs$BooleanRow" (1 : Nat) ({ cls := "ThreeSnowballs$Row", name := "<init>", desc := "()V" } : Jvm.MethodName) "ThreeSnowballs") ∈ lw_tbl := lw_at lw_m6 74 rfl
theorem q1366 : (Jvm.Cond.fieldLink "ThreeSnowballs$BooleanRow" (7 : Nat) "ThreeSnowballs$BooleanRow" "items" "[Z") ∈ lw_all := lw_g (lw_at lw_m6 75 rfl) rfl
theorem q1367 : (Jvm.Cond.laysFinal "ThreeSnowballs$BooleanRow" "ThreeSnowballs$BooleanRow" "items" "[Z") ∈ lw_all := lw_g (lw_at lw_m6 76 rfl) rfl
theorem q1368 : (Jvm.Cond.soleField "ThreeSnowballs$BooleanRow" "items") ∈ lw_all := lw_g (lw_at lw_m6 77 rfl) rfl
theorem q1369 : (Jvm.Cond.superclass "ThreeSnowballs$BooleanRow" "ThreeSnowballs$Row") ∈ lw_all := lw_g (lw_at lw_m6 78 rfl) rfl
theorem q1379 : (Jvm.Cond.selects "ThreeSnowballs$BooleanRow" ({ cls := "ThreeSnowballs$Row", name := "put", desc := "(IJ)Z" } : Jvm.MethodName) ({ cls := "ThreeSnowballs$BooleanRow", name := "put", desc := "(IJ)Z" } : Jvm.MethodName)) ∈ lw_all := lw_g (lw_at lw_m6 88 rfl) rfl
theorem q1380 : (Jvm.Cond.instanceMethod ({ cls := "ThreeSnowballs$BooleanRow", name := "put", desc := "(IJ)Z" } : Jvm.MethodName)) ∈ lw_all := lw_g (lw_at lw_m6 89 rfl) rfl
theorem q1381 : (Jvm.Cond.code ({ cls := "ThreeSnowballs$BooleanRow", name := "put", desc := "(IJ)Z" } : Jvm.MethodName) prog_4_method_5_code (4 : Nat) (Option.some Jvm.ClassFile.FieldType.boolean)) ∈ lw_all := lw_g (lw_at lw_m6 90 rfl) rfl
theorem q1401 : (Jvm.Cond.selects "ThreeSnowballs$BooleanRow" ({ cls := "ThreeSnowballs$Row", name := "at", desc := "(I)J" } : Jvm.MethodName) ({ cls := "ThreeSnowballs$BooleanRow", name := "at", desc := "(I)J" } : Jvm.MethodName)) ∈ lw_all := lw_g (lw_at lw_m6 110 rfl) rfl
theorem q1402 : (Jvm.Cond.instanceMethod ({ cls := "ThreeSnowballs$BooleanRow", name := "at", desc := "(I)J" } : Jvm.MethodName)) ∈ lw_all := lw_g (lw_at lw_m6 111 rfl) rfl
theorem q1403 : (Jvm.Cond.code ({ cls := "ThreeSnowballs$BooleanRow", name := "at", desc := "(I)J" } : Jvm.MethodName) prog_4_method_4_code (2 : Nat) (Option.some Jvm.ClassFile.FieldType.long)) ∈ lw_all := lw_g (lw_at lw_m6 112 rfl) rfl
theorem q1421 : (Jvm.Cond.selects "ThreeSnowballs$BooleanRow" ({ cls := "ThreeSnowballs$Row", name := "copy", desc := "(ILThreeSnowballs$Row;II)V" } : Jvm.MethodName) ({ cls := "ThreeSnowballs$BooleanRow", name := "copy", desc := "(ILThreeSnowballs$Row;II)V" } : Jvm.MethodName)) ∈ lw_all := lw_g (lw_at lw_m6 130 rfl) rfl
theorem q1422 : (Jvm.Cond.instanceMethod ({ cls := "ThreeSnowballs$BooleanRow", name := "copy", desc := "(ILThreeSnowballs$Row;II)V" } : Jvm.MethodName)) ∈ lw_all := lw_g (lw_at lw_m6 131 rfl) rfl
theorem q1423 : (Jvm.Cond.code ({ cls := "ThreeSnowballs$BooleanRow", name := "copy", desc := "(ILThreeSnowballs$Row;II)V" } : Jvm.MethodName) prog_4_method_6_code (5 : Nat) (Option.none : Option Jvm.ClassFile.FieldType)) ∈ lw_all := lw_g (lw_at lw_m6 132 rfl) rfl
theorem q1424 : (Jvm.Cond.classLink "ThreeSnowballs$BooleanRow" (8 : Nat) "ThreeSnowballs$BooleanRow") ∈ lw_all := lw_g (lw_at lw_m6 133 rfl) rfl
theorem q1425 : (Jvm.Cond.methodLink "ThreeSnowballs$BooleanRow" (13 : Nat) ({ cls := "java/lang/System", name := "arraycopy", desc := "(Ljava/lang/Object;ILjava/lang/Object;II)V" } : Jvm.MethodName)) ∈ lw_all := lw_g (lw_at lw_m6 134 rfl) rfl
theorem q2064 : (Jvm.Cond.castable "ThreeSnowballs$BooleanRow" "ThreeSnowballs$Row") ∈ lw_tbl := lw_at lw_m9 53 rfl
theorem q2088 : (Jvm.Cond.castable "ThreeSnowballs$BooleanRow" "ThreeSnowballs$Held") ∈ lw_tbl := lw_at lw_m9 77 rfl
theorem in_X27 : ∀ w ∈ wsX270, w ∈ lw_all := lw_in wsX270 [1367] (by decide +kernel) (by decide +kernel)
