/-! TEXTS: the four constants of the Reader -/
/-- String.indexOf on a short Latin-1 text -/
def zixL (ch : Int32) : List Int32 → Nat → Int32
  | [], _ => -1
  | x :: l, k => if x = ch then nI k else zixL ch l (k + 1)
def ztxs : List (Nat × String × List Int32) := [(98, "hatmn", [104, 97, 116, 109, 110]), (93, "*/%", [42, 47, 37]), (88, "+-", [43, 45]), (79, "<=>", [60, 61, 62])]
/-- the old cell w is the text txt, all through a run -/
def zTk (B : Nat) (kn : State → Prop) (txt : List Int32) (w : Nat) : Prop :=
  w < B ∧ ∃ (d : Nat) (z : Int32) (arr : Cell), (∀ ch : Int32, Jvm.Free.SL1IndexOf.Idx.answer arr ch 0 arr.slots.size.toInt32 = zixL ch txt 0) ∧
    ∀ U : State, kn U → ∀ ch : Int32, Jvm.Free.StrIndexOf.S1.spec.pre.before #[.ref w, .int ch] U = true ∧ Jvm.Free.StrIndexOf.S1.P w d ch z arr #[.ref w, .int ch] U
