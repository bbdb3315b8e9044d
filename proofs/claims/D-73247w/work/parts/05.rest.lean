/-! QueueDrive$Word -/
set_option maxRecDepth 100000
def RX10 : String := "QueueDrive$Word"
def TX10 : u_T := fun k => match k with
  | 0 => ("QueueDrive$Word", "line", "I", true)
  | 1 => ("QueueDrive$Word", "id", "I", true)
  | 2 => ("QueueDrive$Word", "status", "I", true)
  | _ => ("QueueDrive$Word", "result", "I", true)
def tyX10 : Nat → FieldType := fun k => match k with
  | 0 => .int
  | 1 => .int
  | 2 => .int
  | _ => .int
abbrev wsX100 : List Cond := u_ws RX10 TX10 4
theorem nmX10 : ∀ a, a < 4 → ∀ b, b < 4 → a ≠ b → (TX10 a).2.1 ≠ (TX10 b).2.1 := by decide +kernel
theorem tyX10_ok : ∀ k, k < 4 → parseFieldDescriptor (TX10 k).2.2.1 = some (tyX10 k) := by decide +kernel
abbrev cX10_init : ByteArray := prog_9_method_1_code
def yX10_init : MethodName := ⟨RX10, "<init>", "(LQueueDrive$Command;II)V"⟩
def dkwX10_init_1 : List UInt8 := [181, 0, 20, 42, 29, 181, 0, 23, 177]
abbrev dktX10_init_1 : List UInt8 := dkwX10_init_1 ++ []
def dkwX10_init_0 : List UInt8 := [42, 183, 0, 1, 42, 43, 180, 0, 7, 181, 0, 13, 42, 43, 180, 0, 16, 181, 0, 19, 42, 28]
abbrev dktX10_init_0 : List UInt8 := dkwX10_init_0 ++ dktX10_init_1
theorem dksX10_init_0 : cX10_init.data.toList.drop 0 = dktX10_init_0 := by decide +kernel
theorem dksX10_init_1 : cX10_init.data.toList.drop 22 = dktX10_init_1 := dk_seg dksX10_init_0 22 rfl rfl
theorem dX10_init_0 : decode cX10_init 0 = .ok (.aload_n 0, 1) := dk_42 (dk_at dksX10_init_0 0 rfl rfl)
theorem dX10_init_1 : decode cX10_init 1 = .ok (.invokespecial 1, 3) := dk_183 0 1 (dk_at dksX10_init_0 1 rfl rfl)
theorem dX10_init_4 : decode cX10_init 4 = .ok (.aload_n 0, 1) := dk_42 (dk_at dksX10_init_0 4 rfl rfl)
theorem dX10_init_5 : decode cX10_init 5 = .ok (.aload_n 1, 1) := dk_43 (dk_at dksX10_init_0 5 rfl rfl)
theorem dX10_init_6 : decode cX10_init 6 = .ok (.getfield 7, 3) := dk_180 0 7 (dk_at dksX10_init_0 6 rfl rfl)
theorem dX10_init_9 : decode cX10_init 9 = .ok (.putfield 13, 3) := dk_181 0 13 (dk_at dksX10_init_0 9 rfl rfl)
theorem dX10_init_12 : decode cX10_init 12 = .ok (.aload_n 0, 1) := dk_42 (dk_at dksX10_init_0 12 rfl rfl)
theorem dX10_init_13 : decode cX10_init 13 = .ok (.aload_n 1, 1) := dk_43 (dk_at dksX10_init_0 13 rfl rfl)
theorem dX10_init_14 : decode cX10_init 14 = .ok (.getfield 16, 3) := dk_180 0 16 (dk_at dksX10_init_0 14 rfl rfl)
theorem dX10_init_17 : decode cX10_init 17 = .ok (.putfield 19, 3) := dk_181 0 19 (dk_at dksX10_init_0 17 rfl rfl)
theorem dX10_init_20 : decode cX10_init 20 = .ok (.aload_n 0, 1) := dk_42 (dk_at dksX10_init_0 20 rfl rfl)
theorem dX10_init_21 : decode cX10_init 21 = .ok (.iload_n 2, 1) := dk_28 (dk_at dksX10_init_0 21 rfl rfl)
theorem dX10_init_22 : decode cX10_init 22 = .ok (.putfield 20, 3) := dk_181 0 20 (dk_at dksX10_init_1 0 rfl rfl)
theorem dX10_init_25 : decode cX10_init 25 = .ok (.aload_n 0, 1) := dk_42 (dk_at dksX10_init_1 3 rfl rfl)
theorem dX10_init_26 : decode cX10_init 26 = .ok (.iload_n 3, 1) := dk_29 (dk_at dksX10_init_1 4 rfl rfl)
theorem dX10_init_27 : decode cX10_init 27 = .ok (.putfield 23, 3) := dk_181 0 23 (dk_at dksX10_init_1 5 rfl rfl)
theorem dX10_init_30 : decode cX10_init 30 = .ok (.return_, 1) := dk_177 (dk_at dksX10_init_1 8 rfl rfl)
theorem q131 : (Jvm.Cond.initialized "QueueDrive$Word") ∈ lw_all := lw_g (lw_at lw_m1 40 rfl) rfl
theorem q1213 : (Jvm.Cond.selects "QueueDrive$Word" ({ cls := "java/lang/Object", name := "getClass", desc := "()Ljava/lang/Class;" } : Jvm.MethodName) ({ cls := "java/lang/Object", name := "getClass", desc := "()Ljava/lang/Class;" } : Jvm.MethodName)) ∈ lw_all := lw_g (lw_at lw_m5 162 rfl) rfl
theorem q1459 : (Jvm.Cond.fieldLink "QueueDrive$Word" (7 : Nat) "QueueDrive$Command" "line" "I") ∈ lw_all := lw_g (lw_at lw_m6 168 rfl) rfl
theorem q1463 : (Jvm.Cond.fieldLink "QueueDrive$Word" (16 : Nat) "QueueDrive$Command" "id" "I") ∈ lw_all := lw_g (lw_at lw_m6 172 rfl) rfl
theorem q1567 : (Jvm.Cond.instantiable "QueueDrive$Word" (4 : Nat)) ∈ lw_all := lw_g (lw_at lw_m7 36 rfl) rfl
theorem q1569 : (Jvm.Cond.instanceMethod ({ cls := "QueueDrive$Word", name := "<init>", desc := "(LQueueDrive$Command;II)V" } : Jvm.MethodName)) ∈ lw_all := lw_g (lw_at lw_m7 38 rfl) rfl
theorem q1570 : (Jvm.Cond.code ({ cls := "QueueDrive$Word", name := "<init>", desc := "(LQueueDrive$Command;II)V" } : Jvm.MethodName) prog_9_method_1_code (4 : Nat) (Option.none : Option Jvm.ClassFile.FieldType)) ∈ lw_all := lw_g (lw_at lw_m7 39 rfl) rfl
theorem q1571 : (Jvm.Cond.methodLink "QueueDrive$Word" (1 : Nat) ({ cls := "java/lang/Object", name := "<init>", desc := "()V" } : Jvm.MethodName)) ∈ lw_all := lw_g (lw_at lw_m7 40 rfl) rfl
theorem q1572 : (Jvm.Cond.fieldLink "QueueDrive$Word" (13 : Nat) "QueueDrive$Word" "line" "I") ∈ lw_all := lw_g (lw_at lw_m7 41 rfl) rfl
theorem q1575 : (Jvm.Cond.fieldLink "QueueDrive$Word" (19 : Nat) "QueueDrive$Word" "id" "I") ∈ lw_all := lw_g (lw_at lw_m7 44 rfl) rfl
theorem q1578 : (Jvm.Cond.fieldLink "QueueDrive$Word" (20 : Nat) "QueueDrive$Word" "status" "I") ∈ lw_all := lw_g (lw_at lw_m7 47 rfl) rfl
theorem q1580 : (Jvm.Cond.fieldLink "QueueDrive$Word" (23 : Nat) "QueueDrive$Word" "result" "I") ∈ lw_all := lw_g (lw_at lw_m7 49 rfl) rfl
theorem q1582 : (Jvm.Cond.laysFinal "QueueDrive$Word" "QueueDrive$Word" "line" "I") ∈ lw_all := lw_g (lw_at lw_m7 51 rfl) rfl
theorem q1583 : (Jvm.Cond.soleField "QueueDrive$Word" "line") ∈ lw_all := lw_g (lw_at lw_m7 52 rfl) rfl
theorem q1584 : (Jvm.Cond.laysFinal "QueueDrive$Word" "QueueDrive$Word" "id" "I") ∈ lw_all := lw_g (lw_at lw_m7 53 rfl) rfl
theorem q1585 : (Jvm.Cond.soleField "QueueDrive$Word" "id") ∈ lw_all := lw_g (lw_at lw_m7 54 rfl) rfl
theorem q1586 : (Jvm.Cond.laysFinal "QueueDrive$Word" "QueueDrive$Word" "status" "I") ∈ lw_all := lw_g (lw_at lw_m7 55 rfl) rfl
theorem q1587 : (Jvm.Cond.soleField "QueueDrive$Word" "status") ∈ lw_all := lw_g (lw_at lw_m7 56 rfl) rfl
theorem q1588 : (Jvm.Cond.laysFinal "QueueDrive$Word" "QueueDrive$Word" "result" "I") ∈ lw_all := lw_g (lw_at lw_m7 57 rfl) rfl
theorem q1589 : (Jvm.Cond.soleField "QueueDrive$Word" "result") ∈ lw_all := lw_g (lw_at lw_m7 58 rfl) rfl
theorem q1590 : (Jvm.Cond.superclass "QueueDrive$Word" "java/lang/Object") ∈ lw_all := lw_g (lw_at lw_m7 59 rfl) rfl
theorem q2795 : (Jvm.Cond.castable "QueueDrive$Word" "java/lang/Object") ∈ lw_tbl := lw_at lw_m12 64 rfl
theorem in_X10 : ∀ w ∈ wsX100, w ∈ lw_all := lw_in wsX100 [1582, 1584, 1586, 1588] (by decide +kernel) (by decide +kernel)

/-! QueueDrive$Post -/
set_option maxRecDepth 100000
def RX11 : String := "QueueDrive$Post"
def TX11 : u_T := fun k => match k with
  | 0 => ("QueueDrive$Post", "word", "LQueueDrive$Word;", true)
  | 1 => ("QueueDrive$Post", "head", "I", true)
  | _ => ("QueueDrive$Post", "phase", "I", true)
def tyX11 : Nat → FieldType := fun k => match k with
  | 0 => .object "QueueDrive$Word"
  | 1 => .int
  | _ => .int
abbrev wsX110 : List Cond := u_ws RX11 TX11 3
theorem nmX11 : ∀ a, a < 3 → ∀ b, b < 3 → a ≠ b → (TX11 a).2.1 ≠ (TX11 b).2.1 := by decide +kernel
theorem tyX11_ok : ∀ k, k < 3 → parseFieldDescriptor (TX11 k).2.2.1 = some (tyX11 k) := by decide +kernel
abbrev cX11_init : ByteArray := prog_7_method_1_code
def yX11_init : MethodName := ⟨RX11, "<init>", "(LQueueDrive$Word;II)V"⟩
def dkwX11_init_0 : List UInt8 := [42, 183, 0, 1, 42, 43, 181, 0, 7, 42, 28, 181, 0, 13, 42, 29, 181, 0, 17, 177]
abbrev dktX11_init_0 : List UInt8 := dkwX11_init_0 ++ []
theorem dksX11_init_0 : cX11_init.data.toList.drop 0 = dktX11_init_0 := by decide +kernel
theorem dX11_init_0 : decode cX11_init 0 = .ok (.aload_n 0, 1) := dk_42 (dk_at dksX11_init_0 0 rfl rfl)
theorem dX11_init_1 : decode cX11_init 1 = .ok (.invokespecial 1, 3) := dk_183 0 1 (dk_at dksX11_init_0 1 rfl rfl)
theorem dX11_init_4 : decode cX11_init 4 = .ok (.aload_n 0, 1) := dk_42 (dk_at dksX11_init_0 4 rfl rfl)
theorem dX11_init_5 : decode cX11_init 5 = .ok (.aload_n 1, 1) := dk_43 (dk_at dksX11_init_0 5 rfl rfl)
theorem dX11_init_6 : decode cX11_init 6 = .ok (.putfield 7, 3) := dk_181 0 7 (dk_at dksX11_init_0 6 rfl rfl)
theorem dX11_init_9 : decode cX11_init 9 = .ok (.aload_n 0, 1) := dk_42 (dk_at dksX11_init_0 9 rfl rfl)
theorem dX11_init_10 : decode cX11_init 10 = .ok (.iload_n 2, 1) := dk_28 (dk_at dksX11_init_0 10 rfl rfl)
theorem dX11_init_11 : decode cX11_init 11 = .ok (.putfield 13, 3) := dk_181 0 13 (dk_at dksX11_init_0 11 rfl rfl)
theorem dX11_init_14 : decode cX11_init 14 = .ok (.aload_n 0, 1) := dk_42 (dk_at dksX11_init_0 14 rfl rfl)
theorem dX11_init_15 : decode cX11_init 15 = .ok (.iload_n 3, 1) := dk_29 (dk_at dksX11_init_0 15 rfl rfl)
theorem dX11_init_16 : decode cX11_init 16 = .ok (.putfield 17, 3) := dk_181 0 17 (dk_at dksX11_init_0 16 rfl rfl)
theorem dX11_init_19 : decode cX11_init 19 = .ok (.return_, 1) := dk_177 (dk_at dksX11_init_0 19 rfl rfl)
theorem q132 : (Jvm.Cond.initialized "QueueDrive$Post") ∈ lw_all := lw_g (lw_at lw_m1 41 rfl) rfl
theorem q1211 : (Jvm.Cond.selects "QueueDrive$Post" ({ cls := "java/lang/Object", name := "getClass", desc := "()Ljava/lang/Class;" } : Jvm.MethodName) ({ cls := "java/lang/Object", name := "getClass", desc := "()Ljava/lang/Class;" } : Jvm.MethodName)) ∈ lw_all := lw_g (lw_at lw_m5 160 rfl) rfl
theorem q1603 : (Jvm.Cond.instantiable "QueueDrive$Post" (3 : Nat)) ∈ lw_all := lw_g (lw_at lw_m7 72 rfl) rfl
theorem q1609 : (Jvm.Cond.instanceMethod ({ cls := "QueueDrive$Post", name := "<init>", desc := "(LQueueDrive$Word;II)V" } : Jvm.MethodName)) ∈ lw_all := lw_g (lw_at lw_m7 78 rfl) rfl
theorem q1610 : (Jvm.Cond.code ({ cls := "QueueDrive$Post", name := "<init>", desc := "(LQueueDrive$Word;II)V" } : Jvm.MethodName) prog_7_method_1_code (4 : Nat) (Option.none : Option Jvm.ClassFile.FieldType)) ∈ lw_all := lw_g (lw_at lw_m7 79 rfl) rfl
theorem q1611 : (Jvm.Cond.methodLink "QueueDrive$Post" (1 : Nat) ({ cls := "java/lang/Object", name := "<init>", desc := "()V" } : Jvm.MethodName)) ∈ lw_all := lw_g (lw_at lw_m7 80 rfl) rfl
theorem q1612 : (Jvm.Cond.fieldLink "QueueDrive$Post" (7 : Nat) "QueueDrive$Post" "word" "LQueueDrive$Word;") ∈ lw_all := lw_g (lw_at lw_m7 81 rfl) rfl
theorem q1615 : (Jvm.Cond.fieldLink "QueueDrive$Post" (13 : Nat) "QueueDrive$Post" "head" "I") ∈ lw_all := lw_g (lw_at lw_m7 84 rfl) rfl
theorem q1618 : (Jvm.Cond.fieldLink "QueueDrive$Post" (17 : Nat) "QueueDrive$Post" "phase" "I") ∈ lw_all := lw_g (lw_at lw_m7 87 rfl) rfl
theorem q1620 : (Jvm.Cond.laysFinal "QueueDrive$Post" "QueueDrive$Post" "word" "LQueueDrive$Word;") ∈ lw_all := lw_g (lw_at lw_m7 89 rfl) rfl
theorem q1621 : (Jvm.Cond.soleField "QueueDrive$Post" "word") ∈ lw_all := lw_g (lw_at lw_m7 90 rfl) rfl
theorem q1622 : (Jvm.Cond.laysFinal "QueueDrive$Post" "QueueDrive$Post" "head" "I") ∈ lw_all := lw_g (lw_at lw_m7 91 rfl) rfl
theorem q1623 : (Jvm.Cond.soleField "QueueDrive$Post" "head") ∈ lw_all := lw_g (lw_at lw_m7 92 rfl) rfl
theorem q1624 : (Jvm.Cond.laysFinal "QueueDrive$Post" "QueueDrive$Post" "phase" "I") ∈ lw_all := lw_g (lw_at lw_m7 93 rfl) rfl
theorem q1625 : (Jvm.Cond.soleField "QueueDrive$Post" "phase") ∈ lw_all := lw_g (lw_at lw_m7 94 rfl) rfl
theorem q1626 : (Jvm.Cond.superclass "QueueDrive$Post" "java/lang/Object") ∈ lw_all := lw_g (lw_at lw_m7 95 rfl) rfl
theorem q2796 : (Jvm.Cond.castable "QueueDrive$Post" "java/lang/Object") ∈ lw_tbl := lw_at lw_m12 65 rfl
theorem in_X11 : ∀ w ∈ wsX110, w ∈ lw_all := lw_in wsX110 [1620, 1622, 1624] (by decide +kernel) (by decide +kernel)

/-! QueueDrive$Order -/
set_option maxRecDepth 100000
def RX12 : String := "QueueDrive$Order"
def TX12 : u_T := fun k => match k with
  | 0 => ("QueueDrive$Words", "of", "[B", true)
  | 1 => ("QueueDrive$Words", "size", "I", true)
  | 2 => ("QueueDrive$Words", "end", "I", true)
  | 3 => ("QueueDrive$Words", "at", "I", false)
  | 4 => ("QueueDrive$Order", "acts", "[C", true)
  | 5 => ("QueueDrive$Order", "queue", "[I", true)
  | 6 => ("QueueDrive$Order", "op", "[I", true)
  | 7 => ("QueueDrive$Order", "block", "[I", true)
  | 8 => ("QueueDrive$Order", "value", "[I", true)
  | _ => ("QueueDrive$Order", "many", "I", false)
def tyX12 : Nat → FieldType := fun k => match k with
  | 0 => .array .byte
  | 1 => .int
  | 2 => .int
  | 3 => .int
  | 4 => .array .char
  | 5 => .array .int
  | 6 => .array .int
  | 7 => .array .int
  | 8 => .array .int
  | _ => .int
abbrev wsX120 : List Cond := u_ws RX12 TX12 10
theorem nmX12 : ∀ a, a < 10 → ∀ b, b < 10 → a ≠ b → (TX12 a).2.1 ≠ (TX12 b).2.1 := by decide +kernel
theorem tyX12_ok : ∀ k, k < 10 → parseFieldDescriptor (TX12 k).2.2.1 = some (tyX12 k) := by decide +kernel
abbrev cX12_init : ByteArray := prog_6_method_1_code
def yX12_init : MethodName := ⟨RX12, "<init>", "([BI)V"⟩
def dkwX12_init_2 : List UInt8 := [177]
abbrev dktX12_init_2 : List UInt8 := dkwX12_init_2 ++ []
def dkwX12_init_1 : List UInt8 := [42, 16, 80, 188, 10, 181, 0, 19, 42, 16, 80, 188, 10, 181, 0, 22, 42, 16, 80, 188, 10, 181, 0, 25]
abbrev dktX12_init_1 : List UInt8 := dkwX12_init_1 ++ dktX12_init_2
def dkwX12_init_0 : List UInt8 := [42, 43, 28, 16, 80, 183, 0, 3, 42, 16, 80, 188, 5, 181, 0, 9, 42, 16, 80, 188, 10, 181, 0, 15]
abbrev dktX12_init_0 : List UInt8 := dkwX12_init_0 ++ dktX12_init_1
theorem dksX12_init_0 : cX12_init.data.toList.drop 0 = dktX12_init_0 := by decide +kernel
theorem dksX12_init_1 : cX12_init.data.toList.drop 24 = dktX12_init_1 := dk_seg dksX12_init_0 24 rfl rfl
theorem dksX12_init_2 : cX12_init.data.toList.drop 48 = dktX12_init_2 := dk_seg dksX12_init_1 24 rfl rfl
theorem dX12_init_0 : decode cX12_init 0 = .ok (.aload_n 0, 1) := dk_42 (dk_at dksX12_init_0 0 rfl rfl)
theorem dX12_init_1 : decode cX12_init 1 = .ok (.aload_n 1, 1) := dk_43 (dk_at dksX12_init_0 1 rfl rfl)
theorem dX12_init_2 : decode cX12_init 2 = .ok (.iload_n 2, 1) := dk_28 (dk_at dksX12_init_0 2 rfl rfl)
theorem dX12_init_3 : decode cX12_init 3 = .ok (.bipush 80, 2) := dk_16 80 (dk_at dksX12_init_0 3 rfl rfl)
theorem dX12_init_5 : decode cX12_init 5 = .ok (.invokespecial 3, 3) := dk_183 0 3 (dk_at dksX12_init_0 5 rfl rfl)
theorem dX12_init_8 : decode cX12_init 8 = .ok (.aload_n 0, 1) := dk_42 (dk_at dksX12_init_0 8 rfl rfl)
theorem dX12_init_9 : decode cX12_init 9 = .ok (.bipush 80, 2) := dk_16 80 (dk_at dksX12_init_0 9 rfl rfl)
theorem dX12_init_11 : decode cX12_init 11 = .ok (.newarray .char, 2) := dk_188_5 (dk_at dksX12_init_0 11 rfl rfl)
theorem dX12_init_13 : decode cX12_init 13 = .ok (.putfield 9, 3) := dk_181 0 9 (dk_at dksX12_init_0 13 rfl rfl)
theorem dX12_init_16 : decode cX12_init 16 = .ok (.aload_n 0, 1) := dk_42 (dk_at dksX12_init_0 16 rfl rfl)
theorem dX12_init_17 : decode cX12_init 17 = .ok (.bipush 80, 2) := dk_16 80 (dk_at dksX12_init_0 17 rfl rfl)
theorem dX12_init_19 : decode cX12_init 19 = .ok (.newarray .int, 2) := dk_188_10 (dk_at dksX12_init_0 19 rfl rfl)
theorem dX12_init_21 : decode cX12_init 21 = .ok (.putfield 15, 3) := dk_181 0 15 (dk_at dksX12_init_0 21 rfl rfl)
theorem dX12_init_24 : decode cX12_init 24 = .ok (.aload_n 0, 1) := dk_42 (dk_at dksX12_init_1 0 rfl rfl)
theorem dX12_init_25 : decode cX12_init 25 = .ok (.bipush 80, 2) := dk_16 80 (dk_at dksX12_init_1 1 rfl rfl)
theorem dX12_init_27 : decode cX12_init 27 = .ok (.newarray .int, 2) := dk_188_10 (dk_at dksX12_init_1 3 rfl rfl)
theorem dX12_init_29 : decode cX12_init 29 = .ok (.putfield 19, 3) := dk_181 0 19 (dk_at dksX12_init_1 5 rfl rfl)
theorem dX12_init_32 : decode cX12_init 32 = .ok (.aload_n 0, 1) := dk_42 (dk_at dksX12_init_1 8 rfl rfl)
theorem dX12_init_33 : decode cX12_init 33 = .ok (.bipush 80, 2) := dk_16 80 (dk_at dksX12_init_1 9 rfl rfl)
theorem dX12_init_35 : decode cX12_init 35 = .ok (.newarray .int, 2) := dk_188_10 (dk_at dksX12_init_1 11 rfl rfl)
theorem dX12_init_37 : decode cX12_init 37 = .ok (.putfield 22, 3) := dk_181 0 22 (dk_at dksX12_init_1 13 rfl rfl)
theorem dX12_init_40 : decode cX12_init 40 = .ok (.aload_n 0, 1) := dk_42 (dk_at dksX12_init_1 16 rfl rfl)
theorem dX12_init_41 : decode cX12_init 41 = .ok (.bipush 80, 2) := dk_16 80 (dk_at dksX12_init_1 17 rfl rfl)
theorem dX12_init_43 : decode cX12_init 43 = .ok (.newarray .int, 2) := dk_188_10 (dk_at dksX12_init_1 19 rfl rfl)
theorem dX12_init_45 : decode cX12_init 45 = .ok (.putfield 25, 3) := dk_181 0 25 (dk_at dksX12_init_1 21 rfl rfl)
theorem dX12_init_48 : decode cX12_init 48 = .ok (.return_, 1) := dk_177 (dk_at dksX12_init_2 0 rfl rfl)
abbrev cX12_read : ByteArray := prog_6_method_2_code
def yX12_read : MethodName := ⟨RX12, "read", "()V"⟩
def dkwX12_read_1 : List UInt8 := [181, 0, 39, 167, 255, 231, 42, 182, 0, 42, 177]
abbrev dktX12_read_1 : List UInt8 := dkwX12_read_1 ++ []
def dkwX12_read_0 : List UInt8 := [42, 180, 0, 28, 42, 180, 0, 32, 162, 0, 20, 42, 182, 0, 35, 42, 89, 180, 0, 39, 4, 96]
abbrev dktX12_read_0 : List UInt8 := dkwX12_read_0 ++ dktX12_read_1
theorem dksX12_read_0 : cX12_read.data.toList.drop 0 = dktX12_read_0 := by decide +kernel
theorem dksX12_read_1 : cX12_read.data.toList.drop 22 = dktX12_read_1 := dk_seg dksX12_read_0 22 rfl rfl
theorem dX12_read_0 : decode cX12_read 0 = .ok (.aload_n 0, 1) := dk_42 (dk_at dksX12_read_0 0 rfl rfl)
theorem dX12_read_1 : decode cX12_read 1 = .ok (.getfield 28, 3) := dk_180 0 28 (dk_at dksX12_read_0 1 rfl rfl)
theorem dX12_read_4 : decode cX12_read 4 = .ok (.aload_n 0, 1) := dk_42 (dk_at dksX12_read_0 4 rfl rfl)
theorem dX12_read_5 : decode cX12_read 5 = .ok (.getfield 32, 3) := dk_180 0 32 (dk_at dksX12_read_0 5 rfl rfl)
theorem dX12_read_8 : decode cX12_read 8 = .ok (.if_icmp .ge 20, 3) := dk_162 0 20 (dk_at dksX12_read_0 8 rfl rfl)
theorem dX12_read_11 : decode cX12_read 11 = .ok (.aload_n 0, 1) := dk_42 (dk_at dksX12_read_0 11 rfl rfl)
theorem dX12_read_12 : decode cX12_read 12 = .ok (.invokevirtual 35, 3) := dk_182 0 35 (dk_at dksX12_read_0 12 rfl rfl)
theorem dX12_read_15 : decode cX12_read 15 = .ok (.aload_n 0, 1) := dk_42 (dk_at dksX12_read_0 15 rfl rfl)
theorem dX12_read_16 : decode cX12_read 16 = .ok (.dup, 1) := dk_89 (dk_at dksX12_read_0 16 rfl rfl)
theorem dX12_read_17 : decode cX12_read 17 = .ok (.getfield 39, 3) := dk_180 0 39 (dk_at dksX12_read_0 17 rfl rfl)
theorem dX12_read_20 : decode cX12_read 20 = .ok (.iconst 1, 1) := dk_4 (dk_at dksX12_read_0 20 rfl rfl)
theorem dX12_read_21 : decode cX12_read 21 = .ok (.iadd, 1) := dk_96 (dk_at dksX12_read_0 21 rfl rfl)
theorem dX12_read_22 : decode cX12_read 22 = .ok (.putfield 39, 3) := dk_181 0 39 (dk_at dksX12_read_1 0 rfl rfl)
theorem dX12_read_25 : decode cX12_read 25 = .ok (.goto (-25), 3) := dk_167 255 231 (dk_at dksX12_read_1 3 rfl rfl)
theorem dX12_read_28 : decode cX12_read 28 = .ok (.aload_n 0, 1) := dk_42 (dk_at dksX12_read_1 6 rfl rfl)
theorem dX12_read_29 : decode cX12_read 29 = .ok (.invokevirtual 42, 3) := dk_182 0 42 (dk_at dksX12_read_1 7 rfl rfl)
theorem dX12_read_32 : decode cX12_read 32 = .ok (.return_, 1) := dk_177 (dk_at dksX12_read_1 10 rfl rfl)
abbrev cX12_act : ByteArray := prog_6_method_4_code
def yX12_act : MethodName := ⟨RX12, "act", "()V"⟩
def dkwX12_act_7 : List UInt8 := [180, 0, 25, 42, 180, 0, 39, 42, 182, 0, 65, 79, 177, 177]
abbrev dktX12_act_7 : List UInt8 := dkwX12_act_7 ++ []
def dkwX12_act_6 : List UInt8 := [42, 16, 48, 16, 10, 182, 0, 45, 79, 42, 180, 0, 25, 42, 180, 0, 39, 42, 182, 0, 65, 79, 177, 42]
abbrev dktX12_act_6 : List UInt8 := dkwX12_act_6 ++ dktX12_act_7
def dkwX12_act_5 : List UInt8 := [42, 180, 0, 19, 42, 180, 0, 39, 42, 16, 48, 8, 182, 0, 45, 79, 42, 180, 0, 22, 42, 180, 0, 39]
abbrev dktX12_act_5 : List UInt8 := dkwX12_act_5 ++ dktX12_act_6
def dkwX12_act_4 : List UInt8 := [171, 0, 0, 0, 0, 87, 0, 0, 0, 2, 0, 0, 0, 99, 0, 0, 0, 73, 0, 0, 0, 112, 0, 0, 0, 26]
abbrev dktX12_act_4 : List UInt8 := dkwX12_act_4 ++ dktX12_act_5
def dkwX12_act_3 : List UInt8 := [79, 27]
abbrev dktX12_act_3 : List UInt8 := dkwX12_act_3 ++ dktX12_act_4
def dkwX12_act_2 : List UInt8 := [85, 27, 16, 120, 160, 0, 4, 177, 42, 180, 0, 15, 42, 180, 0, 39, 42, 16, 48, 16, 10, 182, 0, 45]
abbrev dktX12_act_2 : List UInt8 := dkwX12_act_2 ++ dktX12_act_3
def dkwX12_act_1 : List UInt8 := [3, 182, 0, 61, 42, 89, 180, 0, 28, 4, 96, 181, 0, 28, 42, 180, 0, 9, 42, 180, 0, 39, 27, 146]
abbrev dktX12_act_1 : List UInt8 := dkwX12_act_1 ++ dktX12_act_2
def dkwX12_act_0 : List UInt8 := [42, 182, 0, 49, 60, 42, 27, 2, 159, 0, 16, 18, 53, 27, 182, 0, 55, 155, 0, 7, 4, 167, 0, 4]
abbrev dktX12_act_0 : List UInt8 := dkwX12_act_0 ++ dktX12_act_1
theorem dksX12_act_0 : cX12_act.data.toList.drop 0 = dktX12_act_0 := by decide +kernel
theorem dksX12_act_1 : cX12_act.data.toList.drop 24 = dktX12_act_1 := dk_seg dksX12_act_0 24 rfl rfl
theorem dksX12_act_2 : cX12_act.data.toList.drop 48 = dktX12_act_2 := dk_seg dksX12_act_1 24 rfl rfl
theorem dksX12_act_3 : cX12_act.data.toList.drop 72 = dktX12_act_3 := dk_seg dksX12_act_2 24 rfl rfl
theorem dksX12_act_4 : cX12_act.data.toList.drop 74 = dktX12_act_4 := dk_seg dksX12_act_3 2 rfl rfl
theorem dksX12_act_5 : cX12_act.data.toList.drop 100 = dktX12_act_5 := dk_seg dksX12_act_4 26 rfl rfl
theorem dksX12_act_6 : cX12_act.data.toList.drop 124 = dktX12_act_6 := dk_seg dksX12_act_5 24 rfl rfl
theorem dksX12_act_7 : cX12_act.data.toList.drop 148 = dktX12_act_7 := dk_seg dksX12_act_6 24 rfl rfl
theorem dX12_act_0 : decode cX12_act 0 = .ok (.aload_n 0, 1) := dk_42 (dk_at dksX12_act_0 0 rfl rfl)
theorem dX12_act_1 : decode cX12_act 1 = .ok (.invokevirtual 49, 3) := dk_182 0 49 (dk_at dksX12_act_0 1 rfl rfl)
theorem dX12_act_4 : decode cX12_act 4 = .ok (.istore_n 1, 1) := dk_60 (dk_at dksX12_act_0 4 rfl rfl)
theorem dX12_act_5 : decode cX12_act 5 = .ok (.aload_n 0, 1) := dk_42 (dk_at dksX12_act_0 5 rfl rfl)
theorem dX12_act_6 : decode cX12_act 6 = .ok (.iload_n 1, 1) := dk_27 (dk_at dksX12_act_0 6 rfl rfl)
theorem dX12_act_7 : decode cX12_act 7 = .ok (.iconst (-1), 1) := dk_2 (dk_at dksX12_act_0 7 rfl rfl)
theorem dX12_act_8 : decode cX12_act 8 = .ok (.if_icmp .eq 16, 3) := dk_159 0 16 (dk_at dksX12_act_0 8 rfl rfl)
theorem dX12_act_11 : decode cX12_act 11 = .ok (.ldc 53, 2) := dk_18 53 (dk_at dksX12_act_0 11 rfl rfl)
theorem dX12_act_13 : decode cX12_act 13 = .ok (.iload_n 1, 1) := dk_27 (dk_at dksX12_act_0 13 rfl rfl)
theorem dX12_act_14 : decode cX12_act 14 = .ok (.invokevirtual 55, 3) := dk_182 0 55 (dk_at dksX12_act_0 14 rfl rfl)
theorem dX12_act_17 : decode cX12_act 17 = .ok (.ifCond .lt 7, 3) := dk_155 0 7 (dk_at dksX12_act_0 17 rfl rfl)
theorem dX12_act_20 : decode cX12_act 20 = .ok (.iconst 1, 1) := dk_4 (dk_at dksX12_act_0 20 rfl rfl)
theorem dX12_act_21 : decode cX12_act 21 = .ok (.goto 4, 3) := dk_167 0 4 (dk_at dksX12_act_0 21 rfl rfl)
theorem dX12_act_24 : decode cX12_act 24 = .ok (.iconst 0, 1) := dk_3 (dk_at dksX12_act_1 0 rfl rfl)
theorem dX12_act_25 : decode cX12_act 25 = .ok (.invokevirtual 61, 3) := dk_182 0 61 (dk_at dksX12_act_1 1 rfl rfl)
theorem dX12_act_28 : decode cX12_act 28 = .ok (.aload_n 0, 1) := dk_42 (dk_at dksX12_act_1 4 rfl rfl)
theorem dX12_act_29 : decode cX12_act 29 = .ok (.dup, 1) := dk_89 (dk_at dksX12_act_1 5 rfl rfl)
theorem dX12_act_30 : decode cX12_act 30 = .ok (.getfield 28, 3) := dk_180 0 28 (dk_at dksX12_act_1 6 rfl rfl)
theorem dX12_act_33 : decode cX12_act 33 = .ok (.iconst 1, 1) := dk_4 (dk_at dksX12_act_1 9 rfl rfl)
theorem dX12_act_34 : decode cX12_act 34 = .ok (.iadd, 1) := dk_96 (dk_at dksX12_act_1 10 rfl rfl)
theorem dX12_act_35 : decode cX12_act 35 = .ok (.putfield 28, 3) := dk_181 0 28 (dk_at dksX12_act_1 11 rfl rfl)
theorem dX12_act_38 : decode cX12_act 38 = .ok (.aload_n 0, 1) := dk_42 (dk_at dksX12_act_1 14 rfl rfl)
theorem dX12_act_39 : decode cX12_act 39 = .ok (.getfield 9, 3) := dk_180 0 9 (dk_at dksX12_act_1 15 rfl rfl)
theorem dX12_act_42 : decode cX12_act 42 = .ok (.aload_n 0, 1) := dk_42 (dk_at dksX12_act_1 18 rfl rfl)
theorem dX12_act_43 : decode cX12_act 43 = .ok (.getfield 39, 3) := dk_180 0 39 (dk_at dksX12_act_1 19 rfl rfl)
theorem dX12_act_46 : decode cX12_act 46 = .ok (.iload_n 1, 1) := dk_27 (dk_at dksX12_act_1 22 rfl rfl)
theorem dX12_act_47 : decode cX12_act 47 = .ok (.i2c, 1) := dk_146 (dk_at dksX12_act_1 23 rfl rfl)
theorem dX12_act_48 : decode cX12_act 48 = .ok (.castore, 1) := dk_85 (dk_at dksX12_act_2 0 rfl rfl)
theorem dX12_act_49 : decode cX12_act 49 = .ok (.iload_n 1, 1) := dk_27 (dk_at dksX12_act_2 1 rfl rfl)
theorem dX12_act_50 : decode cX12_act 50 = .ok (.bipush 120, 2) := dk_16 120 (dk_at dksX12_act_2 2 rfl rfl)
theorem dX12_act_52 : decode cX12_act 52 = .ok (.if_icmp .ne 4, 3) := dk_160 0 4 (dk_at dksX12_act_2 4 rfl rfl)
theorem dX12_act_55 : decode cX12_act 55 = .ok (.return_, 1) := dk_177 (dk_at dksX12_act_2 7 rfl rfl)
theorem dX12_act_56 : decode cX12_act 56 = .ok (.aload_n 0, 1) := dk_42 (dk_at dksX12_act_2 8 rfl rfl)
theorem dX12_act_57 : decode cX12_act 57 = .ok (.getfield 15, 3) := dk_180 0 15 (dk_at dksX12_act_2 9 rfl rfl)
theorem dX12_act_60 : decode cX12_act 60 = .ok (.aload_n 0, 1) := dk_42 (dk_at dksX12_act_2 12 rfl rfl)
theorem dX12_act_61 : decode cX12_act 61 = .ok (.getfield 39, 3) := dk_180 0 39 (dk_at dksX12_act_2 13 rfl rfl)
theorem dX12_act_64 : decode cX12_act 64 = .ok (.aload_n 0, 1) := dk_42 (dk_at dksX12_act_2 16 rfl rfl)
theorem dX12_act_65 : decode cX12_act 65 = .ok (.bipush 48, 2) := dk_16 48 (dk_at dksX12_act_2 17 rfl rfl)
theorem dX12_act_67 : decode cX12_act 67 = .ok (.bipush 10, 2) := dk_16 10 (dk_at dksX12_act_2 19 rfl rfl)
theorem dX12_act_69 : decode cX12_act 69 = .ok (.invokevirtual 45, 3) := dk_182 0 45 (dk_at dksX12_act_2 21 rfl rfl)
theorem dX12_act_72 : decode cX12_act 72 = .ok (.iastore, 1) := dk_79 (dk_at dksX12_act_3 0 rfl rfl)
theorem dX12_act_73 : decode cX12_act 73 = .ok (.iload_n 1, 1) := dk_27 (dk_at dksX12_act_3 1 rfl rfl)
theorem dX12_act_74 : decode cX12_act 74 = .ok (.lookupswitch 87 #[(99, 73), (112, 26)], 26) := by decide +kernel
theorem dX12_act_100 : decode cX12_act 100 = .ok (.aload_n 0, 1) := dk_42 (dk_at dksX12_act_5 0 rfl rfl)
theorem dX12_act_101 : decode cX12_act 101 = .ok (.getfield 19, 3) := dk_180 0 19 (dk_at dksX12_act_5 1 rfl rfl)
theorem dX12_act_104 : decode cX12_act 104 = .ok (.aload_n 0, 1) := dk_42 (dk_at dksX12_act_5 4 rfl rfl)
theorem dX12_act_105 : decode cX12_act 105 = .ok (.getfield 39, 3) := dk_180 0 39 (dk_at dksX12_act_5 5 rfl rfl)
theorem dX12_act_108 : decode cX12_act 108 = .ok (.aload_n 0, 1) := dk_42 (dk_at dksX12_act_5 8 rfl rfl)
theorem dX12_act_109 : decode cX12_act 109 = .ok (.bipush 48, 2) := dk_16 48 (dk_at dksX12_act_5 9 rfl rfl)
theorem dX12_act_111 : decode cX12_act 111 = .ok (.iconst 5, 1) := dk_8 (dk_at dksX12_act_5 11 rfl rfl)
theorem dX12_act_112 : decode cX12_act 112 = .ok (.invokevirtual 45, 3) := dk_182 0 45 (dk_at dksX12_act_5 12 rfl rfl)
theorem dX12_act_115 : decode cX12_act 115 = .ok (.iastore, 1) := dk_79 (dk_at dksX12_act_5 15 rfl rfl)
theorem dX12_act_116 : decode cX12_act 116 = .ok (.aload_n 0, 1) := dk_42 (dk_at dksX12_act_5 16 rfl rfl)
theorem dX12_act_117 : decode cX12_act 117 = .ok (.getfield 22, 3) := dk_180 0 22 (dk_at dksX12_act_5 17 rfl rfl)
theorem dX12_act_120 : decode cX12_act 120 = .ok (.aload_n 0, 1) := dk_42 (dk_at dksX12_act_5 20 rfl rfl)
theorem dX12_act_121 : decode cX12_act 121 = .ok (.getfield 39, 3) := dk_180 0 39 (dk_at dksX12_act_5 21 rfl rfl)
theorem dX12_act_124 : decode cX12_act 124 = .ok (.aload_n 0, 1) := dk_42 (dk_at dksX12_act_6 0 rfl rfl)
theorem dX12_act_125 : decode cX12_act 125 = .ok (.bipush 48, 2) := dk_16 48 (dk_at dksX12_act_6 1 rfl rfl)
theorem dX12_act_127 : decode cX12_act 127 = .ok (.bipush 10, 2) := dk_16 10 (dk_at dksX12_act_6 3 rfl rfl)
theorem dX12_act_129 : decode cX12_act 129 = .ok (.invokevirtual 45, 3) := dk_182 0 45 (dk_at dksX12_act_6 5 rfl rfl)
theorem dX12_act_132 : decode cX12_act 132 = .ok (.iastore, 1) := dk_79 (dk_at dksX12_act_6 8 rfl rfl)
theorem dX12_act_133 : decode cX12_act 133 = .ok (.aload_n 0, 1) := dk_42 (dk_at dksX12_act_6 9 rfl rfl)
theorem dX12_act_134 : decode cX12_act 134 = .ok (.getfield 25, 3) := dk_180 0 25 (dk_at dksX12_act_6 10 rfl rfl)
theorem dX12_act_137 : decode cX12_act 137 = .ok (.aload_n 0, 1) := dk_42 (dk_at dksX12_act_6 13 rfl rfl)
theorem dX12_act_138 : decode cX12_act 138 = .ok (.getfield 39, 3) := dk_180 0 39 (dk_at dksX12_act_6 14 rfl rfl)
theorem dX12_act_141 : decode cX12_act 141 = .ok (.aload_n 0, 1) := dk_42 (dk_at dksX12_act_6 17 rfl rfl)
theorem dX12_act_142 : decode cX12_act 142 = .ok (.invokevirtual 65, 3) := dk_182 0 65 (dk_at dksX12_act_6 18 rfl rfl)
theorem dX12_act_145 : decode cX12_act 145 = .ok (.iastore, 1) := dk_79 (dk_at dksX12_act_6 21 rfl rfl)
theorem dX12_act_146 : decode cX12_act 146 = .ok (.return_, 1) := dk_177 (dk_at dksX12_act_6 22 rfl rfl)
theorem dX12_act_147 : decode cX12_act 147 = .ok (.aload_n 0, 1) := dk_42 (dk_at dksX12_act_6 23 rfl rfl)
theorem dX12_act_148 : decode cX12_act 148 = .ok (.getfield 25, 3) := dk_180 0 25 (dk_at dksX12_act_7 0 rfl rfl)
theorem dX12_act_151 : decode cX12_act 151 = .ok (.aload_n 0, 1) := dk_42 (dk_at dksX12_act_7 3 rfl rfl)
theorem dX12_act_152 : decode cX12_act 152 = .ok (.getfield 39, 3) := dk_180 0 39 (dk_at dksX12_act_7 4 rfl rfl)
theorem dX12_act_155 : decode cX12_act 155 = .ok (.aload_n 0, 1) := dk_42 (dk_at dksX12_act_7 7 rfl rfl)
theorem dX12_act_156 : decode cX12_act 156 = .ok (.invokevirtual 65, 3) := dk_182 0 65 (dk_at dksX12_act_7 8 rfl rfl)
theorem dX12_act_159 : decode cX12_act 159 = .ok (.iastore, 1) := dk_79 (dk_at dksX12_act_7 11 rfl rfl)
theorem dX12_act_160 : decode cX12_act 160 = .ok (.return_, 1) := dk_177 (dk_at dksX12_act_7 12 rfl rfl)
theorem dX12_act_161 : decode cX12_act 161 = .ok (.return_, 1) := dk_177 (dk_at dksX12_act_7 13 rfl rfl)
abbrev cX12_two : ByteArray := prog_6_method_3_code
def yX12_two : MethodName := ⟨RX12, "two", "()I"⟩
def dkwX12_two_0 : List UInt8 := [16, 10, 42, 16, 48, 16, 10, 182, 0, 45, 104, 42, 16, 48, 16, 10, 182, 0, 45, 96, 172]
abbrev dktX12_two_0 : List UInt8 := dkwX12_two_0 ++ []
theorem dksX12_two_0 : cX12_two.data.toList.drop 0 = dktX12_two_0 := by decide +kernel
theorem dX12_two_0 : decode cX12_two 0 = .ok (.bipush 10, 2) := dk_16 10 (dk_at dksX12_two_0 0 rfl rfl)
theorem dX12_two_2 : decode cX12_two 2 = .ok (.aload_n 0, 1) := dk_42 (dk_at dksX12_two_0 2 rfl rfl)
theorem dX12_two_3 : decode cX12_two 3 = .ok (.bipush 48, 2) := dk_16 48 (dk_at dksX12_two_0 3 rfl rfl)
theorem dX12_two_5 : decode cX12_two 5 = .ok (.bipush 10, 2) := dk_16 10 (dk_at dksX12_two_0 5 rfl rfl)
theorem dX12_two_7 : decode cX12_two 7 = .ok (.invokevirtual 45, 3) := dk_182 0 45 (dk_at dksX12_two_0 7 rfl rfl)
theorem dX12_two_10 : decode cX12_two 10 = .ok (.imul, 1) := dk_104 (dk_at dksX12_two_0 10 rfl rfl)
theorem dX12_two_11 : decode cX12_two 11 = .ok (.aload_n 0, 1) := dk_42 (dk_at dksX12_two_0 11 rfl rfl)
theorem dX12_two_12 : decode cX12_two 12 = .ok (.bipush 48, 2) := dk_16 48 (dk_at dksX12_two_0 12 rfl rfl)
theorem dX12_two_14 : decode cX12_two 14 = .ok (.bipush 10, 2) := dk_16 10 (dk_at dksX12_two_0 14 rfl rfl)
theorem dX12_two_16 : decode cX12_two 16 = .ok (.invokevirtual 45, 3) := dk_182 0 45 (dk_at dksX12_two_0 16 rfl rfl)
theorem dX12_two_19 : decode cX12_two 19 = .ok (.iadd, 1) := dk_96 (dk_at dksX12_two_0 19 rfl rfl)
theorem dX12_two_20 : decode cX12_two 20 = .ok (.ireturn, 1) := dk_172 (dk_at dksX12_two_0 20 rfl rfl)
theorem q135 : (Jvm.Cond.initialized "QueueDrive$Order") ∈ lw_all := lw_g (lw_at lw_m1 44 rfl) rfl
theorem q798 : (Jvm.Cond.fieldLink "QueueDrive$Order" (32 : Nat) "QueueDrive$Order" "end" "I") ∈ lw_all := lw_g (lw_at lw_m3 227 rfl) rfl
theorem q799 : (Jvm.Cond.sameField "QueueDrive$Order" "QueueDrive$Words" "end" "I") ∈ lw_all := lw_g (lw_at lw_m3 228 rfl) rfl
theorem q801 : (Jvm.Cond.fieldLink "QueueDrive$Order" (28 : Nat) "QueueDrive$Order" "at" "I") ∈ lw_all := lw_g (lw_at lw_m3 230 rfl) rfl
theorem q802 : (Jvm.Cond.sameField "QueueDrive$Order" "QueueDrive$Words" "at" "I") ∈ lw_all := lw_g (lw_at lw_m3 231 rfl) rfl
theorem q819 : (Jvm.Cond.selects "QueueDrive$Order" ({ cls := "QueueDrive$Words", name := "digit", desc := "(CI)I" } : Jvm.MethodName) ({ cls := "QueueDrive$Words", name := "digit", desc := "(CI)I" } : Jvm.MethodName)) ∈ lw_all := lw_g (lw_at lw_m4 8 rfl) rfl
theorem q826 : (Jvm.Cond.selects "QueueDrive$Order" ({ cls := "QueueDrive$Words", name := "here", desc := "()I" } : Jvm.MethodName) ({ cls := "QueueDrive$Words", name := "here", desc := "()I" } : Jvm.MethodName)) ∈ lw_all := lw_g (lw_at lw_m4 15 rfl) rfl
theorem q834 : (Jvm.Cond.selects "QueueDrive$Order" ({ cls := "QueueDrive$Words", name := "need", desc := "(Z)V" } : Jvm.MethodName) ({ cls := "QueueDrive$Words", name := "need", desc := "(Z)V" } : Jvm.MethodName)) ∈ lw_all := lw_g (lw_at lw_m4 23 rfl) rfl
theorem q913 : (Jvm.Cond.selects "QueueDrive$Order" ({ cls := "QueueDrive$Words", name := "passes", desc := "(C)Z" } : Jvm.MethodName) ({ cls := "QueueDrive$Words", name := "passes", desc := "(C)Z" } : Jvm.MethodName)) ∈ lw_all := lw_g (lw_at lw_m4 102 rfl) rfl
theorem q920 : (Jvm.Cond.selects "QueueDrive$Order" ({ cls := "QueueDrive$Words", name := "needEnd", desc := "()V" } : Jvm.MethodName) ({ cls := "QueueDrive$Words", name := "needEnd", desc := "()V" } : Jvm.MethodName)) ∈ lw_all := lw_g (lw_at lw_m4 109 rfl) rfl
theorem q1210 : (Jvm.Cond.selects "QueueDrive$Order" ({ cls := "java/lang/Object", name := "getClass", desc := "()Ljava/lang/Class;" } : Jvm.MethodName) ({ cls := "java/lang/Object", name := "getClass", desc := "()Ljava/lang/Class;" } : Jvm.MethodName)) ∈ lw_all := lw_g (lw_at lw_m5 159 rfl) rfl
theorem q1867 : (Jvm.Cond.instantiable "QueueDrive$Order" (10 : Nat)) ∈ lw_all := lw_g (lw_at lw_m8 96 rfl) rfl
theorem q1869 : (Jvm.Cond.instanceMethod ({ cls := "QueueDrive$Order", name := "<init>", desc := "([BI)V" } : Jvm.MethodName)) ∈ lw_all := lw_g (lw_at lw_m8 98 rfl) rfl
theorem q1870 : (Jvm.Cond.code ({ cls := "QueueDrive$Order", name := "<init>", desc := "([BI)V" } : Jvm.MethodName) prog_6_method_1_code (3 : Nat) (Option.none : Option Jvm.ClassFile.FieldType)) ∈ lw_all := lw_g (lw_at lw_m8 99 rfl) rfl
theorem q1871 : (Jvm.Cond.methodLink "QueueDrive$Order" (3 : Nat) ({ cls := "QueueDrive$Words", name := "<init>", desc := "([BII)V" } : Jvm.MethodName)) ∈ lw_all := lw_g (lw_at lw_m8 100 rfl) rfl
theorem q1872 : (Jvm.Cond.fieldLink "QueueDrive$Order" (9 : Nat) "QueueDrive$Order" "acts" "[C") ∈ lw_all := lw_g (lw_at lw_m8 101 rfl) rfl
theorem q1874 : (Jvm.Cond.fieldLink "QueueDrive$Order" (15 : Nat) "QueueDrive$Order" "queue" "[I") ∈ lw_all := lw_g (lw_at lw_m8 103 rfl) rfl
theorem q1876 : (Jvm.Cond.fieldLink "QueueDrive$Order" (19 : Nat) "QueueDrive$Order" "op" "[I") ∈ lw_all := lw_g (lw_at lw_m8 105 rfl) rfl
theorem q1878 : (Jvm.Cond.fieldLink "QueueDrive$Order" (22 : Nat) "QueueDrive$Order" "block" "[I") ∈ lw_all := lw_g (lw_at lw_m8 107 rfl) rfl
theorem q1880 : (Jvm.Cond.fieldLink "QueueDrive$Order" (25 : Nat) "QueueDrive$Order" "value" "[I") ∈ lw_all := lw_g (lw_at lw_m8 109 rfl) rfl
theorem q1882 : (Jvm.Cond.fieldLink "QueueDrive$Order" (39 : Nat) "QueueDrive$Order" "many" "I") ∈ lw_all := lw_g (lw_at lw_m8 111 rfl) rfl
theorem q1884 : (Jvm.Cond.laysFinal "QueueDrive$Order" "QueueDrive$Order" "acts" "[C") ∈ lw_all := lw_g (lw_at lw_m8 113 rfl) rfl
theorem q1885 : (Jvm.Cond.soleField "QueueDrive$Order" "acts") ∈ lw_all := lw_g (lw_at lw_m8 114 rfl) rfl
theorem q1886 : (Jvm.Cond.laysFinal "QueueDrive$Order" "QueueDrive$Order" "queue" "[I") ∈ lw_all := lw_g (lw_at lw_m8 115 rfl) rfl
theorem q1887 : (Jvm.Cond.soleField "QueueDrive$Order" "queue") ∈ lw_all := lw_g (lw_at lw_m8 116 rfl) rfl
theorem q1888 : (Jvm.Cond.laysFinal "QueueDrive$Order" "QueueDrive$Order" "op" "[I") ∈ lw_all := lw_g (lw_at lw_m8 117 rfl) rfl
theorem q1889 : (Jvm.Cond.soleField "QueueDrive$Order" "op") ∈ lw_all := lw_g (lw_at lw_m8 118 rfl) rfl
theorem q1890 : (Jvm.Cond.laysFinal "QueueDrive$Order" "QueueDrive$Order" "block" "[I") ∈ lw_all := lw_g (lw_at lw_m8 119 rfl) rfl
theorem q1891 : (Jvm.Cond.soleField "QueueDrive$Order" "block") ∈ lw_all := lw_g (lw_at lw_m8 120 rfl) rfl
theorem q1892 : (Jvm.Cond.laysFinal "QueueDrive$Order" "QueueDrive$Order" "value" "[I") ∈ lw_all := lw_g (lw_at lw_m8 121 rfl) rfl
theorem q1893 : (Jvm.Cond.soleField "QueueDrive$Order" "value") ∈ lw_all := lw_g (lw_at lw_m8 122 rfl) rfl
theorem q1894 : (Jvm.Cond.lays "QueueDrive$Order" "QueueDrive$Order" "many" "I") ∈ lw_all := lw_g (lw_at lw_m8 123 rfl) rfl
theorem q1895 : (Jvm.Cond.soleField "QueueDrive$Order" "many") ∈ lw_all := lw_g (lw_at lw_m8 124 rfl) rfl
theorem q1896 : (Jvm.Cond.laysFinal "QueueDrive$Order" "QueueDrive$Words" "of" "[B") ∈ lw_all := lw_g (lw_at lw_m8 125 rfl) rfl
theorem q1897 : (Jvm.Cond.laysFinal "QueueDrive$Order" "QueueDrive$Words" "size" "I") ∈ lw_all := lw_g (lw_at lw_m8 126 rfl) rfl
theorem q1898 : (Jvm.Cond.laysFinal "QueueDrive$Order" "QueueDrive$Words" "end" "I") ∈ lw_all := lw_g (lw_at lw_m8 127 rfl) rfl
theorem q1899 : (Jvm.Cond.lays "QueueDrive$Order" "QueueDrive$Words" "at" "I") ∈ lw_all := lw_g (lw_at lw_m8 128 rfl) rfl
theorem q1900 : (Jvm.Cond.superclass "QueueDrive$Order" "QueueDrive$Words") ∈ lw_all := lw_g (lw_at lw_m8 129 rfl) rfl
theorem q1903 : (Jvm.Cond.instanceMethod ({ cls := "QueueDrive$Order", name := "read", desc := "()V" } : Jvm.MethodName)) ∈ lw_all := lw_g (lw_at lw_m8 132 rfl) rfl
theorem q1904 : (Jvm.Cond.selects "QueueDrive$Order" ({ cls := "QueueDrive$Order", name := "read", desc := "()V" } : Jvm.MethodName) ({ cls := "QueueDrive$Order", name := "read", desc := "()V" } : Jvm.MethodName)) ∈ lw_all := lw_g (lw_at lw_m8 133 rfl) rfl
theorem q1905 : (Jvm.Cond.code ({ cls := "QueueDrive$Order", name := "read", desc := "()V" } : Jvm.MethodName) prog_6_method_2_code (1 : Nat) (Option.none : Option Jvm.ClassFile.FieldType)) ∈ lw_all := lw_g (lw_at lw_m8 134 rfl) rfl
theorem q1906 : (Jvm.Cond.methodLink "QueueDrive$Order" (35 : Nat) ({ cls := "QueueDrive$Order", name := "act", desc := "()V" } : Jvm.MethodName)) ∈ lw_all := lw_g (lw_at lw_m8 135 rfl) rfl
theorem q1907 : (Jvm.Cond.privateMethod ({ cls := "QueueDrive$Order", name := "act", desc := "()V" } : Jvm.MethodName)) ∈ lw_tbl := lw_at lw_m8 136 rfl
theorem q1908 : (Jvm.Cond.instanceMethod ({ cls := "QueueDrive$Order", name := "act", desc := "()V" } : Jvm.MethodName)) ∈ lw_all := lw_g (lw_at lw_m8 137 rfl) rfl
theorem q1909 : (Jvm.Cond.code ({ cls := "QueueDrive$Order", name := "act", desc := "()V" } : Jvm.MethodName) prog_6_method_4_code (2 : Nat) (Option.none : Option Jvm.ClassFile.FieldType)) ∈ lw_all := lw_g (lw_at lw_m8 138 rfl) rfl
theorem q1910 : (Jvm.Cond.methodLink "QueueDrive$Order" (49 : Nat) ({ cls := "QueueDrive$Order", name := "here", desc := "()I" } : Jvm.MethodName)) ∈ lw_all := lw_g (lw_at lw_m8 139 rfl) rfl
theorem q1911 : (Jvm.Cond.sameMethod "QueueDrive$Order" "QueueDrive$Words" "here" "()I") ∈ lw_all := lw_g (lw_at lw_m8 140 rfl) rfl
theorem q1912 : (Jvm.Cond.selects "QueueDrive$Order" ({ cls := "QueueDrive$Order", name := "here", desc := "()I" } : Jvm.MethodName) ({ cls := "QueueDrive$Words", name := "here", desc := "()I" } : Jvm.MethodName)) ∈ lw_all := lw_g (lw_at lw_m8 141 rfl) rfl
theorem q1913 : (Jvm.Cond.stringRef "QueueDrive$Order" (53 : Nat) "prtkcx") ∈ lw_tbl := lw_at lw_m8 142 rfl
theorem q1914 : (Jvm.Cond.methodLink "QueueDrive$Order" (55 : Nat) ({ cls := "java/lang/String", name := "indexOf", desc := "(I)I" } : Jvm.MethodName)) ∈ lw_all := lw_g (lw_at lw_m8 143 rfl) rfl
theorem q1915 : (Jvm.Cond.methodLink "QueueDrive$Order" (61 : Nat) ({ cls := "QueueDrive$Order", name := "need", desc := "(Z)V" } : Jvm.MethodName)) ∈ lw_all := lw_g (lw_at lw_m8 144 rfl) rfl
theorem q1916 : (Jvm.Cond.sameMethod "QueueDrive$Order" "QueueDrive$Words" "need" "(Z)V") ∈ lw_all := lw_g (lw_at lw_m8 145 rfl) rfl
theorem q1917 : (Jvm.Cond.selects "QueueDrive$Order" ({ cls := "QueueDrive$Order", name := "need", desc := "(Z)V" } : Jvm.MethodName) ({ cls := "QueueDrive$Words", name := "need", desc := "(Z)V" } : Jvm.MethodName)) ∈ lw_all := lw_g (lw_at lw_m8 146 rfl) rfl
theorem q1918 : (Jvm.Cond.methodLink "QueueDrive$Order" (45 : Nat) ({ cls := "QueueDrive$Order", name := "digit", desc := "(CI)I" } : Jvm.MethodName)) ∈ lw_all := lw_g (lw_at lw_m8 147 rfl) rfl
theorem q1919 : (Jvm.Cond.sameMethod "QueueDrive$Order" "QueueDrive$Words" "digit" "(CI)I") ∈ lw_all := lw_g (lw_at lw_m8 148 rfl) rfl
theorem q1921 : (Jvm.Cond.selects "QueueDrive$Order" ({ cls := "QueueDrive$Order", name := "digit", desc := "(CI)I" } : Jvm.MethodName) ({ cls := "QueueDrive$Words", name := "digit", desc := "(CI)I" } : Jvm.MethodName)) ∈ lw_all := lw_g (lw_at lw_m8 150 rfl) rfl
theorem q1922 : (Jvm.Cond.methodLink "QueueDrive$Order" (65 : Nat) ({ cls := "QueueDrive$Order", name := "two", desc := "()I" } : Jvm.MethodName)) ∈ lw_all := lw_g (lw_at lw_m8 151 rfl) rfl
theorem q1923 : (Jvm.Cond.privateMethod ({ cls := "QueueDrive$Order", name := "two", desc := "()I" } : Jvm.MethodName)) ∈ lw_tbl := lw_at lw_m8 152 rfl
theorem q1924 : (Jvm.Cond.instanceMethod ({ cls := "QueueDrive$Order", name := "two", desc := "()I" } : Jvm.MethodName)) ∈ lw_all := lw_g (lw_at lw_m8 153 rfl) rfl
theorem q1925 : (Jvm.Cond.code ({ cls := "QueueDrive$Order", name := "two", desc := "()I" } : Jvm.MethodName) prog_6_method_3_code (1 : Nat) (Option.some Jvm.ClassFile.FieldType.int)) ∈ lw_all := lw_g (lw_at lw_m8 154 rfl) rfl
theorem q1926 : (Jvm.Cond.methodLink "QueueDrive$Order" (42 : Nat) ({ cls := "QueueDrive$Order", name := "needEnd", desc := "()V" } : Jvm.MethodName)) ∈ lw_all := lw_g (lw_at lw_m8 155 rfl) rfl
theorem q1927 : (Jvm.Cond.sameMethod "QueueDrive$Order" "QueueDrive$Words" "needEnd" "()V") ∈ lw_all := lw_g (lw_at lw_m8 156 rfl) rfl
theorem q1928 : (Jvm.Cond.selects "QueueDrive$Order" ({ cls := "QueueDrive$Order", name := "needEnd", desc := "()V" } : Jvm.MethodName) ({ cls := "QueueDrive$Words", name := "needEnd", desc := "()V" } : Jvm.MethodName)) ∈ lw_all := lw_g (lw_at lw_m8 157 rfl) rfl
theorem q2799 : (Jvm.Cond.castable "QueueDrive$Order" "java/lang/Object") ∈ lw_tbl := lw_at lw_m12 68 rfl
theorem in_X12 : ∀ w ∈ wsX120, w ∈ lw_all := lw_in wsX120 [1896, 1897, 1898, 1899, 1884, 1886, 1888, 1890, 1892, 1894] (by decide +kernel) (by decide +kernel)

/-! QueueDrive$Drive -/
set_option maxRecDepth 100000
def RX2 : String := "QueueDrive$Drive"
def TX2 : u_T := fun k => match k with
  | 0 => ("QueueDrive$Drive", "lines", "[LQueueDrive$Line;", true)
  | 1 => ("QueueDrive$Drive", "running", "Ljava/util/LinkedList;", true)
  | 2 => ("QueueDrive$Drive", "outbox", "Ljava/util/LinkedList;", true)
  | 3 => ("QueueDrive$Drive", "blocks", "[I", true)
  | 4 => ("QueueDrive$Drive", "weight", "[I", true)
  | 5 => ("QueueDrive$Drive", "credit", "[I", true)
  | 6 => ("QueueDrive$Drive", "last", "[I", true)
  | 7 => ("QueueDrive$Drive", "served", "[I", true)
  | 8 => ("QueueDrive$Drive", "many", "I", false)
  | 9 => ("QueueDrive$Drive", "depth", "I", false)
  | 10 => ("QueueDrive$Drive", "tick", "I", false)
  | 11 => ("QueueDrive$Drive", "bells", "I", false)
  | 12 => ("QueueDrive$Drive", "spared", "I", false)
  | 13 => ("QueueDrive$Drive", "fetches", "I", false)
  | _ => ("QueueDrive$Drive", "posts", "I", false)
def tyX2 : Nat → FieldType := fun k => match k with
  | 0 => .array (.object "QueueDrive$Line")
  | 1 => .object "java/util/LinkedList"
  | 2 => .object "java/util/LinkedList"
  | 3 => .array .int
  | 4 => .array .int
  | 5 => .array .int
  | 6 => .array .int
  | 7 => .array .int
  | 8 => .int
  | 9 => .int
  | 10 => .int
  | 11 => .int
  | 12 => .int
  | 13 => .int
  | _ => .int
abbrev wsX20 : List Cond := u_ws RX2 TX2 15
set_option maxRecDepth 100000 in
theorem nmX2 : ∀ a, a < 15 → ∀ b, b < 15 → a ≠ b → (TX2 a).2.1 ≠ (TX2 b).2.1 := by decide +kernel
set_option maxRecDepth 100000 in
theorem tyX2_ok : ∀ k, k < 15 → parseFieldDescriptor (TX2 k).2.2.1 = some (tyX2 k) := by decide +kernel
abbrev cX2_init : ByteArray := prog_3_method_1_code
def yX2_init : MethodName := ⟨RX2, "<init>", "()V"⟩
def dkwX2_init_6 : List UInt8 := [132, 1, 1, 167, 255, 234, 177]
abbrev dktX2_init_6 : List UInt8 := dkwX2_init_6 ++ []
def dkwX2_init_5 : List UInt8 := [181, 0, 43, 3, 60, 27, 8, 162, 0, 23, 42, 180, 0, 11, 27, 187, 0, 9, 89, 27, 183, 0, 47, 83]
abbrev dktX2_init_5 : List UInt8 := dkwX2_init_5 ++ dktX2_init_6
def dkwX2_init_4 : List UInt8 := [89, 4, 7, 79, 89, 5, 7, 79, 89, 6, 7, 79, 181, 0, 37, 42, 7, 188, 10, 181, 0, 40, 42, 5]
abbrev dktX2_init_4 : List UInt8 := dkwX2_init_4 ++ dktX2_init_5
def dkwX2_init_3 : List UInt8 := [79, 89, 4, 6, 79, 89, 5, 5, 79, 89, 6, 4, 79, 181, 0, 34, 42, 7, 188, 10, 89, 3, 7, 79]
abbrev dktX2_init_3 : List UInt8 := dkwX2_init_3 ++ dktX2_init_4
def dkwX2_init_2 : List UInt8 := [3, 79, 89, 4, 6, 79, 89, 5, 5, 79, 89, 6, 4, 79, 181, 0, 31, 42, 7, 188, 10, 89, 3, 3]
abbrev dktX2_init_2 : List UInt8 := dkwX2_init_2 ++ dktX2_init_3
def dkwX2_init_1 : List UInt8 := [187, 0, 17, 89, 183, 0, 19, 181, 0, 24, 42, 16, 10, 188, 10, 181, 0, 27, 42, 7, 188, 10, 89, 3]
abbrev dktX2_init_1 : List UInt8 := dkwX2_init_1 ++ dktX2_init_2
def dkwX2_init_0 : List UInt8 := [42, 183, 0, 3, 42, 8, 189, 0, 9, 181, 0, 11, 42, 187, 0, 17, 89, 183, 0, 19, 181, 0, 20, 42]
abbrev dktX2_init_0 : List UInt8 := dkwX2_init_0 ++ dktX2_init_1
theorem dksX2_init_0 : cX2_init.data.toList.drop 0 = dktX2_init_0 := by decide +kernel
theorem dksX2_init_1 : cX2_init.data.toList.drop 24 = dktX2_init_1 := dk_seg dksX2_init_0 24 rfl rfl
theorem dksX2_init_2 : cX2_init.data.toList.drop 48 = dktX2_init_2 := dk_seg dksX2_init_1 24 rfl rfl
theorem dksX2_init_3 : cX2_init.data.toList.drop 72 = dktX2_init_3 := dk_seg dksX2_init_2 24 rfl rfl
theorem dksX2_init_4 : cX2_init.data.toList.drop 96 = dktX2_init_4 := dk_seg dksX2_init_3 24 rfl rfl
theorem dksX2_init_5 : cX2_init.data.toList.drop 120 = dktX2_init_5 := dk_seg dksX2_init_4 24 rfl rfl
theorem dksX2_init_6 : cX2_init.data.toList.drop 144 = dktX2_init_6 := dk_seg dksX2_init_5 24 rfl rfl
theorem dX2_init_0 : decode cX2_init 0 = .ok (.aload_n 0, 1) := dk_42 (dk_at dksX2_init_0 0 rfl rfl)
theorem dX2_init_1 : decode cX2_init 1 = .ok (.invokespecial 3, 3) := dk_183 0 3 (dk_at dksX2_init_0 1 rfl rfl)
theorem dX2_init_4 : decode cX2_init 4 = .ok (.aload_n 0, 1) := dk_42 (dk_at dksX2_init_0 4 rfl rfl)
theorem dX2_init_5 : decode cX2_init 5 = .ok (.iconst 5, 1) := dk_8 (dk_at dksX2_init_0 5 rfl rfl)
theorem dX2_init_6 : decode cX2_init 6 = .ok (.anewarray 9, 3) := dk_189 0 9 (dk_at dksX2_init_0 6 rfl rfl)
theorem dX2_init_9 : decode cX2_init 9 = .ok (.putfield 11, 3) := dk_181 0 11 (dk_at dksX2_init_0 9 rfl rfl)
theorem dX2_init_12 : decode cX2_init 12 = .ok (.aload_n 0, 1) := dk_42 (dk_at dksX2_init_0 12 rfl rfl)
theorem dX2_init_13 : decode cX2_init 13 = .ok (.new 17, 3) := dk_187 0 17 (dk_at dksX2_init_0 13 rfl rfl)
theorem dX2_init_16 : decode cX2_init 16 = .ok (.dup, 1) := dk_89 (dk_at dksX2_init_0 16 rfl rfl)
theorem dX2_init_17 : decode cX2_init 17 = .ok (.invokespecial 19, 3) := dk_183 0 19 (dk_at dksX2_init_0 17 rfl rfl)
theorem dX2_init_20 : decode cX2_init 20 = .ok (.putfield 20, 3) := dk_181 0 20 (dk_at dksX2_init_0 20 rfl rfl)
theorem dX2_init_23 : decode cX2_init 23 = .ok (.aload_n 0, 1) := dk_42 (dk_at dksX2_init_0 23 rfl rfl)
theorem dX2_init_24 : decode cX2_init 24 = .ok (.new 17, 3) := dk_187 0 17 (dk_at dksX2_init_1 0 rfl rfl)
theorem dX2_init_27 : decode cX2_init 27 = .ok (.dup, 1) := dk_89 (dk_at dksX2_init_1 3 rfl rfl)
theorem dX2_init_28 : decode cX2_init 28 = .ok (.invokespecial 19, 3) := dk_183 0 19 (dk_at dksX2_init_1 4 rfl rfl)
theorem dX2_init_31 : decode cX2_init 31 = .ok (.putfield 24, 3) := dk_181 0 24 (dk_at dksX2_init_1 7 rfl rfl)
theorem dX2_init_34 : decode cX2_init 34 = .ok (.aload_n 0, 1) := dk_42 (dk_at dksX2_init_1 10 rfl rfl)
theorem dX2_init_35 : decode cX2_init 35 = .ok (.bipush 10, 2) := dk_16 10 (dk_at dksX2_init_1 11 rfl rfl)
theorem dX2_init_37 : decode cX2_init 37 = .ok (.newarray .int, 2) := dk_188_10 (dk_at dksX2_init_1 13 rfl rfl)
theorem dX2_init_39 : decode cX2_init 39 = .ok (.putfield 27, 3) := dk_181 0 27 (dk_at dksX2_init_1 15 rfl rfl)
theorem dX2_init_42 : decode cX2_init 42 = .ok (.aload_n 0, 1) := dk_42 (dk_at dksX2_init_1 18 rfl rfl)
theorem dX2_init_43 : decode cX2_init 43 = .ok (.iconst 4, 1) := dk_7 (dk_at dksX2_init_1 19 rfl rfl)
theorem dX2_init_44 : decode cX2_init 44 = .ok (.newarray .int, 2) := dk_188_10 (dk_at dksX2_init_1 20 rfl rfl)
theorem dX2_init_46 : decode cX2_init 46 = .ok (.dup, 1) := dk_89 (dk_at dksX2_init_1 22 rfl rfl)
theorem dX2_init_47 : decode cX2_init 47 = .ok (.iconst 0, 1) := dk_3 (dk_at dksX2_init_1 23 rfl rfl)
theorem dX2_init_48 : decode cX2_init 48 = .ok (.iconst 0, 1) := dk_3 (dk_at dksX2_init_2 0 rfl rfl)
theorem dX2_init_49 : decode cX2_init 49 = .ok (.iastore, 1) := dk_79 (dk_at dksX2_init_2 1 rfl rfl)
theorem dX2_init_50 : decode cX2_init 50 = .ok (.dup, 1) := dk_89 (dk_at dksX2_init_2 2 rfl rfl)
theorem dX2_init_51 : decode cX2_init 51 = .ok (.iconst 1, 1) := dk_4 (dk_at dksX2_init_2 3 rfl rfl)
theorem dX2_init_52 : decode cX2_init 52 = .ok (.iconst 3, 1) := dk_6 (dk_at dksX2_init_2 4 rfl rfl)
theorem dX2_init_53 : decode cX2_init 53 = .ok (.iastore, 1) := dk_79 (dk_at dksX2_init_2 5 rfl rfl)
theorem dX2_init_54 : decode cX2_init 54 = .ok (.dup, 1) := dk_89 (dk_at dksX2_init_2 6 rfl rfl)
theorem dX2_init_55 : decode cX2_init 55 = .ok (.iconst 2, 1) := dk_5 (dk_at dksX2_init_2 7 rfl rfl)
theorem dX2_init_56 : decode cX2_init 56 = .ok (.iconst 2, 1) := dk_5 (dk_at dksX2_init_2 8 rfl rfl)
theorem dX2_init_57 : decode cX2_init 57 = .ok (.iastore, 1) := dk_79 (dk_at dksX2_init_2 9 rfl rfl)
theorem dX2_init_58 : decode cX2_init 58 = .ok (.dup, 1) := dk_89 (dk_at dksX2_init_2 10 rfl rfl)
theorem dX2_init_59 : decode cX2_init 59 = .ok (.iconst 3, 1) := dk_6 (dk_at dksX2_init_2 11 rfl rfl)
theorem dX2_init_60 : decode cX2_init 60 = .ok (.iconst 1, 1) := dk_4 (dk_at dksX2_init_2 12 rfl rfl)
theorem dX2_init_61 : decode cX2_init 61 = .ok (.iastore, 1) := dk_79 (dk_at dksX2_init_2 13 rfl rfl)
theorem dX2_init_62 : decode cX2_init 62 = .ok (.putfield 31, 3) := dk_181 0 31 (dk_at dksX2_init_2 14 rfl rfl)
theorem dX2_init_65 : decode cX2_init 65 = .ok (.aload_n 0, 1) := dk_42 (dk_at dksX2_init_2 17 rfl rfl)
theorem dX2_init_66 : decode cX2_init 66 = .ok (.iconst 4, 1) := dk_7 (dk_at dksX2_init_2 18 rfl rfl)
theorem dX2_init_67 : decode cX2_init 67 = .ok (.newarray .int, 2) := dk_188_10 (dk_at dksX2_init_2 19 rfl rfl)
theorem dX2_init_69 : decode cX2_init 69 = .ok (.dup, 1) := dk_89 (dk_at dksX2_init_2 21 rfl rfl)
theorem dX2_init_70 : decode cX2_init 70 = .ok (.iconst 0, 1) := dk_3 (dk_at dksX2_init_2 22 rfl rfl)
theorem dX2_init_71 : decode cX2_init 71 = .ok (.iconst 0, 1) := dk_3 (dk_at dksX2_init_2 23 rfl rfl)
theorem dX2_init_72 : decode cX2_init 72 = .ok (.iastore, 1) := dk_79 (dk_at dksX2_init_3 0 rfl rfl)
theorem dX2_init_73 : decode cX2_init 73 = .ok (.dup, 1) := dk_89 (dk_at dksX2_init_3 1 rfl rfl)
theorem dX2_init_74 : decode cX2_init 74 = .ok (.iconst 1, 1) := dk_4 (dk_at dksX2_init_3 2 rfl rfl)
theorem dX2_init_75 : decode cX2_init 75 = .ok (.iconst 3, 1) := dk_6 (dk_at dksX2_init_3 3 rfl rfl)
theorem dX2_init_76 : decode cX2_init 76 = .ok (.iastore, 1) := dk_79 (dk_at dksX2_init_3 4 rfl rfl)
theorem dX2_init_77 : decode cX2_init 77 = .ok (.dup, 1) := dk_89 (dk_at dksX2_init_3 5 rfl rfl)
theorem dX2_init_78 : decode cX2_init 78 = .ok (.iconst 2, 1) := dk_5 (dk_at dksX2_init_3 6 rfl rfl)
theorem dX2_init_79 : decode cX2_init 79 = .ok (.iconst 2, 1) := dk_5 (dk_at dksX2_init_3 7 rfl rfl)
theorem dX2_init_80 : decode cX2_init 80 = .ok (.iastore, 1) := dk_79 (dk_at dksX2_init_3 8 rfl rfl)
theorem dX2_init_81 : decode cX2_init 81 = .ok (.dup, 1) := dk_89 (dk_at dksX2_init_3 9 rfl rfl)
theorem dX2_init_82 : decode cX2_init 82 = .ok (.iconst 3, 1) := dk_6 (dk_at dksX2_init_3 10 rfl rfl)
theorem dX2_init_83 : decode cX2_init 83 = .ok (.iconst 1, 1) := dk_4 (dk_at dksX2_init_3 11 rfl rfl)
theorem dX2_init_84 : decode cX2_init 84 = .ok (.iastore, 1) := dk_79 (dk_at dksX2_init_3 12 rfl rfl)
theorem dX2_init_85 : decode cX2_init 85 = .ok (.putfield 34, 3) := dk_181 0 34 (dk_at dksX2_init_3 13 rfl rfl)
theorem dX2_init_88 : decode cX2_init 88 = .ok (.aload_n 0, 1) := dk_42 (dk_at dksX2_init_3 16 rfl rfl)
theorem dX2_init_89 : decode cX2_init 89 = .ok (.iconst 4, 1) := dk_7 (dk_at dksX2_init_3 17 rfl rfl)
theorem dX2_init_90 : decode cX2_init 90 = .ok (.newarray .int, 2) := dk_188_10 (dk_at dksX2_init_3 18 rfl rfl)
theorem dX2_init_92 : decode cX2_init 92 = .ok (.dup, 1) := dk_89 (dk_at dksX2_init_3 20 rfl rfl)
theorem dX2_init_93 : decode cX2_init 93 = .ok (.iconst 0, 1) := dk_3 (dk_at dksX2_init_3 21 rfl rfl)
theorem dX2_init_94 : decode cX2_init 94 = .ok (.iconst 4, 1) := dk_7 (dk_at dksX2_init_3 22 rfl rfl)
theorem dX2_init_95 : decode cX2_init 95 = .ok (.iastore, 1) := dk_79 (dk_at dksX2_init_3 23 rfl rfl)
theorem dX2_init_96 : decode cX2_init 96 = .ok (.dup, 1) := dk_89 (dk_at dksX2_init_4 0 rfl rfl)
theorem dX2_init_97 : decode cX2_init 97 = .ok (.iconst 1, 1) := dk_4 (dk_at dksX2_init_4 1 rfl rfl)
theorem dX2_init_98 : decode cX2_init 98 = .ok (.iconst 4, 1) := dk_7 (dk_at dksX2_init_4 2 rfl rfl)
theorem dX2_init_99 : decode cX2_init 99 = .ok (.iastore, 1) := dk_79 (dk_at dksX2_init_4 3 rfl rfl)
theorem dX2_init_100 : decode cX2_init 100 = .ok (.dup, 1) := dk_89 (dk_at dksX2_init_4 4 rfl rfl)
theorem dX2_init_101 : decode cX2_init 101 = .ok (.iconst 2, 1) := dk_5 (dk_at dksX2_init_4 5 rfl rfl)
theorem dX2_init_102 : decode cX2_init 102 = .ok (.iconst 4, 1) := dk_7 (dk_at dksX2_init_4 6 rfl rfl)
theorem dX2_init_103 : decode cX2_init 103 = .ok (.iastore, 1) := dk_79 (dk_at dksX2_init_4 7 rfl rfl)
theorem dX2_init_104 : decode cX2_init 104 = .ok (.dup, 1) := dk_89 (dk_at dksX2_init_4 8 rfl rfl)
theorem dX2_init_105 : decode cX2_init 105 = .ok (.iconst 3, 1) := dk_6 (dk_at dksX2_init_4 9 rfl rfl)
theorem dX2_init_106 : decode cX2_init 106 = .ok (.iconst 4, 1) := dk_7 (dk_at dksX2_init_4 10 rfl rfl)
theorem dX2_init_107 : decode cX2_init 107 = .ok (.iastore, 1) := dk_79 (dk_at dksX2_init_4 11 rfl rfl)
theorem dX2_init_108 : decode cX2_init 108 = .ok (.putfield 37, 3) := dk_181 0 37 (dk_at dksX2_init_4 12 rfl rfl)
theorem dX2_init_111 : decode cX2_init 111 = .ok (.aload_n 0, 1) := dk_42 (dk_at dksX2_init_4 15 rfl rfl)
theorem dX2_init_112 : decode cX2_init 112 = .ok (.iconst 4, 1) := dk_7 (dk_at dksX2_init_4 16 rfl rfl)
theorem dX2_init_113 : decode cX2_init 113 = .ok (.newarray .int, 2) := dk_188_10 (dk_at dksX2_init_4 17 rfl rfl)
theorem dX2_init_115 : decode cX2_init 115 = .ok (.putfield 40, 3) := dk_181 0 40 (dk_at dksX2_init_4 19 rfl rfl)
theorem dX2_init_118 : decode cX2_init 118 = .ok (.aload_n 0, 1) := dk_42 (dk_at dksX2_init_4 22 rfl rfl)
theorem dX2_init_119 : decode cX2_init 119 = .ok (.iconst 2, 1) := dk_5 (dk_at dksX2_init_4 23 rfl rfl)
theorem dX2_init_120 : decode cX2_init 120 = .ok (.putfield 43, 3) := dk_181 0 43 (dk_at dksX2_init_5 0 rfl rfl)
theorem dX2_init_123 : decode cX2_init 123 = .ok (.iconst 0, 1) := dk_3 (dk_at dksX2_init_5 3 rfl rfl)
theorem dX2_init_124 : decode cX2_init 124 = .ok (.istore_n 1, 1) := dk_60 (dk_at dksX2_init_5 4 rfl rfl)
theorem dX2_init_125 : decode cX2_init 125 = .ok (.iload_n 1, 1) := dk_27 (dk_at dksX2_init_5 5 rfl rfl)
theorem dX2_init_126 : decode cX2_init 126 = .ok (.iconst 5, 1) := dk_8 (dk_at dksX2_init_5 6 rfl rfl)
theorem dX2_init_127 : decode cX2_init 127 = .ok (.if_icmp .ge 23, 3) := dk_162 0 23 (dk_at dksX2_init_5 7 rfl rfl)
theorem dX2_init_130 : decode cX2_init 130 = .ok (.aload_n 0, 1) := dk_42 (dk_at dksX2_init_5 10 rfl rfl)
theorem dX2_init_131 : decode cX2_init 131 = .ok (.getfield 11, 3) := dk_180 0 11 (dk_at dksX2_init_5 11 rfl rfl)
theorem dX2_init_134 : decode cX2_init 134 = .ok (.iload_n 1, 1) := dk_27 (dk_at dksX2_init_5 14 rfl rfl)
theorem dX2_init_135 : decode cX2_init 135 = .ok (.new 9, 3) := dk_187 0 9 (dk_at dksX2_init_5 15 rfl rfl)
theorem dX2_init_138 : decode cX2_init 138 = .ok (.dup, 1) := dk_89 (dk_at dksX2_init_5 18 rfl rfl)
theorem dX2_init_139 : decode cX2_init 139 = .ok (.iload_n 1, 1) := dk_27 (dk_at dksX2_init_5 19 rfl rfl)
theorem dX2_init_140 : decode cX2_init 140 = .ok (.invokespecial 47, 3) := dk_183 0 47 (dk_at dksX2_init_5 20 rfl rfl)
theorem dX2_init_143 : decode cX2_init 143 = .ok (.aastore, 1) := dk_83 (dk_at dksX2_init_5 23 rfl rfl)
theorem dX2_init_144 : decode cX2_init 144 = .ok (.iinc 1 1, 3) := dk_132 1 1 (dk_at dksX2_init_6 0 rfl rfl)
theorem dX2_init_147 : decode cX2_init 147 = .ok (.goto (-22), 3) := dk_167 255 234 (dk_at dksX2_init_6 3 rfl rfl)
theorem dX2_init_150 : decode cX2_init 150 = .ok (.return_, 1) := dk_177 (dk_at dksX2_init_6 6 rfl rfl)
abbrev cX2_blocksSum : ByteArray := prog_3_method_21_code
def yX2_blocksSum : MethodName := ⟨RX2, "blocksSum", "()I"⟩
def dkwX2_blocksSum_1 : List UInt8 := [54, 5, 27, 21, 5, 96, 60, 132, 4, 1, 167, 255, 236, 27, 172]
abbrev dktX2_blocksSum_1 : List UInt8 := dkwX2_blocksSum_1 ++ []
def dkwX2_blocksSum_0 : List UInt8 := [3, 60, 42, 180, 0, 27, 77, 44, 190, 62, 3, 54, 4, 21, 4, 29, 162, 0, 20, 44, 21, 4, 46]
abbrev dktX2_blocksSum_0 : List UInt8 := dkwX2_blocksSum_0 ++ dktX2_blocksSum_1
theorem dksX2_blocksSum_0 : cX2_blocksSum.data.toList.drop 0 = dktX2_blocksSum_0 := by decide +kernel
theorem dksX2_blocksSum_1 : cX2_blocksSum.data.toList.drop 23 = dktX2_blocksSum_1 := dk_seg dksX2_blocksSum_0 23 rfl rfl
theorem dX2_blocksSum_0 : decode cX2_blocksSum 0 = .ok (.iconst 0, 1) := dk_3 (dk_at dksX2_blocksSum_0 0 rfl rfl)
theorem dX2_blocksSum_1 : decode cX2_blocksSum 1 = .ok (.istore_n 1, 1) := dk_60 (dk_at dksX2_blocksSum_0 1 rfl rfl)
theorem dX2_blocksSum_2 : decode cX2_blocksSum 2 = .ok (.aload_n 0, 1) := dk_42 (dk_at dksX2_blocksSum_0 2 rfl rfl)
theorem dX2_blocksSum_3 : decode cX2_blocksSum 3 = .ok (.getfield 27, 3) := dk_180 0 27 (dk_at dksX2_blocksSum_0 3 rfl rfl)
theorem dX2_blocksSum_6 : decode cX2_blocksSum 6 = .ok (.astore_n 2, 1) := dk_77 (dk_at dksX2_blocksSum_0 6 rfl rfl)
theorem dX2_blocksSum_7 : decode cX2_blocksSum 7 = .ok (.aload_n 2, 1) := dk_44 (dk_at dksX2_blocksSum_0 7 rfl rfl)
theorem dX2_blocksSum_8 : decode cX2_blocksSum 8 = .ok (.arraylength, 1) := dk_190 (dk_at dksX2_blocksSum_0 8 rfl rfl)
theorem dX2_blocksSum_9 : decode cX2_blocksSum 9 = .ok (.istore_n 3, 1) := dk_62 (dk_at dksX2_blocksSum_0 9 rfl rfl)
theorem dX2_blocksSum_10 : decode cX2_blocksSum 10 = .ok (.iconst 0, 1) := dk_3 (dk_at dksX2_blocksSum_0 10 rfl rfl)
theorem dX2_blocksSum_11 : decode cX2_blocksSum 11 = .ok (.istore 4, 2) := dk_54 4 (dk_at dksX2_blocksSum_0 11 rfl rfl)
theorem dX2_blocksSum_13 : decode cX2_blocksSum 13 = .ok (.iload 4, 2) := dk_21 4 (dk_at dksX2_blocksSum_0 13 rfl rfl)
theorem dX2_blocksSum_15 : decode cX2_blocksSum 15 = .ok (.iload_n 3, 1) := dk_29 (dk_at dksX2_blocksSum_0 15 rfl rfl)
theorem dX2_blocksSum_16 : decode cX2_blocksSum 16 = .ok (.if_icmp .ge 20, 3) := dk_162 0 20 (dk_at dksX2_blocksSum_0 16 rfl rfl)
theorem dX2_blocksSum_19 : decode cX2_blocksSum 19 = .ok (.aload_n 2, 1) := dk_44 (dk_at dksX2_blocksSum_0 19 rfl rfl)
theorem dX2_blocksSum_20 : decode cX2_blocksSum 20 = .ok (.iload 4, 2) := dk_21 4 (dk_at dksX2_blocksSum_0 20 rfl rfl)
theorem dX2_blocksSum_22 : decode cX2_blocksSum 22 = .ok (.iaload, 1) := dk_46 (dk_at dksX2_blocksSum_0 22 rfl rfl)
theorem dX2_blocksSum_23 : decode cX2_blocksSum 23 = .ok (.istore 5, 2) := dk_54 5 (dk_at dksX2_blocksSum_1 0 rfl rfl)
theorem dX2_blocksSum_25 : decode cX2_blocksSum 25 = .ok (.iload_n 1, 1) := dk_27 (dk_at dksX2_blocksSum_1 2 rfl rfl)
theorem dX2_blocksSum_26 : decode cX2_blocksSum 26 = .ok (.iload 5, 2) := dk_21 5 (dk_at dksX2_blocksSum_1 3 rfl rfl)
theorem dX2_blocksSum_28 : decode cX2_blocksSum 28 = .ok (.iadd, 1) := dk_96 (dk_at dksX2_blocksSum_1 5 rfl rfl)
theorem dX2_blocksSum_29 : decode cX2_blocksSum 29 = .ok (.istore_n 1, 1) := dk_60 (dk_at dksX2_blocksSum_1 6 rfl rfl)
theorem dX2_blocksSum_30 : decode cX2_blocksSum 30 = .ok (.iinc 4 1, 3) := dk_132 4 1 (dk_at dksX2_blocksSum_1 7 rfl rfl)
theorem dX2_blocksSum_33 : decode cX2_blocksSum 33 = .ok (.goto (-20), 3) := dk_167 255 236 (dk_at dksX2_blocksSum_1 10 rfl rfl)
theorem dX2_blocksSum_36 : decode cX2_blocksSum 36 = .ok (.iload_n 1, 1) := dk_27 (dk_at dksX2_blocksSum_1 13 rfl rfl)
theorem dX2_blocksSum_37 : decode cX2_blocksSum 37 = .ok (.ireturn, 1) := dk_172 (dk_at dksX2_blocksSum_1 14 rfl rfl)
abbrev cX2_be : ByteArray := prog_3_method_2_code
def yX2_be : MethodName := ⟨RX2, "be", "(LQueueDrive$Drive;)V"⟩
def dkwX2_be_8 : List UInt8 := [181, 0, 95, 42, 43, 180, 0, 98, 181, 0, 98, 42, 3, 181, 0, 101, 42, 3, 181, 0, 104, 177]
abbrev dktX2_be_8 : List UInt8 := dkwX2_be_8 ++ []
def dkwX2_be_7 : List UInt8 := [184, 0, 82, 42, 43, 180, 0, 43, 181, 0, 43, 42, 43, 180, 0, 92, 181, 0, 92, 42, 43, 180, 0, 95]
abbrev dktX2_be_7 : List UInt8 := dkwX2_be_7 ++ dktX2_be_8
def dkwX2_be_6 : List UInt8 := [3, 16, 10, 184, 0, 82, 42, 43, 182, 0, 88, 43, 180, 0, 40, 3, 42, 180, 0, 40, 3, 7]
abbrev dktX2_be_6 : List UInt8 := dkwX2_be_6 ++ dktX2_be_7
def dkwX2_be_5 : List UInt8 := [192, 0, 80, 78, 42, 180, 0, 24, 45, 182, 0, 76, 167, 255, 229, 43, 180, 0, 27, 3, 42, 180, 0, 27]
abbrev dktX2_be_5 : List UInt8 := dkwX2_be_5 ++ dktX2_be_6
def dkwX2_be_4 : List UInt8 := [180, 0, 24, 182, 0, 60, 77, 44, 185, 0, 64, 1, 0, 153, 0, 24, 44, 185, 0, 70, 1, 0]
abbrev dktX2_be_4 : List UInt8 := dkwX2_be_4 ++ dktX2_be_5
def dkwX2_be_3 : List UInt8 := [192, 0, 74, 78, 42, 180, 0, 20, 45, 182, 0, 76, 167, 255, 229, 42, 180, 0, 24, 182, 0, 57, 43]
abbrev dktX2_be_3 : List UInt8 := dkwX2_be_3 ++ dktX2_be_4
def dkwX2_be_2 : List UInt8 := [180, 0, 20, 182, 0, 60, 77, 44, 185, 0, 64, 1, 0, 153, 0, 24, 44, 185, 0, 70, 1, 0]
abbrev dktX2_be_2 : List UInt8 := dkwX2_be_2 ++ dktX2_be_3
def dkwX2_be_1 : List UInt8 := [43, 180, 0, 11, 28, 50, 182, 0, 53, 132, 2, 1, 167, 255, 230, 42, 180, 0, 20, 182, 0, 57, 43]
abbrev dktX2_be_1 : List UInt8 := dkwX2_be_1 ++ dktX2_be_2
def dkwX2_be_0 : List UInt8 := [42, 43, 180, 0, 50, 181, 0, 50, 3, 61, 28, 42, 180, 0, 50, 162, 0, 24, 42, 180, 0, 11, 28, 50]
abbrev dktX2_be_0 : List UInt8 := dkwX2_be_0 ++ dktX2_be_1
theorem dksX2_be_0 : cX2_be.data.toList.drop 0 = dktX2_be_0 := by decide +kernel
theorem dksX2_be_1 : cX2_be.data.toList.drop 24 = dktX2_be_1 := dk_seg dksX2_be_0 24 rfl rfl
theorem dksX2_be_2 : cX2_be.data.toList.drop 47 = dktX2_be_2 := dk_seg dksX2_be_1 23 rfl rfl
theorem dksX2_be_3 : cX2_be.data.toList.drop 69 = dktX2_be_3 := dk_seg dksX2_be_2 22 rfl rfl
theorem dksX2_be_4 : cX2_be.data.toList.drop 92 = dktX2_be_4 := dk_seg dksX2_be_3 23 rfl rfl
theorem dksX2_be_5 : cX2_be.data.toList.drop 114 = dktX2_be_5 := dk_seg dksX2_be_4 22 rfl rfl
theorem dksX2_be_6 : cX2_be.data.toList.drop 138 = dktX2_be_6 := dk_seg dksX2_be_5 24 rfl rfl
theorem dksX2_be_7 : cX2_be.data.toList.drop 160 = dktX2_be_7 := dk_seg dksX2_be_6 22 rfl rfl
theorem dksX2_be_8 : cX2_be.data.toList.drop 184 = dktX2_be_8 := dk_seg dksX2_be_7 24 rfl rfl
theorem dX2_be_0 : decode cX2_be 0 = .ok (.aload_n 0, 1) := dk_42 (dk_at dksX2_be_0 0 rfl rfl)
theorem dX2_be_1 : decode cX2_be 1 = .ok (.aload_n 1, 1) := dk_43 (dk_at dksX2_be_0 1 rfl rfl)
theorem dX2_be_2 : decode cX2_be 2 = .ok (.getfield 50, 3) := dk_180 0 50 (dk_at dksX2_be_0 2 rfl rfl)
theorem dX2_be_5 : decode cX2_be 5 = .ok (.putfield 50, 3) := dk_181 0 50 (dk_at dksX2_be_0 5 rfl rfl)
theorem dX2_be_8 : decode cX2_be 8 = .ok (.iconst 0, 1) := dk_3 (dk_at dksX2_be_0 8 rfl rfl)
theorem dX2_be_9 : decode cX2_be 9 = .ok (.istore_n 2, 1) := dk_61 (dk_at dksX2_be_0 9 rfl rfl)
theorem dX2_be_10 : decode cX2_be 10 = .ok (.iload_n 2, 1) := dk_28 (dk_at dksX2_be_0 10 rfl rfl)
theorem dX2_be_11 : decode cX2_be 11 = .ok (.aload_n 0, 1) := dk_42 (dk_at dksX2_be_0 11 rfl rfl)
theorem dX2_be_12 : decode cX2_be 12 = .ok (.getfield 50, 3) := dk_180 0 50 (dk_at dksX2_be_0 12 rfl rfl)
theorem dX2_be_15 : decode cX2_be 15 = .ok (.if_icmp .ge 24, 3) := dk_162 0 24 (dk_at dksX2_be_0 15 rfl rfl)
theorem dX2_be_18 : decode cX2_be 18 = .ok (.aload_n 0, 1) := dk_42 (dk_at dksX2_be_0 18 rfl rfl)
theorem dX2_be_19 : decode cX2_be 19 = .ok (.getfield 11, 3) := dk_180 0 11 (dk_at dksX2_be_0 19 rfl rfl)
theorem dX2_be_22 : decode cX2_be 22 = .ok (.iload_n 2, 1) := dk_28 (dk_at dksX2_be_0 22 rfl rfl)
theorem dX2_be_23 : decode cX2_be 23 = .ok (.aaload, 1) := dk_50 (dk_at dksX2_be_0 23 rfl rfl)
theorem dX2_be_24 : decode cX2_be 24 = .ok (.aload_n 1, 1) := dk_43 (dk_at dksX2_be_1 0 rfl rfl)
theorem dX2_be_25 : decode cX2_be 25 = .ok (.getfield 11, 3) := dk_180 0 11 (dk_at dksX2_be_1 1 rfl rfl)
theorem dX2_be_28 : decode cX2_be 28 = .ok (.iload_n 2, 1) := dk_28 (dk_at dksX2_be_1 4 rfl rfl)
theorem dX2_be_29 : decode cX2_be 29 = .ok (.aaload, 1) := dk_50 (dk_at dksX2_be_1 5 rfl rfl)
theorem dX2_be_30 : decode cX2_be 30 = .ok (.invokevirtual 53, 3) := dk_182 0 53 (dk_at dksX2_be_1 6 rfl rfl)
theorem dX2_be_33 : decode cX2_be 33 = .ok (.iinc 2 1, 3) := dk_132 2 1 (dk_at dksX2_be_1 9 rfl rfl)
theorem dX2_be_36 : decode cX2_be 36 = .ok (.goto (-26), 3) := dk_167 255 230 (dk_at dksX2_be_1 12 rfl rfl)
theorem dX2_be_39 : decode cX2_be 39 = .ok (.aload_n 0, 1) := dk_42 (dk_at dksX2_be_1 15 rfl rfl)
theorem dX2_be_40 : decode cX2_be 40 = .ok (.getfield 20, 3) := dk_180 0 20 (dk_at dksX2_be_1 16 rfl rfl)
theorem dX2_be_43 : decode cX2_be 43 = .ok (.invokevirtual 57, 3) := dk_182 0 57 (dk_at dksX2_be_1 19 rfl rfl)
theorem dX2_be_46 : decode cX2_be 46 = .ok (.aload_n 1, 1) := dk_43 (dk_at dksX2_be_1 22 rfl rfl)
theorem dX2_be_47 : decode cX2_be 47 = .ok (.getfield 20, 3) := dk_180 0 20 (dk_at dksX2_be_2 0 rfl rfl)
theorem dX2_be_50 : decode cX2_be 50 = .ok (.invokevirtual 60, 3) := dk_182 0 60 (dk_at dksX2_be_2 3 rfl rfl)
theorem dX2_be_53 : decode cX2_be 53 = .ok (.astore_n 2, 1) := dk_77 (dk_at dksX2_be_2 6 rfl rfl)
theorem dX2_be_54 : decode cX2_be 54 = .ok (.aload_n 2, 1) := dk_44 (dk_at dksX2_be_2 7 rfl rfl)
theorem dX2_be_55 : decode cX2_be 55 = .ok (.invokeinterface 64 1, 5) := by decide +kernel
theorem dX2_be_60 : decode cX2_be 60 = .ok (.ifCond .eq 24, 3) := dk_153 0 24 (dk_at dksX2_be_2 13 rfl rfl)
theorem dX2_be_63 : decode cX2_be 63 = .ok (.aload_n 2, 1) := dk_44 (dk_at dksX2_be_2 16 rfl rfl)
theorem dX2_be_64 : decode cX2_be 64 = .ok (.invokeinterface 70 1, 5) := by decide +kernel
theorem dX2_be_69 : decode cX2_be 69 = .ok (.checkcast 74, 3) := dk_192 0 74 (dk_at dksX2_be_3 0 rfl rfl)
theorem dX2_be_72 : decode cX2_be 72 = .ok (.astore_n 3, 1) := dk_78 (dk_at dksX2_be_3 3 rfl rfl)
theorem dX2_be_73 : decode cX2_be 73 = .ok (.aload_n 0, 1) := dk_42 (dk_at dksX2_be_3 4 rfl rfl)
theorem dX2_be_74 : decode cX2_be 74 = .ok (.getfield 20, 3) := dk_180 0 20 (dk_at dksX2_be_3 5 rfl rfl)
theorem dX2_be_77 : decode cX2_be 77 = .ok (.aload_n 3, 1) := dk_45 (dk_at dksX2_be_3 8 rfl rfl)
theorem dX2_be_78 : decode cX2_be 78 = .ok (.invokevirtual 76, 3) := dk_182 0 76 (dk_at dksX2_be_3 9 rfl rfl)
theorem dX2_be_81 : decode cX2_be 81 = .ok (.goto (-27), 3) := dk_167 255 229 (dk_at dksX2_be_3 12 rfl rfl)
theorem dX2_be_84 : decode cX2_be 84 = .ok (.aload_n 0, 1) := dk_42 (dk_at dksX2_be_3 15 rfl rfl)
theorem dX2_be_85 : decode cX2_be 85 = .ok (.getfield 24, 3) := dk_180 0 24 (dk_at dksX2_be_3 16 rfl rfl)
theorem dX2_be_88 : decode cX2_be 88 = .ok (.invokevirtual 57, 3) := dk_182 0 57 (dk_at dksX2_be_3 19 rfl rfl)
theorem dX2_be_91 : decode cX2_be 91 = .ok (.aload_n 1, 1) := dk_43 (dk_at dksX2_be_3 22 rfl rfl)
theorem dX2_be_92 : decode cX2_be 92 = .ok (.getfield 24, 3) := dk_180 0 24 (dk_at dksX2_be_4 0 rfl rfl)
theorem dX2_be_95 : decode cX2_be 95 = .ok (.invokevirtual 60, 3) := dk_182 0 60 (dk_at dksX2_be_4 3 rfl rfl)
theorem dX2_be_98 : decode cX2_be 98 = .ok (.astore_n 2, 1) := dk_77 (dk_at dksX2_be_4 6 rfl rfl)
theorem dX2_be_99 : decode cX2_be 99 = .ok (.aload_n 2, 1) := dk_44 (dk_at dksX2_be_4 7 rfl rfl)
theorem dX2_be_100 : decode cX2_be 100 = .ok (.invokeinterface 64 1, 5) := by decide +kernel
theorem dX2_be_105 : decode cX2_be 105 = .ok (.ifCond .eq 24, 3) := dk_153 0 24 (dk_at dksX2_be_4 13 rfl rfl)
theorem dX2_be_108 : decode cX2_be 108 = .ok (.aload_n 2, 1) := dk_44 (dk_at dksX2_be_4 16 rfl rfl)
theorem dX2_be_109 : decode cX2_be 109 = .ok (.invokeinterface 70 1, 5) := by decide +kernel
theorem dX2_be_114 : decode cX2_be 114 = .ok (.checkcast 80, 3) := dk_192 0 80 (dk_at dksX2_be_5 0 rfl rfl)
theorem dX2_be_117 : decode cX2_be 117 = .ok (.astore_n 3, 1) := dk_78 (dk_at dksX2_be_5 3 rfl rfl)
theorem dX2_be_118 : decode cX2_be 118 = .ok (.aload_n 0, 1) := dk_42 (dk_at dksX2_be_5 4 rfl rfl)
theorem dX2_be_119 : decode cX2_be 119 = .ok (.getfield 24, 3) := dk_180 0 24 (dk_at dksX2_be_5 5 rfl rfl)
theorem dX2_be_122 : decode cX2_be 122 = .ok (.aload_n 3, 1) := dk_45 (dk_at dksX2_be_5 8 rfl rfl)
theorem dX2_be_123 : decode cX2_be 123 = .ok (.invokevirtual 76, 3) := dk_182 0 76 (dk_at dksX2_be_5 9 rfl rfl)
theorem dX2_be_126 : decode cX2_be 126 = .ok (.goto (-27), 3) := dk_167 255 229 (dk_at dksX2_be_5 12 rfl rfl)
theorem dX2_be_129 : decode cX2_be 129 = .ok (.aload_n 1, 1) := dk_43 (dk_at dksX2_be_5 15 rfl rfl)
theorem dX2_be_130 : decode cX2_be 130 = .ok (.getfield 27, 3) := dk_180 0 27 (dk_at dksX2_be_5 16 rfl rfl)
theorem dX2_be_133 : decode cX2_be 133 = .ok (.iconst 0, 1) := dk_3 (dk_at dksX2_be_5 19 rfl rfl)
theorem dX2_be_134 : decode cX2_be 134 = .ok (.aload_n 0, 1) := dk_42 (dk_at dksX2_be_5 20 rfl rfl)
theorem dX2_be_135 : decode cX2_be 135 = .ok (.getfield 27, 3) := dk_180 0 27 (dk_at dksX2_be_5 21 rfl rfl)
theorem dX2_be_138 : decode cX2_be 138 = .ok (.iconst 0, 1) := dk_3 (dk_at dksX2_be_6 0 rfl rfl)
theorem dX2_be_139 : decode cX2_be 139 = .ok (.bipush 10, 2) := dk_16 10 (dk_at dksX2_be_6 1 rfl rfl)
theorem dX2_be_141 : decode cX2_be 141 = .ok (.invokestatic 82, 3) := dk_184 0 82 (dk_at dksX2_be_6 3 rfl rfl)
theorem dX2_be_144 : decode cX2_be 144 = .ok (.aload_n 0, 1) := dk_42 (dk_at dksX2_be_6 6 rfl rfl)
theorem dX2_be_145 : decode cX2_be 145 = .ok (.aload_n 1, 1) := dk_43 (dk_at dksX2_be_6 7 rfl rfl)
theorem dX2_be_146 : decode cX2_be 146 = .ok (.invokevirtual 88, 3) := dk_182 0 88 (dk_at dksX2_be_6 8 rfl rfl)
theorem dX2_be_149 : decode cX2_be 149 = .ok (.aload_n 1, 1) := dk_43 (dk_at dksX2_be_6 11 rfl rfl)
theorem dX2_be_150 : decode cX2_be 150 = .ok (.getfield 40, 3) := dk_180 0 40 (dk_at dksX2_be_6 12 rfl rfl)
theorem dX2_be_153 : decode cX2_be 153 = .ok (.iconst 0, 1) := dk_3 (dk_at dksX2_be_6 15 rfl rfl)
theorem dX2_be_154 : decode cX2_be 154 = .ok (.aload_n 0, 1) := dk_42 (dk_at dksX2_be_6 16 rfl rfl)
theorem dX2_be_155 : decode cX2_be 155 = .ok (.getfield 40, 3) := dk_180 0 40 (dk_at dksX2_be_6 17 rfl rfl)
theorem dX2_be_158 : decode cX2_be 158 = .ok (.iconst 0, 1) := dk_3 (dk_at dksX2_be_6 20 rfl rfl)
theorem dX2_be_159 : decode cX2_be 159 = .ok (.iconst 4, 1) := dk_7 (dk_at dksX2_be_6 21 rfl rfl)
theorem dX2_be_160 : decode cX2_be 160 = .ok (.invokestatic 82, 3) := dk_184 0 82 (dk_at dksX2_be_7 0 rfl rfl)
theorem dX2_be_163 : decode cX2_be 163 = .ok (.aload_n 0, 1) := dk_42 (dk_at dksX2_be_7 3 rfl rfl)
theorem dX2_be_164 : decode cX2_be 164 = .ok (.aload_n 1, 1) := dk_43 (dk_at dksX2_be_7 4 rfl rfl)
theorem dX2_be_165 : decode cX2_be 165 = .ok (.getfield 43, 3) := dk_180 0 43 (dk_at dksX2_be_7 5 rfl rfl)
theorem dX2_be_168 : decode cX2_be 168 = .ok (.putfield 43, 3) := dk_181 0 43 (dk_at dksX2_be_7 8 rfl rfl)
theorem dX2_be_171 : decode cX2_be 171 = .ok (.aload_n 0, 1) := dk_42 (dk_at dksX2_be_7 11 rfl rfl)
theorem dX2_be_172 : decode cX2_be 172 = .ok (.aload_n 1, 1) := dk_43 (dk_at dksX2_be_7 12 rfl rfl)
theorem dX2_be_173 : decode cX2_be 173 = .ok (.getfield 92, 3) := dk_180 0 92 (dk_at dksX2_be_7 13 rfl rfl)
theorem dX2_be_176 : decode cX2_be 176 = .ok (.putfield 92, 3) := dk_181 0 92 (dk_at dksX2_be_7 16 rfl rfl)
theorem dX2_be_179 : decode cX2_be 179 = .ok (.aload_n 0, 1) := dk_42 (dk_at dksX2_be_7 19 rfl rfl)
theorem dX2_be_180 : decode cX2_be 180 = .ok (.aload_n 1, 1) := dk_43 (dk_at dksX2_be_7 20 rfl rfl)
theorem dX2_be_181 : decode cX2_be 181 = .ok (.getfield 95, 3) := dk_180 0 95 (dk_at dksX2_be_7 21 rfl rfl)
theorem dX2_be_184 : decode cX2_be 184 = .ok (.putfield 95, 3) := dk_181 0 95 (dk_at dksX2_be_8 0 rfl rfl)
theorem dX2_be_187 : decode cX2_be 187 = .ok (.aload_n 0, 1) := dk_42 (dk_at dksX2_be_8 3 rfl rfl)
theorem dX2_be_188 : decode cX2_be 188 = .ok (.aload_n 1, 1) := dk_43 (dk_at dksX2_be_8 4 rfl rfl)
theorem dX2_be_189 : decode cX2_be 189 = .ok (.getfield 98, 3) := dk_180 0 98 (dk_at dksX2_be_8 5 rfl rfl)
theorem dX2_be_192 : decode cX2_be 192 = .ok (.putfield 98, 3) := dk_181 0 98 (dk_at dksX2_be_8 8 rfl rfl)
theorem dX2_be_195 : decode cX2_be 195 = .ok (.aload_n 0, 1) := dk_42 (dk_at dksX2_be_8 11 rfl rfl)
theorem dX2_be_196 : decode cX2_be 196 = .ok (.iconst 0, 1) := dk_3 (dk_at dksX2_be_8 12 rfl rfl)
theorem dX2_be_197 : decode cX2_be 197 = .ok (.putfield 101, 3) := dk_181 0 101 (dk_at dksX2_be_8 13 rfl rfl)
theorem dX2_be_200 : decode cX2_be 200 = .ok (.aload_n 0, 1) := dk_42 (dk_at dksX2_be_8 16 rfl rfl)
theorem dX2_be_201 : decode cX2_be 201 = .ok (.iconst 0, 1) := dk_3 (dk_at dksX2_be_8 17 rfl rfl)
theorem dX2_be_202 : decode cX2_be 202 = .ok (.putfield 104, 3) := dk_181 0 104 (dk_at dksX2_be_8 18 rfl rfl)
theorem dX2_be_205 : decode cX2_be 205 = .ok (.return_, 1) := dk_177 (dk_at dksX2_be_8 21 rfl rfl)
abbrev cX2_beTurns : ByteArray := prog_3_method_3_code
def yX2_beTurns : MethodName := ⟨RX2, "beTurns", "(LQueueDrive$Drive;)V"⟩
def dkwX2_beTurns_1 : List UInt8 := [7, 184, 0, 82, 43, 180, 0, 37, 3, 42, 180, 0, 37, 3, 7, 184, 0, 82, 177]
abbrev dktX2_beTurns_1 : List UInt8 := dkwX2_beTurns_1 ++ []
def dkwX2_beTurns_0 : List UInt8 := [43, 180, 0, 31, 3, 42, 180, 0, 31, 3, 7, 184, 0, 82, 43, 180, 0, 34, 3, 42, 180, 0, 34, 3]
abbrev dktX2_beTurns_0 : List UInt8 := dkwX2_beTurns_0 ++ dktX2_beTurns_1
theorem dksX2_beTurns_0 : cX2_beTurns.data.toList.drop 0 = dktX2_beTurns_0 := by decide +kernel
theorem dksX2_beTurns_1 : cX2_beTurns.data.toList.drop 24 = dktX2_beTurns_1 := dk_seg dksX2_beTurns_0 24 rfl rfl
theorem dX2_beTurns_0 : decode cX2_beTurns 0 = .ok (.aload_n 1, 1) := dk_43 (dk_at dksX2_beTurns_0 0 rfl rfl)
theorem dX2_beTurns_1 : decode cX2_beTurns 1 = .ok (.getfield 31, 3) := dk_180 0 31 (dk_at dksX2_beTurns_0 1 rfl rfl)
theorem dX2_beTurns_4 : decode cX2_beTurns 4 = .ok (.iconst 0, 1) := dk_3 (dk_at dksX2_beTurns_0 4 rfl rfl)
theorem dX2_beTurns_5 : decode cX2_beTurns 5 = .ok (.aload_n 0, 1) := dk_42 (dk_at dksX2_beTurns_0 5 rfl rfl)
theorem dX2_beTurns_6 : decode cX2_beTurns 6 = .ok (.getfield 31, 3) := dk_180 0 31 (dk_at dksX2_beTurns_0 6 rfl rfl)
theorem dX2_beTurns_9 : decode cX2_beTurns 9 = .ok (.iconst 0, 1) := dk_3 (dk_at dksX2_beTurns_0 9 rfl rfl)
theorem dX2_beTurns_10 : decode cX2_beTurns 10 = .ok (.iconst 4, 1) := dk_7 (dk_at dksX2_beTurns_0 10 rfl rfl)
theorem dX2_beTurns_11 : decode cX2_beTurns 11 = .ok (.invokestatic 82, 3) := dk_184 0 82 (dk_at dksX2_beTurns_0 11 rfl rfl)
theorem dX2_beTurns_14 : decode cX2_beTurns 14 = .ok (.aload_n 1, 1) := dk_43 (dk_at dksX2_beTurns_0 14 rfl rfl)
theorem dX2_beTurns_15 : decode cX2_beTurns 15 = .ok (.getfield 34, 3) := dk_180 0 34 (dk_at dksX2_beTurns_0 15 rfl rfl)
theorem dX2_beTurns_18 : decode cX2_beTurns 18 = .ok (.iconst 0, 1) := dk_3 (dk_at dksX2_beTurns_0 18 rfl rfl)
theorem dX2_beTurns_19 : decode cX2_beTurns 19 = .ok (.aload_n 0, 1) := dk_42 (dk_at dksX2_beTurns_0 19 rfl rfl)
theorem dX2_beTurns_20 : decode cX2_beTurns 20 = .ok (.getfield 34, 3) := dk_180 0 34 (dk_at dksX2_beTurns_0 20 rfl rfl)
theorem dX2_beTurns_23 : decode cX2_beTurns 23 = .ok (.iconst 0, 1) := dk_3 (dk_at dksX2_beTurns_0 23 rfl rfl)
theorem dX2_beTurns_24 : decode cX2_beTurns 24 = .ok (.iconst 4, 1) := dk_7 (dk_at dksX2_beTurns_1 0 rfl rfl)
theorem dX2_beTurns_25 : decode cX2_beTurns 25 = .ok (.invokestatic 82, 3) := dk_184 0 82 (dk_at dksX2_beTurns_1 1 rfl rfl)
theorem dX2_beTurns_28 : decode cX2_beTurns 28 = .ok (.aload_n 1, 1) := dk_43 (dk_at dksX2_beTurns_1 4 rfl rfl)
theorem dX2_beTurns_29 : decode cX2_beTurns 29 = .ok (.getfield 37, 3) := dk_180 0 37 (dk_at dksX2_beTurns_1 5 rfl rfl)
theorem dX2_beTurns_32 : decode cX2_beTurns 32 = .ok (.iconst 0, 1) := dk_3 (dk_at dksX2_beTurns_1 8 rfl rfl)
theorem dX2_beTurns_33 : decode cX2_beTurns 33 = .ok (.aload_n 0, 1) := dk_42 (dk_at dksX2_beTurns_1 9 rfl rfl)
theorem dX2_beTurns_34 : decode cX2_beTurns 34 = .ok (.getfield 37, 3) := dk_180 0 37 (dk_at dksX2_beTurns_1 10 rfl rfl)
theorem dX2_beTurns_37 : decode cX2_beTurns 37 = .ok (.iconst 0, 1) := dk_3 (dk_at dksX2_beTurns_1 13 rfl rfl)
theorem dX2_beTurns_38 : decode cX2_beTurns 38 = .ok (.iconst 4, 1) := dk_7 (dk_at dksX2_beTurns_1 14 rfl rfl)
theorem dX2_beTurns_39 : decode cX2_beTurns 39 = .ok (.invokestatic 82, 3) := dk_184 0 82 (dk_at dksX2_beTurns_1 15 rfl rfl)
theorem dX2_beTurns_42 : decode cX2_beTurns 42 = .ok (.return_, 1) := dk_177 (dk_at dksX2_beTurns_1 18 rfl rfl)
abbrev cX2_ringUp : ByteArray := prog_3_method_18_code
def yX2_ringUp : MethodName := ⟨RX2, "ringUp", "(LQueueDrive$Line;)I"⟩
def dkwX2_ringUp_2 : List UInt8 := [181, 0, 95, 43, 43, 180, 0, 240, 181, 0, 243, 43, 43, 180, 0, 234, 181, 0, 237, 4, 172]
abbrev dktX2_ringUp_2 : List UInt8 := dkwX2_ringUp_2 ++ []
def dkwX2_ringUp_1 : List UInt8 := [154, 0, 15, 42, 89, 180, 0, 98, 4, 96, 181, 0, 98, 3, 172, 42, 89, 180, 0, 95, 4, 96]
abbrev dktX2_ringUp_1 : List UInt8 := dkwX2_ringUp_1 ++ dktX2_ringUp_2
def dkwX2_ringUp_0 : List UInt8 := [43, 182, 1, 7, 61, 28, 16, 254, 160, 0, 5, 28, 172, 43, 43, 180, 1, 10, 181, 0, 240, 28]
abbrev dktX2_ringUp_0 : List UInt8 := dkwX2_ringUp_0 ++ dktX2_ringUp_1
theorem dksX2_ringUp_0 : cX2_ringUp.data.toList.drop 0 = dktX2_ringUp_0 := by decide +kernel
theorem dksX2_ringUp_1 : cX2_ringUp.data.toList.drop 22 = dktX2_ringUp_1 := dk_seg dksX2_ringUp_0 22 rfl rfl
theorem dksX2_ringUp_2 : cX2_ringUp.data.toList.drop 44 = dktX2_ringUp_2 := dk_seg dksX2_ringUp_1 22 rfl rfl
theorem dX2_ringUp_0 : decode cX2_ringUp 0 = .ok (.aload_n 1, 1) := dk_43 (dk_at dksX2_ringUp_0 0 rfl rfl)
theorem dX2_ringUp_1 : decode cX2_ringUp 1 = .ok (.invokevirtual 263, 3) := dk_182 1 7 (dk_at dksX2_ringUp_0 1 rfl rfl)
theorem dX2_ringUp_4 : decode cX2_ringUp 4 = .ok (.istore_n 2, 1) := dk_61 (dk_at dksX2_ringUp_0 4 rfl rfl)
theorem dX2_ringUp_5 : decode cX2_ringUp 5 = .ok (.iload_n 2, 1) := dk_28 (dk_at dksX2_ringUp_0 5 rfl rfl)
theorem dX2_ringUp_6 : decode cX2_ringUp 6 = .ok (.bipush (-2), 2) := dk_16 254 (dk_at dksX2_ringUp_0 6 rfl rfl)
theorem dX2_ringUp_8 : decode cX2_ringUp 8 = .ok (.if_icmp .ne 5, 3) := dk_160 0 5 (dk_at dksX2_ringUp_0 8 rfl rfl)
theorem dX2_ringUp_11 : decode cX2_ringUp 11 = .ok (.iload_n 2, 1) := dk_28 (dk_at dksX2_ringUp_0 11 rfl rfl)
theorem dX2_ringUp_12 : decode cX2_ringUp 12 = .ok (.ireturn, 1) := dk_172 (dk_at dksX2_ringUp_0 12 rfl rfl)
theorem dX2_ringUp_13 : decode cX2_ringUp 13 = .ok (.aload_n 1, 1) := dk_43 (dk_at dksX2_ringUp_0 13 rfl rfl)
theorem dX2_ringUp_14 : decode cX2_ringUp 14 = .ok (.aload_n 1, 1) := dk_43 (dk_at dksX2_ringUp_0 14 rfl rfl)
theorem dX2_ringUp_15 : decode cX2_ringUp 15 = .ok (.getfield 266, 3) := dk_180 1 10 (dk_at dksX2_ringUp_0 15 rfl rfl)
theorem dX2_ringUp_18 : decode cX2_ringUp 18 = .ok (.putfield 240, 3) := dk_181 0 240 (dk_at dksX2_ringUp_0 18 rfl rfl)
theorem dX2_ringUp_21 : decode cX2_ringUp 21 = .ok (.iload_n 2, 1) := dk_28 (dk_at dksX2_ringUp_0 21 rfl rfl)
theorem dX2_ringUp_22 : decode cX2_ringUp 22 = .ok (.ifCond .ne 15, 3) := dk_154 0 15 (dk_at dksX2_ringUp_1 0 rfl rfl)
theorem dX2_ringUp_25 : decode cX2_ringUp 25 = .ok (.aload_n 0, 1) := dk_42 (dk_at dksX2_ringUp_1 3 rfl rfl)
theorem dX2_ringUp_26 : decode cX2_ringUp 26 = .ok (.dup, 1) := dk_89 (dk_at dksX2_ringUp_1 4 rfl rfl)
theorem dX2_ringUp_27 : decode cX2_ringUp 27 = .ok (.getfield 98, 3) := dk_180 0 98 (dk_at dksX2_ringUp_1 5 rfl rfl)
theorem dX2_ringUp_30 : decode cX2_ringUp 30 = .ok (.iconst 1, 1) := dk_4 (dk_at dksX2_ringUp_1 8 rfl rfl)
theorem dX2_ringUp_31 : decode cX2_ringUp 31 = .ok (.iadd, 1) := dk_96 (dk_at dksX2_ringUp_1 9 rfl rfl)
theorem dX2_ringUp_32 : decode cX2_ringUp 32 = .ok (.putfield 98, 3) := dk_181 0 98 (dk_at dksX2_ringUp_1 10 rfl rfl)
theorem dX2_ringUp_35 : decode cX2_ringUp 35 = .ok (.iconst 0, 1) := dk_3 (dk_at dksX2_ringUp_1 13 rfl rfl)
theorem dX2_ringUp_36 : decode cX2_ringUp 36 = .ok (.ireturn, 1) := dk_172 (dk_at dksX2_ringUp_1 14 rfl rfl)
theorem dX2_ringUp_37 : decode cX2_ringUp 37 = .ok (.aload_n 0, 1) := dk_42 (dk_at dksX2_ringUp_1 15 rfl rfl)
theorem dX2_ringUp_38 : decode cX2_ringUp 38 = .ok (.dup, 1) := dk_89 (dk_at dksX2_ringUp_1 16 rfl rfl)
theorem dX2_ringUp_39 : decode cX2_ringUp 39 = .ok (.getfield 95, 3) := dk_180 0 95 (dk_at dksX2_ringUp_1 17 rfl rfl)
theorem dX2_ringUp_42 : decode cX2_ringUp 42 = .ok (.iconst 1, 1) := dk_4 (dk_at dksX2_ringUp_1 20 rfl rfl)
theorem dX2_ringUp_43 : decode cX2_ringUp 43 = .ok (.iadd, 1) := dk_96 (dk_at dksX2_ringUp_1 21 rfl rfl)
theorem dX2_ringUp_44 : decode cX2_ringUp 44 = .ok (.putfield 95, 3) := dk_181 0 95 (dk_at dksX2_ringUp_2 0 rfl rfl)
theorem dX2_ringUp_47 : decode cX2_ringUp 47 = .ok (.aload_n 1, 1) := dk_43 (dk_at dksX2_ringUp_2 3 rfl rfl)
theorem dX2_ringUp_48 : decode cX2_ringUp 48 = .ok (.aload_n 1, 1) := dk_43 (dk_at dksX2_ringUp_2 4 rfl rfl)
theorem dX2_ringUp_49 : decode cX2_ringUp 49 = .ok (.getfield 240, 3) := dk_180 0 240 (dk_at dksX2_ringUp_2 5 rfl rfl)
theorem dX2_ringUp_52 : decode cX2_ringUp 52 = .ok (.putfield 243, 3) := dk_181 0 243 (dk_at dksX2_ringUp_2 8 rfl rfl)
theorem dX2_ringUp_55 : decode cX2_ringUp 55 = .ok (.aload_n 1, 1) := dk_43 (dk_at dksX2_ringUp_2 11 rfl rfl)
theorem dX2_ringUp_56 : decode cX2_ringUp 56 = .ok (.aload_n 1, 1) := dk_43 (dk_at dksX2_ringUp_2 12 rfl rfl)
theorem dX2_ringUp_57 : decode cX2_ringUp 57 = .ok (.getfield 234, 3) := dk_180 0 234 (dk_at dksX2_ringUp_2 13 rfl rfl)
theorem dX2_ringUp_60 : decode cX2_ringUp 60 = .ok (.putfield 237, 3) := dk_181 0 237 (dk_at dksX2_ringUp_2 16 rfl rfl)
theorem dX2_ringUp_63 : decode cX2_ringUp 63 = .ok (.iconst 1, 1) := dk_4 (dk_at dksX2_ringUp_2 19 rfl rfl)
theorem dX2_ringUp_64 : decode cX2_ringUp 64 = .ok (.ireturn, 1) := dk_172 (dk_at dksX2_ringUp_2 20 rfl rfl)
abbrev cX2_goTick : ByteArray := prog_3_method_17_code
def yX2_goTick : MethodName := ⟨RX2, "goTick", "(LQueueDrive$Rule;)V"⟩
def dkwX2_goTick_2 : List UInt8 := [96, 181, 0, 92, 177]
abbrev dktX2_goTick_2 : List UInt8 := dkwX2_goTick_2 ++ []
def dkwX2_goTick_1 : List UInt8 := [162, 0, 18, 42, 182, 1, 2, 153, 0, 11, 42, 43, 182, 1, 3, 167, 255, 230, 42, 89, 180, 0, 92, 4]
abbrev dktX2_goTick_1 : List UInt8 := dkwX2_goTick_1 ++ dktX2_goTick_2
def dkwX2_goTick_0 : List UInt8 := [42, 182, 0, 249, 42, 182, 0, 252, 42, 182, 0, 255, 42, 180, 0, 20, 182, 0, 205, 42, 180, 0, 43]
abbrev dktX2_goTick_0 : List UInt8 := dkwX2_goTick_0 ++ dktX2_goTick_1
theorem dksX2_goTick_0 : cX2_goTick.data.toList.drop 0 = dktX2_goTick_0 := by decide +kernel
theorem dksX2_goTick_1 : cX2_goTick.data.toList.drop 23 = dktX2_goTick_1 := dk_seg dksX2_goTick_0 23 rfl rfl
theorem dksX2_goTick_2 : cX2_goTick.data.toList.drop 47 = dktX2_goTick_2 := dk_seg dksX2_goTick_1 24 rfl rfl
theorem dX2_goTick_0 : decode cX2_goTick 0 = .ok (.aload_n 0, 1) := dk_42 (dk_at dksX2_goTick_0 0 rfl rfl)
theorem dX2_goTick_1 : decode cX2_goTick 1 = .ok (.invokevirtual 249, 3) := dk_182 0 249 (dk_at dksX2_goTick_0 1 rfl rfl)
theorem dX2_goTick_4 : decode cX2_goTick 4 = .ok (.aload_n 0, 1) := dk_42 (dk_at dksX2_goTick_0 4 rfl rfl)
theorem dX2_goTick_5 : decode cX2_goTick 5 = .ok (.invokevirtual 252, 3) := dk_182 0 252 (dk_at dksX2_goTick_0 5 rfl rfl)
theorem dX2_goTick_8 : decode cX2_goTick 8 = .ok (.aload_n 0, 1) := dk_42 (dk_at dksX2_goTick_0 8 rfl rfl)
theorem dX2_goTick_9 : decode cX2_goTick 9 = .ok (.invokevirtual 255, 3) := dk_182 0 255 (dk_at dksX2_goTick_0 9 rfl rfl)
theorem dX2_goTick_12 : decode cX2_goTick 12 = .ok (.aload_n 0, 1) := dk_42 (dk_at dksX2_goTick_0 12 rfl rfl)
theorem dX2_goTick_13 : decode cX2_goTick 13 = .ok (.getfield 20, 3) := dk_180 0 20 (dk_at dksX2_goTick_0 13 rfl rfl)
theorem dX2_goTick_16 : decode cX2_goTick 16 = .ok (.invokevirtual 205, 3) := dk_182 0 205 (dk_at dksX2_goTick_0 16 rfl rfl)
theorem dX2_goTick_19 : decode cX2_goTick 19 = .ok (.aload_n 0, 1) := dk_42 (dk_at dksX2_goTick_0 19 rfl rfl)
theorem dX2_goTick_20 : decode cX2_goTick 20 = .ok (.getfield 43, 3) := dk_180 0 43 (dk_at dksX2_goTick_0 20 rfl rfl)
theorem dX2_goTick_23 : decode cX2_goTick 23 = .ok (.if_icmp .ge 18, 3) := dk_162 0 18 (dk_at dksX2_goTick_1 0 rfl rfl)
theorem dX2_goTick_26 : decode cX2_goTick 26 = .ok (.aload_n 0, 1) := dk_42 (dk_at dksX2_goTick_1 3 rfl rfl)
theorem dX2_goTick_27 : decode cX2_goTick 27 = .ok (.invokevirtual 258, 3) := dk_182 1 2 (dk_at dksX2_goTick_1 4 rfl rfl)
theorem dX2_goTick_30 : decode cX2_goTick 30 = .ok (.ifCond .eq 11, 3) := dk_153 0 11 (dk_at dksX2_goTick_1 7 rfl rfl)
theorem dX2_goTick_33 : decode cX2_goTick 33 = .ok (.aload_n 0, 1) := dk_42 (dk_at dksX2_goTick_1 10 rfl rfl)
theorem dX2_goTick_34 : decode cX2_goTick 34 = .ok (.aload_n 1, 1) := dk_43 (dk_at dksX2_goTick_1 11 rfl rfl)
theorem dX2_goTick_35 : decode cX2_goTick 35 = .ok (.invokevirtual 259, 3) := dk_182 1 3 (dk_at dksX2_goTick_1 12 rfl rfl)
theorem dX2_goTick_38 : decode cX2_goTick 38 = .ok (.goto (-26), 3) := dk_167 255 230 (dk_at dksX2_goTick_1 15 rfl rfl)
theorem dX2_goTick_41 : decode cX2_goTick 41 = .ok (.aload_n 0, 1) := dk_42 (dk_at dksX2_goTick_1 18 rfl rfl)
theorem dX2_goTick_42 : decode cX2_goTick 42 = .ok (.dup, 1) := dk_89 (dk_at dksX2_goTick_1 19 rfl rfl)
theorem dX2_goTick_43 : decode cX2_goTick 43 = .ok (.getfield 92, 3) := dk_180 0 92 (dk_at dksX2_goTick_1 20 rfl rfl)
theorem dX2_goTick_46 : decode cX2_goTick 46 = .ok (.iconst 1, 1) := dk_4 (dk_at dksX2_goTick_1 23 rfl rfl)
theorem dX2_goTick_47 : decode cX2_goTick 47 = .ok (.iadd, 1) := dk_96 (dk_at dksX2_goTick_2 0 rfl rfl)
theorem dX2_goTick_48 : decode cX2_goTick 48 = .ok (.putfield 92, 3) := dk_181 0 92 (dk_at dksX2_goTick_2 1 rfl rfl)
theorem dX2_goTick_51 : decode cX2_goTick 51 = .ok (.return_, 1) := dk_177 (dk_at dksX2_goTick_2 4 rfl rfl)
abbrev cX2_run : ByteArray := prog_3_method_14_code
def yX2_run : MethodName := ⟨RX2, "run", "()V"⟩
def dkwX2_run_2 : List UInt8 := [167, 0, 8, 42, 45, 182, 0, 217, 132, 2, 1, 167, 255, 211, 177]
abbrev dktX2_run_2 : List UInt8 := dkwX2_run_2 ++ []
def dkwX2_run_1 : List UInt8 := [192, 0, 74, 182, 0, 210, 78, 45, 180, 0, 214, 158, 0, 14, 42, 180, 0, 20, 45, 182, 0, 76]
abbrev dktX2_run_1 : List UInt8 := dkwX2_run_1 ++ dktX2_run_2
def dkwX2_run_0 : List UInt8 := [42, 180, 0, 20, 182, 0, 205, 60, 3, 61, 28, 27, 162, 0, 46, 42, 180, 0, 20, 182, 0, 209]
abbrev dktX2_run_0 : List UInt8 := dkwX2_run_0 ++ dktX2_run_1
theorem dksX2_run_0 : cX2_run.data.toList.drop 0 = dktX2_run_0 := by decide +kernel
theorem dksX2_run_1 : cX2_run.data.toList.drop 22 = dktX2_run_1 := dk_seg dksX2_run_0 22 rfl rfl
theorem dksX2_run_2 : cX2_run.data.toList.drop 44 = dktX2_run_2 := dk_seg dksX2_run_1 22 rfl rfl
theorem dX2_run_0 : decode cX2_run 0 = .ok (.aload_n 0, 1) := dk_42 (dk_at dksX2_run_0 0 rfl rfl)
theorem dX2_run_1 : decode cX2_run 1 = .ok (.getfield 20, 3) := dk_180 0 20 (dk_at dksX2_run_0 1 rfl rfl)
theorem dX2_run_4 : decode cX2_run 4 = .ok (.invokevirtual 205, 3) := dk_182 0 205 (dk_at dksX2_run_0 4 rfl rfl)
theorem dX2_run_7 : decode cX2_run 7 = .ok (.istore_n 1, 1) := dk_60 (dk_at dksX2_run_0 7 rfl rfl)
theorem dX2_run_8 : decode cX2_run 8 = .ok (.iconst 0, 1) := dk_3 (dk_at dksX2_run_0 8 rfl rfl)
theorem dX2_run_9 : decode cX2_run 9 = .ok (.istore_n 2, 1) := dk_61 (dk_at dksX2_run_0 9 rfl rfl)
theorem dX2_run_10 : decode cX2_run 10 = .ok (.iload_n 2, 1) := dk_28 (dk_at dksX2_run_0 10 rfl rfl)
theorem dX2_run_11 : decode cX2_run 11 = .ok (.iload_n 1, 1) := dk_27 (dk_at dksX2_run_0 11 rfl rfl)
theorem dX2_run_12 : decode cX2_run 12 = .ok (.if_icmp .ge 46, 3) := dk_162 0 46 (dk_at dksX2_run_0 12 rfl rfl)
theorem dX2_run_15 : decode cX2_run 15 = .ok (.aload_n 0, 1) := dk_42 (dk_at dksX2_run_0 15 rfl rfl)
theorem dX2_run_16 : decode cX2_run 16 = .ok (.getfield 20, 3) := dk_180 0 20 (dk_at dksX2_run_0 16 rfl rfl)
theorem dX2_run_19 : decode cX2_run 19 = .ok (.invokevirtual 209, 3) := dk_182 0 209 (dk_at dksX2_run_0 19 rfl rfl)
theorem dX2_run_22 : decode cX2_run 22 = .ok (.checkcast 74, 3) := dk_192 0 74 (dk_at dksX2_run_1 0 rfl rfl)
theorem dX2_run_25 : decode cX2_run 25 = .ok (.invokevirtual 210, 3) := dk_182 0 210 (dk_at dksX2_run_1 3 rfl rfl)
theorem dX2_run_28 : decode cX2_run 28 = .ok (.astore_n 3, 1) := dk_78 (dk_at dksX2_run_1 6 rfl rfl)
theorem dX2_run_29 : decode cX2_run 29 = .ok (.aload_n 3, 1) := dk_45 (dk_at dksX2_run_1 7 rfl rfl)
theorem dX2_run_30 : decode cX2_run 30 = .ok (.getfield 214, 3) := dk_180 0 214 (dk_at dksX2_run_1 8 rfl rfl)
theorem dX2_run_33 : decode cX2_run 33 = .ok (.ifCond .le 14, 3) := dk_158 0 14 (dk_at dksX2_run_1 11 rfl rfl)
theorem dX2_run_36 : decode cX2_run 36 = .ok (.aload_n 0, 1) := dk_42 (dk_at dksX2_run_1 14 rfl rfl)
theorem dX2_run_37 : decode cX2_run 37 = .ok (.getfield 20, 3) := dk_180 0 20 (dk_at dksX2_run_1 15 rfl rfl)
theorem dX2_run_40 : decode cX2_run 40 = .ok (.aload_n 3, 1) := dk_45 (dk_at dksX2_run_1 18 rfl rfl)
theorem dX2_run_41 : decode cX2_run 41 = .ok (.invokevirtual 76, 3) := dk_182 0 76 (dk_at dksX2_run_1 19 rfl rfl)
theorem dX2_run_44 : decode cX2_run 44 = .ok (.goto 8, 3) := dk_167 0 8 (dk_at dksX2_run_2 0 rfl rfl)
theorem dX2_run_47 : decode cX2_run 47 = .ok (.aload_n 0, 1) := dk_42 (dk_at dksX2_run_2 3 rfl rfl)
theorem dX2_run_48 : decode cX2_run 48 = .ok (.aload_n 3, 1) := dk_45 (dk_at dksX2_run_2 4 rfl rfl)
theorem dX2_run_49 : decode cX2_run 49 = .ok (.invokevirtual 217, 3) := dk_182 0 217 (dk_at dksX2_run_2 5 rfl rfl)
theorem dX2_run_52 : decode cX2_run 52 = .ok (.iinc 2 1, 3) := dk_132 2 1 (dk_at dksX2_run_2 8 rfl rfl)
theorem dX2_run_55 : decode cX2_run 55 = .ok (.goto (-45), 3) := dk_167 255 211 (dk_at dksX2_run_2 11 rfl rfl)
theorem dX2_run_58 : decode cX2_run 58 = .ok (.return_, 1) := dk_177 (dk_at dksX2_run_2 14 rfl rfl)
abbrev cX2_finish : ByteArray := prog_3_method_12_code
def yX2_finish : MethodName := ⟨RX2, "finish", "(LQueueDrive$Work;)V"⟩
def dkwX2_finish_4 : List UInt8 := [183, 0, 158, 182, 0, 76, 177]
abbrev dktX2_finish_4 : List UInt8 := dkwX2_finish_4 ++ []
def dkwX2_finish_3 : List UInt8 := [154, 0, 7, 29, 167, 0, 19, 44, 180, 0, 161, 4, 160, 0, 10, 44, 180, 0, 202, 167, 0, 4, 3]
abbrev dktX2_finish_3 : List UInt8 := dkwX2_finish_3 ++ dktX2_finish_4
def dkwX2_finish_2 : List UInt8 := [180, 0, 193, 44, 180, 0, 202, 79, 42, 180, 0, 24, 187, 0, 80, 89, 44, 3, 44, 180, 0, 161]
abbrev dktX2_finish_2 : List UInt8 := dkwX2_finish_2 ++ dktX2_finish_3
def dkwX2_finish_1 : List UInt8 := [43, 180, 0, 196, 29, 182, 0, 199, 177, 44, 180, 0, 161, 4, 160, 0, 16, 42, 180, 0, 27, 44]
abbrev dktX2_finish_1 : List UInt8 := dkwX2_finish_1 ++ dktX2_finish_2
def dkwX2_finish_0 : List UInt8 := [43, 180, 0, 189, 77, 42, 180, 0, 27, 44, 180, 0, 193, 46, 62, 43, 180, 0, 196, 198, 0, 14, 42, 44]
abbrev dktX2_finish_0 : List UInt8 := dkwX2_finish_0 ++ dktX2_finish_1
theorem dksX2_finish_0 : cX2_finish.data.toList.drop 0 = dktX2_finish_0 := by decide +kernel
theorem dksX2_finish_1 : cX2_finish.data.toList.drop 24 = dktX2_finish_1 := dk_seg dksX2_finish_0 24 rfl rfl
theorem dksX2_finish_2 : cX2_finish.data.toList.drop 46 = dktX2_finish_2 := dk_seg dksX2_finish_1 22 rfl rfl
theorem dksX2_finish_3 : cX2_finish.data.toList.drop 68 = dktX2_finish_3 := dk_seg dksX2_finish_2 22 rfl rfl
theorem dksX2_finish_4 : cX2_finish.data.toList.drop 91 = dktX2_finish_4 := dk_seg dksX2_finish_3 23 rfl rfl
theorem dX2_finish_0 : decode cX2_finish 0 = .ok (.aload_n 1, 1) := dk_43 (dk_at dksX2_finish_0 0 rfl rfl)
theorem dX2_finish_1 : decode cX2_finish 1 = .ok (.getfield 189, 3) := dk_180 0 189 (dk_at dksX2_finish_0 1 rfl rfl)
theorem dX2_finish_4 : decode cX2_finish 4 = .ok (.astore_n 2, 1) := dk_77 (dk_at dksX2_finish_0 4 rfl rfl)
theorem dX2_finish_5 : decode cX2_finish 5 = .ok (.aload_n 0, 1) := dk_42 (dk_at dksX2_finish_0 5 rfl rfl)
theorem dX2_finish_6 : decode cX2_finish 6 = .ok (.getfield 27, 3) := dk_180 0 27 (dk_at dksX2_finish_0 6 rfl rfl)
theorem dX2_finish_9 : decode cX2_finish 9 = .ok (.aload_n 2, 1) := dk_44 (dk_at dksX2_finish_0 9 rfl rfl)
theorem dX2_finish_10 : decode cX2_finish 10 = .ok (.getfield 193, 3) := dk_180 0 193 (dk_at dksX2_finish_0 10 rfl rfl)
theorem dX2_finish_13 : decode cX2_finish 13 = .ok (.iaload, 1) := dk_46 (dk_at dksX2_finish_0 13 rfl rfl)
theorem dX2_finish_14 : decode cX2_finish 14 = .ok (.istore_n 3, 1) := dk_62 (dk_at dksX2_finish_0 14 rfl rfl)
theorem dX2_finish_15 : decode cX2_finish 15 = .ok (.aload_n 1, 1) := dk_43 (dk_at dksX2_finish_0 15 rfl rfl)
theorem dX2_finish_16 : decode cX2_finish 16 = .ok (.getfield 196, 3) := dk_180 0 196 (dk_at dksX2_finish_0 16 rfl rfl)
theorem dX2_finish_19 : decode cX2_finish 19 = .ok (.ifnull 14, 3) := dk_198 0 14 (dk_at dksX2_finish_0 19 rfl rfl)
theorem dX2_finish_22 : decode cX2_finish 22 = .ok (.aload_n 0, 1) := dk_42 (dk_at dksX2_finish_0 22 rfl rfl)
theorem dX2_finish_23 : decode cX2_finish 23 = .ok (.aload_n 2, 1) := dk_44 (dk_at dksX2_finish_0 23 rfl rfl)
theorem dX2_finish_24 : decode cX2_finish 24 = .ok (.aload_n 1, 1) := dk_43 (dk_at dksX2_finish_1 0 rfl rfl)
theorem dX2_finish_25 : decode cX2_finish 25 = .ok (.getfield 196, 3) := dk_180 0 196 (dk_at dksX2_finish_1 1 rfl rfl)
theorem dX2_finish_28 : decode cX2_finish 28 = .ok (.iload_n 3, 1) := dk_29 (dk_at dksX2_finish_1 4 rfl rfl)
theorem dX2_finish_29 : decode cX2_finish 29 = .ok (.invokevirtual 199, 3) := dk_182 0 199 (dk_at dksX2_finish_1 5 rfl rfl)
theorem dX2_finish_32 : decode cX2_finish 32 = .ok (.return_, 1) := dk_177 (dk_at dksX2_finish_1 8 rfl rfl)
theorem dX2_finish_33 : decode cX2_finish 33 = .ok (.aload_n 2, 1) := dk_44 (dk_at dksX2_finish_1 9 rfl rfl)
theorem dX2_finish_34 : decode cX2_finish 34 = .ok (.getfield 161, 3) := dk_180 0 161 (dk_at dksX2_finish_1 10 rfl rfl)
theorem dX2_finish_37 : decode cX2_finish 37 = .ok (.iconst 1, 1) := dk_4 (dk_at dksX2_finish_1 13 rfl rfl)
theorem dX2_finish_38 : decode cX2_finish 38 = .ok (.if_icmp .ne 16, 3) := dk_160 0 16 (dk_at dksX2_finish_1 14 rfl rfl)
theorem dX2_finish_41 : decode cX2_finish 41 = .ok (.aload_n 0, 1) := dk_42 (dk_at dksX2_finish_1 17 rfl rfl)
theorem dX2_finish_42 : decode cX2_finish 42 = .ok (.getfield 27, 3) := dk_180 0 27 (dk_at dksX2_finish_1 18 rfl rfl)
theorem dX2_finish_45 : decode cX2_finish 45 = .ok (.aload_n 2, 1) := dk_44 (dk_at dksX2_finish_1 21 rfl rfl)
theorem dX2_finish_46 : decode cX2_finish 46 = .ok (.getfield 193, 3) := dk_180 0 193 (dk_at dksX2_finish_2 0 rfl rfl)
theorem dX2_finish_49 : decode cX2_finish 49 = .ok (.aload_n 2, 1) := dk_44 (dk_at dksX2_finish_2 3 rfl rfl)
theorem dX2_finish_50 : decode cX2_finish 50 = .ok (.getfield 202, 3) := dk_180 0 202 (dk_at dksX2_finish_2 4 rfl rfl)
theorem dX2_finish_53 : decode cX2_finish 53 = .ok (.iastore, 1) := dk_79 (dk_at dksX2_finish_2 7 rfl rfl)
theorem dX2_finish_54 : decode cX2_finish 54 = .ok (.aload_n 0, 1) := dk_42 (dk_at dksX2_finish_2 8 rfl rfl)
theorem dX2_finish_55 : decode cX2_finish 55 = .ok (.getfield 24, 3) := dk_180 0 24 (dk_at dksX2_finish_2 9 rfl rfl)
theorem dX2_finish_58 : decode cX2_finish 58 = .ok (.new 80, 3) := dk_187 0 80 (dk_at dksX2_finish_2 12 rfl rfl)
theorem dX2_finish_61 : decode cX2_finish 61 = .ok (.dup, 1) := dk_89 (dk_at dksX2_finish_2 15 rfl rfl)
theorem dX2_finish_62 : decode cX2_finish 62 = .ok (.aload_n 2, 1) := dk_44 (dk_at dksX2_finish_2 16 rfl rfl)
theorem dX2_finish_63 : decode cX2_finish 63 = .ok (.iconst 0, 1) := dk_3 (dk_at dksX2_finish_2 17 rfl rfl)
theorem dX2_finish_64 : decode cX2_finish 64 = .ok (.aload_n 2, 1) := dk_44 (dk_at dksX2_finish_2 18 rfl rfl)
theorem dX2_finish_65 : decode cX2_finish 65 = .ok (.getfield 161, 3) := dk_180 0 161 (dk_at dksX2_finish_2 19 rfl rfl)
theorem dX2_finish_68 : decode cX2_finish 68 = .ok (.ifCond .ne 7, 3) := dk_154 0 7 (dk_at dksX2_finish_3 0 rfl rfl)
theorem dX2_finish_71 : decode cX2_finish 71 = .ok (.iload_n 3, 1) := dk_29 (dk_at dksX2_finish_3 3 rfl rfl)
theorem dX2_finish_72 : decode cX2_finish 72 = .ok (.goto 19, 3) := dk_167 0 19 (dk_at dksX2_finish_3 4 rfl rfl)
theorem dX2_finish_75 : decode cX2_finish 75 = .ok (.aload_n 2, 1) := dk_44 (dk_at dksX2_finish_3 7 rfl rfl)
theorem dX2_finish_76 : decode cX2_finish 76 = .ok (.getfield 161, 3) := dk_180 0 161 (dk_at dksX2_finish_3 8 rfl rfl)
theorem dX2_finish_79 : decode cX2_finish 79 = .ok (.iconst 1, 1) := dk_4 (dk_at dksX2_finish_3 11 rfl rfl)
theorem dX2_finish_80 : decode cX2_finish 80 = .ok (.if_icmp .ne 10, 3) := dk_160 0 10 (dk_at dksX2_finish_3 12 rfl rfl)
theorem dX2_finish_83 : decode cX2_finish 83 = .ok (.aload_n 2, 1) := dk_44 (dk_at dksX2_finish_3 15 rfl rfl)
theorem dX2_finish_84 : decode cX2_finish 84 = .ok (.getfield 202, 3) := dk_180 0 202 (dk_at dksX2_finish_3 16 rfl rfl)
theorem dX2_finish_87 : decode cX2_finish 87 = .ok (.goto 4, 3) := dk_167 0 4 (dk_at dksX2_finish_3 19 rfl rfl)
theorem dX2_finish_90 : decode cX2_finish 90 = .ok (.iconst 0, 1) := dk_3 (dk_at dksX2_finish_3 22 rfl rfl)
theorem dX2_finish_91 : decode cX2_finish 91 = .ok (.invokespecial 158, 3) := dk_183 0 158 (dk_at dksX2_finish_4 0 rfl rfl)
theorem dX2_finish_94 : decode cX2_finish 94 = .ok (.invokevirtual 76, 3) := dk_182 0 76 (dk_at dksX2_finish_4 3 rfl rfl)
theorem dX2_finish_97 : decode cX2_finish 97 = .ok (.return_, 1) := dk_177 (dk_at dksX2_finish_4 6 rfl rfl)
abbrev cX2_finishPair : ByteArray := prog_3_method_13_code
def yX2_finishPair : MethodName := ⟨RX2, "finishPair", "(LQueueDrive$Command;LQueueDrive$Command;I)V"⟩
def dkwX2_finishPair_4 : List UInt8 := [182, 0, 76, 177]
abbrev dktX2_finishPair_4 : List UInt8 := dkwX2_finishPair_4 ++ []
def dkwX2_finishPair_3 : List UInt8 := [153, 0, 7, 3, 167, 0, 4, 6, 21, 4, 153, 0, 10, 44, 180, 0, 202, 167, 0, 4, 3, 183, 0, 158]
abbrev dktX2_finishPair_3 : List UInt8 := dkwX2_finishPair_3 ++ dktX2_finishPair_4
def dkwX2_finishPair_2 : List UInt8 := [167, 0, 4, 5, 29, 183, 0, 158, 182, 0, 76, 42, 180, 0, 24, 187, 0, 80, 89, 44, 21, 4]
abbrev dktX2_finishPair_2 : List UInt8 := dkwX2_finishPair_2 ++ dktX2_finishPair_3
def dkwX2_finishPair_1 : List UInt8 := [44, 180, 0, 193, 44, 180, 0, 202, 79, 42, 180, 0, 24, 187, 0, 80, 89, 43, 21, 4, 153, 0, 7, 3]
abbrev dktX2_finishPair_1 : List UInt8 := dkwX2_finishPair_1 ++ dktX2_finishPair_2
def dkwX2_finishPair_0 : List UInt8 := [29, 43, 180, 0, 202, 160, 0, 7, 4, 167, 0, 4, 3, 54, 4, 21, 4, 153, 0, 16, 42, 180, 0, 27]
abbrev dktX2_finishPair_0 : List UInt8 := dkwX2_finishPair_0 ++ dktX2_finishPair_1
theorem dksX2_finishPair_0 : cX2_finishPair.data.toList.drop 0 = dktX2_finishPair_0 := by decide +kernel
theorem dksX2_finishPair_1 : cX2_finishPair.data.toList.drop 24 = dktX2_finishPair_1 := dk_seg dksX2_finishPair_0 24 rfl rfl
theorem dksX2_finishPair_2 : cX2_finishPair.data.toList.drop 48 = dktX2_finishPair_2 := dk_seg dksX2_finishPair_1 24 rfl rfl
theorem dksX2_finishPair_3 : cX2_finishPair.data.toList.drop 70 = dktX2_finishPair_3 := dk_seg dksX2_finishPair_2 22 rfl rfl
theorem dksX2_finishPair_4 : cX2_finishPair.data.toList.drop 94 = dktX2_finishPair_4 := dk_seg dksX2_finishPair_3 24 rfl rfl
theorem dX2_finishPair_0 : decode cX2_finishPair 0 = .ok (.iload_n 3, 1) := dk_29 (dk_at dksX2_finishPair_0 0 rfl rfl)
theorem dX2_finishPair_1 : decode cX2_finishPair 1 = .ok (.aload_n 1, 1) := dk_43 (dk_at dksX2_finishPair_0 1 rfl rfl)
theorem dX2_finishPair_2 : decode cX2_finishPair 2 = .ok (.getfield 202, 3) := dk_180 0 202 (dk_at dksX2_finishPair_0 2 rfl rfl)
theorem dX2_finishPair_5 : decode cX2_finishPair 5 = .ok (.if_icmp .ne 7, 3) := dk_160 0 7 (dk_at dksX2_finishPair_0 5 rfl rfl)
theorem dX2_finishPair_8 : decode cX2_finishPair 8 = .ok (.iconst 1, 1) := dk_4 (dk_at dksX2_finishPair_0 8 rfl rfl)
theorem dX2_finishPair_9 : decode cX2_finishPair 9 = .ok (.goto 4, 3) := dk_167 0 4 (dk_at dksX2_finishPair_0 9 rfl rfl)
theorem dX2_finishPair_12 : decode cX2_finishPair 12 = .ok (.iconst 0, 1) := dk_3 (dk_at dksX2_finishPair_0 12 rfl rfl)
theorem dX2_finishPair_13 : decode cX2_finishPair 13 = .ok (.istore 4, 2) := dk_54 4 (dk_at dksX2_finishPair_0 13 rfl rfl)
theorem dX2_finishPair_15 : decode cX2_finishPair 15 = .ok (.iload 4, 2) := dk_21 4 (dk_at dksX2_finishPair_0 15 rfl rfl)
theorem dX2_finishPair_17 : decode cX2_finishPair 17 = .ok (.ifCond .eq 16, 3) := dk_153 0 16 (dk_at dksX2_finishPair_0 17 rfl rfl)
theorem dX2_finishPair_20 : decode cX2_finishPair 20 = .ok (.aload_n 0, 1) := dk_42 (dk_at dksX2_finishPair_0 20 rfl rfl)
theorem dX2_finishPair_21 : decode cX2_finishPair 21 = .ok (.getfield 27, 3) := dk_180 0 27 (dk_at dksX2_finishPair_0 21 rfl rfl)
theorem dX2_finishPair_24 : decode cX2_finishPair 24 = .ok (.aload_n 2, 1) := dk_44 (dk_at dksX2_finishPair_1 0 rfl rfl)
theorem dX2_finishPair_25 : decode cX2_finishPair 25 = .ok (.getfield 193, 3) := dk_180 0 193 (dk_at dksX2_finishPair_1 1 rfl rfl)
theorem dX2_finishPair_28 : decode cX2_finishPair 28 = .ok (.aload_n 2, 1) := dk_44 (dk_at dksX2_finishPair_1 4 rfl rfl)
theorem dX2_finishPair_29 : decode cX2_finishPair 29 = .ok (.getfield 202, 3) := dk_180 0 202 (dk_at dksX2_finishPair_1 5 rfl rfl)
theorem dX2_finishPair_32 : decode cX2_finishPair 32 = .ok (.iastore, 1) := dk_79 (dk_at dksX2_finishPair_1 8 rfl rfl)
theorem dX2_finishPair_33 : decode cX2_finishPair 33 = .ok (.aload_n 0, 1) := dk_42 (dk_at dksX2_finishPair_1 9 rfl rfl)
theorem dX2_finishPair_34 : decode cX2_finishPair 34 = .ok (.getfield 24, 3) := dk_180 0 24 (dk_at dksX2_finishPair_1 10 rfl rfl)
theorem dX2_finishPair_37 : decode cX2_finishPair 37 = .ok (.new 80, 3) := dk_187 0 80 (dk_at dksX2_finishPair_1 13 rfl rfl)
theorem dX2_finishPair_40 : decode cX2_finishPair 40 = .ok (.dup, 1) := dk_89 (dk_at dksX2_finishPair_1 16 rfl rfl)
theorem dX2_finishPair_41 : decode cX2_finishPair 41 = .ok (.aload_n 1, 1) := dk_43 (dk_at dksX2_finishPair_1 17 rfl rfl)
theorem dX2_finishPair_42 : decode cX2_finishPair 42 = .ok (.iload 4, 2) := dk_21 4 (dk_at dksX2_finishPair_1 18 rfl rfl)
theorem dX2_finishPair_44 : decode cX2_finishPair 44 = .ok (.ifCond .eq 7, 3) := dk_153 0 7 (dk_at dksX2_finishPair_1 20 rfl rfl)
theorem dX2_finishPair_47 : decode cX2_finishPair 47 = .ok (.iconst 0, 1) := dk_3 (dk_at dksX2_finishPair_1 23 rfl rfl)
theorem dX2_finishPair_48 : decode cX2_finishPair 48 = .ok (.goto 4, 3) := dk_167 0 4 (dk_at dksX2_finishPair_2 0 rfl rfl)
theorem dX2_finishPair_51 : decode cX2_finishPair 51 = .ok (.iconst 2, 1) := dk_5 (dk_at dksX2_finishPair_2 3 rfl rfl)
theorem dX2_finishPair_52 : decode cX2_finishPair 52 = .ok (.iload_n 3, 1) := dk_29 (dk_at dksX2_finishPair_2 4 rfl rfl)
theorem dX2_finishPair_53 : decode cX2_finishPair 53 = .ok (.invokespecial 158, 3) := dk_183 0 158 (dk_at dksX2_finishPair_2 5 rfl rfl)
theorem dX2_finishPair_56 : decode cX2_finishPair 56 = .ok (.invokevirtual 76, 3) := dk_182 0 76 (dk_at dksX2_finishPair_2 8 rfl rfl)
theorem dX2_finishPair_59 : decode cX2_finishPair 59 = .ok (.aload_n 0, 1) := dk_42 (dk_at dksX2_finishPair_2 11 rfl rfl)
theorem dX2_finishPair_60 : decode cX2_finishPair 60 = .ok (.getfield 24, 3) := dk_180 0 24 (dk_at dksX2_finishPair_2 12 rfl rfl)
theorem dX2_finishPair_63 : decode cX2_finishPair 63 = .ok (.new 80, 3) := dk_187 0 80 (dk_at dksX2_finishPair_2 15 rfl rfl)
theorem dX2_finishPair_66 : decode cX2_finishPair 66 = .ok (.dup, 1) := dk_89 (dk_at dksX2_finishPair_2 18 rfl rfl)
theorem dX2_finishPair_67 : decode cX2_finishPair 67 = .ok (.aload_n 2, 1) := dk_44 (dk_at dksX2_finishPair_2 19 rfl rfl)
theorem dX2_finishPair_68 : decode cX2_finishPair 68 = .ok (.iload 4, 2) := dk_21 4 (dk_at dksX2_finishPair_2 20 rfl rfl)
theorem dX2_finishPair_70 : decode cX2_finishPair 70 = .ok (.ifCond .eq 7, 3) := dk_153 0 7 (dk_at dksX2_finishPair_3 0 rfl rfl)
theorem dX2_finishPair_73 : decode cX2_finishPair 73 = .ok (.iconst 0, 1) := dk_3 (dk_at dksX2_finishPair_3 3 rfl rfl)
theorem dX2_finishPair_74 : decode cX2_finishPair 74 = .ok (.goto 4, 3) := dk_167 0 4 (dk_at dksX2_finishPair_3 4 rfl rfl)
theorem dX2_finishPair_77 : decode cX2_finishPair 77 = .ok (.iconst 3, 1) := dk_6 (dk_at dksX2_finishPair_3 7 rfl rfl)
theorem dX2_finishPair_78 : decode cX2_finishPair 78 = .ok (.iload 4, 2) := dk_21 4 (dk_at dksX2_finishPair_3 8 rfl rfl)
theorem dX2_finishPair_80 : decode cX2_finishPair 80 = .ok (.ifCond .eq 10, 3) := dk_153 0 10 (dk_at dksX2_finishPair_3 10 rfl rfl)
theorem dX2_finishPair_83 : decode cX2_finishPair 83 = .ok (.aload_n 2, 1) := dk_44 (dk_at dksX2_finishPair_3 13 rfl rfl)
theorem dX2_finishPair_84 : decode cX2_finishPair 84 = .ok (.getfield 202, 3) := dk_180 0 202 (dk_at dksX2_finishPair_3 14 rfl rfl)
theorem dX2_finishPair_87 : decode cX2_finishPair 87 = .ok (.goto 4, 3) := dk_167 0 4 (dk_at dksX2_finishPair_3 17 rfl rfl)
theorem dX2_finishPair_90 : decode cX2_finishPair 90 = .ok (.iconst 0, 1) := dk_3 (dk_at dksX2_finishPair_3 20 rfl rfl)
theorem dX2_finishPair_91 : decode cX2_finishPair 91 = .ok (.invokespecial 158, 3) := dk_183 0 158 (dk_at dksX2_finishPair_3 21 rfl rfl)
theorem dX2_finishPair_94 : decode cX2_finishPair 94 = .ok (.invokevirtual 76, 3) := dk_182 0 76 (dk_at dksX2_finishPair_4 0 rfl rfl)
theorem dX2_finishPair_97 : decode cX2_finishPair 97 = .ok (.return_, 1) := dk_177 (dk_at dksX2_finishPair_4 3 rfl rfl)
abbrev cX2_postAll : ByteArray := prog_3_method_15_code
def yX2_postAll : MethodName := ⟨RX2, "postAll", "()V"⟩
def dkwX2_postAll_3 : List UInt8 := [96, 181, 0, 104, 167, 255, 190, 177]
abbrev dktX2_postAll_3 : List UInt8 := dkwX2_postAll_3 ++ []
def dkwX2_postAll_2 : List UInt8 := [180, 0, 11, 44, 180, 0, 221, 50, 44, 182, 0, 227, 43, 185, 0, 231, 1, 0, 42, 89, 180, 0, 104, 4]
abbrev dktX2_postAll_2 : List UInt8 := dkwX2_postAll_2 ++ dktX2_postAll_3
def dkwX2_postAll_1 : List UInt8 := [192, 0, 80, 77, 42, 180, 0, 11, 44, 180, 0, 221, 50, 182, 0, 224, 154, 0, 6, 167, 255, 222, 42]
abbrev dktX2_postAll_1 : List UInt8 := dkwX2_postAll_1 ++ dktX2_postAll_2
def dkwX2_postAll_0 : List UInt8 := [42, 180, 0, 24, 182, 0, 60, 76, 43, 185, 0, 64, 1, 0, 153, 0, 63, 43, 185, 0, 70, 1, 0]
abbrev dktX2_postAll_0 : List UInt8 := dkwX2_postAll_0 ++ dktX2_postAll_1
theorem dksX2_postAll_0 : cX2_postAll.data.toList.drop 0 = dktX2_postAll_0 := by decide +kernel
theorem dksX2_postAll_1 : cX2_postAll.data.toList.drop 23 = dktX2_postAll_1 := dk_seg dksX2_postAll_0 23 rfl rfl
theorem dksX2_postAll_2 : cX2_postAll.data.toList.drop 46 = dktX2_postAll_2 := dk_seg dksX2_postAll_1 23 rfl rfl
theorem dksX2_postAll_3 : cX2_postAll.data.toList.drop 70 = dktX2_postAll_3 := dk_seg dksX2_postAll_2 24 rfl rfl
theorem dX2_postAll_0 : decode cX2_postAll 0 = .ok (.aload_n 0, 1) := dk_42 (dk_at dksX2_postAll_0 0 rfl rfl)
theorem dX2_postAll_1 : decode cX2_postAll 1 = .ok (.getfield 24, 3) := dk_180 0 24 (dk_at dksX2_postAll_0 1 rfl rfl)
theorem dX2_postAll_4 : decode cX2_postAll 4 = .ok (.invokevirtual 60, 3) := dk_182 0 60 (dk_at dksX2_postAll_0 4 rfl rfl)
theorem dX2_postAll_7 : decode cX2_postAll 7 = .ok (.astore_n 1, 1) := dk_76 (dk_at dksX2_postAll_0 7 rfl rfl)
theorem dX2_postAll_8 : decode cX2_postAll 8 = .ok (.aload_n 1, 1) := dk_43 (dk_at dksX2_postAll_0 8 rfl rfl)
theorem dX2_postAll_9 : decode cX2_postAll 9 = .ok (.invokeinterface 64 1, 5) := by decide +kernel
theorem dX2_postAll_14 : decode cX2_postAll 14 = .ok (.ifCond .eq 63, 3) := dk_153 0 63 (dk_at dksX2_postAll_0 14 rfl rfl)
theorem dX2_postAll_17 : decode cX2_postAll 17 = .ok (.aload_n 1, 1) := dk_43 (dk_at dksX2_postAll_0 17 rfl rfl)
theorem dX2_postAll_18 : decode cX2_postAll 18 = .ok (.invokeinterface 70 1, 5) := by decide +kernel
theorem dX2_postAll_23 : decode cX2_postAll 23 = .ok (.checkcast 80, 3) := dk_192 0 80 (dk_at dksX2_postAll_1 0 rfl rfl)
theorem dX2_postAll_26 : decode cX2_postAll 26 = .ok (.astore_n 2, 1) := dk_77 (dk_at dksX2_postAll_1 3 rfl rfl)
theorem dX2_postAll_27 : decode cX2_postAll 27 = .ok (.aload_n 0, 1) := dk_42 (dk_at dksX2_postAll_1 4 rfl rfl)
theorem dX2_postAll_28 : decode cX2_postAll 28 = .ok (.getfield 11, 3) := dk_180 0 11 (dk_at dksX2_postAll_1 5 rfl rfl)
theorem dX2_postAll_31 : decode cX2_postAll 31 = .ok (.aload_n 2, 1) := dk_44 (dk_at dksX2_postAll_1 8 rfl rfl)
theorem dX2_postAll_32 : decode cX2_postAll 32 = .ok (.getfield 221, 3) := dk_180 0 221 (dk_at dksX2_postAll_1 9 rfl rfl)
theorem dX2_postAll_35 : decode cX2_postAll 35 = .ok (.aaload, 1) := dk_50 (dk_at dksX2_postAll_1 12 rfl rfl)
theorem dX2_postAll_36 : decode cX2_postAll 36 = .ok (.invokevirtual 224, 3) := dk_182 0 224 (dk_at dksX2_postAll_1 13 rfl rfl)
theorem dX2_postAll_39 : decode cX2_postAll 39 = .ok (.ifCond .ne 6, 3) := dk_154 0 6 (dk_at dksX2_postAll_1 16 rfl rfl)
theorem dX2_postAll_42 : decode cX2_postAll 42 = .ok (.goto (-34), 3) := dk_167 255 222 (dk_at dksX2_postAll_1 19 rfl rfl)
theorem dX2_postAll_45 : decode cX2_postAll 45 = .ok (.aload_n 0, 1) := dk_42 (dk_at dksX2_postAll_1 22 rfl rfl)
theorem dX2_postAll_46 : decode cX2_postAll 46 = .ok (.getfield 11, 3) := dk_180 0 11 (dk_at dksX2_postAll_2 0 rfl rfl)
theorem dX2_postAll_49 : decode cX2_postAll 49 = .ok (.aload_n 2, 1) := dk_44 (dk_at dksX2_postAll_2 3 rfl rfl)
theorem dX2_postAll_50 : decode cX2_postAll 50 = .ok (.getfield 221, 3) := dk_180 0 221 (dk_at dksX2_postAll_2 4 rfl rfl)
theorem dX2_postAll_53 : decode cX2_postAll 53 = .ok (.aaload, 1) := dk_50 (dk_at dksX2_postAll_2 7 rfl rfl)
theorem dX2_postAll_54 : decode cX2_postAll 54 = .ok (.aload_n 2, 1) := dk_44 (dk_at dksX2_postAll_2 8 rfl rfl)
theorem dX2_postAll_55 : decode cX2_postAll 55 = .ok (.invokevirtual 227, 3) := dk_182 0 227 (dk_at dksX2_postAll_2 9 rfl rfl)
theorem dX2_postAll_58 : decode cX2_postAll 58 = .ok (.aload_n 1, 1) := dk_43 (dk_at dksX2_postAll_2 12 rfl rfl)
theorem dX2_postAll_59 : decode cX2_postAll 59 = .ok (.invokeinterface 231 1, 5) := by decide +kernel
theorem dX2_postAll_64 : decode cX2_postAll 64 = .ok (.aload_n 0, 1) := dk_42 (dk_at dksX2_postAll_2 18 rfl rfl)
theorem dX2_postAll_65 : decode cX2_postAll 65 = .ok (.dup, 1) := dk_89 (dk_at dksX2_postAll_2 19 rfl rfl)
theorem dX2_postAll_66 : decode cX2_postAll 66 = .ok (.getfield 104, 3) := dk_180 0 104 (dk_at dksX2_postAll_2 20 rfl rfl)
theorem dX2_postAll_69 : decode cX2_postAll 69 = .ok (.iconst 1, 1) := dk_4 (dk_at dksX2_postAll_2 23 rfl rfl)
theorem dX2_postAll_70 : decode cX2_postAll 70 = .ok (.iadd, 1) := dk_96 (dk_at dksX2_postAll_3 0 rfl rfl)
theorem dX2_postAll_71 : decode cX2_postAll 71 = .ok (.putfield 104, 3) := dk_181 0 104 (dk_at dksX2_postAll_3 1 rfl rfl)
theorem dX2_postAll_74 : decode cX2_postAll 74 = .ok (.goto (-66), 3) := dk_167 255 190 (dk_at dksX2_postAll_3 4 rfl rfl)
theorem dX2_postAll_77 : decode cX2_postAll 77 = .ok (.return_, 1) := dk_177 (dk_at dksX2_postAll_3 7 rfl rfl)
abbrev cX2_look : ByteArray := prog_3_method_16_code
def yX2_look : MethodName := ⟨RX2, "look", "()V"⟩
def dkwX2_look_3 : List UInt8 := [167, 255, 190, 177]
abbrev dktX2_look_3 : List UInt8 := dkwX2_look_3 ++ []
def dkwX2_look_2 : List UInt8 := [153, 0, 6, 167, 0, 16, 44, 44, 180, 0, 243, 181, 0, 246, 44, 3, 181, 0, 237, 132, 1, 1]
abbrev dktX2_look_2 : List UInt8 := dkwX2_look_2 ++ dktX2_look_3
def dkwX2_look_1 : List UInt8 := [44, 180, 0, 237, 154, 0, 6, 167, 0, 34, 44, 44, 180, 0, 240, 181, 0, 243, 44, 182, 0, 119]
abbrev dktX2_look_1 : List UInt8 := dkwX2_look_1 ++ dktX2_look_2
def dkwX2_look_0 : List UInt8 := [3, 60, 27, 42, 180, 0, 50, 162, 0, 64, 42, 180, 0, 11, 27, 50, 77, 44, 180, 0, 234, 153, 0, 44]
abbrev dktX2_look_0 : List UInt8 := dkwX2_look_0 ++ dktX2_look_1
theorem dksX2_look_0 : cX2_look.data.toList.drop 0 = dktX2_look_0 := by decide +kernel
theorem dksX2_look_1 : cX2_look.data.toList.drop 24 = dktX2_look_1 := dk_seg dksX2_look_0 24 rfl rfl
theorem dksX2_look_2 : cX2_look.data.toList.drop 46 = dktX2_look_2 := dk_seg dksX2_look_1 22 rfl rfl
theorem dksX2_look_3 : cX2_look.data.toList.drop 68 = dktX2_look_3 := dk_seg dksX2_look_2 22 rfl rfl
theorem dX2_look_0 : decode cX2_look 0 = .ok (.iconst 0, 1) := dk_3 (dk_at dksX2_look_0 0 rfl rfl)
theorem dX2_look_1 : decode cX2_look 1 = .ok (.istore_n 1, 1) := dk_60 (dk_at dksX2_look_0 1 rfl rfl)
theorem dX2_look_2 : decode cX2_look 2 = .ok (.iload_n 1, 1) := dk_27 (dk_at dksX2_look_0 2 rfl rfl)
theorem dX2_look_3 : decode cX2_look 3 = .ok (.aload_n 0, 1) := dk_42 (dk_at dksX2_look_0 3 rfl rfl)
theorem dX2_look_4 : decode cX2_look 4 = .ok (.getfield 50, 3) := dk_180 0 50 (dk_at dksX2_look_0 4 rfl rfl)
theorem dX2_look_7 : decode cX2_look 7 = .ok (.if_icmp .ge 64, 3) := dk_162 0 64 (dk_at dksX2_look_0 7 rfl rfl)
theorem dX2_look_10 : decode cX2_look 10 = .ok (.aload_n 0, 1) := dk_42 (dk_at dksX2_look_0 10 rfl rfl)
theorem dX2_look_11 : decode cX2_look 11 = .ok (.getfield 11, 3) := dk_180 0 11 (dk_at dksX2_look_0 11 rfl rfl)
theorem dX2_look_14 : decode cX2_look 14 = .ok (.iload_n 1, 1) := dk_27 (dk_at dksX2_look_0 14 rfl rfl)
theorem dX2_look_15 : decode cX2_look 15 = .ok (.aaload, 1) := dk_50 (dk_at dksX2_look_0 15 rfl rfl)
theorem dX2_look_16 : decode cX2_look 16 = .ok (.astore_n 2, 1) := dk_77 (dk_at dksX2_look_0 16 rfl rfl)
theorem dX2_look_17 : decode cX2_look 17 = .ok (.aload_n 2, 1) := dk_44 (dk_at dksX2_look_0 17 rfl rfl)
theorem dX2_look_18 : decode cX2_look 18 = .ok (.getfield 234, 3) := dk_180 0 234 (dk_at dksX2_look_0 18 rfl rfl)
theorem dX2_look_21 : decode cX2_look 21 = .ok (.ifCond .eq 44, 3) := dk_153 0 44 (dk_at dksX2_look_0 21 rfl rfl)
theorem dX2_look_24 : decode cX2_look 24 = .ok (.aload_n 2, 1) := dk_44 (dk_at dksX2_look_1 0 rfl rfl)
theorem dX2_look_25 : decode cX2_look 25 = .ok (.getfield 237, 3) := dk_180 0 237 (dk_at dksX2_look_1 1 rfl rfl)
theorem dX2_look_28 : decode cX2_look 28 = .ok (.ifCond .ne 6, 3) := dk_154 0 6 (dk_at dksX2_look_1 4 rfl rfl)
theorem dX2_look_31 : decode cX2_look 31 = .ok (.goto 34, 3) := dk_167 0 34 (dk_at dksX2_look_1 7 rfl rfl)
theorem dX2_look_34 : decode cX2_look 34 = .ok (.aload_n 2, 1) := dk_44 (dk_at dksX2_look_1 10 rfl rfl)
theorem dX2_look_35 : decode cX2_look 35 = .ok (.aload_n 2, 1) := dk_44 (dk_at dksX2_look_1 11 rfl rfl)
theorem dX2_look_36 : decode cX2_look 36 = .ok (.getfield 240, 3) := dk_180 0 240 (dk_at dksX2_look_1 12 rfl rfl)
theorem dX2_look_39 : decode cX2_look 39 = .ok (.putfield 243, 3) := dk_181 0 243 (dk_at dksX2_look_1 15 rfl rfl)
theorem dX2_look_42 : decode cX2_look 42 = .ok (.aload_n 2, 1) := dk_44 (dk_at dksX2_look_1 18 rfl rfl)
theorem dX2_look_43 : decode cX2_look 43 = .ok (.invokevirtual 119, 3) := dk_182 0 119 (dk_at dksX2_look_1 19 rfl rfl)
theorem dX2_look_46 : decode cX2_look 46 = .ok (.ifCond .eq 6, 3) := dk_153 0 6 (dk_at dksX2_look_2 0 rfl rfl)
theorem dX2_look_49 : decode cX2_look 49 = .ok (.goto 16, 3) := dk_167 0 16 (dk_at dksX2_look_2 3 rfl rfl)
theorem dX2_look_52 : decode cX2_look 52 = .ok (.aload_n 2, 1) := dk_44 (dk_at dksX2_look_2 6 rfl rfl)
theorem dX2_look_53 : decode cX2_look 53 = .ok (.aload_n 2, 1) := dk_44 (dk_at dksX2_look_2 7 rfl rfl)
theorem dX2_look_54 : decode cX2_look 54 = .ok (.getfield 243, 3) := dk_180 0 243 (dk_at dksX2_look_2 8 rfl rfl)
theorem dX2_look_57 : decode cX2_look 57 = .ok (.putfield 246, 3) := dk_181 0 246 (dk_at dksX2_look_2 11 rfl rfl)
theorem dX2_look_60 : decode cX2_look 60 = .ok (.aload_n 2, 1) := dk_44 (dk_at dksX2_look_2 14 rfl rfl)
theorem dX2_look_61 : decode cX2_look 61 = .ok (.iconst 0, 1) := dk_3 (dk_at dksX2_look_2 15 rfl rfl)
theorem dX2_look_62 : decode cX2_look 62 = .ok (.putfield 237, 3) := dk_181 0 237 (dk_at dksX2_look_2 16 rfl rfl)
theorem dX2_look_65 : decode cX2_look 65 = .ok (.iinc 1 1, 3) := dk_132 1 1 (dk_at dksX2_look_2 19 rfl rfl)
theorem dX2_look_68 : decode cX2_look 68 = .ok (.goto (-66), 3) := dk_167 255 190 (dk_at dksX2_look_3 0 rfl rfl)
theorem dX2_look_71 : decode cX2_look 71 = .ok (.return_, 1) := dk_177 (dk_at dksX2_look_3 3 rfl rfl)
abbrev cX2_hasWork : ByteArray := prog_3_method_8_code
def yX2_hasWork : MethodName := ⟨RX2, "hasWork", "()Z"⟩
def dkwX2_hasWork_1 : List UInt8 := [132, 1, 1, 167, 255, 231, 3, 172]
abbrev dktX2_hasWork_1 : List UInt8 := dkwX2_hasWork_1 ++ []
def dkwX2_hasWork_0 : List UInt8 := [3, 60, 27, 42, 180, 0, 50, 162, 0, 23, 42, 180, 0, 11, 27, 50, 182, 0, 119, 153, 0, 5, 4, 172]
abbrev dktX2_hasWork_0 : List UInt8 := dkwX2_hasWork_0 ++ dktX2_hasWork_1
theorem dksX2_hasWork_0 : cX2_hasWork.data.toList.drop 0 = dktX2_hasWork_0 := by decide +kernel
theorem dksX2_hasWork_1 : cX2_hasWork.data.toList.drop 24 = dktX2_hasWork_1 := dk_seg dksX2_hasWork_0 24 rfl rfl
theorem dX2_hasWork_0 : decode cX2_hasWork 0 = .ok (.iconst 0, 1) := dk_3 (dk_at dksX2_hasWork_0 0 rfl rfl)
theorem dX2_hasWork_1 : decode cX2_hasWork 1 = .ok (.istore_n 1, 1) := dk_60 (dk_at dksX2_hasWork_0 1 rfl rfl)
theorem dX2_hasWork_2 : decode cX2_hasWork 2 = .ok (.iload_n 1, 1) := dk_27 (dk_at dksX2_hasWork_0 2 rfl rfl)
theorem dX2_hasWork_3 : decode cX2_hasWork 3 = .ok (.aload_n 0, 1) := dk_42 (dk_at dksX2_hasWork_0 3 rfl rfl)
theorem dX2_hasWork_4 : decode cX2_hasWork 4 = .ok (.getfield 50, 3) := dk_180 0 50 (dk_at dksX2_hasWork_0 4 rfl rfl)
theorem dX2_hasWork_7 : decode cX2_hasWork 7 = .ok (.if_icmp .ge 23, 3) := dk_162 0 23 (dk_at dksX2_hasWork_0 7 rfl rfl)
theorem dX2_hasWork_10 : decode cX2_hasWork 10 = .ok (.aload_n 0, 1) := dk_42 (dk_at dksX2_hasWork_0 10 rfl rfl)
theorem dX2_hasWork_11 : decode cX2_hasWork 11 = .ok (.getfield 11, 3) := dk_180 0 11 (dk_at dksX2_hasWork_0 11 rfl rfl)
theorem dX2_hasWork_14 : decode cX2_hasWork 14 = .ok (.iload_n 1, 1) := dk_27 (dk_at dksX2_hasWork_0 14 rfl rfl)
theorem dX2_hasWork_15 : decode cX2_hasWork 15 = .ok (.aaload, 1) := dk_50 (dk_at dksX2_hasWork_0 15 rfl rfl)
theorem dX2_hasWork_16 : decode cX2_hasWork 16 = .ok (.invokevirtual 119, 3) := dk_182 0 119 (dk_at dksX2_hasWork_0 16 rfl rfl)
theorem dX2_hasWork_19 : decode cX2_hasWork 19 = .ok (.ifCond .eq 5, 3) := dk_153 0 5 (dk_at dksX2_hasWork_0 19 rfl rfl)
theorem dX2_hasWork_22 : decode cX2_hasWork 22 = .ok (.iconst 1, 1) := dk_4 (dk_at dksX2_hasWork_0 22 rfl rfl)
theorem dX2_hasWork_23 : decode cX2_hasWork 23 = .ok (.ireturn, 1) := dk_172 (dk_at dksX2_hasWork_0 23 rfl rfl)
theorem dX2_hasWork_24 : decode cX2_hasWork 24 = .ok (.iinc 1 1, 3) := dk_132 1 1 (dk_at dksX2_hasWork_1 0 rfl rfl)
theorem dX2_hasWork_27 : decode cX2_hasWork 27 = .ok (.goto (-25), 3) := dk_167 255 231 (dk_at dksX2_hasWork_1 3 rfl rfl)
theorem dX2_hasWork_30 : decode cX2_hasWork 30 = .ok (.iconst 0, 1) := dk_3 (dk_at dksX2_hasWork_1 6 rfl rfl)
theorem dX2_hasWork_31 : decode cX2_hasWork 31 = .ok (.ireturn, 1) := dk_172 (dk_at dksX2_hasWork_1 7 rfl rfl)
abbrev cX2_fetch : ByteArray := prog_3_method_10_code
def yX2_fetch : MethodName := ⟨RX2, "fetch", "(LQueueDrive$Rule;)V"⟩
def dkwX2_fetch_7 : List UInt8 := [187, 0, 74, 89, 45, 1, 42, 43, 45, 44, 182, 0, 167, 183, 0, 171, 182, 0, 76, 177]
abbrev dktX2_fetch_7 : List UInt8 := dkwX2_fetch_7 ++ []
def dkwX2_fetch_6 : List UInt8 := [187, 0, 74, 89, 45, 42, 44, 182, 0, 150, 21, 5, 183, 0, 171, 182, 0, 76, 177, 42, 180, 0, 20]
abbrev dktX2_fetch_6 : List UInt8 := dkwX2_fetch_6 ++ dktX2_fetch_7
def dkwX2_fetch_5 : List UInt8 := [7, 3, 183, 0, 158, 182, 0, 76, 177, 42, 43, 45, 44, 182, 0, 167, 54, 5, 42, 180, 0, 20]
abbrev dktX2_fetch_5 : List UInt8 := dkwX2_fetch_5 ++ dktX2_fetch_6
def dkwX2_fetch_4 : List UInt8 := [180, 0, 161, 6, 160, 0, 11, 25, 4, 180, 0, 154, 153, 0, 21, 42, 180, 0, 24, 187, 0, 80, 89, 45]
abbrev dktX2_fetch_4 : List UInt8 := dkwX2_fetch_4 ++ dktX2_fetch_5
def dkwX2_fetch_3 : List UInt8 := [180, 0, 135, 182, 0, 164, 192, 0, 144, 167, 0, 4, 1, 58, 4, 25, 4, 198, 0, 20, 25, 4]
abbrev dktX2_fetch_3 : List UInt8 := dkwX2_fetch_3 ++ dktX2_fetch_4
def dkwX2_fetch_2 : List UInt8 := [180, 0, 161, 6, 160, 0, 106, 45, 180, 0, 161, 5, 160, 0, 23, 44, 182, 0, 119, 153, 0, 16, 44]
abbrev dktX2_fetch_2 : List UInt8 := dkwX2_fetch_2 ++ dktX2_fetch_3
def dkwX2_fetch_1 : List UInt8 := [187, 0, 80, 89, 45, 4, 3, 183, 0, 158, 182, 0, 76, 177, 45, 180, 0, 161, 5, 159, 0, 11, 45]
abbrev dktX2_fetch_1 : List UInt8 := dkwX2_fetch_1 ++ dktX2_fetch_2
def dkwX2_fetch_0 : List UInt8 := [42, 182, 0, 146, 77, 42, 44, 182, 0, 150, 78, 45, 180, 0, 154, 153, 0, 21, 42, 180, 0, 24]
abbrev dktX2_fetch_0 : List UInt8 := dkwX2_fetch_0 ++ dktX2_fetch_1
theorem dksX2_fetch_0 : cX2_fetch.data.toList.drop 0 = dktX2_fetch_0 := by decide +kernel
theorem dksX2_fetch_1 : cX2_fetch.data.toList.drop 22 = dktX2_fetch_1 := dk_seg dksX2_fetch_0 22 rfl rfl
theorem dksX2_fetch_2 : cX2_fetch.data.toList.drop 45 = dktX2_fetch_2 := dk_seg dksX2_fetch_1 23 rfl rfl
theorem dksX2_fetch_3 : cX2_fetch.data.toList.drop 68 = dktX2_fetch_3 := dk_seg dksX2_fetch_2 23 rfl rfl
theorem dksX2_fetch_4 : cX2_fetch.data.toList.drop 90 = dktX2_fetch_4 := dk_seg dksX2_fetch_3 22 rfl rfl
theorem dksX2_fetch_5 : cX2_fetch.data.toList.drop 114 = dktX2_fetch_5 := dk_seg dksX2_fetch_4 24 rfl rfl
theorem dksX2_fetch_6 : cX2_fetch.data.toList.drop 136 = dktX2_fetch_6 := dk_seg dksX2_fetch_5 22 rfl rfl
theorem dksX2_fetch_7 : cX2_fetch.data.toList.drop 159 = dktX2_fetch_7 := dk_seg dksX2_fetch_6 23 rfl rfl
theorem dX2_fetch_0 : decode cX2_fetch 0 = .ok (.aload_n 0, 1) := dk_42 (dk_at dksX2_fetch_0 0 rfl rfl)
theorem dX2_fetch_1 : decode cX2_fetch 1 = .ok (.invokevirtual 146, 3) := dk_182 0 146 (dk_at dksX2_fetch_0 1 rfl rfl)
theorem dX2_fetch_4 : decode cX2_fetch 4 = .ok (.astore_n 2, 1) := dk_77 (dk_at dksX2_fetch_0 4 rfl rfl)
theorem dX2_fetch_5 : decode cX2_fetch 5 = .ok (.aload_n 0, 1) := dk_42 (dk_at dksX2_fetch_0 5 rfl rfl)
theorem dX2_fetch_6 : decode cX2_fetch 6 = .ok (.aload_n 2, 1) := dk_44 (dk_at dksX2_fetch_0 6 rfl rfl)
theorem dX2_fetch_7 : decode cX2_fetch 7 = .ok (.invokevirtual 150, 3) := dk_182 0 150 (dk_at dksX2_fetch_0 7 rfl rfl)
theorem dX2_fetch_10 : decode cX2_fetch 10 = .ok (.astore_n 3, 1) := dk_78 (dk_at dksX2_fetch_0 10 rfl rfl)
theorem dX2_fetch_11 : decode cX2_fetch 11 = .ok (.aload_n 3, 1) := dk_45 (dk_at dksX2_fetch_0 11 rfl rfl)
theorem dX2_fetch_12 : decode cX2_fetch 12 = .ok (.getfield 154, 3) := dk_180 0 154 (dk_at dksX2_fetch_0 12 rfl rfl)
theorem dX2_fetch_15 : decode cX2_fetch 15 = .ok (.ifCond .eq 21, 3) := dk_153 0 21 (dk_at dksX2_fetch_0 15 rfl rfl)
theorem dX2_fetch_18 : decode cX2_fetch 18 = .ok (.aload_n 0, 1) := dk_42 (dk_at dksX2_fetch_0 18 rfl rfl)
theorem dX2_fetch_19 : decode cX2_fetch 19 = .ok (.getfield 24, 3) := dk_180 0 24 (dk_at dksX2_fetch_0 19 rfl rfl)
theorem dX2_fetch_22 : decode cX2_fetch 22 = .ok (.new 80, 3) := dk_187 0 80 (dk_at dksX2_fetch_1 0 rfl rfl)
theorem dX2_fetch_25 : decode cX2_fetch 25 = .ok (.dup, 1) := dk_89 (dk_at dksX2_fetch_1 3 rfl rfl)
theorem dX2_fetch_26 : decode cX2_fetch 26 = .ok (.aload_n 3, 1) := dk_45 (dk_at dksX2_fetch_1 4 rfl rfl)
theorem dX2_fetch_27 : decode cX2_fetch 27 = .ok (.iconst 1, 1) := dk_4 (dk_at dksX2_fetch_1 5 rfl rfl)
theorem dX2_fetch_28 : decode cX2_fetch 28 = .ok (.iconst 0, 1) := dk_3 (dk_at dksX2_fetch_1 6 rfl rfl)
theorem dX2_fetch_29 : decode cX2_fetch 29 = .ok (.invokespecial 158, 3) := dk_183 0 158 (dk_at dksX2_fetch_1 7 rfl rfl)
theorem dX2_fetch_32 : decode cX2_fetch 32 = .ok (.invokevirtual 76, 3) := dk_182 0 76 (dk_at dksX2_fetch_1 10 rfl rfl)
theorem dX2_fetch_35 : decode cX2_fetch 35 = .ok (.return_, 1) := dk_177 (dk_at dksX2_fetch_1 13 rfl rfl)
theorem dX2_fetch_36 : decode cX2_fetch 36 = .ok (.aload_n 3, 1) := dk_45 (dk_at dksX2_fetch_1 14 rfl rfl)
theorem dX2_fetch_37 : decode cX2_fetch 37 = .ok (.getfield 161, 3) := dk_180 0 161 (dk_at dksX2_fetch_1 15 rfl rfl)
theorem dX2_fetch_40 : decode cX2_fetch 40 = .ok (.iconst 2, 1) := dk_5 (dk_at dksX2_fetch_1 18 rfl rfl)
theorem dX2_fetch_41 : decode cX2_fetch 41 = .ok (.if_icmp .eq 11, 3) := dk_159 0 11 (dk_at dksX2_fetch_1 19 rfl rfl)
theorem dX2_fetch_44 : decode cX2_fetch 44 = .ok (.aload_n 3, 1) := dk_45 (dk_at dksX2_fetch_1 22 rfl rfl)
theorem dX2_fetch_45 : decode cX2_fetch 45 = .ok (.getfield 161, 3) := dk_180 0 161 (dk_at dksX2_fetch_2 0 rfl rfl)
theorem dX2_fetch_48 : decode cX2_fetch 48 = .ok (.iconst 3, 1) := dk_6 (dk_at dksX2_fetch_2 3 rfl rfl)
theorem dX2_fetch_49 : decode cX2_fetch 49 = .ok (.if_icmp .ne 106, 3) := dk_160 0 106 (dk_at dksX2_fetch_2 4 rfl rfl)
theorem dX2_fetch_52 : decode cX2_fetch 52 = .ok (.aload_n 3, 1) := dk_45 (dk_at dksX2_fetch_2 7 rfl rfl)
theorem dX2_fetch_53 : decode cX2_fetch 53 = .ok (.getfield 161, 3) := dk_180 0 161 (dk_at dksX2_fetch_2 8 rfl rfl)
theorem dX2_fetch_56 : decode cX2_fetch 56 = .ok (.iconst 2, 1) := dk_5 (dk_at dksX2_fetch_2 11 rfl rfl)
theorem dX2_fetch_57 : decode cX2_fetch 57 = .ok (.if_icmp .ne 23, 3) := dk_160 0 23 (dk_at dksX2_fetch_2 12 rfl rfl)
theorem dX2_fetch_60 : decode cX2_fetch 60 = .ok (.aload_n 2, 1) := dk_44 (dk_at dksX2_fetch_2 15 rfl rfl)
theorem dX2_fetch_61 : decode cX2_fetch 61 = .ok (.invokevirtual 119, 3) := dk_182 0 119 (dk_at dksX2_fetch_2 16 rfl rfl)
theorem dX2_fetch_64 : decode cX2_fetch 64 = .ok (.ifCond .eq 16, 3) := dk_153 0 16 (dk_at dksX2_fetch_2 19 rfl rfl)
theorem dX2_fetch_67 : decode cX2_fetch 67 = .ok (.aload_n 2, 1) := dk_44 (dk_at dksX2_fetch_2 22 rfl rfl)
theorem dX2_fetch_68 : decode cX2_fetch 68 = .ok (.getfield 135, 3) := dk_180 0 135 (dk_at dksX2_fetch_3 0 rfl rfl)
theorem dX2_fetch_71 : decode cX2_fetch 71 = .ok (.invokevirtual 164, 3) := dk_182 0 164 (dk_at dksX2_fetch_3 3 rfl rfl)
theorem dX2_fetch_74 : decode cX2_fetch 74 = .ok (.checkcast 144, 3) := dk_192 0 144 (dk_at dksX2_fetch_3 6 rfl rfl)
theorem dX2_fetch_77 : decode cX2_fetch 77 = .ok (.goto 4, 3) := dk_167 0 4 (dk_at dksX2_fetch_3 9 rfl rfl)
theorem dX2_fetch_80 : decode cX2_fetch 80 = .ok (.aconst_null, 1) := dk_1 (dk_at dksX2_fetch_3 12 rfl rfl)
theorem dX2_fetch_81 : decode cX2_fetch 81 = .ok (.astore 4, 2) := dk_58 4 (dk_at dksX2_fetch_3 13 rfl rfl)
theorem dX2_fetch_83 : decode cX2_fetch 83 = .ok (.aload 4, 2) := dk_25 4 (dk_at dksX2_fetch_3 15 rfl rfl)
theorem dX2_fetch_85 : decode cX2_fetch 85 = .ok (.ifnull 20, 3) := dk_198 0 20 (dk_at dksX2_fetch_3 17 rfl rfl)
theorem dX2_fetch_88 : decode cX2_fetch 88 = .ok (.aload 4, 2) := dk_25 4 (dk_at dksX2_fetch_3 20 rfl rfl)
theorem dX2_fetch_90 : decode cX2_fetch 90 = .ok (.getfield 161, 3) := dk_180 0 161 (dk_at dksX2_fetch_4 0 rfl rfl)
theorem dX2_fetch_93 : decode cX2_fetch 93 = .ok (.iconst 3, 1) := dk_6 (dk_at dksX2_fetch_4 3 rfl rfl)
theorem dX2_fetch_94 : decode cX2_fetch 94 = .ok (.if_icmp .ne 11, 3) := dk_160 0 11 (dk_at dksX2_fetch_4 4 rfl rfl)
theorem dX2_fetch_97 : decode cX2_fetch 97 = .ok (.aload 4, 2) := dk_25 4 (dk_at dksX2_fetch_4 7 rfl rfl)
theorem dX2_fetch_99 : decode cX2_fetch 99 = .ok (.getfield 154, 3) := dk_180 0 154 (dk_at dksX2_fetch_4 9 rfl rfl)
theorem dX2_fetch_102 : decode cX2_fetch 102 = .ok (.ifCond .eq 21, 3) := dk_153 0 21 (dk_at dksX2_fetch_4 12 rfl rfl)
theorem dX2_fetch_105 : decode cX2_fetch 105 = .ok (.aload_n 0, 1) := dk_42 (dk_at dksX2_fetch_4 15 rfl rfl)
theorem dX2_fetch_106 : decode cX2_fetch 106 = .ok (.getfield 24, 3) := dk_180 0 24 (dk_at dksX2_fetch_4 16 rfl rfl)
theorem dX2_fetch_109 : decode cX2_fetch 109 = .ok (.new 80, 3) := dk_187 0 80 (dk_at dksX2_fetch_4 19 rfl rfl)
theorem dX2_fetch_112 : decode cX2_fetch 112 = .ok (.dup, 1) := dk_89 (dk_at dksX2_fetch_4 22 rfl rfl)
theorem dX2_fetch_113 : decode cX2_fetch 113 = .ok (.aload_n 3, 1) := dk_45 (dk_at dksX2_fetch_4 23 rfl rfl)
theorem dX2_fetch_114 : decode cX2_fetch 114 = .ok (.iconst 4, 1) := dk_7 (dk_at dksX2_fetch_5 0 rfl rfl)
theorem dX2_fetch_115 : decode cX2_fetch 115 = .ok (.iconst 0, 1) := dk_3 (dk_at dksX2_fetch_5 1 rfl rfl)
theorem dX2_fetch_116 : decode cX2_fetch 116 = .ok (.invokespecial 158, 3) := dk_183 0 158 (dk_at dksX2_fetch_5 2 rfl rfl)
theorem dX2_fetch_119 : decode cX2_fetch 119 = .ok (.invokevirtual 76, 3) := dk_182 0 76 (dk_at dksX2_fetch_5 5 rfl rfl)
theorem dX2_fetch_122 : decode cX2_fetch 122 = .ok (.return_, 1) := dk_177 (dk_at dksX2_fetch_5 8 rfl rfl)
theorem dX2_fetch_123 : decode cX2_fetch 123 = .ok (.aload_n 0, 1) := dk_42 (dk_at dksX2_fetch_5 9 rfl rfl)
theorem dX2_fetch_124 : decode cX2_fetch 124 = .ok (.aload_n 1, 1) := dk_43 (dk_at dksX2_fetch_5 10 rfl rfl)
theorem dX2_fetch_125 : decode cX2_fetch 125 = .ok (.aload_n 3, 1) := dk_45 (dk_at dksX2_fetch_5 11 rfl rfl)
theorem dX2_fetch_126 : decode cX2_fetch 126 = .ok (.aload_n 2, 1) := dk_44 (dk_at dksX2_fetch_5 12 rfl rfl)
theorem dX2_fetch_127 : decode cX2_fetch 127 = .ok (.invokevirtual 167, 3) := dk_182 0 167 (dk_at dksX2_fetch_5 13 rfl rfl)
theorem dX2_fetch_130 : decode cX2_fetch 130 = .ok (.istore 5, 2) := dk_54 5 (dk_at dksX2_fetch_5 16 rfl rfl)
theorem dX2_fetch_132 : decode cX2_fetch 132 = .ok (.aload_n 0, 1) := dk_42 (dk_at dksX2_fetch_5 18 rfl rfl)
theorem dX2_fetch_133 : decode cX2_fetch 133 = .ok (.getfield 20, 3) := dk_180 0 20 (dk_at dksX2_fetch_5 19 rfl rfl)
theorem dX2_fetch_136 : decode cX2_fetch 136 = .ok (.new 74, 3) := dk_187 0 74 (dk_at dksX2_fetch_6 0 rfl rfl)
theorem dX2_fetch_139 : decode cX2_fetch 139 = .ok (.dup, 1) := dk_89 (dk_at dksX2_fetch_6 3 rfl rfl)
theorem dX2_fetch_140 : decode cX2_fetch 140 = .ok (.aload_n 3, 1) := dk_45 (dk_at dksX2_fetch_6 4 rfl rfl)
theorem dX2_fetch_141 : decode cX2_fetch 141 = .ok (.aload_n 0, 1) := dk_42 (dk_at dksX2_fetch_6 5 rfl rfl)
theorem dX2_fetch_142 : decode cX2_fetch 142 = .ok (.aload_n 2, 1) := dk_44 (dk_at dksX2_fetch_6 6 rfl rfl)
theorem dX2_fetch_143 : decode cX2_fetch 143 = .ok (.invokevirtual 150, 3) := dk_182 0 150 (dk_at dksX2_fetch_6 7 rfl rfl)
theorem dX2_fetch_146 : decode cX2_fetch 146 = .ok (.iload 5, 2) := dk_21 5 (dk_at dksX2_fetch_6 10 rfl rfl)
theorem dX2_fetch_148 : decode cX2_fetch 148 = .ok (.invokespecial 171, 3) := dk_183 0 171 (dk_at dksX2_fetch_6 12 rfl rfl)
theorem dX2_fetch_151 : decode cX2_fetch 151 = .ok (.invokevirtual 76, 3) := dk_182 0 76 (dk_at dksX2_fetch_6 15 rfl rfl)
theorem dX2_fetch_154 : decode cX2_fetch 154 = .ok (.return_, 1) := dk_177 (dk_at dksX2_fetch_6 18 rfl rfl)
theorem dX2_fetch_155 : decode cX2_fetch 155 = .ok (.aload_n 0, 1) := dk_42 (dk_at dksX2_fetch_6 19 rfl rfl)
theorem dX2_fetch_156 : decode cX2_fetch 156 = .ok (.getfield 20, 3) := dk_180 0 20 (dk_at dksX2_fetch_6 20 rfl rfl)
theorem dX2_fetch_159 : decode cX2_fetch 159 = .ok (.new 74, 3) := dk_187 0 74 (dk_at dksX2_fetch_7 0 rfl rfl)
theorem dX2_fetch_162 : decode cX2_fetch 162 = .ok (.dup, 1) := dk_89 (dk_at dksX2_fetch_7 3 rfl rfl)
theorem dX2_fetch_163 : decode cX2_fetch 163 = .ok (.aload_n 3, 1) := dk_45 (dk_at dksX2_fetch_7 4 rfl rfl)
theorem dX2_fetch_164 : decode cX2_fetch 164 = .ok (.aconst_null, 1) := dk_1 (dk_at dksX2_fetch_7 5 rfl rfl)
theorem dX2_fetch_165 : decode cX2_fetch 165 = .ok (.aload_n 0, 1) := dk_42 (dk_at dksX2_fetch_7 6 rfl rfl)
theorem dX2_fetch_166 : decode cX2_fetch 166 = .ok (.aload_n 1, 1) := dk_43 (dk_at dksX2_fetch_7 7 rfl rfl)
theorem dX2_fetch_167 : decode cX2_fetch 167 = .ok (.aload_n 3, 1) := dk_45 (dk_at dksX2_fetch_7 8 rfl rfl)
theorem dX2_fetch_168 : decode cX2_fetch 168 = .ok (.aload_n 2, 1) := dk_44 (dk_at dksX2_fetch_7 9 rfl rfl)
theorem dX2_fetch_169 : decode cX2_fetch 169 = .ok (.invokevirtual 167, 3) := dk_182 0 167 (dk_at dksX2_fetch_7 10 rfl rfl)
theorem dX2_fetch_172 : decode cX2_fetch 172 = .ok (.invokespecial 171, 3) := dk_183 0 171 (dk_at dksX2_fetch_7 13 rfl rfl)
theorem dX2_fetch_175 : decode cX2_fetch 175 = .ok (.invokevirtual 76, 3) := dk_182 0 76 (dk_at dksX2_fetch_7 16 rfl rfl)
theorem dX2_fetch_178 : decode cX2_fetch 178 = .ok (.return_, 1) := dk_177 (dk_at dksX2_fetch_7 19 rfl rfl)
abbrev cX2_chosen : ByteArray := prog_3_method_7_code
def yX2_chosen : MethodName := ⟨RX2, "chosen", "()LQueueDrive$Line;"⟩
def dkwX2_chosen_4 : List UInt8 := [180, 0, 129, 79, 43, 176]
abbrev dktX2_chosen_4 : List UInt8 := dkwX2_chosen_4 ++ []
def dkwX2_chosen_3 : List UInt8 := [4, 100, 79, 132, 2, 1, 167, 255, 212, 43, 198, 0, 16, 42, 180, 0, 37, 43, 180, 0, 116, 43]
abbrev dktX2_chosen_3 : List UInt8 := dkwX2_chosen_3 ++ dktX2_chosen_4
def dkwX2_chosen_2 : List UInt8 := [46, 154, 0, 6, 167, 0, 23, 42, 28, 182, 0, 122, 76, 43, 198, 0, 13, 42, 180, 0, 34, 28, 92, 46]
abbrev dktX2_chosen_2 : List UInt8 := dkwX2_chosen_2 ++ dktX2_chosen_3
def dkwX2_chosen_1 : List UInt8 := [180, 0, 34, 3, 7, 184, 0, 82, 4, 61, 28, 7, 162, 0, 45, 43, 199, 0, 41, 42, 180, 0, 34, 28]
abbrev dktX2_chosen_1 : List UInt8 := dkwX2_chosen_1 ++ dktX2_chosen_2
def dkwX2_chosen_0 : List UInt8 := [42, 3, 182, 0, 122, 76, 43, 199, 0, 24, 42, 182, 0, 126, 154, 0, 17, 42, 180, 0, 31, 3, 42]
abbrev dktX2_chosen_0 : List UInt8 := dkwX2_chosen_0 ++ dktX2_chosen_1
theorem dksX2_chosen_0 : cX2_chosen.data.toList.drop 0 = dktX2_chosen_0 := by decide +kernel
theorem dksX2_chosen_1 : cX2_chosen.data.toList.drop 23 = dktX2_chosen_1 := dk_seg dksX2_chosen_0 23 rfl rfl
theorem dksX2_chosen_2 : cX2_chosen.data.toList.drop 47 = dktX2_chosen_2 := dk_seg dksX2_chosen_1 24 rfl rfl
theorem dksX2_chosen_3 : cX2_chosen.data.toList.drop 71 = dktX2_chosen_3 := dk_seg dksX2_chosen_2 24 rfl rfl
theorem dksX2_chosen_4 : cX2_chosen.data.toList.drop 93 = dktX2_chosen_4 := dk_seg dksX2_chosen_3 22 rfl rfl
theorem dX2_chosen_0 : decode cX2_chosen 0 = .ok (.aload_n 0, 1) := dk_42 (dk_at dksX2_chosen_0 0 rfl rfl)
theorem dX2_chosen_1 : decode cX2_chosen 1 = .ok (.iconst 0, 1) := dk_3 (dk_at dksX2_chosen_0 1 rfl rfl)
theorem dX2_chosen_2 : decode cX2_chosen 2 = .ok (.invokevirtual 122, 3) := dk_182 0 122 (dk_at dksX2_chosen_0 2 rfl rfl)
theorem dX2_chosen_5 : decode cX2_chosen 5 = .ok (.astore_n 1, 1) := dk_76 (dk_at dksX2_chosen_0 5 rfl rfl)
theorem dX2_chosen_6 : decode cX2_chosen 6 = .ok (.aload_n 1, 1) := dk_43 (dk_at dksX2_chosen_0 6 rfl rfl)
theorem dX2_chosen_7 : decode cX2_chosen 7 = .ok (.ifnonnull 24, 3) := dk_199 0 24 (dk_at dksX2_chosen_0 7 rfl rfl)
theorem dX2_chosen_10 : decode cX2_chosen 10 = .ok (.aload_n 0, 1) := dk_42 (dk_at dksX2_chosen_0 10 rfl rfl)
theorem dX2_chosen_11 : decode cX2_chosen 11 = .ok (.invokevirtual 126, 3) := dk_182 0 126 (dk_at dksX2_chosen_0 11 rfl rfl)
theorem dX2_chosen_14 : decode cX2_chosen 14 = .ok (.ifCond .ne 17, 3) := dk_154 0 17 (dk_at dksX2_chosen_0 14 rfl rfl)
theorem dX2_chosen_17 : decode cX2_chosen 17 = .ok (.aload_n 0, 1) := dk_42 (dk_at dksX2_chosen_0 17 rfl rfl)
theorem dX2_chosen_18 : decode cX2_chosen 18 = .ok (.getfield 31, 3) := dk_180 0 31 (dk_at dksX2_chosen_0 18 rfl rfl)
theorem dX2_chosen_21 : decode cX2_chosen 21 = .ok (.iconst 0, 1) := dk_3 (dk_at dksX2_chosen_0 21 rfl rfl)
theorem dX2_chosen_22 : decode cX2_chosen 22 = .ok (.aload_n 0, 1) := dk_42 (dk_at dksX2_chosen_0 22 rfl rfl)
theorem dX2_chosen_23 : decode cX2_chosen 23 = .ok (.getfield 34, 3) := dk_180 0 34 (dk_at dksX2_chosen_1 0 rfl rfl)
theorem dX2_chosen_26 : decode cX2_chosen 26 = .ok (.iconst 0, 1) := dk_3 (dk_at dksX2_chosen_1 3 rfl rfl)
theorem dX2_chosen_27 : decode cX2_chosen 27 = .ok (.iconst 4, 1) := dk_7 (dk_at dksX2_chosen_1 4 rfl rfl)
theorem dX2_chosen_28 : decode cX2_chosen 28 = .ok (.invokestatic 82, 3) := dk_184 0 82 (dk_at dksX2_chosen_1 5 rfl rfl)
theorem dX2_chosen_31 : decode cX2_chosen 31 = .ok (.iconst 1, 1) := dk_4 (dk_at dksX2_chosen_1 8 rfl rfl)
theorem dX2_chosen_32 : decode cX2_chosen 32 = .ok (.istore_n 2, 1) := dk_61 (dk_at dksX2_chosen_1 9 rfl rfl)
theorem dX2_chosen_33 : decode cX2_chosen 33 = .ok (.iload_n 2, 1) := dk_28 (dk_at dksX2_chosen_1 10 rfl rfl)
theorem dX2_chosen_34 : decode cX2_chosen 34 = .ok (.iconst 4, 1) := dk_7 (dk_at dksX2_chosen_1 11 rfl rfl)
theorem dX2_chosen_35 : decode cX2_chosen 35 = .ok (.if_icmp .ge 45, 3) := dk_162 0 45 (dk_at dksX2_chosen_1 12 rfl rfl)
theorem dX2_chosen_38 : decode cX2_chosen 38 = .ok (.aload_n 1, 1) := dk_43 (dk_at dksX2_chosen_1 15 rfl rfl)
theorem dX2_chosen_39 : decode cX2_chosen 39 = .ok (.ifnonnull 41, 3) := dk_199 0 41 (dk_at dksX2_chosen_1 16 rfl rfl)
theorem dX2_chosen_42 : decode cX2_chosen 42 = .ok (.aload_n 0, 1) := dk_42 (dk_at dksX2_chosen_1 19 rfl rfl)
theorem dX2_chosen_43 : decode cX2_chosen 43 = .ok (.getfield 34, 3) := dk_180 0 34 (dk_at dksX2_chosen_1 20 rfl rfl)
theorem dX2_chosen_46 : decode cX2_chosen 46 = .ok (.iload_n 2, 1) := dk_28 (dk_at dksX2_chosen_1 23 rfl rfl)
theorem dX2_chosen_47 : decode cX2_chosen 47 = .ok (.iaload, 1) := dk_46 (dk_at dksX2_chosen_2 0 rfl rfl)
theorem dX2_chosen_48 : decode cX2_chosen 48 = .ok (.ifCond .ne 6, 3) := dk_154 0 6 (dk_at dksX2_chosen_2 1 rfl rfl)
theorem dX2_chosen_51 : decode cX2_chosen 51 = .ok (.goto 23, 3) := dk_167 0 23 (dk_at dksX2_chosen_2 4 rfl rfl)
theorem dX2_chosen_54 : decode cX2_chosen 54 = .ok (.aload_n 0, 1) := dk_42 (dk_at dksX2_chosen_2 7 rfl rfl)
theorem dX2_chosen_55 : decode cX2_chosen 55 = .ok (.iload_n 2, 1) := dk_28 (dk_at dksX2_chosen_2 8 rfl rfl)
theorem dX2_chosen_56 : decode cX2_chosen 56 = .ok (.invokevirtual 122, 3) := dk_182 0 122 (dk_at dksX2_chosen_2 9 rfl rfl)
theorem dX2_chosen_59 : decode cX2_chosen 59 = .ok (.astore_n 1, 1) := dk_76 (dk_at dksX2_chosen_2 12 rfl rfl)
theorem dX2_chosen_60 : decode cX2_chosen 60 = .ok (.aload_n 1, 1) := dk_43 (dk_at dksX2_chosen_2 13 rfl rfl)
theorem dX2_chosen_61 : decode cX2_chosen 61 = .ok (.ifnull 13, 3) := dk_198 0 13 (dk_at dksX2_chosen_2 14 rfl rfl)
theorem dX2_chosen_64 : decode cX2_chosen 64 = .ok (.aload_n 0, 1) := dk_42 (dk_at dksX2_chosen_2 17 rfl rfl)
theorem dX2_chosen_65 : decode cX2_chosen 65 = .ok (.getfield 34, 3) := dk_180 0 34 (dk_at dksX2_chosen_2 18 rfl rfl)
theorem dX2_chosen_68 : decode cX2_chosen 68 = .ok (.iload_n 2, 1) := dk_28 (dk_at dksX2_chosen_2 21 rfl rfl)
theorem dX2_chosen_69 : decode cX2_chosen 69 = .ok (.dup2, 1) := dk_92 (dk_at dksX2_chosen_2 22 rfl rfl)
theorem dX2_chosen_70 : decode cX2_chosen 70 = .ok (.iaload, 1) := dk_46 (dk_at dksX2_chosen_2 23 rfl rfl)
theorem dX2_chosen_71 : decode cX2_chosen 71 = .ok (.iconst 1, 1) := dk_4 (dk_at dksX2_chosen_3 0 rfl rfl)
theorem dX2_chosen_72 : decode cX2_chosen 72 = .ok (.isub, 1) := dk_100 (dk_at dksX2_chosen_3 1 rfl rfl)
theorem dX2_chosen_73 : decode cX2_chosen 73 = .ok (.iastore, 1) := dk_79 (dk_at dksX2_chosen_3 2 rfl rfl)
theorem dX2_chosen_74 : decode cX2_chosen 74 = .ok (.iinc 2 1, 3) := dk_132 2 1 (dk_at dksX2_chosen_3 3 rfl rfl)
theorem dX2_chosen_77 : decode cX2_chosen 77 = .ok (.goto (-44), 3) := dk_167 255 212 (dk_at dksX2_chosen_3 6 rfl rfl)
theorem dX2_chosen_80 : decode cX2_chosen 80 = .ok (.aload_n 1, 1) := dk_43 (dk_at dksX2_chosen_3 9 rfl rfl)
theorem dX2_chosen_81 : decode cX2_chosen 81 = .ok (.ifnull 16, 3) := dk_198 0 16 (dk_at dksX2_chosen_3 10 rfl rfl)
theorem dX2_chosen_84 : decode cX2_chosen 84 = .ok (.aload_n 0, 1) := dk_42 (dk_at dksX2_chosen_3 13 rfl rfl)
theorem dX2_chosen_85 : decode cX2_chosen 85 = .ok (.getfield 37, 3) := dk_180 0 37 (dk_at dksX2_chosen_3 14 rfl rfl)
theorem dX2_chosen_88 : decode cX2_chosen 88 = .ok (.aload_n 1, 1) := dk_43 (dk_at dksX2_chosen_3 17 rfl rfl)
theorem dX2_chosen_89 : decode cX2_chosen 89 = .ok (.getfield 116, 3) := dk_180 0 116 (dk_at dksX2_chosen_3 18 rfl rfl)
theorem dX2_chosen_92 : decode cX2_chosen 92 = .ok (.aload_n 1, 1) := dk_43 (dk_at dksX2_chosen_3 21 rfl rfl)
theorem dX2_chosen_93 : decode cX2_chosen 93 = .ok (.getfield 129, 3) := dk_180 0 129 (dk_at dksX2_chosen_4 0 rfl rfl)
theorem dX2_chosen_96 : decode cX2_chosen 96 = .ok (.iastore, 1) := dk_79 (dk_at dksX2_chosen_4 3 rfl rfl)
theorem dX2_chosen_97 : decode cX2_chosen 97 = .ok (.aload_n 1, 1) := dk_43 (dk_at dksX2_chosen_4 4 rfl rfl)
theorem dX2_chosen_98 : decode cX2_chosen 98 = .ok (.areturn, 1) := dk_176 (dk_at dksX2_chosen_4 5 rfl rfl)
abbrev cX2_turn : ByteArray := prog_3_method_5_code
def yX2_turn : MethodName := ⟨RX2, "turn", "(I)LQueueDrive$Line;"⟩
def dkwX2_turn_2 : List UInt8 := [182, 0, 119, 153, 0, 10, 42, 180, 0, 11, 29, 50, 176, 132, 2, 1, 167, 255, 197, 1, 176]
abbrev dktX2_turn_2 : List UInt8 := dkwX2_turn_2 ++ []
def dkwX2_turn_1 : List UInt8 := [162, 0, 35, 42, 180, 0, 11, 29, 50, 180, 0, 116, 27, 160, 0, 22, 42, 180, 0, 11, 29, 50]
abbrev dktX2_turn_1 : List UInt8 := dkwX2_turn_1 ++ dktX2_turn_2
def dkwX2_turn_0 : List UInt8 := [4, 61, 28, 8, 163, 0, 60, 42, 180, 0, 37, 27, 46, 28, 96, 8, 112, 62, 29, 42, 180, 0, 50]
abbrev dktX2_turn_0 : List UInt8 := dkwX2_turn_0 ++ dktX2_turn_1
theorem dksX2_turn_0 : cX2_turn.data.toList.drop 0 = dktX2_turn_0 := by decide +kernel
theorem dksX2_turn_1 : cX2_turn.data.toList.drop 23 = dktX2_turn_1 := dk_seg dksX2_turn_0 23 rfl rfl
theorem dksX2_turn_2 : cX2_turn.data.toList.drop 45 = dktX2_turn_2 := dk_seg dksX2_turn_1 22 rfl rfl
theorem dX2_turn_0 : decode cX2_turn 0 = .ok (.iconst 1, 1) := dk_4 (dk_at dksX2_turn_0 0 rfl rfl)
theorem dX2_turn_1 : decode cX2_turn 1 = .ok (.istore_n 2, 1) := dk_61 (dk_at dksX2_turn_0 1 rfl rfl)
theorem dX2_turn_2 : decode cX2_turn 2 = .ok (.iload_n 2, 1) := dk_28 (dk_at dksX2_turn_0 2 rfl rfl)
theorem dX2_turn_3 : decode cX2_turn 3 = .ok (.iconst 5, 1) := dk_8 (dk_at dksX2_turn_0 3 rfl rfl)
theorem dX2_turn_4 : decode cX2_turn 4 = .ok (.if_icmp .gt 60, 3) := dk_163 0 60 (dk_at dksX2_turn_0 4 rfl rfl)
theorem dX2_turn_7 : decode cX2_turn 7 = .ok (.aload_n 0, 1) := dk_42 (dk_at dksX2_turn_0 7 rfl rfl)
theorem dX2_turn_8 : decode cX2_turn 8 = .ok (.getfield 37, 3) := dk_180 0 37 (dk_at dksX2_turn_0 8 rfl rfl)
theorem dX2_turn_11 : decode cX2_turn 11 = .ok (.iload_n 1, 1) := dk_27 (dk_at dksX2_turn_0 11 rfl rfl)
theorem dX2_turn_12 : decode cX2_turn 12 = .ok (.iaload, 1) := dk_46 (dk_at dksX2_turn_0 12 rfl rfl)
theorem dX2_turn_13 : decode cX2_turn 13 = .ok (.iload_n 2, 1) := dk_28 (dk_at dksX2_turn_0 13 rfl rfl)
theorem dX2_turn_14 : decode cX2_turn 14 = .ok (.iadd, 1) := dk_96 (dk_at dksX2_turn_0 14 rfl rfl)
theorem dX2_turn_15 : decode cX2_turn 15 = .ok (.iconst 5, 1) := dk_8 (dk_at dksX2_turn_0 15 rfl rfl)
theorem dX2_turn_16 : decode cX2_turn 16 = .ok (.irem, 1) := dk_112 (dk_at dksX2_turn_0 16 rfl rfl)
theorem dX2_turn_17 : decode cX2_turn 17 = .ok (.istore_n 3, 1) := dk_62 (dk_at dksX2_turn_0 17 rfl rfl)
theorem dX2_turn_18 : decode cX2_turn 18 = .ok (.iload_n 3, 1) := dk_29 (dk_at dksX2_turn_0 18 rfl rfl)
theorem dX2_turn_19 : decode cX2_turn 19 = .ok (.aload_n 0, 1) := dk_42 (dk_at dksX2_turn_0 19 rfl rfl)
theorem dX2_turn_20 : decode cX2_turn 20 = .ok (.getfield 50, 3) := dk_180 0 50 (dk_at dksX2_turn_0 20 rfl rfl)
theorem dX2_turn_23 : decode cX2_turn 23 = .ok (.if_icmp .ge 35, 3) := dk_162 0 35 (dk_at dksX2_turn_1 0 rfl rfl)
theorem dX2_turn_26 : decode cX2_turn 26 = .ok (.aload_n 0, 1) := dk_42 (dk_at dksX2_turn_1 3 rfl rfl)
theorem dX2_turn_27 : decode cX2_turn 27 = .ok (.getfield 11, 3) := dk_180 0 11 (dk_at dksX2_turn_1 4 rfl rfl)
theorem dX2_turn_30 : decode cX2_turn 30 = .ok (.iload_n 3, 1) := dk_29 (dk_at dksX2_turn_1 7 rfl rfl)
theorem dX2_turn_31 : decode cX2_turn 31 = .ok (.aaload, 1) := dk_50 (dk_at dksX2_turn_1 8 rfl rfl)
theorem dX2_turn_32 : decode cX2_turn 32 = .ok (.getfield 116, 3) := dk_180 0 116 (dk_at dksX2_turn_1 9 rfl rfl)
theorem dX2_turn_35 : decode cX2_turn 35 = .ok (.iload_n 1, 1) := dk_27 (dk_at dksX2_turn_1 12 rfl rfl)
theorem dX2_turn_36 : decode cX2_turn 36 = .ok (.if_icmp .ne 22, 3) := dk_160 0 22 (dk_at dksX2_turn_1 13 rfl rfl)
theorem dX2_turn_39 : decode cX2_turn 39 = .ok (.aload_n 0, 1) := dk_42 (dk_at dksX2_turn_1 16 rfl rfl)
theorem dX2_turn_40 : decode cX2_turn 40 = .ok (.getfield 11, 3) := dk_180 0 11 (dk_at dksX2_turn_1 17 rfl rfl)
theorem dX2_turn_43 : decode cX2_turn 43 = .ok (.iload_n 3, 1) := dk_29 (dk_at dksX2_turn_1 20 rfl rfl)
theorem dX2_turn_44 : decode cX2_turn 44 = .ok (.aaload, 1) := dk_50 (dk_at dksX2_turn_1 21 rfl rfl)
theorem dX2_turn_45 : decode cX2_turn 45 = .ok (.invokevirtual 119, 3) := dk_182 0 119 (dk_at dksX2_turn_2 0 rfl rfl)
theorem dX2_turn_48 : decode cX2_turn 48 = .ok (.ifCond .eq 10, 3) := dk_153 0 10 (dk_at dksX2_turn_2 3 rfl rfl)
theorem dX2_turn_51 : decode cX2_turn 51 = .ok (.aload_n 0, 1) := dk_42 (dk_at dksX2_turn_2 6 rfl rfl)
theorem dX2_turn_52 : decode cX2_turn 52 = .ok (.getfield 11, 3) := dk_180 0 11 (dk_at dksX2_turn_2 7 rfl rfl)
theorem dX2_turn_55 : decode cX2_turn 55 = .ok (.iload_n 3, 1) := dk_29 (dk_at dksX2_turn_2 10 rfl rfl)
theorem dX2_turn_56 : decode cX2_turn 56 = .ok (.aaload, 1) := dk_50 (dk_at dksX2_turn_2 11 rfl rfl)
theorem dX2_turn_57 : decode cX2_turn 57 = .ok (.areturn, 1) := dk_176 (dk_at dksX2_turn_2 12 rfl rfl)
theorem dX2_turn_58 : decode cX2_turn 58 = .ok (.iinc 2 1, 3) := dk_132 2 1 (dk_at dksX2_turn_2 13 rfl rfl)
theorem dX2_turn_61 : decode cX2_turn 61 = .ok (.goto (-59), 3) := dk_167 255 197 (dk_at dksX2_turn_2 16 rfl rfl)
theorem dX2_turn_64 : decode cX2_turn 64 = .ok (.aconst_null, 1) := dk_1 (dk_at dksX2_turn_2 19 rfl rfl)
theorem dX2_turn_65 : decode cX2_turn 65 = .ok (.areturn, 1) := dk_176 (dk_at dksX2_turn_2 20 rfl rfl)
abbrev cX2_hasCredit : ByteArray := prog_3_method_6_code
def yX2_hasCredit : MethodName := ⟨RX2, "hasCredit", "()Z"⟩
def dkwX2_hasCredit_1 : List UInt8 := [4, 172, 132, 1, 1, 167, 255, 229, 3, 172]
abbrev dktX2_hasCredit_1 : List UInt8 := dkwX2_hasCredit_1 ++ []
def dkwX2_hasCredit_0 : List UInt8 := [4, 60, 27, 7, 162, 0, 28, 42, 180, 0, 34, 27, 46, 158, 0, 13, 42, 27, 182, 0, 122, 198, 0, 5]
abbrev dktX2_hasCredit_0 : List UInt8 := dkwX2_hasCredit_0 ++ dktX2_hasCredit_1
theorem dksX2_hasCredit_0 : cX2_hasCredit.data.toList.drop 0 = dktX2_hasCredit_0 := by decide +kernel
theorem dksX2_hasCredit_1 : cX2_hasCredit.data.toList.drop 24 = dktX2_hasCredit_1 := dk_seg dksX2_hasCredit_0 24 rfl rfl
theorem dX2_hasCredit_0 : decode cX2_hasCredit 0 = .ok (.iconst 1, 1) := dk_4 (dk_at dksX2_hasCredit_0 0 rfl rfl)
theorem dX2_hasCredit_1 : decode cX2_hasCredit 1 = .ok (.istore_n 1, 1) := dk_60 (dk_at dksX2_hasCredit_0 1 rfl rfl)
theorem dX2_hasCredit_2 : decode cX2_hasCredit 2 = .ok (.iload_n 1, 1) := dk_27 (dk_at dksX2_hasCredit_0 2 rfl rfl)
theorem dX2_hasCredit_3 : decode cX2_hasCredit 3 = .ok (.iconst 4, 1) := dk_7 (dk_at dksX2_hasCredit_0 3 rfl rfl)
theorem dX2_hasCredit_4 : decode cX2_hasCredit 4 = .ok (.if_icmp .ge 28, 3) := dk_162 0 28 (dk_at dksX2_hasCredit_0 4 rfl rfl)
theorem dX2_hasCredit_7 : decode cX2_hasCredit 7 = .ok (.aload_n 0, 1) := dk_42 (dk_at dksX2_hasCredit_0 7 rfl rfl)
theorem dX2_hasCredit_8 : decode cX2_hasCredit 8 = .ok (.getfield 34, 3) := dk_180 0 34 (dk_at dksX2_hasCredit_0 8 rfl rfl)
theorem dX2_hasCredit_11 : decode cX2_hasCredit 11 = .ok (.iload_n 1, 1) := dk_27 (dk_at dksX2_hasCredit_0 11 rfl rfl)
theorem dX2_hasCredit_12 : decode cX2_hasCredit 12 = .ok (.iaload, 1) := dk_46 (dk_at dksX2_hasCredit_0 12 rfl rfl)
theorem dX2_hasCredit_13 : decode cX2_hasCredit 13 = .ok (.ifCond .le 13, 3) := dk_158 0 13 (dk_at dksX2_hasCredit_0 13 rfl rfl)
theorem dX2_hasCredit_16 : decode cX2_hasCredit 16 = .ok (.aload_n 0, 1) := dk_42 (dk_at dksX2_hasCredit_0 16 rfl rfl)
theorem dX2_hasCredit_17 : decode cX2_hasCredit 17 = .ok (.iload_n 1, 1) := dk_27 (dk_at dksX2_hasCredit_0 17 rfl rfl)
theorem dX2_hasCredit_18 : decode cX2_hasCredit 18 = .ok (.invokevirtual 122, 3) := dk_182 0 122 (dk_at dksX2_hasCredit_0 18 rfl rfl)
theorem dX2_hasCredit_21 : decode cX2_hasCredit 21 = .ok (.ifnull 5, 3) := dk_198 0 5 (dk_at dksX2_hasCredit_0 21 rfl rfl)
theorem dX2_hasCredit_24 : decode cX2_hasCredit 24 = .ok (.iconst 1, 1) := dk_4 (dk_at dksX2_hasCredit_1 0 rfl rfl)
theorem dX2_hasCredit_25 : decode cX2_hasCredit 25 = .ok (.ireturn, 1) := dk_172 (dk_at dksX2_hasCredit_1 1 rfl rfl)
theorem dX2_hasCredit_26 : decode cX2_hasCredit 26 = .ok (.iinc 1 1, 3) := dk_132 1 1 (dk_at dksX2_hasCredit_1 2 rfl rfl)
theorem dX2_hasCredit_29 : decode cX2_hasCredit 29 = .ok (.goto (-27), 3) := dk_167 255 229 (dk_at dksX2_hasCredit_1 5 rfl rfl)
theorem dX2_hasCredit_32 : decode cX2_hasCredit 32 = .ok (.iconst 0, 1) := dk_3 (dk_at dksX2_hasCredit_1 8 rfl rfl)
theorem dX2_hasCredit_33 : decode cX2_hasCredit 33 = .ok (.ireturn, 1) := dk_172 (dk_at dksX2_hasCredit_1 9 rfl rfl)
abbrev cX2_nextOf : ByteArray := prog_3_method_9_code
def yX2_nextOf : MethodName := ⟨RX2, "nextOf", "(LQueueDrive$Line;)LQueueDrive$Command;"⟩
def dkwX2_nextOf_1 : List UInt8 := [43, 180, 0, 116, 92, 46, 4, 96, 79, 43, 180, 0, 135, 182, 0, 139, 192, 0, 144, 176]
abbrev dktX2_nextOf_1 : List UInt8 := dkwX2_nextOf_1 ++ []
def dkwX2_nextOf_0 : List UInt8 := [43, 89, 180, 0, 132, 4, 96, 181, 0, 132, 42, 89, 180, 0, 101, 4, 96, 181, 0, 101, 42, 180, 0, 40]
abbrev dktX2_nextOf_0 : List UInt8 := dkwX2_nextOf_0 ++ dktX2_nextOf_1
theorem dksX2_nextOf_0 : cX2_nextOf.data.toList.drop 0 = dktX2_nextOf_0 := by decide +kernel
theorem dksX2_nextOf_1 : cX2_nextOf.data.toList.drop 24 = dktX2_nextOf_1 := dk_seg dksX2_nextOf_0 24 rfl rfl
theorem dX2_nextOf_0 : decode cX2_nextOf 0 = .ok (.aload_n 1, 1) := dk_43 (dk_at dksX2_nextOf_0 0 rfl rfl)
theorem dX2_nextOf_1 : decode cX2_nextOf 1 = .ok (.dup, 1) := dk_89 (dk_at dksX2_nextOf_0 1 rfl rfl)
theorem dX2_nextOf_2 : decode cX2_nextOf 2 = .ok (.getfield 132, 3) := dk_180 0 132 (dk_at dksX2_nextOf_0 2 rfl rfl)
theorem dX2_nextOf_5 : decode cX2_nextOf 5 = .ok (.iconst 1, 1) := dk_4 (dk_at dksX2_nextOf_0 5 rfl rfl)
theorem dX2_nextOf_6 : decode cX2_nextOf 6 = .ok (.iadd, 1) := dk_96 (dk_at dksX2_nextOf_0 6 rfl rfl)
theorem dX2_nextOf_7 : decode cX2_nextOf 7 = .ok (.putfield 132, 3) := dk_181 0 132 (dk_at dksX2_nextOf_0 7 rfl rfl)
theorem dX2_nextOf_10 : decode cX2_nextOf 10 = .ok (.aload_n 0, 1) := dk_42 (dk_at dksX2_nextOf_0 10 rfl rfl)
theorem dX2_nextOf_11 : decode cX2_nextOf 11 = .ok (.dup, 1) := dk_89 (dk_at dksX2_nextOf_0 11 rfl rfl)
theorem dX2_nextOf_12 : decode cX2_nextOf 12 = .ok (.getfield 101, 3) := dk_180 0 101 (dk_at dksX2_nextOf_0 12 rfl rfl)
theorem dX2_nextOf_15 : decode cX2_nextOf 15 = .ok (.iconst 1, 1) := dk_4 (dk_at dksX2_nextOf_0 15 rfl rfl)
theorem dX2_nextOf_16 : decode cX2_nextOf 16 = .ok (.iadd, 1) := dk_96 (dk_at dksX2_nextOf_0 16 rfl rfl)
theorem dX2_nextOf_17 : decode cX2_nextOf 17 = .ok (.putfield 101, 3) := dk_181 0 101 (dk_at dksX2_nextOf_0 17 rfl rfl)
theorem dX2_nextOf_20 : decode cX2_nextOf 20 = .ok (.aload_n 0, 1) := dk_42 (dk_at dksX2_nextOf_0 20 rfl rfl)
theorem dX2_nextOf_21 : decode cX2_nextOf 21 = .ok (.getfield 40, 3) := dk_180 0 40 (dk_at dksX2_nextOf_0 21 rfl rfl)
theorem dX2_nextOf_24 : decode cX2_nextOf 24 = .ok (.aload_n 1, 1) := dk_43 (dk_at dksX2_nextOf_1 0 rfl rfl)
theorem dX2_nextOf_25 : decode cX2_nextOf 25 = .ok (.getfield 116, 3) := dk_180 0 116 (dk_at dksX2_nextOf_1 1 rfl rfl)
theorem dX2_nextOf_28 : decode cX2_nextOf 28 = .ok (.dup2, 1) := dk_92 (dk_at dksX2_nextOf_1 4 rfl rfl)
theorem dX2_nextOf_29 : decode cX2_nextOf 29 = .ok (.iaload, 1) := dk_46 (dk_at dksX2_nextOf_1 5 rfl rfl)
theorem dX2_nextOf_30 : decode cX2_nextOf 30 = .ok (.iconst 1, 1) := dk_4 (dk_at dksX2_nextOf_1 6 rfl rfl)
theorem dX2_nextOf_31 : decode cX2_nextOf 31 = .ok (.iadd, 1) := dk_96 (dk_at dksX2_nextOf_1 7 rfl rfl)
theorem dX2_nextOf_32 : decode cX2_nextOf 32 = .ok (.iastore, 1) := dk_79 (dk_at dksX2_nextOf_1 8 rfl rfl)
theorem dX2_nextOf_33 : decode cX2_nextOf 33 = .ok (.aload_n 1, 1) := dk_43 (dk_at dksX2_nextOf_1 9 rfl rfl)
theorem dX2_nextOf_34 : decode cX2_nextOf 34 = .ok (.getfield 135, 3) := dk_180 0 135 (dk_at dksX2_nextOf_1 10 rfl rfl)
theorem dX2_nextOf_37 : decode cX2_nextOf 37 = .ok (.invokevirtual 139, 3) := dk_182 0 139 (dk_at dksX2_nextOf_1 13 rfl rfl)
theorem dX2_nextOf_40 : decode cX2_nextOf 40 = .ok (.checkcast 144, 3) := dk_192 0 144 (dk_at dksX2_nextOf_1 16 rfl rfl)
theorem dX2_nextOf_43 : decode cX2_nextOf 43 = .ok (.areturn, 1) := dk_176 (dk_at dksX2_nextOf_1 19 rfl rfl)
abbrev cX2_timeOf : ByteArray := prog_3_method_11_code
def yX2_timeOf : MethodName := ⟨RX2, "timeOf", "(LQueueDrive$Rule;LQueueDrive$Command;LQueueDrive$Line;)I"⟩
def dkwX2_timeOf_1 : List UInt8 := [45, 182, 0, 174, 54, 4, 4, 16, 9, 21, 4, 184, 0, 180, 184, 0, 186, 172]
abbrev dktX2_timeOf_1 : List UInt8 := dkwX2_timeOf_1 ++ []
def dkwX2_timeOf_0 : List UInt8 := [43, 199, 0, 20, 4, 44, 180, 0, 161, 158, 0, 7, 4, 167, 0, 4, 3, 96, 167, 0, 10, 43, 42, 44]
abbrev dktX2_timeOf_0 : List UInt8 := dkwX2_timeOf_0 ++ dktX2_timeOf_1
theorem dksX2_timeOf_0 : cX2_timeOf.data.toList.drop 0 = dktX2_timeOf_0 := by decide +kernel
theorem dksX2_timeOf_1 : cX2_timeOf.data.toList.drop 24 = dktX2_timeOf_1 := dk_seg dksX2_timeOf_0 24 rfl rfl
theorem dX2_timeOf_0 : decode cX2_timeOf 0 = .ok (.aload_n 1, 1) := dk_43 (dk_at dksX2_timeOf_0 0 rfl rfl)
theorem dX2_timeOf_1 : decode cX2_timeOf 1 = .ok (.ifnonnull 20, 3) := dk_199 0 20 (dk_at dksX2_timeOf_0 1 rfl rfl)
theorem dX2_timeOf_4 : decode cX2_timeOf 4 = .ok (.iconst 1, 1) := dk_4 (dk_at dksX2_timeOf_0 4 rfl rfl)
theorem dX2_timeOf_5 : decode cX2_timeOf 5 = .ok (.aload_n 2, 1) := dk_44 (dk_at dksX2_timeOf_0 5 rfl rfl)
theorem dX2_timeOf_6 : decode cX2_timeOf 6 = .ok (.getfield 161, 3) := dk_180 0 161 (dk_at dksX2_timeOf_0 6 rfl rfl)
theorem dX2_timeOf_9 : decode cX2_timeOf 9 = .ok (.ifCond .le 7, 3) := dk_158 0 7 (dk_at dksX2_timeOf_0 9 rfl rfl)
theorem dX2_timeOf_12 : decode cX2_timeOf 12 = .ok (.iconst 1, 1) := dk_4 (dk_at dksX2_timeOf_0 12 rfl rfl)
theorem dX2_timeOf_13 : decode cX2_timeOf 13 = .ok (.goto 4, 3) := dk_167 0 4 (dk_at dksX2_timeOf_0 13 rfl rfl)
theorem dX2_timeOf_16 : decode cX2_timeOf 16 = .ok (.iconst 0, 1) := dk_3 (dk_at dksX2_timeOf_0 16 rfl rfl)
theorem dX2_timeOf_17 : decode cX2_timeOf 17 = .ok (.iadd, 1) := dk_96 (dk_at dksX2_timeOf_0 17 rfl rfl)
theorem dX2_timeOf_18 : decode cX2_timeOf 18 = .ok (.goto 10, 3) := dk_167 0 10 (dk_at dksX2_timeOf_0 18 rfl rfl)
theorem dX2_timeOf_21 : decode cX2_timeOf 21 = .ok (.aload_n 1, 1) := dk_43 (dk_at dksX2_timeOf_0 21 rfl rfl)
theorem dX2_timeOf_22 : decode cX2_timeOf 22 = .ok (.aload_n 0, 1) := dk_42 (dk_at dksX2_timeOf_0 22 rfl rfl)
theorem dX2_timeOf_23 : decode cX2_timeOf 23 = .ok (.aload_n 2, 1) := dk_44 (dk_at dksX2_timeOf_0 23 rfl rfl)
theorem dX2_timeOf_24 : decode cX2_timeOf 24 = .ok (.aload_n 3, 1) := dk_45 (dk_at dksX2_timeOf_1 0 rfl rfl)
theorem dX2_timeOf_25 : decode cX2_timeOf 25 = .ok (.invokevirtual 174, 3) := dk_182 0 174 (dk_at dksX2_timeOf_1 1 rfl rfl)
theorem dX2_timeOf_28 : decode cX2_timeOf 28 = .ok (.istore 4, 2) := dk_54 4 (dk_at dksX2_timeOf_1 4 rfl rfl)
theorem dX2_timeOf_30 : decode cX2_timeOf 30 = .ok (.iconst 1, 1) := dk_4 (dk_at dksX2_timeOf_1 6 rfl rfl)
theorem dX2_timeOf_31 : decode cX2_timeOf 31 = .ok (.bipush 9, 2) := dk_16 9 (dk_at dksX2_timeOf_1 7 rfl rfl)
theorem dX2_timeOf_33 : decode cX2_timeOf 33 = .ok (.iload 4, 2) := dk_21 4 (dk_at dksX2_timeOf_1 9 rfl rfl)
theorem dX2_timeOf_35 : decode cX2_timeOf 35 = .ok (.invokestatic 180, 3) := dk_184 0 180 (dk_at dksX2_timeOf_1 11 rfl rfl)
theorem dX2_timeOf_38 : decode cX2_timeOf 38 = .ok (.invokestatic 186, 3) := dk_184 0 186 (dk_at dksX2_timeOf_1 14 rfl rfl)
theorem dX2_timeOf_41 : decode cX2_timeOf 41 = .ok (.ireturn, 1) := dk_172 (dk_at dksX2_timeOf_1 17 rfl rfl)
abbrev cX2_inRings : ByteArray := prog_3_method_22_code
def yX2_inRings : MethodName := ⟨RX2, "inRings", "()I"⟩
def dkwX2_inRings_1 : List UInt8 := [182, 1, 26, 96, 60, 132, 2, 1, 167, 255, 230, 27, 172]
abbrev dktX2_inRings_1 : List UInt8 := dkwX2_inRings_1 ++ []
def dkwX2_inRings_0 : List UInt8 := [3, 60, 3, 61, 28, 42, 180, 0, 50, 162, 0, 24, 27, 42, 180, 0, 11, 28, 50, 180, 0, 135]
abbrev dktX2_inRings_0 : List UInt8 := dkwX2_inRings_0 ++ dktX2_inRings_1
theorem dksX2_inRings_0 : cX2_inRings.data.toList.drop 0 = dktX2_inRings_0 := by decide +kernel
theorem dksX2_inRings_1 : cX2_inRings.data.toList.drop 22 = dktX2_inRings_1 := dk_seg dksX2_inRings_0 22 rfl rfl
theorem dX2_inRings_0 : decode cX2_inRings 0 = .ok (.iconst 0, 1) := dk_3 (dk_at dksX2_inRings_0 0 rfl rfl)
theorem dX2_inRings_1 : decode cX2_inRings 1 = .ok (.istore_n 1, 1) := dk_60 (dk_at dksX2_inRings_0 1 rfl rfl)
theorem dX2_inRings_2 : decode cX2_inRings 2 = .ok (.iconst 0, 1) := dk_3 (dk_at dksX2_inRings_0 2 rfl rfl)
theorem dX2_inRings_3 : decode cX2_inRings 3 = .ok (.istore_n 2, 1) := dk_61 (dk_at dksX2_inRings_0 3 rfl rfl)
theorem dX2_inRings_4 : decode cX2_inRings 4 = .ok (.iload_n 2, 1) := dk_28 (dk_at dksX2_inRings_0 4 rfl rfl)
theorem dX2_inRings_5 : decode cX2_inRings 5 = .ok (.aload_n 0, 1) := dk_42 (dk_at dksX2_inRings_0 5 rfl rfl)
theorem dX2_inRings_6 : decode cX2_inRings 6 = .ok (.getfield 50, 3) := dk_180 0 50 (dk_at dksX2_inRings_0 6 rfl rfl)
theorem dX2_inRings_9 : decode cX2_inRings 9 = .ok (.if_icmp .ge 24, 3) := dk_162 0 24 (dk_at dksX2_inRings_0 9 rfl rfl)
theorem dX2_inRings_12 : decode cX2_inRings 12 = .ok (.iload_n 1, 1) := dk_27 (dk_at dksX2_inRings_0 12 rfl rfl)
theorem dX2_inRings_13 : decode cX2_inRings 13 = .ok (.aload_n 0, 1) := dk_42 (dk_at dksX2_inRings_0 13 rfl rfl)
theorem dX2_inRings_14 : decode cX2_inRings 14 = .ok (.getfield 11, 3) := dk_180 0 11 (dk_at dksX2_inRings_0 14 rfl rfl)
theorem dX2_inRings_17 : decode cX2_inRings 17 = .ok (.iload_n 2, 1) := dk_28 (dk_at dksX2_inRings_0 17 rfl rfl)
theorem dX2_inRings_18 : decode cX2_inRings 18 = .ok (.aaload, 1) := dk_50 (dk_at dksX2_inRings_0 18 rfl rfl)
theorem dX2_inRings_19 : decode cX2_inRings 19 = .ok (.getfield 135, 3) := dk_180 0 135 (dk_at dksX2_inRings_0 19 rfl rfl)
theorem dX2_inRings_22 : decode cX2_inRings 22 = .ok (.invokevirtual 282, 3) := dk_182 1 26 (dk_at dksX2_inRings_1 0 rfl rfl)
theorem dX2_inRings_25 : decode cX2_inRings 25 = .ok (.iadd, 1) := dk_96 (dk_at dksX2_inRings_1 3 rfl rfl)
theorem dX2_inRings_26 : decode cX2_inRings 26 = .ok (.istore_n 1, 1) := dk_60 (dk_at dksX2_inRings_1 4 rfl rfl)
theorem dX2_inRings_27 : decode cX2_inRings 27 = .ok (.iinc 2 1, 3) := dk_132 2 1 (dk_at dksX2_inRings_1 5 rfl rfl)
theorem dX2_inRings_30 : decode cX2_inRings 30 = .ok (.goto (-26), 3) := dk_167 255 230 (dk_at dksX2_inRings_1 8 rfl rfl)
theorem dX2_inRings_33 : decode cX2_inRings 33 = .ok (.iload_n 1, 1) := dk_27 (dk_at dksX2_inRings_1 11 rfl rfl)
theorem dX2_inRings_34 : decode cX2_inRings 34 = .ok (.ireturn, 1) := dk_172 (dk_at dksX2_inRings_1 12 rfl rfl)
abbrev cX2_inWork : ByteArray := prog_3_method_23_code
def yX2_inWork : MethodName := ⟨RX2, "inWork", "()I"⟩
def dkwX2_inWork_2 : List UInt8 := [167, 255, 222, 27, 172]
abbrev dktX2_inWork_2 : List UInt8 := dkwX2_inWork_2 ++ []
def dkwX2_inWork_1 : List UInt8 := [185, 0, 70, 1, 0, 192, 0, 74, 78, 27, 45, 180, 0, 196, 199, 0, 7, 4, 167, 0, 4, 5, 96, 60]
abbrev dktX2_inWork_1 : List UInt8 := dkwX2_inWork_1 ++ dktX2_inWork_2
def dkwX2_inWork_0 : List UInt8 := [3, 60, 42, 180, 0, 20, 182, 0, 60, 77, 44, 185, 0, 64, 1, 0, 153, 0, 31, 44]
abbrev dktX2_inWork_0 : List UInt8 := dkwX2_inWork_0 ++ dktX2_inWork_1
theorem dksX2_inWork_0 : cX2_inWork.data.toList.drop 0 = dktX2_inWork_0 := by decide +kernel
theorem dksX2_inWork_1 : cX2_inWork.data.toList.drop 20 = dktX2_inWork_1 := dk_seg dksX2_inWork_0 20 rfl rfl
theorem dksX2_inWork_2 : cX2_inWork.data.toList.drop 44 = dktX2_inWork_2 := dk_seg dksX2_inWork_1 24 rfl rfl
theorem dX2_inWork_0 : decode cX2_inWork 0 = .ok (.iconst 0, 1) := dk_3 (dk_at dksX2_inWork_0 0 rfl rfl)
theorem dX2_inWork_1 : decode cX2_inWork 1 = .ok (.istore_n 1, 1) := dk_60 (dk_at dksX2_inWork_0 1 rfl rfl)
theorem dX2_inWork_2 : decode cX2_inWork 2 = .ok (.aload_n 0, 1) := dk_42 (dk_at dksX2_inWork_0 2 rfl rfl)
theorem dX2_inWork_3 : decode cX2_inWork 3 = .ok (.getfield 20, 3) := dk_180 0 20 (dk_at dksX2_inWork_0 3 rfl rfl)
theorem dX2_inWork_6 : decode cX2_inWork 6 = .ok (.invokevirtual 60, 3) := dk_182 0 60 (dk_at dksX2_inWork_0 6 rfl rfl)
theorem dX2_inWork_9 : decode cX2_inWork 9 = .ok (.astore_n 2, 1) := dk_77 (dk_at dksX2_inWork_0 9 rfl rfl)
theorem dX2_inWork_10 : decode cX2_inWork 10 = .ok (.aload_n 2, 1) := dk_44 (dk_at dksX2_inWork_0 10 rfl rfl)
theorem dX2_inWork_11 : decode cX2_inWork 11 = .ok (.invokeinterface 64 1, 5) := by decide +kernel
theorem dX2_inWork_16 : decode cX2_inWork 16 = .ok (.ifCond .eq 31, 3) := dk_153 0 31 (dk_at dksX2_inWork_0 16 rfl rfl)
theorem dX2_inWork_19 : decode cX2_inWork 19 = .ok (.aload_n 2, 1) := dk_44 (dk_at dksX2_inWork_0 19 rfl rfl)
theorem dX2_inWork_20 : decode cX2_inWork 20 = .ok (.invokeinterface 70 1, 5) := by decide +kernel
theorem dX2_inWork_25 : decode cX2_inWork 25 = .ok (.checkcast 74, 3) := dk_192 0 74 (dk_at dksX2_inWork_1 5 rfl rfl)
theorem dX2_inWork_28 : decode cX2_inWork 28 = .ok (.astore_n 3, 1) := dk_78 (dk_at dksX2_inWork_1 8 rfl rfl)
theorem dX2_inWork_29 : decode cX2_inWork 29 = .ok (.iload_n 1, 1) := dk_27 (dk_at dksX2_inWork_1 9 rfl rfl)
theorem dX2_inWork_30 : decode cX2_inWork 30 = .ok (.aload_n 3, 1) := dk_45 (dk_at dksX2_inWork_1 10 rfl rfl)
theorem dX2_inWork_31 : decode cX2_inWork 31 = .ok (.getfield 196, 3) := dk_180 0 196 (dk_at dksX2_inWork_1 11 rfl rfl)
theorem dX2_inWork_34 : decode cX2_inWork 34 = .ok (.ifnonnull 7, 3) := dk_199 0 7 (dk_at dksX2_inWork_1 14 rfl rfl)
theorem dX2_inWork_37 : decode cX2_inWork 37 = .ok (.iconst 1, 1) := dk_4 (dk_at dksX2_inWork_1 17 rfl rfl)
theorem dX2_inWork_38 : decode cX2_inWork 38 = .ok (.goto 4, 3) := dk_167 0 4 (dk_at dksX2_inWork_1 18 rfl rfl)
theorem dX2_inWork_41 : decode cX2_inWork 41 = .ok (.iconst 2, 1) := dk_5 (dk_at dksX2_inWork_1 21 rfl rfl)
theorem dX2_inWork_42 : decode cX2_inWork 42 = .ok (.iadd, 1) := dk_96 (dk_at dksX2_inWork_1 22 rfl rfl)
theorem dX2_inWork_43 : decode cX2_inWork 43 = .ok (.istore_n 1, 1) := dk_60 (dk_at dksX2_inWork_1 23 rfl rfl)
theorem dX2_inWork_44 : decode cX2_inWork 44 = .ok (.goto (-34), 3) := dk_167 255 222 (dk_at dksX2_inWork_2 0 rfl rfl)
theorem dX2_inWork_47 : decode cX2_inWork 47 = .ok (.iload_n 1, 1) := dk_27 (dk_at dksX2_inWork_2 3 rfl rfl)
theorem dX2_inWork_48 : decode cX2_inWork 48 = .ok (.ireturn, 1) := dk_172 (dk_at dksX2_inWork_2 4 rfl rfl)
abbrev cX2_notTaken : ByteArray := prog_3_method_24_code
def yX2_notTaken : MethodName := ⟨RX2, "notTaken", "()I"⟩
def dkwX2_notTaken_1 : List UInt8 := [180, 0, 11, 28, 50, 180, 1, 19, 100, 96, 60, 132, 2, 1, 167, 255, 223, 27, 172]
abbrev dktX2_notTaken_1 : List UInt8 := dkwX2_notTaken_1 ++ []
def dkwX2_notTaken_0 : List UInt8 := [3, 60, 3, 61, 28, 42, 180, 0, 50, 162, 0, 31, 27, 42, 180, 0, 11, 28, 50, 180, 1, 16, 42]
abbrev dktX2_notTaken_0 : List UInt8 := dkwX2_notTaken_0 ++ dktX2_notTaken_1
theorem dksX2_notTaken_0 : cX2_notTaken.data.toList.drop 0 = dktX2_notTaken_0 := by decide +kernel
theorem dksX2_notTaken_1 : cX2_notTaken.data.toList.drop 23 = dktX2_notTaken_1 := dk_seg dksX2_notTaken_0 23 rfl rfl
theorem dX2_notTaken_0 : decode cX2_notTaken 0 = .ok (.iconst 0, 1) := dk_3 (dk_at dksX2_notTaken_0 0 rfl rfl)
theorem dX2_notTaken_1 : decode cX2_notTaken 1 = .ok (.istore_n 1, 1) := dk_60 (dk_at dksX2_notTaken_0 1 rfl rfl)
theorem dX2_notTaken_2 : decode cX2_notTaken 2 = .ok (.iconst 0, 1) := dk_3 (dk_at dksX2_notTaken_0 2 rfl rfl)
theorem dX2_notTaken_3 : decode cX2_notTaken 3 = .ok (.istore_n 2, 1) := dk_61 (dk_at dksX2_notTaken_0 3 rfl rfl)
theorem dX2_notTaken_4 : decode cX2_notTaken 4 = .ok (.iload_n 2, 1) := dk_28 (dk_at dksX2_notTaken_0 4 rfl rfl)
theorem dX2_notTaken_5 : decode cX2_notTaken 5 = .ok (.aload_n 0, 1) := dk_42 (dk_at dksX2_notTaken_0 5 rfl rfl)
theorem dX2_notTaken_6 : decode cX2_notTaken 6 = .ok (.getfield 50, 3) := dk_180 0 50 (dk_at dksX2_notTaken_0 6 rfl rfl)
theorem dX2_notTaken_9 : decode cX2_notTaken 9 = .ok (.if_icmp .ge 31, 3) := dk_162 0 31 (dk_at dksX2_notTaken_0 9 rfl rfl)
theorem dX2_notTaken_12 : decode cX2_notTaken 12 = .ok (.iload_n 1, 1) := dk_27 (dk_at dksX2_notTaken_0 12 rfl rfl)
theorem dX2_notTaken_13 : decode cX2_notTaken 13 = .ok (.aload_n 0, 1) := dk_42 (dk_at dksX2_notTaken_0 13 rfl rfl)
theorem dX2_notTaken_14 : decode cX2_notTaken 14 = .ok (.getfield 11, 3) := dk_180 0 11 (dk_at dksX2_notTaken_0 14 rfl rfl)
theorem dX2_notTaken_17 : decode cX2_notTaken 17 = .ok (.iload_n 2, 1) := dk_28 (dk_at dksX2_notTaken_0 17 rfl rfl)
theorem dX2_notTaken_18 : decode cX2_notTaken 18 = .ok (.aaload, 1) := dk_50 (dk_at dksX2_notTaken_0 18 rfl rfl)
theorem dX2_notTaken_19 : decode cX2_notTaken 19 = .ok (.getfield 272, 3) := dk_180 1 16 (dk_at dksX2_notTaken_0 19 rfl rfl)
theorem dX2_notTaken_22 : decode cX2_notTaken 22 = .ok (.aload_n 0, 1) := dk_42 (dk_at dksX2_notTaken_0 22 rfl rfl)
theorem dX2_notTaken_23 : decode cX2_notTaken 23 = .ok (.getfield 11, 3) := dk_180 0 11 (dk_at dksX2_notTaken_1 0 rfl rfl)
theorem dX2_notTaken_26 : decode cX2_notTaken 26 = .ok (.iload_n 2, 1) := dk_28 (dk_at dksX2_notTaken_1 3 rfl rfl)
theorem dX2_notTaken_27 : decode cX2_notTaken 27 = .ok (.aaload, 1) := dk_50 (dk_at dksX2_notTaken_1 4 rfl rfl)
theorem dX2_notTaken_28 : decode cX2_notTaken 28 = .ok (.getfield 275, 3) := dk_180 1 19 (dk_at dksX2_notTaken_1 5 rfl rfl)
theorem dX2_notTaken_31 : decode cX2_notTaken 31 = .ok (.isub, 1) := dk_100 (dk_at dksX2_notTaken_1 8 rfl rfl)
theorem dX2_notTaken_32 : decode cX2_notTaken 32 = .ok (.iadd, 1) := dk_96 (dk_at dksX2_notTaken_1 9 rfl rfl)
theorem dX2_notTaken_33 : decode cX2_notTaken 33 = .ok (.istore_n 1, 1) := dk_60 (dk_at dksX2_notTaken_1 10 rfl rfl)
theorem dX2_notTaken_34 : decode cX2_notTaken 34 = .ok (.iinc 2 1, 3) := dk_132 2 1 (dk_at dksX2_notTaken_1 11 rfl rfl)
theorem dX2_notTaken_37 : decode cX2_notTaken 37 = .ok (.goto (-33), 3) := dk_167 255 223 (dk_at dksX2_notTaken_1 14 rfl rfl)
theorem dX2_notTaken_40 : decode cX2_notTaken 40 = .ok (.iload_n 1, 1) := dk_27 (dk_at dksX2_notTaken_1 17 rfl rfl)
theorem dX2_notTaken_41 : decode cX2_notTaken 41 = .ok (.ireturn, 1) := dk_172 (dk_at dksX2_notTaken_1 18 rfl rfl)
abbrev cX2_empty : ByteArray := prog_3_method_4_code
def yX2_empty : MethodName := ⟨RX2, "empty", "()V"⟩
def dkwX2_empty_3 : List UInt8 := [177]
abbrev dktX2_empty_3 : List UInt8 := dkwX2_empty_3 ++ []
def dkwX2_empty_2 : List UInt8 := [180, 0, 34, 3, 7, 184, 0, 82, 42, 180, 0, 37, 7, 184, 0, 110, 42, 180, 0, 40, 3, 184, 0, 110]
abbrev dktX2_empty_2 : List UInt8 := dkwX2_empty_2 ++ dktX2_empty_3
def dkwX2_empty_1 : List UInt8 := [167, 255, 236, 42, 180, 0, 20, 182, 0, 57, 42, 180, 0, 24, 182, 0, 57, 42, 180, 0, 31, 3, 42]
abbrev dktX2_empty_1 : List UInt8 := dkwX2_empty_1 ++ dktX2_empty_2
def dkwX2_empty_0 : List UInt8 := [3, 60, 27, 42, 180, 0, 50, 162, 0, 18, 42, 180, 0, 11, 27, 50, 182, 0, 107, 132, 1, 1]
abbrev dktX2_empty_0 : List UInt8 := dkwX2_empty_0 ++ dktX2_empty_1
theorem dksX2_empty_0 : cX2_empty.data.toList.drop 0 = dktX2_empty_0 := by decide +kernel
theorem dksX2_empty_1 : cX2_empty.data.toList.drop 22 = dktX2_empty_1 := dk_seg dksX2_empty_0 22 rfl rfl
theorem dksX2_empty_2 : cX2_empty.data.toList.drop 45 = dktX2_empty_2 := dk_seg dksX2_empty_1 23 rfl rfl
theorem dksX2_empty_3 : cX2_empty.data.toList.drop 69 = dktX2_empty_3 := dk_seg dksX2_empty_2 24 rfl rfl
theorem dX2_empty_0 : decode cX2_empty 0 = .ok (.iconst 0, 1) := dk_3 (dk_at dksX2_empty_0 0 rfl rfl)
theorem dX2_empty_1 : decode cX2_empty 1 = .ok (.istore_n 1, 1) := dk_60 (dk_at dksX2_empty_0 1 rfl rfl)
theorem dX2_empty_2 : decode cX2_empty 2 = .ok (.iload_n 1, 1) := dk_27 (dk_at dksX2_empty_0 2 rfl rfl)
theorem dX2_empty_3 : decode cX2_empty 3 = .ok (.aload_n 0, 1) := dk_42 (dk_at dksX2_empty_0 3 rfl rfl)
theorem dX2_empty_4 : decode cX2_empty 4 = .ok (.getfield 50, 3) := dk_180 0 50 (dk_at dksX2_empty_0 4 rfl rfl)
theorem dX2_empty_7 : decode cX2_empty 7 = .ok (.if_icmp .ge 18, 3) := dk_162 0 18 (dk_at dksX2_empty_0 7 rfl rfl)
theorem dX2_empty_10 : decode cX2_empty 10 = .ok (.aload_n 0, 1) := dk_42 (dk_at dksX2_empty_0 10 rfl rfl)
theorem dX2_empty_11 : decode cX2_empty 11 = .ok (.getfield 11, 3) := dk_180 0 11 (dk_at dksX2_empty_0 11 rfl rfl)
theorem dX2_empty_14 : decode cX2_empty 14 = .ok (.iload_n 1, 1) := dk_27 (dk_at dksX2_empty_0 14 rfl rfl)
theorem dX2_empty_15 : decode cX2_empty 15 = .ok (.aaload, 1) := dk_50 (dk_at dksX2_empty_0 15 rfl rfl)
theorem dX2_empty_16 : decode cX2_empty 16 = .ok (.invokevirtual 107, 3) := dk_182 0 107 (dk_at dksX2_empty_0 16 rfl rfl)
theorem dX2_empty_19 : decode cX2_empty 19 = .ok (.iinc 1 1, 3) := dk_132 1 1 (dk_at dksX2_empty_0 19 rfl rfl)
theorem dX2_empty_22 : decode cX2_empty 22 = .ok (.goto (-20), 3) := dk_167 255 236 (dk_at dksX2_empty_1 0 rfl rfl)
theorem dX2_empty_25 : decode cX2_empty 25 = .ok (.aload_n 0, 1) := dk_42 (dk_at dksX2_empty_1 3 rfl rfl)
theorem dX2_empty_26 : decode cX2_empty 26 = .ok (.getfield 20, 3) := dk_180 0 20 (dk_at dksX2_empty_1 4 rfl rfl)
theorem dX2_empty_29 : decode cX2_empty 29 = .ok (.invokevirtual 57, 3) := dk_182 0 57 (dk_at dksX2_empty_1 7 rfl rfl)
theorem dX2_empty_32 : decode cX2_empty 32 = .ok (.aload_n 0, 1) := dk_42 (dk_at dksX2_empty_1 10 rfl rfl)
theorem dX2_empty_33 : decode cX2_empty 33 = .ok (.getfield 24, 3) := dk_180 0 24 (dk_at dksX2_empty_1 11 rfl rfl)
theorem dX2_empty_36 : decode cX2_empty 36 = .ok (.invokevirtual 57, 3) := dk_182 0 57 (dk_at dksX2_empty_1 14 rfl rfl)
theorem dX2_empty_39 : decode cX2_empty 39 = .ok (.aload_n 0, 1) := dk_42 (dk_at dksX2_empty_1 17 rfl rfl)
theorem dX2_empty_40 : decode cX2_empty 40 = .ok (.getfield 31, 3) := dk_180 0 31 (dk_at dksX2_empty_1 18 rfl rfl)
theorem dX2_empty_43 : decode cX2_empty 43 = .ok (.iconst 0, 1) := dk_3 (dk_at dksX2_empty_1 21 rfl rfl)
theorem dX2_empty_44 : decode cX2_empty 44 = .ok (.aload_n 0, 1) := dk_42 (dk_at dksX2_empty_1 22 rfl rfl)
theorem dX2_empty_45 : decode cX2_empty 45 = .ok (.getfield 34, 3) := dk_180 0 34 (dk_at dksX2_empty_2 0 rfl rfl)
theorem dX2_empty_48 : decode cX2_empty 48 = .ok (.iconst 0, 1) := dk_3 (dk_at dksX2_empty_2 3 rfl rfl)
theorem dX2_empty_49 : decode cX2_empty 49 = .ok (.iconst 4, 1) := dk_7 (dk_at dksX2_empty_2 4 rfl rfl)
theorem dX2_empty_50 : decode cX2_empty 50 = .ok (.invokestatic 82, 3) := dk_184 0 82 (dk_at dksX2_empty_2 5 rfl rfl)
theorem dX2_empty_53 : decode cX2_empty 53 = .ok (.aload_n 0, 1) := dk_42 (dk_at dksX2_empty_2 8 rfl rfl)
theorem dX2_empty_54 : decode cX2_empty 54 = .ok (.getfield 37, 3) := dk_180 0 37 (dk_at dksX2_empty_2 9 rfl rfl)
theorem dX2_empty_57 : decode cX2_empty 57 = .ok (.iconst 4, 1) := dk_7 (dk_at dksX2_empty_2 12 rfl rfl)
theorem dX2_empty_58 : decode cX2_empty 58 = .ok (.invokestatic 110, 3) := dk_184 0 110 (dk_at dksX2_empty_2 13 rfl rfl)
theorem dX2_empty_61 : decode cX2_empty 61 = .ok (.aload_n 0, 1) := dk_42 (dk_at dksX2_empty_2 16 rfl rfl)
theorem dX2_empty_62 : decode cX2_empty 62 = .ok (.getfield 40, 3) := dk_180 0 40 (dk_at dksX2_empty_2 17 rfl rfl)
theorem dX2_empty_65 : decode cX2_empty 65 = .ok (.iconst 0, 1) := dk_3 (dk_at dksX2_empty_2 20 rfl rfl)
theorem dX2_empty_66 : decode cX2_empty 66 = .ok (.invokestatic 110, 3) := dk_184 0 110 (dk_at dksX2_empty_2 21 rfl rfl)
theorem dX2_empty_69 : decode cX2_empty 69 = .ok (.return_, 1) := dk_177 (dk_at dksX2_empty_3 0 rfl rfl)
abbrev cX2_isDrained : ByteArray := prog_3_method_19_code
def yX2_isDrained : MethodName := ⟨RX2, "isDrained", "()Z"⟩
def dkwX2_isDrained_2 : List UInt8 := [153, 0, 17, 42, 180, 0, 24, 182, 1, 13, 153, 0, 7, 4, 167, 0, 4, 3, 172]
abbrev dktX2_isDrained_2 : List UInt8 := dkwX2_isDrained_2 ++ []
def dkwX2_isDrained_1 : List UInt8 := [50, 180, 0, 132, 164, 0, 5, 3, 172, 132, 1, 1, 167, 255, 222, 42, 180, 0, 20, 182, 1, 13]
abbrev dktX2_isDrained_1 : List UInt8 := dkwX2_isDrained_1 ++ dktX2_isDrained_2
def dkwX2_isDrained_0 : List UInt8 := [3, 60, 27, 42, 180, 0, 50, 162, 0, 32, 42, 180, 0, 11, 27, 50, 180, 0, 240, 42, 180, 0, 11, 27]
abbrev dktX2_isDrained_0 : List UInt8 := dkwX2_isDrained_0 ++ dktX2_isDrained_1
theorem dksX2_isDrained_0 : cX2_isDrained.data.toList.drop 0 = dktX2_isDrained_0 := by decide +kernel
theorem dksX2_isDrained_1 : cX2_isDrained.data.toList.drop 24 = dktX2_isDrained_1 := dk_seg dksX2_isDrained_0 24 rfl rfl
theorem dksX2_isDrained_2 : cX2_isDrained.data.toList.drop 46 = dktX2_isDrained_2 := dk_seg dksX2_isDrained_1 22 rfl rfl
theorem dX2_isDrained_0 : decode cX2_isDrained 0 = .ok (.iconst 0, 1) := dk_3 (dk_at dksX2_isDrained_0 0 rfl rfl)
theorem dX2_isDrained_1 : decode cX2_isDrained 1 = .ok (.istore_n 1, 1) := dk_60 (dk_at dksX2_isDrained_0 1 rfl rfl)
theorem dX2_isDrained_2 : decode cX2_isDrained 2 = .ok (.iload_n 1, 1) := dk_27 (dk_at dksX2_isDrained_0 2 rfl rfl)
theorem dX2_isDrained_3 : decode cX2_isDrained 3 = .ok (.aload_n 0, 1) := dk_42 (dk_at dksX2_isDrained_0 3 rfl rfl)
theorem dX2_isDrained_4 : decode cX2_isDrained 4 = .ok (.getfield 50, 3) := dk_180 0 50 (dk_at dksX2_isDrained_0 4 rfl rfl)
theorem dX2_isDrained_7 : decode cX2_isDrained 7 = .ok (.if_icmp .ge 32, 3) := dk_162 0 32 (dk_at dksX2_isDrained_0 7 rfl rfl)
theorem dX2_isDrained_10 : decode cX2_isDrained 10 = .ok (.aload_n 0, 1) := dk_42 (dk_at dksX2_isDrained_0 10 rfl rfl)
theorem dX2_isDrained_11 : decode cX2_isDrained 11 = .ok (.getfield 11, 3) := dk_180 0 11 (dk_at dksX2_isDrained_0 11 rfl rfl)
theorem dX2_isDrained_14 : decode cX2_isDrained 14 = .ok (.iload_n 1, 1) := dk_27 (dk_at dksX2_isDrained_0 14 rfl rfl)
theorem dX2_isDrained_15 : decode cX2_isDrained 15 = .ok (.aaload, 1) := dk_50 (dk_at dksX2_isDrained_0 15 rfl rfl)
theorem dX2_isDrained_16 : decode cX2_isDrained 16 = .ok (.getfield 240, 3) := dk_180 0 240 (dk_at dksX2_isDrained_0 16 rfl rfl)
theorem dX2_isDrained_19 : decode cX2_isDrained 19 = .ok (.aload_n 0, 1) := dk_42 (dk_at dksX2_isDrained_0 19 rfl rfl)
theorem dX2_isDrained_20 : decode cX2_isDrained 20 = .ok (.getfield 11, 3) := dk_180 0 11 (dk_at dksX2_isDrained_0 20 rfl rfl)
theorem dX2_isDrained_23 : decode cX2_isDrained 23 = .ok (.iload_n 1, 1) := dk_27 (dk_at dksX2_isDrained_0 23 rfl rfl)
theorem dX2_isDrained_24 : decode cX2_isDrained 24 = .ok (.aaload, 1) := dk_50 (dk_at dksX2_isDrained_1 0 rfl rfl)
theorem dX2_isDrained_25 : decode cX2_isDrained 25 = .ok (.getfield 132, 3) := dk_180 0 132 (dk_at dksX2_isDrained_1 1 rfl rfl)
theorem dX2_isDrained_28 : decode cX2_isDrained 28 = .ok (.if_icmp .le 5, 3) := dk_164 0 5 (dk_at dksX2_isDrained_1 4 rfl rfl)
theorem dX2_isDrained_31 : decode cX2_isDrained 31 = .ok (.iconst 0, 1) := dk_3 (dk_at dksX2_isDrained_1 7 rfl rfl)
theorem dX2_isDrained_32 : decode cX2_isDrained 32 = .ok (.ireturn, 1) := dk_172 (dk_at dksX2_isDrained_1 8 rfl rfl)
theorem dX2_isDrained_33 : decode cX2_isDrained 33 = .ok (.iinc 1 1, 3) := dk_132 1 1 (dk_at dksX2_isDrained_1 9 rfl rfl)
theorem dX2_isDrained_36 : decode cX2_isDrained 36 = .ok (.goto (-34), 3) := dk_167 255 222 (dk_at dksX2_isDrained_1 12 rfl rfl)
theorem dX2_isDrained_39 : decode cX2_isDrained 39 = .ok (.aload_n 0, 1) := dk_42 (dk_at dksX2_isDrained_1 15 rfl rfl)
theorem dX2_isDrained_40 : decode cX2_isDrained 40 = .ok (.getfield 20, 3) := dk_180 0 20 (dk_at dksX2_isDrained_1 16 rfl rfl)
theorem dX2_isDrained_43 : decode cX2_isDrained 43 = .ok (.invokevirtual 269, 3) := dk_182 1 13 (dk_at dksX2_isDrained_1 19 rfl rfl)
theorem dX2_isDrained_46 : decode cX2_isDrained 46 = .ok (.ifCond .eq 17, 3) := dk_153 0 17 (dk_at dksX2_isDrained_2 0 rfl rfl)
theorem dX2_isDrained_49 : decode cX2_isDrained 49 = .ok (.aload_n 0, 1) := dk_42 (dk_at dksX2_isDrained_2 3 rfl rfl)
theorem dX2_isDrained_50 : decode cX2_isDrained 50 = .ok (.getfield 24, 3) := dk_180 0 24 (dk_at dksX2_isDrained_2 4 rfl rfl)
theorem dX2_isDrained_53 : decode cX2_isDrained 53 = .ok (.invokevirtual 269, 3) := dk_182 1 13 (dk_at dksX2_isDrained_2 7 rfl rfl)
theorem dX2_isDrained_56 : decode cX2_isDrained 56 = .ok (.ifCond .eq 7, 3) := dk_153 0 7 (dk_at dksX2_isDrained_2 10 rfl rfl)
theorem dX2_isDrained_59 : decode cX2_isDrained 59 = .ok (.iconst 1, 1) := dk_4 (dk_at dksX2_isDrained_2 13 rfl rfl)
theorem dX2_isDrained_60 : decode cX2_isDrained 60 = .ok (.goto 4, 3) := dk_167 0 4 (dk_at dksX2_isDrained_2 14 rfl rfl)
theorem dX2_isDrained_63 : decode cX2_isDrained 63 = .ok (.iconst 0, 1) := dk_3 (dk_at dksX2_isDrained_2 17 rfl rfl)
theorem dX2_isDrained_64 : decode cX2_isDrained 64 = .ok (.ireturn, 1) := dk_172 (dk_at dksX2_isDrained_2 18 rfl rfl)
abbrev cX2_takeAll : ByteArray := prog_3_method_20_code
def yX2_takeAll : MethodName := ⟨RX2, "takeAll", "()I"⟩
def dkwX2_takeAll_2 : List UInt8 := [167, 255, 222, 132, 2, 1, 167, 255, 208, 27, 172]
abbrev dktX2_takeAll_2 : List UInt8 := dkwX2_takeAll_2 ++ []
def dkwX2_takeAll_1 : List UInt8 := [180, 0, 11, 28, 50, 180, 1, 19, 164, 0, 19, 42, 180, 0, 11, 28, 50, 182, 1, 22, 87, 132, 1, 1]
abbrev dktX2_takeAll_1 : List UInt8 := dkwX2_takeAll_1 ++ dktX2_takeAll_2
def dkwX2_takeAll_0 : List UInt8 := [3, 60, 3, 61, 28, 42, 180, 0, 50, 162, 0, 46, 42, 180, 0, 11, 28, 50, 180, 1, 16, 42]
abbrev dktX2_takeAll_0 : List UInt8 := dkwX2_takeAll_0 ++ dktX2_takeAll_1
theorem dksX2_takeAll_0 : cX2_takeAll.data.toList.drop 0 = dktX2_takeAll_0 := by decide +kernel
theorem dksX2_takeAll_1 : cX2_takeAll.data.toList.drop 22 = dktX2_takeAll_1 := dk_seg dksX2_takeAll_0 22 rfl rfl
theorem dksX2_takeAll_2 : cX2_takeAll.data.toList.drop 46 = dktX2_takeAll_2 := dk_seg dksX2_takeAll_1 24 rfl rfl
theorem dX2_takeAll_0 : decode cX2_takeAll 0 = .ok (.iconst 0, 1) := dk_3 (dk_at dksX2_takeAll_0 0 rfl rfl)
theorem dX2_takeAll_1 : decode cX2_takeAll 1 = .ok (.istore_n 1, 1) := dk_60 (dk_at dksX2_takeAll_0 1 rfl rfl)
theorem dX2_takeAll_2 : decode cX2_takeAll 2 = .ok (.iconst 0, 1) := dk_3 (dk_at dksX2_takeAll_0 2 rfl rfl)
theorem dX2_takeAll_3 : decode cX2_takeAll 3 = .ok (.istore_n 2, 1) := dk_61 (dk_at dksX2_takeAll_0 3 rfl rfl)
theorem dX2_takeAll_4 : decode cX2_takeAll 4 = .ok (.iload_n 2, 1) := dk_28 (dk_at dksX2_takeAll_0 4 rfl rfl)
theorem dX2_takeAll_5 : decode cX2_takeAll 5 = .ok (.aload_n 0, 1) := dk_42 (dk_at dksX2_takeAll_0 5 rfl rfl)
theorem dX2_takeAll_6 : decode cX2_takeAll 6 = .ok (.getfield 50, 3) := dk_180 0 50 (dk_at dksX2_takeAll_0 6 rfl rfl)
theorem dX2_takeAll_9 : decode cX2_takeAll 9 = .ok (.if_icmp .ge 46, 3) := dk_162 0 46 (dk_at dksX2_takeAll_0 9 rfl rfl)
theorem dX2_takeAll_12 : decode cX2_takeAll 12 = .ok (.aload_n 0, 1) := dk_42 (dk_at dksX2_takeAll_0 12 rfl rfl)
theorem dX2_takeAll_13 : decode cX2_takeAll 13 = .ok (.getfield 11, 3) := dk_180 0 11 (dk_at dksX2_takeAll_0 13 rfl rfl)
theorem dX2_takeAll_16 : decode cX2_takeAll 16 = .ok (.iload_n 2, 1) := dk_28 (dk_at dksX2_takeAll_0 16 rfl rfl)
theorem dX2_takeAll_17 : decode cX2_takeAll 17 = .ok (.aaload, 1) := dk_50 (dk_at dksX2_takeAll_0 17 rfl rfl)
theorem dX2_takeAll_18 : decode cX2_takeAll 18 = .ok (.getfield 272, 3) := dk_180 1 16 (dk_at dksX2_takeAll_0 18 rfl rfl)
theorem dX2_takeAll_21 : decode cX2_takeAll 21 = .ok (.aload_n 0, 1) := dk_42 (dk_at dksX2_takeAll_0 21 rfl rfl)
theorem dX2_takeAll_22 : decode cX2_takeAll 22 = .ok (.getfield 11, 3) := dk_180 0 11 (dk_at dksX2_takeAll_1 0 rfl rfl)
theorem dX2_takeAll_25 : decode cX2_takeAll 25 = .ok (.iload_n 2, 1) := dk_28 (dk_at dksX2_takeAll_1 3 rfl rfl)
theorem dX2_takeAll_26 : decode cX2_takeAll 26 = .ok (.aaload, 1) := dk_50 (dk_at dksX2_takeAll_1 4 rfl rfl)
theorem dX2_takeAll_27 : decode cX2_takeAll 27 = .ok (.getfield 275, 3) := dk_180 1 19 (dk_at dksX2_takeAll_1 5 rfl rfl)
theorem dX2_takeAll_30 : decode cX2_takeAll 30 = .ok (.if_icmp .le 19, 3) := dk_164 0 19 (dk_at dksX2_takeAll_1 8 rfl rfl)
theorem dX2_takeAll_33 : decode cX2_takeAll 33 = .ok (.aload_n 0, 1) := dk_42 (dk_at dksX2_takeAll_1 11 rfl rfl)
theorem dX2_takeAll_34 : decode cX2_takeAll 34 = .ok (.getfield 11, 3) := dk_180 0 11 (dk_at dksX2_takeAll_1 12 rfl rfl)
theorem dX2_takeAll_37 : decode cX2_takeAll 37 = .ok (.iload_n 2, 1) := dk_28 (dk_at dksX2_takeAll_1 15 rfl rfl)
theorem dX2_takeAll_38 : decode cX2_takeAll 38 = .ok (.aaload, 1) := dk_50 (dk_at dksX2_takeAll_1 16 rfl rfl)
theorem dX2_takeAll_39 : decode cX2_takeAll 39 = .ok (.invokevirtual 278, 3) := dk_182 1 22 (dk_at dksX2_takeAll_1 17 rfl rfl)
theorem dX2_takeAll_42 : decode cX2_takeAll 42 = .ok (.pop, 1) := dk_87 (dk_at dksX2_takeAll_1 20 rfl rfl)
theorem dX2_takeAll_43 : decode cX2_takeAll 43 = .ok (.iinc 1 1, 3) := dk_132 1 1 (dk_at dksX2_takeAll_1 21 rfl rfl)
theorem dX2_takeAll_46 : decode cX2_takeAll 46 = .ok (.goto (-34), 3) := dk_167 255 222 (dk_at dksX2_takeAll_2 0 rfl rfl)
theorem dX2_takeAll_49 : decode cX2_takeAll 49 = .ok (.iinc 2 1, 3) := dk_132 2 1 (dk_at dksX2_takeAll_2 3 rfl rfl)
theorem dX2_takeAll_52 : decode cX2_takeAll 52 = .ok (.goto (-48), 3) := dk_167 255 208 (dk_at dksX2_takeAll_2 6 rfl rfl)
theorem dX2_takeAll_55 : decode cX2_takeAll 55 = .ok (.iload_n 1, 1) := dk_27 (dk_at dksX2_takeAll_2 9 rfl rfl)
theorem dX2_takeAll_56 : decode cX2_takeAll 56 = .ok (.ireturn, 1) := dk_172 (dk_at dksX2_takeAll_2 10 rfl rfl)
abbrev cX2_fetched : ByteArray := prog_3_method_25_code
def yX2_fetched : MethodName := ⟨RX2, "fetched", "()I"⟩
def dkwX2_fetched_1 : List UInt8 := [132, 2, 1, 167, 255, 233, 27, 172]
abbrev dktX2_fetched_1 : List UInt8 := dkwX2_fetched_1 ++ []
def dkwX2_fetched_0 : List UInt8 := [3, 60, 3, 61, 28, 42, 180, 0, 50, 162, 0, 21, 27, 42, 180, 0, 11, 28, 50, 180, 0, 132, 96, 60]
abbrev dktX2_fetched_0 : List UInt8 := dkwX2_fetched_0 ++ dktX2_fetched_1
theorem dksX2_fetched_0 : cX2_fetched.data.toList.drop 0 = dktX2_fetched_0 := by decide +kernel
theorem dksX2_fetched_1 : cX2_fetched.data.toList.drop 24 = dktX2_fetched_1 := dk_seg dksX2_fetched_0 24 rfl rfl
theorem dX2_fetched_0 : decode cX2_fetched 0 = .ok (.iconst 0, 1) := dk_3 (dk_at dksX2_fetched_0 0 rfl rfl)
theorem dX2_fetched_1 : decode cX2_fetched 1 = .ok (.istore_n 1, 1) := dk_60 (dk_at dksX2_fetched_0 1 rfl rfl)
theorem dX2_fetched_2 : decode cX2_fetched 2 = .ok (.iconst 0, 1) := dk_3 (dk_at dksX2_fetched_0 2 rfl rfl)
theorem dX2_fetched_3 : decode cX2_fetched 3 = .ok (.istore_n 2, 1) := dk_61 (dk_at dksX2_fetched_0 3 rfl rfl)
theorem dX2_fetched_4 : decode cX2_fetched 4 = .ok (.iload_n 2, 1) := dk_28 (dk_at dksX2_fetched_0 4 rfl rfl)
theorem dX2_fetched_5 : decode cX2_fetched 5 = .ok (.aload_n 0, 1) := dk_42 (dk_at dksX2_fetched_0 5 rfl rfl)
theorem dX2_fetched_6 : decode cX2_fetched 6 = .ok (.getfield 50, 3) := dk_180 0 50 (dk_at dksX2_fetched_0 6 rfl rfl)
theorem dX2_fetched_9 : decode cX2_fetched 9 = .ok (.if_icmp .ge 21, 3) := dk_162 0 21 (dk_at dksX2_fetched_0 9 rfl rfl)
theorem dX2_fetched_12 : decode cX2_fetched 12 = .ok (.iload_n 1, 1) := dk_27 (dk_at dksX2_fetched_0 12 rfl rfl)
theorem dX2_fetched_13 : decode cX2_fetched 13 = .ok (.aload_n 0, 1) := dk_42 (dk_at dksX2_fetched_0 13 rfl rfl)
theorem dX2_fetched_14 : decode cX2_fetched 14 = .ok (.getfield 11, 3) := dk_180 0 11 (dk_at dksX2_fetched_0 14 rfl rfl)
theorem dX2_fetched_17 : decode cX2_fetched 17 = .ok (.iload_n 2, 1) := dk_28 (dk_at dksX2_fetched_0 17 rfl rfl)
theorem dX2_fetched_18 : decode cX2_fetched 18 = .ok (.aaload, 1) := dk_50 (dk_at dksX2_fetched_0 18 rfl rfl)
theorem dX2_fetched_19 : decode cX2_fetched 19 = .ok (.getfield 132, 3) := dk_180 0 132 (dk_at dksX2_fetched_0 19 rfl rfl)
theorem dX2_fetched_22 : decode cX2_fetched 22 = .ok (.iadd, 1) := dk_96 (dk_at dksX2_fetched_0 22 rfl rfl)
theorem dX2_fetched_23 : decode cX2_fetched 23 = .ok (.istore_n 1, 1) := dk_60 (dk_at dksX2_fetched_0 23 rfl rfl)
theorem dX2_fetched_24 : decode cX2_fetched 24 = .ok (.iinc 2 1, 3) := dk_132 2 1 (dk_at dksX2_fetched_1 0 rfl rfl)
theorem dX2_fetched_27 : decode cX2_fetched 27 = .ok (.goto (-23), 3) := dk_167 255 233 (dk_at dksX2_fetched_1 3 rfl rfl)
theorem dX2_fetched_30 : decode cX2_fetched 30 = .ok (.iload_n 1, 1) := dk_27 (dk_at dksX2_fetched_1 6 rfl rfl)
theorem dX2_fetched_31 : decode cX2_fetched 31 = .ok (.ireturn, 1) := dk_172 (dk_at dksX2_fetched_1 7 rfl rfl)
theorem q93 : (Jvm.Cond.initialized "QueueDrive$Drive") ∈ lw_all := lw_g (lw_at lw_m1 2 rfl) rfl
theorem q145 : (Jvm.Cond.instantiable "QueueDrive$Drive" (15 : Nat)) ∈ lw_all := lw_g (lw_at lw_m1 54 rfl) rfl
theorem q147 : (Jvm.Cond.instanceMethod ({ cls := "QueueDrive$Drive", name := "<init>", desc := "()V" } : Jvm.MethodName)) ∈ lw_all := lw_g (lw_at lw_m1 56 rfl) rfl
theorem q148 : (Jvm.Cond.code ({ cls := "QueueDrive$Drive", name := "<init>", desc := "()V" } : Jvm.MethodName) prog_3_method_1_code (2 : Nat) (Option.none : Option Jvm.ClassFile.FieldType)) ∈ lw_all := lw_g (lw_at lw_m1 57 rfl) rfl
theorem q149 : (Jvm.Cond.methodLink "QueueDrive$Drive" (3 : Nat) ({ cls := "java/lang/Object", name := "<init>", desc := "()V" } : Jvm.MethodName)) ∈ lw_all := lw_g (lw_at lw_m1 58 rfl) rfl
theorem q150 : (Jvm.Cond.classLink "QueueDrive$Drive" (9 : Nat) "QueueDrive$Line") ∈ lw_all := lw_g (lw_at lw_m1 59 rfl) rfl
theorem q152 : (Jvm.Cond.classLink "QueueDrive$Drive" (17 : Nat) "java/util/LinkedList") ∈ lw_all := lw_g (lw_at lw_m1 61 rfl) rfl
theorem q154 : (Jvm.Cond.methodLink "QueueDrive$Drive" (19 : Nat) ({ cls := "java/util/LinkedList", name := "<init>", desc := "()V" } : Jvm.MethodName)) ∈ lw_all := lw_g (lw_at lw_m1 63 rfl) rfl
theorem q186 : (Jvm.Cond.methodLink "QueueDrive$Drive" (47 : Nat) ({ cls := "QueueDrive$Line", name := "<init>", desc := "(I)V" } : Jvm.MethodName)) ∈ lw_all := lw_g (lw_at lw_m1 95 rfl) rfl
theorem q553 : (Jvm.Cond.fieldLink "QueueDrive$Drive" (129 : Nat) "QueueDrive$Line" "number" "I") ∈ lw_all := lw_g (lw_at lw_m2 222 rfl) rfl
theorem q557 : (Jvm.Cond.fieldLink "QueueDrive$Drive" (135 : Nat) "QueueDrive$Line" "ring" "Ljava/util/ArrayDeque;") ∈ lw_all := lw_g (lw_at lw_m2 226 rfl) rfl
theorem q568 : (Jvm.Cond.fieldLink "QueueDrive$Drive" (116 : Nat) "QueueDrive$Line" "kind" "I") ∈ lw_all := lw_g (lw_at lw_m2 237 rfl) rfl
theorem q573 : (Jvm.Cond.fieldLink "QueueDrive$Drive" (266 : Nat) "QueueDrive$Line" "written" "I") ∈ lw_all := lw_g (lw_at lw_m3 2 rfl) rfl
theorem q576 : (Jvm.Cond.fieldLink "QueueDrive$Drive" (240 : Nat) "QueueDrive$Line" "rung" "I") ∈ lw_all := lw_g (lw_at lw_m3 5 rfl) rfl
theorem q579 : (Jvm.Cond.fieldLink "QueueDrive$Drive" (243 : Nat) "QueueDrive$Line" "seen" "I") ∈ lw_all := lw_g (lw_at lw_m3 8 rfl) rfl
theorem q581 : (Jvm.Cond.fieldLink "QueueDrive$Drive" (132 : Nat) "QueueDrive$Line" "fetched" "I") ∈ lw_all := lw_g (lw_at lw_m3 10 rfl) rfl
theorem q587 : (Jvm.Cond.fieldLink "QueueDrive$Drive" (272 : Nat) "QueueDrive$Line" "posted" "I") ∈ lw_all := lw_g (lw_at lw_m3 16 rfl) rfl
theorem q590 : (Jvm.Cond.fieldLink "QueueDrive$Drive" (275 : Nat) "QueueDrive$Line" "taken" "I") ∈ lw_all := lw_g (lw_at lw_m3 19 rfl) rfl
theorem q593 : (Jvm.Cond.fieldLink "QueueDrive$Drive" (246 : Nat) "QueueDrive$Line" "mark" "I") ∈ lw_all := lw_g (lw_at lw_m3 22 rfl) rfl
theorem q596 : (Jvm.Cond.fieldLink "QueueDrive$Drive" (234 : Nat) "QueueDrive$Line" "isShadowed" "Z") ∈ lw_all := lw_g (lw_at lw_m3 25 rfl) rfl
theorem q599 : (Jvm.Cond.fieldLink "QueueDrive$Drive" (237 : Nat) "QueueDrive$Line" "isAwake" "Z") ∈ lw_all := lw_g (lw_at lw_m3 28 rfl) rfl
theorem q635 : (Jvm.Cond.fieldLink "QueueDrive$Drive" (11 : Nat) "QueueDrive$Drive" "lines" "[LQueueDrive$Line;") ∈ lw_all := lw_g (lw_at lw_m3 64 rfl) rfl
theorem q637 : (Jvm.Cond.fieldLink "QueueDrive$Drive" (20 : Nat) "QueueDrive$Drive" "running" "Ljava/util/LinkedList;") ∈ lw_all := lw_g (lw_at lw_m3 66 rfl) rfl
theorem q640 : (Jvm.Cond.fieldLink "QueueDrive$Drive" (24 : Nat) "QueueDrive$Drive" "outbox" "Ljava/util/LinkedList;") ∈ lw_all := lw_g (lw_at lw_m3 69 rfl) rfl
theorem q642 : (Jvm.Cond.fieldLink "QueueDrive$Drive" (27 : Nat) "QueueDrive$Drive" "blocks" "[I") ∈ lw_all := lw_g (lw_at lw_m3 71 rfl) rfl
theorem q644 : (Jvm.Cond.fieldLink "QueueDrive$Drive" (31 : Nat) "QueueDrive$Drive" "weight" "[I") ∈ lw_all := lw_g (lw_at lw_m3 73 rfl) rfl
theorem q646 : (Jvm.Cond.fieldLink "QueueDrive$Drive" (34 : Nat) "QueueDrive$Drive" "credit" "[I") ∈ lw_all := lw_g (lw_at lw_m3 75 rfl) rfl
theorem q648 : (Jvm.Cond.fieldLink "QueueDrive$Drive" (37 : Nat) "QueueDrive$Drive" "last" "[I") ∈ lw_all := lw_g (lw_at lw_m3 77 rfl) rfl
theorem q649 : (Jvm.Cond.fieldLink "QueueDrive$Drive" (40 : Nat) "QueueDrive$Drive" "served" "[I") ∈ lw_all := lw_g (lw_at lw_m3 78 rfl) rfl
theorem q651 : (Jvm.Cond.fieldLink "QueueDrive$Drive" (50 : Nat) "QueueDrive$Drive" "many" "I") ∈ lw_all := lw_g (lw_at lw_m3 80 rfl) rfl
theorem q653 : (Jvm.Cond.fieldLink "QueueDrive$Drive" (43 : Nat) "QueueDrive$Drive" "depth" "I") ∈ lw_all := lw_g (lw_at lw_m3 82 rfl) rfl
theorem q655 : (Jvm.Cond.fieldLink "QueueDrive$Drive" (92 : Nat) "QueueDrive$Drive" "tick" "I") ∈ lw_all := lw_g (lw_at lw_m3 84 rfl) rfl
theorem q658 : (Jvm.Cond.fieldLink "QueueDrive$Drive" (95 : Nat) "QueueDrive$Drive" "bells" "I") ∈ lw_all := lw_g (lw_at lw_m3 87 rfl) rfl
theorem q660 : (Jvm.Cond.fieldLink "QueueDrive$Drive" (98 : Nat) "QueueDrive$Drive" "spared" "I") ∈ lw_all := lw_g (lw_at lw_m3 89 rfl) rfl
theorem q662 : (Jvm.Cond.fieldLink "QueueDrive$Drive" (101 : Nat) "QueueDrive$Drive" "fetches" "I") ∈ lw_all := lw_g (lw_at lw_m3 91 rfl) rfl
theorem q664 : (Jvm.Cond.fieldLink "QueueDrive$Drive" (104 : Nat) "QueueDrive$Drive" "posts" "I") ∈ lw_all := lw_g (lw_at lw_m3 93 rfl) rfl
theorem q666 : (Jvm.Cond.laysFinal "QueueDrive$Drive" "QueueDrive$Drive" "lines" "[LQueueDrive$Line;") ∈ lw_all := lw_g (lw_at lw_m3 95 rfl) rfl
theorem q667 : (Jvm.Cond.soleField "QueueDrive$Drive" "lines") ∈ lw_all := lw_g (lw_at lw_m3 96 rfl) rfl
theorem q668 : (Jvm.Cond.laysFinal "QueueDrive$Drive" "QueueDrive$Drive" "running" "Ljava/util/LinkedList;") ∈ lw_all := lw_g (lw_at lw_m3 97 rfl) rfl
theorem q669 : (Jvm.Cond.soleField "QueueDrive$Drive" "running") ∈ lw_all := lw_g (lw_at lw_m3 98 rfl) rfl
theorem q670 : (Jvm.Cond.laysFinal "QueueDrive$Drive" "QueueDrive$Drive" "outbox" "Ljava/util/LinkedList;") ∈ lw_all := lw_g (lw_at lw_m3 99 rfl) rfl
theorem q671 : (Jvm.Cond.soleField "QueueDrive$Drive" "outbox") ∈ lw_all := lw_g (lw_at lw_m3 100 rfl) rfl
theorem q672 : (Jvm.Cond.laysFinal "QueueDrive$Drive" "QueueDrive$Drive" "blocks" "[I") ∈ lw_all := lw_g (lw_at lw_m3 101 rfl) rfl
theorem q673 : (Jvm.Cond.soleField "QueueDrive$Drive" "blocks") ∈ lw_all := lw_g (lw_at lw_m3 102 rfl) rfl
theorem q674 : (Jvm.Cond.laysFinal "QueueDrive$Drive" "QueueDrive$Drive" "weight" "[I") ∈ lw_all := lw_g (lw_at lw_m3 103 rfl) rfl
theorem q675 : (Jvm.Cond.soleField "QueueDrive$Drive" "weight") ∈ lw_all := lw_g (lw_at lw_m3 104 rfl) rfl
theorem q676 : (Jvm.Cond.laysFinal "QueueDrive$Drive" "QueueDrive$Drive" "credit" "[I") ∈ lw_all := lw_g (lw_at lw_m3 105 rfl) rfl
theorem q677 : (Jvm.Cond.soleField "QueueDrive$Drive" "credit") ∈ lw_all := lw_g (lw_at lw_m3 106 rfl) rfl
theorem q678 : (Jvm.Cond.laysFinal "QueueDrive$Drive" "QueueDrive$Drive" "last" "[I") ∈ lw_all := lw_g (lw_at lw_m3 107 rfl) rfl
theorem q679 : (Jvm.Cond.soleField "QueueDrive$Drive" "last") ∈ lw_all := lw_g (lw_at lw_m3 108 rfl) rfl
theorem q680 : (Jvm.Cond.laysFinal "QueueDrive$Drive" "QueueDrive$Drive" "served" "[I") ∈ lw_all := lw_g (lw_at lw_m3 109 rfl) rfl
theorem q681 : (Jvm.Cond.soleField "QueueDrive$Drive" "served") ∈ lw_all := lw_g (lw_at lw_m3 110 rfl) rfl
theorem q682 : (Jvm.Cond.lays "QueueDrive$Drive" "QueueDrive$Drive" "many" "I") ∈ lw_all := lw_g (lw_at lw_m3 111 rfl) rfl
theorem q683 : (Jvm.Cond.soleField "QueueDrive$Drive" "many") ∈ lw_all := lw_g (lw_at lw_m3 112 rfl) rfl
theorem q684 : (Jvm.Cond.lays "QueueDrive$Drive" "QueueDrive$Drive" "depth" "I") ∈ lw_all := lw_g (lw_at lw_m3 113 rfl) rfl
theorem q685 : (Jvm.Cond.soleField "QueueDrive$Drive" "depth") ∈ lw_all := lw_g (lw_at lw_m3 114 rfl) rfl
theorem q686 : (Jvm.Cond.lays "QueueDrive$Drive" "QueueDrive$Drive" "tick" "I") ∈ lw_all := lw_g (lw_at lw_m3 115 rfl) rfl
theorem q687 : (Jvm.Cond.soleField "QueueDrive$Drive" "tick") ∈ lw_all := lw_g (lw_at lw_m3 116 rfl) rfl
theorem q688 : (Jvm.Cond.lays "QueueDrive$Drive" "QueueDrive$Drive" "bells" "I") ∈ lw_all := lw_g (lw_at lw_m3 117 rfl) rfl
theorem q689 : (Jvm.Cond.soleField "QueueDrive$Drive" "bells") ∈ lw_all := lw_g (lw_at lw_m3 118 rfl) rfl
theorem q690 : (Jvm.Cond.lays "QueueDrive$Drive" "QueueDrive$Drive" "spared" "I") ∈ lw_all := lw_g (lw_at lw_m3 119 rfl) rfl
theorem q691 : (Jvm.Cond.soleField "QueueDrive$Drive" "spared") ∈ lw_all := lw_g (lw_at lw_m3 120 rfl) rfl
theorem q692 : (Jvm.Cond.lays "QueueDrive$Drive" "QueueDrive$Drive" "fetches" "I") ∈ lw_all := lw_g (lw_at lw_m3 121 rfl) rfl
theorem q693 : (Jvm.Cond.soleField "QueueDrive$Drive" "fetches") ∈ lw_all := lw_g (lw_at lw_m3 122 rfl) rfl
theorem q694 : (Jvm.Cond.lays "QueueDrive$Drive" "QueueDrive$Drive" "posts" "I") ∈ lw_all := lw_g (lw_at lw_m3 123 rfl) rfl
theorem q695 : (Jvm.Cond.soleField "QueueDrive$Drive" "posts") ∈ lw_all := lw_g (lw_at lw_m3 124 rfl) rfl
theorem q696 : (Jvm.Cond.superclass "QueueDrive$Drive" "java/lang/Object") ∈ lw_all := lw_g (lw_at lw_m3 125 rfl) rfl
theorem q1039 : (Jvm.Cond.instanceMethod ({ cls := "QueueDrive$Drive", name := "blocksSum", desc := "()I" } : Jvm.MethodName)) ∈ lw_all := lw_g (lw_at lw_m4 228 rfl) rfl
theorem q1040 : (Jvm.Cond.selects "QueueDrive$Drive" ({ cls := "QueueDrive$Drive", name := "blocksSum", desc := "()I" } : Jvm.MethodName) ({ cls := "QueueDrive$Drive", name := "blocksSum", desc := "()I" } : Jvm.MethodName)) ∈ lw_all := lw_g (lw_at lw_m4 229 rfl) rfl
theorem q1041 : (Jvm.Cond.code ({ cls := "QueueDrive$Drive", name := "blocksSum", desc := "()I" } : Jvm.MethodName) prog_3_method_21_code (6 : Nat) (Option.some Jvm.ClassFile.FieldType.int)) ∈ lw_all := lw_g (lw_at lw_m4 230 rfl) rfl
theorem q1077 : (Jvm.Cond.instanceMethod ({ cls := "QueueDrive$Drive", name := "be", desc := "(LQueueDrive$Drive;)V" } : Jvm.MethodName)) ∈ lw_all := lw_g (lw_at lw_m5 26 rfl) rfl
theorem q1078 : (Jvm.Cond.selects "QueueDrive$Drive" ({ cls := "QueueDrive$Drive", name := "be", desc := "(LQueueDrive$Drive;)V" } : Jvm.MethodName) ({ cls := "QueueDrive$Drive", name := "be", desc := "(LQueueDrive$Drive;)V" } : Jvm.MethodName)) ∈ lw_all := lw_g (lw_at lw_m5 27 rfl) rfl
theorem q1079 : (Jvm.Cond.code ({ cls := "QueueDrive$Drive", name := "be", desc := "(LQueueDrive$Drive;)V" } : Jvm.MethodName) prog_3_method_2_code (4 : Nat) (Option.none : Option Jvm.ClassFile.FieldType)) ∈ lw_all := lw_g (lw_at lw_m5 28 rfl) rfl
theorem q1080 : (Jvm.Cond.methodLink "QueueDrive$Drive" (53 : Nat) ({ cls := "QueueDrive$Line", name := "be", desc := "(LQueueDrive$Line;)V" } : Jvm.MethodName)) ∈ lw_all := lw_g (lw_at lw_m5 29 rfl) rfl
theorem q1207 : (Jvm.Cond.selects "QueueDrive$Drive" ({ cls := "java/lang/Object", name := "getClass", desc := "()Ljava/lang/Class;" } : Jvm.MethodName) ({ cls := "java/lang/Object", name := "getClass", desc := "()Ljava/lang/Class;" } : Jvm.MethodName)) ∈ lw_all := lw_g (lw_at lw_m5 156 rfl) rfl
theorem q1336 : (Jvm.Cond.methodLink "QueueDrive$Drive" (57 : Nat) ({ cls := "java/util/LinkedList", name := "clear", desc := "()V" } : Jvm.MethodName)) ∈ lw_all := lw_g (lw_at lw_m6 45 rfl) rfl
theorem q1340 : (Jvm.Cond.methodLink "QueueDrive$Drive" (60 : Nat) ({ cls := "java/util/LinkedList", name := "iterator", desc := "()Ljava/util/Iterator;" } : Jvm.MethodName)) ∈ lw_all := lw_g (lw_at lw_m6 49 rfl) rfl
theorem q1390 : (Jvm.Cond.interfaceEntry "QueueDrive$Drive" (64 : Nat)) ∈ lw_tbl := lw_at lw_m6 99 rfl
theorem q1391 : (Jvm.Cond.methodLink "QueueDrive$Drive" (64 : Nat) ({ cls := "java/util/Iterator", name := "hasNext", desc := "()Z" } : Jvm.MethodName)) ∈ lw_all := lw_g (lw_at lw_m6 100 rfl) rfl
theorem q1392 : (Jvm.Cond.interfaceEntry "QueueDrive$Drive" (70 : Nat)) ∈ lw_tbl := lw_at lw_m6 101 rfl
theorem q1393 : (Jvm.Cond.methodLink "QueueDrive$Drive" (70 : Nat) ({ cls := "java/util/Iterator", name := "next", desc := "()Ljava/lang/Object;" } : Jvm.MethodName)) ∈ lw_all := lw_g (lw_at lw_m6 102 rfl) rfl
theorem q1394 : (Jvm.Cond.classLink "QueueDrive$Drive" (74 : Nat) "QueueDrive$Work") ∈ lw_all := lw_g (lw_at lw_m6 103 rfl) rfl
theorem q1395 : (Jvm.Cond.methodLink "QueueDrive$Drive" (76 : Nat) ({ cls := "java/util/LinkedList", name := "addLast", desc := "(Ljava/lang/Object;)V" } : Jvm.MethodName)) ∈ lw_all := lw_g (lw_at lw_m6 104 rfl) rfl
theorem q1424 : (Jvm.Cond.classLink "QueueDrive$Drive" (80 : Nat) "QueueDrive$Word") ∈ lw_all := lw_g (lw_at lw_m6 133 rfl) rfl
theorem q1425 : (Jvm.Cond.methodLink "QueueDrive$Drive" (82 : Nat) ({ cls := "java/lang/System", name := "arraycopy", desc := "(Ljava/lang/Object;ILjava/lang/Object;II)V" } : Jvm.MethodName)) ∈ lw_all := lw_g (lw_at lw_m6 134 rfl) rfl
theorem q1426 : (Jvm.Cond.methodLink "QueueDrive$Drive" (88 : Nat) ({ cls := "QueueDrive$Drive", name := "beTurns", desc := "(LQueueDrive$Drive;)V" } : Jvm.MethodName)) ∈ lw_all := lw_g (lw_at lw_m6 135 rfl) rfl
theorem q1427 : (Jvm.Cond.instanceMethod ({ cls := "QueueDrive$Drive", name := "beTurns", desc := "(LQueueDrive$Drive;)V" } : Jvm.MethodName)) ∈ lw_all := lw_g (lw_at lw_m6 136 rfl) rfl
theorem q1428 : (Jvm.Cond.selects "QueueDrive$Drive" ({ cls := "QueueDrive$Drive", name := "beTurns", desc := "(LQueueDrive$Drive;)V" } : Jvm.MethodName) ({ cls := "QueueDrive$Drive", name := "beTurns", desc := "(LQueueDrive$Drive;)V" } : Jvm.MethodName)) ∈ lw_all := lw_g (lw_at lw_m6 137 rfl) rfl
theorem q1429 : (Jvm.Cond.code ({ cls := "QueueDrive$Drive", name := "beTurns", desc := "(LQueueDrive$Drive;)V" } : Jvm.MethodName) prog_3_method_3_code (2 : Nat) (Option.none : Option Jvm.ClassFile.FieldType)) ∈ lw_all := lw_g (lw_at lw_m6 138 rfl) rfl
theorem q1468 : (Jvm.Cond.fieldLink "QueueDrive$Drive" (161 : Nat) "QueueDrive$Command" "op" "I") ∈ lw_all := lw_g (lw_at lw_m6 177 rfl) rfl
theorem q1472 : (Jvm.Cond.fieldLink "QueueDrive$Drive" (193 : Nat) "QueueDrive$Command" "block" "I") ∈ lw_all := lw_g (lw_at lw_m6 181 rfl) rfl
theorem q1476 : (Jvm.Cond.fieldLink "QueueDrive$Drive" (202 : Nat) "QueueDrive$Command" "value" "I") ∈ lw_all := lw_g (lw_at lw_m6 185 rfl) rfl
theorem q1478 : (Jvm.Cond.fieldLink "QueueDrive$Drive" (154 : Nat) "QueueDrive$Command" "isCalled" "Z") ∈ lw_all := lw_g (lw_at lw_m6 187 rfl) rfl
theorem q1507 : (Jvm.Cond.instanceMethod ({ cls := "QueueDrive$Drive", name := "ringUp", desc := "(LQueueDrive$Line;)I" } : Jvm.MethodName)) ∈ lw_all := lw_g (lw_at lw_m6 216 rfl) rfl
theorem q1508 : (Jvm.Cond.selects "QueueDrive$Drive" ({ cls := "QueueDrive$Drive", name := "ringUp", desc := "(LQueueDrive$Line;)I" } : Jvm.MethodName) ({ cls := "QueueDrive$Drive", name := "ringUp", desc := "(LQueueDrive$Line;)I" } : Jvm.MethodName)) ∈ lw_all := lw_g (lw_at lw_m6 217 rfl) rfl
theorem q1509 : (Jvm.Cond.code ({ cls := "QueueDrive$Drive", name := "ringUp", desc := "(LQueueDrive$Line;)I" } : Jvm.MethodName) prog_3_method_18_code (3 : Nat) (Option.some Jvm.ClassFile.FieldType.int)) ∈ lw_all := lw_g (lw_at lw_m6 218 rfl) rfl
theorem q1510 : (Jvm.Cond.methodLink "QueueDrive$Drive" (263 : Nat) ({ cls := "QueueDrive$Line", name := "bell", desc := "()I" } : Jvm.MethodName)) ∈ lw_all := lw_g (lw_at lw_m6 219 rfl) rfl
theorem q1517 : (Jvm.Cond.instanceMethod ({ cls := "QueueDrive$Drive", name := "goTick", desc := "(LQueueDrive$Rule;)V" } : Jvm.MethodName)) ∈ lw_all := lw_g (lw_at lw_m6 226 rfl) rfl
theorem q1518 : (Jvm.Cond.selects "QueueDrive$Drive" ({ cls := "QueueDrive$Drive", name := "goTick", desc := "(LQueueDrive$Rule;)V" } : Jvm.MethodName) ({ cls := "QueueDrive$Drive", name := "goTick", desc := "(LQueueDrive$Rule;)V" } : Jvm.MethodName)) ∈ lw_all := lw_g (lw_at lw_m6 227 rfl) rfl
theorem q1519 : (Jvm.Cond.code ({ cls := "QueueDrive$Drive", name := "goTick", desc := "(LQueueDrive$Rule;)V" } : Jvm.MethodName) prog_3_method_17_code (2 : Nat) (Option.none : Option Jvm.ClassFile.FieldType)) ∈ lw_all := lw_g (lw_at lw_m6 228 rfl) rfl
theorem q1520 : (Jvm.Cond.methodLink "QueueDrive$Drive" (249 : Nat) ({ cls := "QueueDrive$Drive", name := "run", desc := "()V" } : Jvm.MethodName)) ∈ lw_all := lw_g (lw_at lw_m6 229 rfl) rfl
theorem q1521 : (Jvm.Cond.privateMethod ({ cls := "QueueDrive$Drive", name := "run", desc := "()V" } : Jvm.MethodName)) ∈ lw_tbl := lw_at lw_m6 230 rfl
theorem q1522 : (Jvm.Cond.instanceMethod ({ cls := "QueueDrive$Drive", name := "run", desc := "()V" } : Jvm.MethodName)) ∈ lw_all := lw_g (lw_at lw_m6 231 rfl) rfl
theorem q1523 : (Jvm.Cond.code ({ cls := "QueueDrive$Drive", name := "run", desc := "()V" } : Jvm.MethodName) prog_3_method_14_code (4 : Nat) (Option.none : Option Jvm.ClassFile.FieldType)) ∈ lw_all := lw_g (lw_at lw_m6 232 rfl) rfl
theorem q1524 : (Jvm.Cond.methodLink "QueueDrive$Drive" (205 : Nat) ({ cls := "java/util/LinkedList", name := "size", desc := "()I" } : Jvm.MethodName)) ∈ lw_all := lw_g (lw_at lw_m6 233 rfl) rfl
theorem q1525 : (Jvm.Cond.methodLink "QueueDrive$Drive" (209 : Nat) ({ cls := "java/util/LinkedList", name := "pollFirst", desc := "()Ljava/lang/Object;" } : Jvm.MethodName)) ∈ lw_all := lw_g (lw_at lw_m6 234 rfl) rfl
theorem q1533 : (Jvm.Cond.methodLink "QueueDrive$Drive" (210 : Nat) ({ cls := "QueueDrive$Work", name := "shorter", desc := "()LQueueDrive$Work;" } : Jvm.MethodName)) ∈ lw_all := lw_g (lw_at lw_m7 2 rfl) rfl
theorem q1544 : (Jvm.Cond.fieldLink "QueueDrive$Drive" (189 : Nat) "QueueDrive$Work" "first" "LQueueDrive$Command;") ∈ lw_all := lw_g (lw_at lw_m7 13 rfl) rfl
theorem q1547 : (Jvm.Cond.fieldLink "QueueDrive$Drive" (196 : Nat) "QueueDrive$Work" "second" "LQueueDrive$Command;") ∈ lw_all := lw_g (lw_at lw_m7 16 rfl) rfl
theorem q1550 : (Jvm.Cond.fieldLink "QueueDrive$Drive" (214 : Nat) "QueueDrive$Work" "left" "I") ∈ lw_all := lw_g (lw_at lw_m7 19 rfl) rfl
theorem q1559 : (Jvm.Cond.methodLink "QueueDrive$Drive" (217 : Nat) ({ cls := "QueueDrive$Drive", name := "finish", desc := "(LQueueDrive$Work;)V" } : Jvm.MethodName)) ∈ lw_all := lw_g (lw_at lw_m7 28 rfl) rfl
theorem q1560 : (Jvm.Cond.privateMethod ({ cls := "QueueDrive$Drive", name := "finish", desc := "(LQueueDrive$Work;)V" } : Jvm.MethodName)) ∈ lw_tbl := lw_at lw_m7 29 rfl
theorem q1561 : (Jvm.Cond.instanceMethod ({ cls := "QueueDrive$Drive", name := "finish", desc := "(LQueueDrive$Work;)V" } : Jvm.MethodName)) ∈ lw_all := lw_g (lw_at lw_m7 30 rfl) rfl
theorem q1562 : (Jvm.Cond.code ({ cls := "QueueDrive$Drive", name := "finish", desc := "(LQueueDrive$Work;)V" } : Jvm.MethodName) prog_3_method_12_code (4 : Nat) (Option.none : Option Jvm.ClassFile.FieldType)) ∈ lw_all := lw_g (lw_at lw_m7 31 rfl) rfl
theorem q1563 : (Jvm.Cond.methodLink "QueueDrive$Drive" (199 : Nat) ({ cls := "QueueDrive$Drive", name := "finishPair", desc := "(LQueueDrive$Command;LQueueDrive$Command;I)V" } : Jvm.MethodName)) ∈ lw_all := lw_g (lw_at lw_m7 32 rfl) rfl
theorem q1564 : (Jvm.Cond.privateMethod ({ cls := "QueueDrive$Drive", name := "finishPair", desc := "(LQueueDrive$Command;LQueueDrive$Command;I)V" } : Jvm.MethodName)) ∈ lw_tbl := lw_at lw_m7 33 rfl
theorem q1565 : (Jvm.Cond.instanceMethod ({ cls := "QueueDrive$Drive", name := "finishPair", desc := "(LQueueDrive$Command;LQueueDrive$Command;I)V" } : Jvm.MethodName)) ∈ lw_all := lw_g (lw_at lw_m7 34 rfl) rfl
theorem q1566 : (Jvm.Cond.code ({ cls := "QueueDrive$Drive", name := "finishPair", desc := "(LQueueDrive$Command;LQueueDrive$Command;I)V" } : Jvm.MethodName) prog_3_method_13_code (5 : Nat) (Option.none : Option Jvm.ClassFile.FieldType)) ∈ lw_all := lw_g (lw_at lw_m7 35 rfl) rfl
theorem q1568 : (Jvm.Cond.methodLink "QueueDrive$Drive" (158 : Nat) ({ cls := "QueueDrive$Word", name := "<init>", desc := "(LQueueDrive$Command;II)V" } : Jvm.MethodName)) ∈ lw_all := lw_g (lw_at lw_m7 37 rfl) rfl
theorem q1573 : (Jvm.Cond.fieldLink "QueueDrive$Drive" (221 : Nat) "QueueDrive$Word" "line" "I") ∈ lw_all := lw_g (lw_at lw_m7 42 rfl) rfl
theorem q1591 : (Jvm.Cond.methodLink "QueueDrive$Drive" (252 : Nat) ({ cls := "QueueDrive$Drive", name := "postAll", desc := "()V" } : Jvm.MethodName)) ∈ lw_all := lw_g (lw_at lw_m7 60 rfl) rfl
theorem q1592 : (Jvm.Cond.privateMethod ({ cls := "QueueDrive$Drive", name := "postAll", desc := "()V" } : Jvm.MethodName)) ∈ lw_tbl := lw_at lw_m7 61 rfl
theorem q1593 : (Jvm.Cond.instanceMethod ({ cls := "QueueDrive$Drive", name := "postAll", desc := "()V" } : Jvm.MethodName)) ∈ lw_all := lw_g (lw_at lw_m7 62 rfl) rfl
theorem q1594 : (Jvm.Cond.code ({ cls := "QueueDrive$Drive", name := "postAll", desc := "()V" } : Jvm.MethodName) prog_3_method_15_code (3 : Nat) (Option.none : Option Jvm.ClassFile.FieldType)) ∈ lw_all := lw_g (lw_at lw_m7 63 rfl) rfl
theorem q1595 : (Jvm.Cond.methodLink "QueueDrive$Drive" (224 : Nat) ({ cls := "QueueDrive$Line", name := "hasPlace", desc := "()Z" } : Jvm.MethodName)) ∈ lw_all := lw_g (lw_at lw_m7 64 rfl) rfl
theorem q1599 : (Jvm.Cond.methodLink "QueueDrive$Drive" (227 : Nat) ({ cls := "QueueDrive$Line", name := "post", desc := "(LQueueDrive$Word;)V" } : Jvm.MethodName)) ∈ lw_all := lw_g (lw_at lw_m7 68 rfl) rfl
theorem q1627 : (Jvm.Cond.interfaceEntry "QueueDrive$Drive" (231 : Nat)) ∈ lw_tbl := lw_at lw_m7 96 rfl
theorem q1628 : (Jvm.Cond.methodLink "QueueDrive$Drive" (231 : Nat) ({ cls := "java/util/Iterator", name := "remove", desc := "()V" } : Jvm.MethodName)) ∈ lw_all := lw_g (lw_at lw_m7 97 rfl) rfl
theorem q1698 : (Jvm.Cond.methodLink "QueueDrive$Drive" (255 : Nat) ({ cls := "QueueDrive$Drive", name := "look", desc := "()V" } : Jvm.MethodName)) ∈ lw_all := lw_g (lw_at lw_m7 167 rfl) rfl
theorem q1699 : (Jvm.Cond.privateMethod ({ cls := "QueueDrive$Drive", name := "look", desc := "()V" } : Jvm.MethodName)) ∈ lw_tbl := lw_at lw_m7 168 rfl
theorem q1700 : (Jvm.Cond.instanceMethod ({ cls := "QueueDrive$Drive", name := "look", desc := "()V" } : Jvm.MethodName)) ∈ lw_all := lw_g (lw_at lw_m7 169 rfl) rfl
theorem q1701 : (Jvm.Cond.code ({ cls := "QueueDrive$Drive", name := "look", desc := "()V" } : Jvm.MethodName) prog_3_method_16_code (3 : Nat) (Option.none : Option Jvm.ClassFile.FieldType)) ∈ lw_all := lw_g (lw_at lw_m7 170 rfl) rfl
theorem q1702 : (Jvm.Cond.methodLink "QueueDrive$Drive" (119 : Nat) ({ cls := "QueueDrive$Line", name := "hasWork", desc := "()Z" } : Jvm.MethodName)) ∈ lw_all := lw_g (lw_at lw_m7 171 rfl) rfl
theorem q1706 : (Jvm.Cond.methodLink "QueueDrive$Drive" (258 : Nat) ({ cls := "QueueDrive$Drive", name := "hasWork", desc := "()Z" } : Jvm.MethodName)) ∈ lw_all := lw_g (lw_at lw_m7 175 rfl) rfl
theorem q1707 : (Jvm.Cond.instanceMethod ({ cls := "QueueDrive$Drive", name := "hasWork", desc := "()Z" } : Jvm.MethodName)) ∈ lw_all := lw_g (lw_at lw_m7 176 rfl) rfl
theorem q1708 : (Jvm.Cond.selects "QueueDrive$Drive" ({ cls := "QueueDrive$Drive", name := "hasWork", desc := "()Z" } : Jvm.MethodName) ({ cls := "QueueDrive$Drive", name := "hasWork", desc := "()Z" } : Jvm.MethodName)) ∈ lw_all := lw_g (lw_at lw_m7 177 rfl) rfl
theorem q1709 : (Jvm.Cond.code ({ cls := "QueueDrive$Drive", name := "hasWork", desc := "()Z" } : Jvm.MethodName) prog_3_method_8_code (2 : Nat) (Option.some Jvm.ClassFile.FieldType.boolean)) ∈ lw_all := lw_g (lw_at lw_m7 178 rfl) rfl
theorem q1710 : (Jvm.Cond.methodLink "QueueDrive$Drive" (259 : Nat) ({ cls := "QueueDrive$Drive", name := "fetch", desc := "(LQueueDrive$Rule;)V" } : Jvm.MethodName)) ∈ lw_all := lw_g (lw_at lw_m7 179 rfl) rfl
theorem q1711 : (Jvm.Cond.instanceMethod ({ cls := "QueueDrive$Drive", name := "fetch", desc := "(LQueueDrive$Rule;)V" } : Jvm.MethodName)) ∈ lw_all := lw_g (lw_at lw_m7 180 rfl) rfl
theorem q1712 : (Jvm.Cond.selects "QueueDrive$Drive" ({ cls := "QueueDrive$Drive", name := "fetch", desc := "(LQueueDrive$Rule;)V" } : Jvm.MethodName) ({ cls := "QueueDrive$Drive", name := "fetch", desc := "(LQueueDrive$Rule;)V" } : Jvm.MethodName)) ∈ lw_all := lw_g (lw_at lw_m7 181 rfl) rfl
theorem q1713 : (Jvm.Cond.code ({ cls := "QueueDrive$Drive", name := "fetch", desc := "(LQueueDrive$Rule;)V" } : Jvm.MethodName) prog_3_method_10_code (6 : Nat) (Option.none : Option Jvm.ClassFile.FieldType)) ∈ lw_all := lw_g (lw_at lw_m7 182 rfl) rfl
theorem q1714 : (Jvm.Cond.methodLink "QueueDrive$Drive" (146 : Nat) ({ cls := "QueueDrive$Drive", name := "chosen", desc := "()LQueueDrive$Line;" } : Jvm.MethodName)) ∈ lw_all := lw_g (lw_at lw_m7 183 rfl) rfl
theorem q1715 : (Jvm.Cond.instanceMethod ({ cls := "QueueDrive$Drive", name := "chosen", desc := "()LQueueDrive$Line;" } : Jvm.MethodName)) ∈ lw_all := lw_g (lw_at lw_m7 184 rfl) rfl
theorem q1716 : (Jvm.Cond.selects "QueueDrive$Drive" ({ cls := "QueueDrive$Drive", name := "chosen", desc := "()LQueueDrive$Line;" } : Jvm.MethodName) ({ cls := "QueueDrive$Drive", name := "chosen", desc := "()LQueueDrive$Line;" } : Jvm.MethodName)) ∈ lw_all := lw_g (lw_at lw_m7 185 rfl) rfl
theorem q1717 : (Jvm.Cond.code ({ cls := "QueueDrive$Drive", name := "chosen", desc := "()LQueueDrive$Line;" } : Jvm.MethodName) prog_3_method_7_code (3 : Nat) (Option.some (Jvm.ClassFile.FieldType.object "QueueDrive$Line"))) ∈ lw_all := lw_g (lw_at lw_m7 186 rfl) rfl
theorem q1718 : (Jvm.Cond.methodLink "QueueDrive$Drive" (122 : Nat) ({ cls := "QueueDrive$Drive", name := "turn", desc := "(I)LQueueDrive$Line;" } : Jvm.MethodName)) ∈ lw_all := lw_g (lw_at lw_m7 187 rfl) rfl
theorem q1719 : (Jvm.Cond.instanceMethod ({ cls := "QueueDrive$Drive", name := "turn", desc := "(I)LQueueDrive$Line;" } : Jvm.MethodName)) ∈ lw_all := lw_g (lw_at lw_m7 188 rfl) rfl
theorem q1720 : (Jvm.Cond.selects "QueueDrive$Drive" ({ cls := "QueueDrive$Drive", name := "turn", desc := "(I)LQueueDrive$Line;" } : Jvm.MethodName) ({ cls := "QueueDrive$Drive", name := "turn", desc := "(I)LQueueDrive$Line;" } : Jvm.MethodName)) ∈ lw_all := lw_g (lw_at lw_m7 189 rfl) rfl
theorem q1721 : (Jvm.Cond.code ({ cls := "QueueDrive$Drive", name := "turn", desc := "(I)LQueueDrive$Line;" } : Jvm.MethodName) prog_3_method_5_code (4 : Nat) (Option.some (Jvm.ClassFile.FieldType.object "QueueDrive$Line"))) ∈ lw_all := lw_g (lw_at lw_m7 190 rfl) rfl
theorem q1722 : (Jvm.Cond.methodLink "QueueDrive$Drive" (126 : Nat) ({ cls := "QueueDrive$Drive", name := "hasCredit", desc := "()Z" } : Jvm.MethodName)) ∈ lw_all := lw_g (lw_at lw_m7 191 rfl) rfl
theorem q1723 : (Jvm.Cond.privateMethod ({ cls := "QueueDrive$Drive", name := "hasCredit", desc := "()Z" } : Jvm.MethodName)) ∈ lw_tbl := lw_at lw_m7 192 rfl
theorem q1724 : (Jvm.Cond.instanceMethod ({ cls := "QueueDrive$Drive", name := "hasCredit", desc := "()Z" } : Jvm.MethodName)) ∈ lw_all := lw_g (lw_at lw_m7 193 rfl) rfl
theorem q1725 : (Jvm.Cond.code ({ cls := "QueueDrive$Drive", name := "hasCredit", desc := "()Z" } : Jvm.MethodName) prog_3_method_6_code (2 : Nat) (Option.some Jvm.ClassFile.FieldType.boolean)) ∈ lw_all := lw_g (lw_at lw_m7 194 rfl) rfl
theorem q1726 : (Jvm.Cond.methodLink "QueueDrive$Drive" (150 : Nat) ({ cls := "QueueDrive$Drive", name := "nextOf", desc := "(LQueueDrive$Line;)LQueueDrive$Command;" } : Jvm.MethodName)) ∈ lw_all := lw_g (lw_at lw_m7 195 rfl) rfl
theorem q1727 : (Jvm.Cond.privateMethod ({ cls := "QueueDrive$Drive", name := "nextOf", desc := "(LQueueDrive$Line;)LQueueDrive$Command;" } : Jvm.MethodName)) ∈ lw_tbl := lw_at lw_m7 196 rfl
theorem q1728 : (Jvm.Cond.instanceMethod ({ cls := "QueueDrive$Drive", name := "nextOf", desc := "(LQueueDrive$Line;)LQueueDrive$Command;" } : Jvm.MethodName)) ∈ lw_all := lw_g (lw_at lw_m7 197 rfl) rfl
theorem q1729 : (Jvm.Cond.code ({ cls := "QueueDrive$Drive", name := "nextOf", desc := "(LQueueDrive$Line;)LQueueDrive$Command;" } : Jvm.MethodName) prog_3_method_9_code (2 : Nat) (Option.some (Jvm.ClassFile.FieldType.object "QueueDrive$Command"))) ∈ lw_all := lw_g (lw_at lw_m7 198 rfl) rfl
theorem q1730 : (Jvm.Cond.methodLink "QueueDrive$Drive" (139 : Nat) ({ cls := "java/util/ArrayDeque", name := "pollFirst", desc := "()Ljava/lang/Object;" } : Jvm.MethodName)) ∈ lw_all := lw_g (lw_at lw_m7 199 rfl) rfl
theorem q1737 : (Jvm.Cond.classLink "QueueDrive$Drive" (144 : Nat) "QueueDrive$Command") ∈ lw_all := lw_g (lw_at lw_m7 206 rfl) rfl
theorem q1738 : (Jvm.Cond.methodLink "QueueDrive$Drive" (164 : Nat) ({ cls := "java/util/ArrayDeque", name := "peekFirst", desc := "()Ljava/lang/Object;" } : Jvm.MethodName)) ∈ lw_all := lw_g (lw_at lw_m7 207 rfl) rfl
theorem q1742 : (Jvm.Cond.methodLink "QueueDrive$Drive" (167 : Nat) ({ cls := "QueueDrive$Drive", name := "timeOf", desc := "(LQueueDrive$Rule;LQueueDrive$Command;LQueueDrive$Line;)I" } : Jvm.MethodName)) ∈ lw_all := lw_g (lw_at lw_m7 211 rfl) rfl
theorem q1743 : (Jvm.Cond.instanceMethod ({ cls := "QueueDrive$Drive", name := "timeOf", desc := "(LQueueDrive$Rule;LQueueDrive$Command;LQueueDrive$Line;)I" } : Jvm.MethodName)) ∈ lw_all := lw_g (lw_at lw_m7 212 rfl) rfl
theorem q1744 : (Jvm.Cond.selects "QueueDrive$Drive" ({ cls := "QueueDrive$Drive", name := "timeOf", desc := "(LQueueDrive$Rule;LQueueDrive$Command;LQueueDrive$Line;)I" } : Jvm.MethodName) ({ cls := "QueueDrive$Drive", name := "timeOf", desc := "(LQueueDrive$Rule;LQueueDrive$Command;LQueueDrive$Line;)I" } : Jvm.MethodName)) ∈ lw_all := lw_g (lw_at lw_m7 213 rfl) rfl
theorem q1745 : (Jvm.Cond.code ({ cls := "QueueDrive$Drive", name := "timeOf", desc := "(LQueueDrive$Rule;LQueueDrive$Command;LQueueDrive$Line;)I" } : Jvm.MethodName) prog_3_method_11_code (5 : Nat) (Option.some Jvm.ClassFile.FieldType.int)) ∈ lw_all := lw_g (lw_at lw_m7 214 rfl) rfl
theorem q1746 : (Jvm.Cond.methodLink "QueueDrive$Drive" (174 : Nat) ({ cls := "QueueDrive$Rule", name := "of", desc := "(LQueueDrive$Drive;LQueueDrive$Command;LQueueDrive$Line;)I" } : Jvm.MethodName)) ∈ lw_all := lw_g (lw_at lw_m7 215 rfl) rfl
theorem q1751 : (Jvm.Cond.methodLink "QueueDrive$Drive" (180 : Nat) ({ cls := "java/lang/Math", name := "min", desc := "(II)I" } : Jvm.MethodName)) ∈ lw_all := lw_g (lw_at lw_m7 220 rfl) rfl
theorem q1752 : (Jvm.Cond.methodLink "QueueDrive$Drive" (186 : Nat) ({ cls := "java/lang/Math", name := "max", desc := "(II)I" } : Jvm.MethodName)) ∈ lw_all := lw_g (lw_at lw_m7 221 rfl) rfl
theorem q1753 : (Jvm.Cond.methodLink "QueueDrive$Drive" (171 : Nat) ({ cls := "QueueDrive$Work", name := "<init>", desc := "(LQueueDrive$Command;LQueueDrive$Command;I)V" } : Jvm.MethodName)) ∈ lw_all := lw_g (lw_at lw_m7 222 rfl) rfl
theorem q1833 : (Jvm.Cond.instanceMethod ({ cls := "QueueDrive$Drive", name := "inRings", desc := "()I" } : Jvm.MethodName)) ∈ lw_all := lw_g (lw_at lw_m8 62 rfl) rfl
theorem q1834 : (Jvm.Cond.selects "QueueDrive$Drive" ({ cls := "QueueDrive$Drive", name := "inRings", desc := "()I" } : Jvm.MethodName) ({ cls := "QueueDrive$Drive", name := "inRings", desc := "()I" } : Jvm.MethodName)) ∈ lw_all := lw_g (lw_at lw_m8 63 rfl) rfl
theorem q1835 : (Jvm.Cond.code ({ cls := "QueueDrive$Drive", name := "inRings", desc := "()I" } : Jvm.MethodName) prog_3_method_22_code (3 : Nat) (Option.some Jvm.ClassFile.FieldType.int)) ∈ lw_all := lw_g (lw_at lw_m8 64 rfl) rfl
theorem q1836 : (Jvm.Cond.methodLink "QueueDrive$Drive" (282 : Nat) ({ cls := "java/util/ArrayDeque", name := "size", desc := "()I" } : Jvm.MethodName)) ∈ lw_all := lw_g (lw_at lw_m8 65 rfl) rfl
theorem q1838 : (Jvm.Cond.instanceMethod ({ cls := "QueueDrive$Drive", name := "inWork", desc := "()I" } : Jvm.MethodName)) ∈ lw_all := lw_g (lw_at lw_m8 67 rfl) rfl
theorem q1839 : (Jvm.Cond.selects "QueueDrive$Drive" ({ cls := "QueueDrive$Drive", name := "inWork", desc := "()I" } : Jvm.MethodName) ({ cls := "QueueDrive$Drive", name := "inWork", desc := "()I" } : Jvm.MethodName)) ∈ lw_all := lw_g (lw_at lw_m8 68 rfl) rfl
theorem q1840 : (Jvm.Cond.code ({ cls := "QueueDrive$Drive", name := "inWork", desc := "()I" } : Jvm.MethodName) prog_3_method_23_code (4 : Nat) (Option.some Jvm.ClassFile.FieldType.int)) ∈ lw_all := lw_g (lw_at lw_m8 69 rfl) rfl
theorem q1843 : (Jvm.Cond.instanceMethod ({ cls := "QueueDrive$Drive", name := "notTaken", desc := "()I" } : Jvm.MethodName)) ∈ lw_all := lw_g (lw_at lw_m8 72 rfl) rfl
theorem q1844 : (Jvm.Cond.selects "QueueDrive$Drive" ({ cls := "QueueDrive$Drive", name := "notTaken", desc := "()I" } : Jvm.MethodName) ({ cls := "QueueDrive$Drive", name := "notTaken", desc := "()I" } : Jvm.MethodName)) ∈ lw_all := lw_g (lw_at lw_m8 73 rfl) rfl
theorem q1845 : (Jvm.Cond.code ({ cls := "QueueDrive$Drive", name := "notTaken", desc := "()I" } : Jvm.MethodName) prog_3_method_24_code (3 : Nat) (Option.some Jvm.ClassFile.FieldType.int)) ∈ lw_all := lw_g (lw_at lw_m8 74 rfl) rfl
theorem q1847 : (Jvm.Cond.instanceMethod ({ cls := "QueueDrive$Drive", name := "empty", desc := "()V" } : Jvm.MethodName)) ∈ lw_all := lw_g (lw_at lw_m8 76 rfl) rfl
theorem q1848 : (Jvm.Cond.selects "QueueDrive$Drive" ({ cls := "QueueDrive$Drive", name := "empty", desc := "()V" } : Jvm.MethodName) ({ cls := "QueueDrive$Drive", name := "empty", desc := "()V" } : Jvm.MethodName)) ∈ lw_all := lw_g (lw_at lw_m8 77 rfl) rfl
theorem q1849 : (Jvm.Cond.code ({ cls := "QueueDrive$Drive", name := "empty", desc := "()V" } : Jvm.MethodName) prog_3_method_4_code (2 : Nat) (Option.none : Option Jvm.ClassFile.FieldType)) ∈ lw_all := lw_g (lw_at lw_m8 78 rfl) rfl
theorem q1850 : (Jvm.Cond.methodLink "QueueDrive$Drive" (107 : Nat) ({ cls := "QueueDrive$Line", name := "empty", desc := "()V" } : Jvm.MethodName)) ∈ lw_all := lw_g (lw_at lw_m8 79 rfl) rfl
theorem q1851 : (Jvm.Cond.methodLink "QueueDrive$Drive" (110 : Nat) ({ cls := "java/util/Arrays", name := "fill", desc := "([II)V" } : Jvm.MethodName)) ∈ lw_all := lw_g (lw_at lw_m8 80 rfl) rfl
theorem q1997 : (Jvm.Cond.instanceMethod ({ cls := "QueueDrive$Drive", name := "isDrained", desc := "()Z" } : Jvm.MethodName)) ∈ lw_all := lw_g (lw_at lw_m8 226 rfl) rfl
theorem q1998 : (Jvm.Cond.selects "QueueDrive$Drive" ({ cls := "QueueDrive$Drive", name := "isDrained", desc := "()Z" } : Jvm.MethodName) ({ cls := "QueueDrive$Drive", name := "isDrained", desc := "()Z" } : Jvm.MethodName)) ∈ lw_all := lw_g (lw_at lw_m8 227 rfl) rfl
theorem q1999 : (Jvm.Cond.code ({ cls := "QueueDrive$Drive", name := "isDrained", desc := "()Z" } : Jvm.MethodName) prog_3_method_19_code (2 : Nat) (Option.some Jvm.ClassFile.FieldType.boolean)) ∈ lw_all := lw_g (lw_at lw_m8 228 rfl) rfl
theorem q2000 : (Jvm.Cond.methodLink "QueueDrive$Drive" (269 : Nat) ({ cls := "java/util/LinkedList", name := "isEmpty", desc := "()Z" } : Jvm.MethodName)) ∈ lw_all := lw_g (lw_at lw_m8 229 rfl) rfl
theorem q2002 : (Jvm.Cond.instanceMethod ({ cls := "QueueDrive$Drive", name := "takeAll", desc := "()I" } : Jvm.MethodName)) ∈ lw_all := lw_g (lw_at lw_m8 231 rfl) rfl
theorem q2003 : (Jvm.Cond.selects "QueueDrive$Drive" ({ cls := "QueueDrive$Drive", name := "takeAll", desc := "()I" } : Jvm.MethodName) ({ cls := "QueueDrive$Drive", name := "takeAll", desc := "()I" } : Jvm.MethodName)) ∈ lw_all := lw_g (lw_at lw_m8 232 rfl) rfl
theorem q2004 : (Jvm.Cond.code ({ cls := "QueueDrive$Drive", name := "takeAll", desc := "()I" } : Jvm.MethodName) prog_3_method_20_code (3 : Nat) (Option.some Jvm.ClassFile.FieldType.int)) ∈ lw_all := lw_g (lw_at lw_m8 233 rfl) rfl
theorem q2005 : (Jvm.Cond.methodLink "QueueDrive$Drive" (278 : Nat) ({ cls := "QueueDrive$Line", name := "take", desc := "()LQueueDrive$Post;" } : Jvm.MethodName)) ∈ lw_all := lw_g (lw_at lw_m8 234 rfl) rfl
theorem q2089 : (Jvm.Cond.instanceMethod ({ cls := "QueueDrive$Drive", name := "fetched", desc := "()I" } : Jvm.MethodName)) ∈ lw_all := lw_g (lw_at lw_m9 78 rfl) rfl
theorem q2090 : (Jvm.Cond.selects "QueueDrive$Drive" ({ cls := "QueueDrive$Drive", name := "fetched", desc := "()I" } : Jvm.MethodName) ({ cls := "QueueDrive$Drive", name := "fetched", desc := "()I" } : Jvm.MethodName)) ∈ lw_all := lw_g (lw_at lw_m9 79 rfl) rfl
theorem q2091 : (Jvm.Cond.code ({ cls := "QueueDrive$Drive", name := "fetched", desc := "()I" } : Jvm.MethodName) prog_3_method_25_code (3 : Nat) (Option.some Jvm.ClassFile.FieldType.int)) ∈ lw_all := lw_g (lw_at lw_m9 80 rfl) rfl
theorem q2776 : (Jvm.Cond.castable "QueueDrive$Drive" "java/lang/Object") ∈ lw_tbl := lw_at lw_m12 45 rfl
theorem in_X2 : ∀ w ∈ wsX20, w ∈ lw_all := lw_in wsX20 [666, 668, 670, 672, 674, 676, 678, 680, 682, 684, 686, 688, 690, 692, 694] (by decide +kernel) (by decide +kernel)

/-! QueueDrive$Line -/
set_option maxRecDepth 100000
def RX3 : String := "QueueDrive$Line"
def TX3 : u_T := fun k => match k with
  | 0 => ("QueueDrive$Line", "number", "I", true)
  | 1 => ("QueueDrive$Line", "ring", "Ljava/util/ArrayDeque;", true)
  | 2 => ("QueueDrive$Line", "posts", "Ljava/util/ArrayDeque;", true)
  | 3 => ("QueueDrive$Line", "used", "Ljava/util/BitSet;", true)
  | 4 => ("QueueDrive$Line", "slots", "I", false)
  | 5 => ("QueueDrive$Line", "places", "I", false)
  | 6 => ("QueueDrive$Line", "kind", "I", false)
  | 7 => ("QueueDrive$Line", "written", "I", false)
  | 8 => ("QueueDrive$Line", "rung", "I", false)
  | 9 => ("QueueDrive$Line", "seen", "I", false)
  | 10 => ("QueueDrive$Line", "fetched", "I", false)
  | 11 => ("QueueDrive$Line", "told", "I", false)
  | 12 => ("QueueDrive$Line", "posted", "I", false)
  | 13 => ("QueueDrive$Line", "taken", "I", false)
  | 14 => ("QueueDrive$Line", "mark", "I", false)
  | 15 => ("QueueDrive$Line", "isShadowed", "Z", false)
  | _ => ("QueueDrive$Line", "isAwake", "Z", false)
def tyX3 : Nat → FieldType := fun k => match k with
  | 0 => .int
  | 1 => .object "java/util/ArrayDeque"
  | 2 => .object "java/util/ArrayDeque"
  | 3 => .object "java/util/BitSet"
  | 4 => .int
  | 5 => .int
  | 6 => .int
  | 7 => .int
  | 8 => .int
  | 9 => .int
  | 10 => .int
  | 11 => .int
  | 12 => .int
  | 13 => .int
  | 14 => .int
  | 15 => .boolean
  | _ => .boolean
abbrev wsX30 : List Cond := u_ws RX3 TX3 17
set_option maxRecDepth 100000 in
theorem nmX3 : ∀ a, a < 17 → ∀ b, b < 17 → a ≠ b → (TX3 a).2.1 ≠ (TX3 b).2.1 := by decide +kernel
set_option maxRecDepth 100000 in
theorem tyX3_ok : ∀ k, k < 17 → parseFieldDescriptor (TX3 k).2.2.1 = some (tyX3 k) := by decide +kernel
abbrev cX3_init : ByteArray := prog_5_method_1_code
def yX3_init : MethodName := ⟨RX3, "<init>", "(I)V"⟩
def dkwX3_init_1 : List UInt8 := [181, 0, 18, 42, 187, 0, 21, 89, 16, 16, 183, 0, 23, 181, 0, 26, 42, 27, 181, 0, 30, 177]
abbrev dktX3_init_1 : List UInt8 := dkwX3_init_1 ++ []
def dkwX3_init_0 : List UInt8 := [42, 183, 0, 3, 42, 187, 0, 9, 89, 183, 0, 11, 181, 0, 12, 42, 187, 0, 9, 89, 183, 0, 11]
abbrev dktX3_init_0 : List UInt8 := dkwX3_init_0 ++ dktX3_init_1
theorem dksX3_init_0 : cX3_init.data.toList.drop 0 = dktX3_init_0 := by decide +kernel
theorem dksX3_init_1 : cX3_init.data.toList.drop 23 = dktX3_init_1 := dk_seg dksX3_init_0 23 rfl rfl
theorem dX3_init_0 : decode cX3_init 0 = .ok (.aload_n 0, 1) := dk_42 (dk_at dksX3_init_0 0 rfl rfl)
theorem dX3_init_1 : decode cX3_init 1 = .ok (.invokespecial 3, 3) := dk_183 0 3 (dk_at dksX3_init_0 1 rfl rfl)
theorem dX3_init_4 : decode cX3_init 4 = .ok (.aload_n 0, 1) := dk_42 (dk_at dksX3_init_0 4 rfl rfl)
theorem dX3_init_5 : decode cX3_init 5 = .ok (.new 9, 3) := dk_187 0 9 (dk_at dksX3_init_0 5 rfl rfl)
theorem dX3_init_8 : decode cX3_init 8 = .ok (.dup, 1) := dk_89 (dk_at dksX3_init_0 8 rfl rfl)
theorem dX3_init_9 : decode cX3_init 9 = .ok (.invokespecial 11, 3) := dk_183 0 11 (dk_at dksX3_init_0 9 rfl rfl)
theorem dX3_init_12 : decode cX3_init 12 = .ok (.putfield 12, 3) := dk_181 0 12 (dk_at dksX3_init_0 12 rfl rfl)
theorem dX3_init_15 : decode cX3_init 15 = .ok (.aload_n 0, 1) := dk_42 (dk_at dksX3_init_0 15 rfl rfl)
theorem dX3_init_16 : decode cX3_init 16 = .ok (.new 9, 3) := dk_187 0 9 (dk_at dksX3_init_0 16 rfl rfl)
theorem dX3_init_19 : decode cX3_init 19 = .ok (.dup, 1) := dk_89 (dk_at dksX3_init_0 19 rfl rfl)
theorem dX3_init_20 : decode cX3_init 20 = .ok (.invokespecial 11, 3) := dk_183 0 11 (dk_at dksX3_init_0 20 rfl rfl)
theorem dX3_init_23 : decode cX3_init 23 = .ok (.putfield 18, 3) := dk_181 0 18 (dk_at dksX3_init_1 0 rfl rfl)
theorem dX3_init_26 : decode cX3_init 26 = .ok (.aload_n 0, 1) := dk_42 (dk_at dksX3_init_1 3 rfl rfl)
theorem dX3_init_27 : decode cX3_init 27 = .ok (.new 21, 3) := dk_187 0 21 (dk_at dksX3_init_1 4 rfl rfl)
theorem dX3_init_30 : decode cX3_init 30 = .ok (.dup, 1) := dk_89 (dk_at dksX3_init_1 7 rfl rfl)
theorem dX3_init_31 : decode cX3_init 31 = .ok (.bipush 16, 2) := dk_16 16 (dk_at dksX3_init_1 8 rfl rfl)
theorem dX3_init_33 : decode cX3_init 33 = .ok (.invokespecial 23, 3) := dk_183 0 23 (dk_at dksX3_init_1 10 rfl rfl)
theorem dX3_init_36 : decode cX3_init 36 = .ok (.putfield 26, 3) := dk_181 0 26 (dk_at dksX3_init_1 13 rfl rfl)
theorem dX3_init_39 : decode cX3_init 39 = .ok (.aload_n 0, 1) := dk_42 (dk_at dksX3_init_1 16 rfl rfl)
theorem dX3_init_40 : decode cX3_init 40 = .ok (.iload_n 1, 1) := dk_27 (dk_at dksX3_init_1 17 rfl rfl)
theorem dX3_init_41 : decode cX3_init 41 = .ok (.putfield 30, 3) := dk_181 0 30 (dk_at dksX3_init_1 18 rfl rfl)
theorem dX3_init_44 : decode cX3_init 44 = .ok (.return_, 1) := dk_177 (dk_at dksX3_init_1 21 rfl rfl)
abbrev cX3_empty : ByteArray := prog_5_method_3_code
def yX3_empty : MethodName := ⟨RX3, "empty", "()V"⟩
def dkwX3_empty_2 : List UInt8 := [3, 181, 0, 92, 42, 3, 181, 0, 95, 42, 3, 181, 0, 98, 42, 3, 181, 0, 101, 177]
abbrev dktX3_empty_2 : List UInt8 := dkwX3_empty_2 ++ []
def dkwX3_empty_1 : List UInt8 := [181, 0, 77, 42, 3, 181, 0, 80, 42, 3, 181, 0, 83, 42, 3, 181, 0, 86, 42, 3, 181, 0, 89, 42]
abbrev dktX3_empty_1 : List UInt8 := dkwX3_empty_1 ++ dktX3_empty_2
def dkwX3_empty_0 : List UInt8 := [42, 180, 0, 12, 182, 0, 34, 42, 180, 0, 18, 182, 0, 34, 42, 180, 0, 26, 182, 0, 59, 42, 3]
abbrev dktX3_empty_0 : List UInt8 := dkwX3_empty_0 ++ dktX3_empty_1
theorem dksX3_empty_0 : cX3_empty.data.toList.drop 0 = dktX3_empty_0 := by decide +kernel
theorem dksX3_empty_1 : cX3_empty.data.toList.drop 23 = dktX3_empty_1 := dk_seg dksX3_empty_0 23 rfl rfl
theorem dksX3_empty_2 : cX3_empty.data.toList.drop 47 = dktX3_empty_2 := dk_seg dksX3_empty_1 24 rfl rfl
theorem dX3_empty_0 : decode cX3_empty 0 = .ok (.aload_n 0, 1) := dk_42 (dk_at dksX3_empty_0 0 rfl rfl)
theorem dX3_empty_1 : decode cX3_empty 1 = .ok (.getfield 12, 3) := dk_180 0 12 (dk_at dksX3_empty_0 1 rfl rfl)
theorem dX3_empty_4 : decode cX3_empty 4 = .ok (.invokevirtual 34, 3) := dk_182 0 34 (dk_at dksX3_empty_0 4 rfl rfl)
theorem dX3_empty_7 : decode cX3_empty 7 = .ok (.aload_n 0, 1) := dk_42 (dk_at dksX3_empty_0 7 rfl rfl)
theorem dX3_empty_8 : decode cX3_empty 8 = .ok (.getfield 18, 3) := dk_180 0 18 (dk_at dksX3_empty_0 8 rfl rfl)
theorem dX3_empty_11 : decode cX3_empty 11 = .ok (.invokevirtual 34, 3) := dk_182 0 34 (dk_at dksX3_empty_0 11 rfl rfl)
theorem dX3_empty_14 : decode cX3_empty 14 = .ok (.aload_n 0, 1) := dk_42 (dk_at dksX3_empty_0 14 rfl rfl)
theorem dX3_empty_15 : decode cX3_empty 15 = .ok (.getfield 26, 3) := dk_180 0 26 (dk_at dksX3_empty_0 15 rfl rfl)
theorem dX3_empty_18 : decode cX3_empty 18 = .ok (.invokevirtual 59, 3) := dk_182 0 59 (dk_at dksX3_empty_0 18 rfl rfl)
theorem dX3_empty_21 : decode cX3_empty 21 = .ok (.aload_n 0, 1) := dk_42 (dk_at dksX3_empty_0 21 rfl rfl)
theorem dX3_empty_22 : decode cX3_empty 22 = .ok (.iconst 0, 1) := dk_3 (dk_at dksX3_empty_0 22 rfl rfl)
theorem dX3_empty_23 : decode cX3_empty 23 = .ok (.putfield 77, 3) := dk_181 0 77 (dk_at dksX3_empty_1 0 rfl rfl)
theorem dX3_empty_26 : decode cX3_empty 26 = .ok (.aload_n 0, 1) := dk_42 (dk_at dksX3_empty_1 3 rfl rfl)
theorem dX3_empty_27 : decode cX3_empty 27 = .ok (.iconst 0, 1) := dk_3 (dk_at dksX3_empty_1 4 rfl rfl)
theorem dX3_empty_28 : decode cX3_empty 28 = .ok (.putfield 80, 3) := dk_181 0 80 (dk_at dksX3_empty_1 5 rfl rfl)
theorem dX3_empty_31 : decode cX3_empty 31 = .ok (.aload_n 0, 1) := dk_42 (dk_at dksX3_empty_1 8 rfl rfl)
theorem dX3_empty_32 : decode cX3_empty 32 = .ok (.iconst 0, 1) := dk_3 (dk_at dksX3_empty_1 9 rfl rfl)
theorem dX3_empty_33 : decode cX3_empty 33 = .ok (.putfield 83, 3) := dk_181 0 83 (dk_at dksX3_empty_1 10 rfl rfl)
theorem dX3_empty_36 : decode cX3_empty 36 = .ok (.aload_n 0, 1) := dk_42 (dk_at dksX3_empty_1 13 rfl rfl)
theorem dX3_empty_37 : decode cX3_empty 37 = .ok (.iconst 0, 1) := dk_3 (dk_at dksX3_empty_1 14 rfl rfl)
theorem dX3_empty_38 : decode cX3_empty 38 = .ok (.putfield 86, 3) := dk_181 0 86 (dk_at dksX3_empty_1 15 rfl rfl)
theorem dX3_empty_41 : decode cX3_empty 41 = .ok (.aload_n 0, 1) := dk_42 (dk_at dksX3_empty_1 18 rfl rfl)
theorem dX3_empty_42 : decode cX3_empty 42 = .ok (.iconst 0, 1) := dk_3 (dk_at dksX3_empty_1 19 rfl rfl)
theorem dX3_empty_43 : decode cX3_empty 43 = .ok (.putfield 89, 3) := dk_181 0 89 (dk_at dksX3_empty_1 20 rfl rfl)
theorem dX3_empty_46 : decode cX3_empty 46 = .ok (.aload_n 0, 1) := dk_42 (dk_at dksX3_empty_1 23 rfl rfl)
theorem dX3_empty_47 : decode cX3_empty 47 = .ok (.iconst 0, 1) := dk_3 (dk_at dksX3_empty_2 0 rfl rfl)
theorem dX3_empty_48 : decode cX3_empty 48 = .ok (.putfield 92, 3) := dk_181 0 92 (dk_at dksX3_empty_2 1 rfl rfl)
theorem dX3_empty_51 : decode cX3_empty 51 = .ok (.aload_n 0, 1) := dk_42 (dk_at dksX3_empty_2 4 rfl rfl)
theorem dX3_empty_52 : decode cX3_empty 52 = .ok (.iconst 0, 1) := dk_3 (dk_at dksX3_empty_2 5 rfl rfl)
theorem dX3_empty_53 : decode cX3_empty 53 = .ok (.putfield 95, 3) := dk_181 0 95 (dk_at dksX3_empty_2 6 rfl rfl)
theorem dX3_empty_56 : decode cX3_empty 56 = .ok (.aload_n 0, 1) := dk_42 (dk_at dksX3_empty_2 9 rfl rfl)
theorem dX3_empty_57 : decode cX3_empty 57 = .ok (.iconst 0, 1) := dk_3 (dk_at dksX3_empty_2 10 rfl rfl)
theorem dX3_empty_58 : decode cX3_empty 58 = .ok (.putfield 98, 3) := dk_181 0 98 (dk_at dksX3_empty_2 11 rfl rfl)
theorem dX3_empty_61 : decode cX3_empty 61 = .ok (.aload_n 0, 1) := dk_42 (dk_at dksX3_empty_2 14 rfl rfl)
theorem dX3_empty_62 : decode cX3_empty 62 = .ok (.iconst 0, 1) := dk_3 (dk_at dksX3_empty_2 15 rfl rfl)
theorem dX3_empty_63 : decode cX3_empty 63 = .ok (.putfield 101, 3) := dk_181 0 101 (dk_at dksX3_empty_2 16 rfl rfl)
theorem dX3_empty_66 : decode cX3_empty 66 = .ok (.return_, 1) := dk_177 (dk_at dksX3_empty_2 19 rfl rfl)
abbrev cX3_bySlots : ByteArray := prog_5_method_5_code
def yX3_bySlots : MethodName := ⟨RX3, "bySlots", "()I"⟩
def dkwX3_bySlots_0 : List UInt8 := [42, 180, 0, 64, 4, 100, 42, 180, 0, 77, 100, 42, 180, 0, 89, 96, 172]
abbrev dktX3_bySlots_0 : List UInt8 := dkwX3_bySlots_0 ++ []
theorem dksX3_bySlots_0 : cX3_bySlots.data.toList.drop 0 = dktX3_bySlots_0 := by decide +kernel
theorem dX3_bySlots_0 : decode cX3_bySlots 0 = .ok (.aload_n 0, 1) := dk_42 (dk_at dksX3_bySlots_0 0 rfl rfl)
theorem dX3_bySlots_1 : decode cX3_bySlots 1 = .ok (.getfield 64, 3) := dk_180 0 64 (dk_at dksX3_bySlots_0 1 rfl rfl)
theorem dX3_bySlots_4 : decode cX3_bySlots 4 = .ok (.iconst 1, 1) := dk_4 (dk_at dksX3_bySlots_0 4 rfl rfl)
theorem dX3_bySlots_5 : decode cX3_bySlots 5 = .ok (.isub, 1) := dk_100 (dk_at dksX3_bySlots_0 5 rfl rfl)
theorem dX3_bySlots_6 : decode cX3_bySlots 6 = .ok (.aload_n 0, 1) := dk_42 (dk_at dksX3_bySlots_0 6 rfl rfl)
theorem dX3_bySlots_7 : decode cX3_bySlots 7 = .ok (.getfield 77, 3) := dk_180 0 77 (dk_at dksX3_bySlots_0 7 rfl rfl)
theorem dX3_bySlots_10 : decode cX3_bySlots 10 = .ok (.isub, 1) := dk_100 (dk_at dksX3_bySlots_0 10 rfl rfl)
theorem dX3_bySlots_11 : decode cX3_bySlots 11 = .ok (.aload_n 0, 1) := dk_42 (dk_at dksX3_bySlots_0 11 rfl rfl)
theorem dX3_bySlots_12 : decode cX3_bySlots 12 = .ok (.getfield 89, 3) := dk_180 0 89 (dk_at dksX3_bySlots_0 12 rfl rfl)
theorem dX3_bySlots_15 : decode cX3_bySlots 15 = .ok (.iadd, 1) := dk_96 (dk_at dksX3_bySlots_0 15 rfl rfl)
theorem dX3_bySlots_16 : decode cX3_bySlots 16 = .ok (.ireturn, 1) := dk_172 (dk_at dksX3_bySlots_0 16 rfl rfl)
abbrev cX3_byIds : ByteArray := prog_5_method_6_code
def yX3_byIds : MethodName := ⟨RX3, "byIds", "()I"⟩
def dkwX3_byIds_0 : List UInt8 := [16, 16, 42, 180, 0, 26, 182, 0, 104, 100, 172]
abbrev dktX3_byIds_0 : List UInt8 := dkwX3_byIds_0 ++ []
theorem dksX3_byIds_0 : cX3_byIds.data.toList.drop 0 = dktX3_byIds_0 := by decide +kernel
theorem dX3_byIds_0 : decode cX3_byIds 0 = .ok (.bipush 16, 2) := dk_16 16 (dk_at dksX3_byIds_0 0 rfl rfl)
theorem dX3_byIds_2 : decode cX3_byIds 2 = .ok (.aload_n 0, 1) := dk_42 (dk_at dksX3_byIds_0 2 rfl rfl)
theorem dX3_byIds_3 : decode cX3_byIds 3 = .ok (.getfield 26, 3) := dk_180 0 26 (dk_at dksX3_byIds_0 3 rfl rfl)
theorem dX3_byIds_6 : decode cX3_byIds 6 = .ok (.invokevirtual 104, 3) := dk_182 0 104 (dk_at dksX3_byIds_0 6 rfl rfl)
theorem dX3_byIds_9 : decode cX3_byIds 9 = .ok (.isub, 1) := dk_100 (dk_at dksX3_byIds_0 9 rfl rfl)
theorem dX3_byIds_10 : decode cX3_byIds 10 = .ok (.ireturn, 1) := dk_172 (dk_at dksX3_byIds_0 10 rfl rfl)
abbrev cX3_be : ByteArray := prog_5_method_2_code
def yX3_be : MethodName := ⟨RX3, "be", "(LQueueDrive$Line;)V"⟩
def dkwX3_be_8 : List UInt8 := [180, 0, 95, 181, 0, 95, 42, 43, 180, 0, 98, 181, 0, 98, 42, 43, 180, 0, 101, 181, 0, 101, 177]
abbrev dktX3_be_8 : List UInt8 := dkwX3_be_8 ++ []
def dkwX3_be_7 : List UInt8 := [180, 0, 86, 181, 0, 86, 42, 43, 180, 0, 89, 181, 0, 89, 42, 43, 180, 0, 92, 181, 0, 92, 42, 43]
abbrev dktX3_be_7 : List UInt8 := dkwX3_be_7 ++ dktX3_be_8
def dkwX3_be_6 : List UInt8 := [180, 0, 77, 181, 0, 77, 42, 43, 180, 0, 80, 181, 0, 80, 42, 43, 180, 0, 83, 181, 0, 83, 42, 43]
abbrev dktX3_be_6 : List UInt8 := dkwX3_be_6 ++ dktX3_be_7
def dkwX3_be_5 : List UInt8 := [180, 0, 67, 181, 0, 67, 42, 43, 180, 0, 70, 181, 0, 70, 42, 43, 180, 0, 73, 181, 0, 73, 42, 43]
abbrev dktX3_be_5 : List UInt8 := dkwX3_be_5 ++ dktX3_be_6
def dkwX3_be_4 : List UInt8 := [182, 0, 59, 42, 180, 0, 26, 43, 180, 0, 26, 182, 0, 60, 42, 43, 180, 0, 64, 181, 0, 64, 42, 43]
abbrev dktX3_be_4 : List UInt8 := dkwX3_be_4 ++ dktX3_be_5
def dkwX3_be_3 : List UInt8 := [185, 0, 47, 1, 0, 192, 0, 57, 78, 42, 180, 0, 18, 45, 182, 0, 53, 167, 255, 229, 42, 180, 0, 26]
abbrev dktX3_be_3 : List UInt8 := dkwX3_be_3 ++ dktX3_be_4
def dkwX3_be_2 : List UInt8 := [180, 0, 18, 182, 0, 34, 43, 180, 0, 18, 182, 0, 37, 77, 44, 185, 0, 41, 1, 0, 153, 0, 24, 44]
abbrev dktX3_be_2 : List UInt8 := dkwX3_be_2 ++ dktX3_be_3
def dkwX3_be_1 : List UInt8 := [44, 185, 0, 47, 1, 0, 192, 0, 51, 78, 42, 180, 0, 12, 45, 182, 0, 53, 167, 255, 229, 42]
abbrev dktX3_be_1 : List UInt8 := dkwX3_be_1 ++ dktX3_be_2
def dkwX3_be_0 : List UInt8 := [42, 180, 0, 12, 182, 0, 34, 43, 180, 0, 12, 182, 0, 37, 77, 44, 185, 0, 41, 1, 0, 153, 0, 24]
abbrev dktX3_be_0 : List UInt8 := dkwX3_be_0 ++ dktX3_be_1
theorem dksX3_be_0 : cX3_be.data.toList.drop 0 = dktX3_be_0 := by decide +kernel
theorem dksX3_be_1 : cX3_be.data.toList.drop 24 = dktX3_be_1 := dk_seg dksX3_be_0 24 rfl rfl
theorem dksX3_be_2 : cX3_be.data.toList.drop 46 = dktX3_be_2 := dk_seg dksX3_be_1 22 rfl rfl
theorem dksX3_be_3 : cX3_be.data.toList.drop 70 = dktX3_be_3 := dk_seg dksX3_be_2 24 rfl rfl
theorem dksX3_be_4 : cX3_be.data.toList.drop 94 = dktX3_be_4 := dk_seg dksX3_be_3 24 rfl rfl
theorem dksX3_be_5 : cX3_be.data.toList.drop 118 = dktX3_be_5 := dk_seg dksX3_be_4 24 rfl rfl
theorem dksX3_be_6 : cX3_be.data.toList.drop 142 = dktX3_be_6 := dk_seg dksX3_be_5 24 rfl rfl
theorem dksX3_be_7 : cX3_be.data.toList.drop 166 = dktX3_be_7 := dk_seg dksX3_be_6 24 rfl rfl
theorem dksX3_be_8 : cX3_be.data.toList.drop 190 = dktX3_be_8 := dk_seg dksX3_be_7 24 rfl rfl
theorem dX3_be_0 : decode cX3_be 0 = .ok (.aload_n 0, 1) := dk_42 (dk_at dksX3_be_0 0 rfl rfl)
theorem dX3_be_1 : decode cX3_be 1 = .ok (.getfield 12, 3) := dk_180 0 12 (dk_at dksX3_be_0 1 rfl rfl)
theorem dX3_be_4 : decode cX3_be 4 = .ok (.invokevirtual 34, 3) := dk_182 0 34 (dk_at dksX3_be_0 4 rfl rfl)
theorem dX3_be_7 : decode cX3_be 7 = .ok (.aload_n 1, 1) := dk_43 (dk_at dksX3_be_0 7 rfl rfl)
theorem dX3_be_8 : decode cX3_be 8 = .ok (.getfield 12, 3) := dk_180 0 12 (dk_at dksX3_be_0 8 rfl rfl)
theorem dX3_be_11 : decode cX3_be 11 = .ok (.invokevirtual 37, 3) := dk_182 0 37 (dk_at dksX3_be_0 11 rfl rfl)
theorem dX3_be_14 : decode cX3_be 14 = .ok (.astore_n 2, 1) := dk_77 (dk_at dksX3_be_0 14 rfl rfl)
theorem dX3_be_15 : decode cX3_be 15 = .ok (.aload_n 2, 1) := dk_44 (dk_at dksX3_be_0 15 rfl rfl)
theorem dX3_be_16 : decode cX3_be 16 = .ok (.invokeinterface 41 1, 5) := by decide +kernel
theorem dX3_be_21 : decode cX3_be 21 = .ok (.ifCond .eq 24, 3) := dk_153 0 24 (dk_at dksX3_be_0 21 rfl rfl)
theorem dX3_be_24 : decode cX3_be 24 = .ok (.aload_n 2, 1) := dk_44 (dk_at dksX3_be_1 0 rfl rfl)
theorem dX3_be_25 : decode cX3_be 25 = .ok (.invokeinterface 47 1, 5) := by decide +kernel
theorem dX3_be_30 : decode cX3_be 30 = .ok (.checkcast 51, 3) := dk_192 0 51 (dk_at dksX3_be_1 6 rfl rfl)
theorem dX3_be_33 : decode cX3_be 33 = .ok (.astore_n 3, 1) := dk_78 (dk_at dksX3_be_1 9 rfl rfl)
theorem dX3_be_34 : decode cX3_be 34 = .ok (.aload_n 0, 1) := dk_42 (dk_at dksX3_be_1 10 rfl rfl)
theorem dX3_be_35 : decode cX3_be 35 = .ok (.getfield 12, 3) := dk_180 0 12 (dk_at dksX3_be_1 11 rfl rfl)
theorem dX3_be_38 : decode cX3_be 38 = .ok (.aload_n 3, 1) := dk_45 (dk_at dksX3_be_1 14 rfl rfl)
theorem dX3_be_39 : decode cX3_be 39 = .ok (.invokevirtual 53, 3) := dk_182 0 53 (dk_at dksX3_be_1 15 rfl rfl)
theorem dX3_be_42 : decode cX3_be 42 = .ok (.goto (-27), 3) := dk_167 255 229 (dk_at dksX3_be_1 18 rfl rfl)
theorem dX3_be_45 : decode cX3_be 45 = .ok (.aload_n 0, 1) := dk_42 (dk_at dksX3_be_1 21 rfl rfl)
theorem dX3_be_46 : decode cX3_be 46 = .ok (.getfield 18, 3) := dk_180 0 18 (dk_at dksX3_be_2 0 rfl rfl)
theorem dX3_be_49 : decode cX3_be 49 = .ok (.invokevirtual 34, 3) := dk_182 0 34 (dk_at dksX3_be_2 3 rfl rfl)
theorem dX3_be_52 : decode cX3_be 52 = .ok (.aload_n 1, 1) := dk_43 (dk_at dksX3_be_2 6 rfl rfl)
theorem dX3_be_53 : decode cX3_be 53 = .ok (.getfield 18, 3) := dk_180 0 18 (dk_at dksX3_be_2 7 rfl rfl)
theorem dX3_be_56 : decode cX3_be 56 = .ok (.invokevirtual 37, 3) := dk_182 0 37 (dk_at dksX3_be_2 10 rfl rfl)
theorem dX3_be_59 : decode cX3_be 59 = .ok (.astore_n 2, 1) := dk_77 (dk_at dksX3_be_2 13 rfl rfl)
theorem dX3_be_60 : decode cX3_be 60 = .ok (.aload_n 2, 1) := dk_44 (dk_at dksX3_be_2 14 rfl rfl)
theorem dX3_be_61 : decode cX3_be 61 = .ok (.invokeinterface 41 1, 5) := by decide +kernel
theorem dX3_be_66 : decode cX3_be 66 = .ok (.ifCond .eq 24, 3) := dk_153 0 24 (dk_at dksX3_be_2 20 rfl rfl)
theorem dX3_be_69 : decode cX3_be 69 = .ok (.aload_n 2, 1) := dk_44 (dk_at dksX3_be_2 23 rfl rfl)
theorem dX3_be_70 : decode cX3_be 70 = .ok (.invokeinterface 47 1, 5) := by decide +kernel
theorem dX3_be_75 : decode cX3_be 75 = .ok (.checkcast 57, 3) := dk_192 0 57 (dk_at dksX3_be_3 5 rfl rfl)
theorem dX3_be_78 : decode cX3_be 78 = .ok (.astore_n 3, 1) := dk_78 (dk_at dksX3_be_3 8 rfl rfl)
theorem dX3_be_79 : decode cX3_be 79 = .ok (.aload_n 0, 1) := dk_42 (dk_at dksX3_be_3 9 rfl rfl)
theorem dX3_be_80 : decode cX3_be 80 = .ok (.getfield 18, 3) := dk_180 0 18 (dk_at dksX3_be_3 10 rfl rfl)
theorem dX3_be_83 : decode cX3_be 83 = .ok (.aload_n 3, 1) := dk_45 (dk_at dksX3_be_3 13 rfl rfl)
theorem dX3_be_84 : decode cX3_be 84 = .ok (.invokevirtual 53, 3) := dk_182 0 53 (dk_at dksX3_be_3 14 rfl rfl)
theorem dX3_be_87 : decode cX3_be 87 = .ok (.goto (-27), 3) := dk_167 255 229 (dk_at dksX3_be_3 17 rfl rfl)
theorem dX3_be_90 : decode cX3_be 90 = .ok (.aload_n 0, 1) := dk_42 (dk_at dksX3_be_3 20 rfl rfl)
theorem dX3_be_91 : decode cX3_be 91 = .ok (.getfield 26, 3) := dk_180 0 26 (dk_at dksX3_be_3 21 rfl rfl)
theorem dX3_be_94 : decode cX3_be 94 = .ok (.invokevirtual 59, 3) := dk_182 0 59 (dk_at dksX3_be_4 0 rfl rfl)
theorem dX3_be_97 : decode cX3_be 97 = .ok (.aload_n 0, 1) := dk_42 (dk_at dksX3_be_4 3 rfl rfl)
theorem dX3_be_98 : decode cX3_be 98 = .ok (.getfield 26, 3) := dk_180 0 26 (dk_at dksX3_be_4 4 rfl rfl)
theorem dX3_be_101 : decode cX3_be 101 = .ok (.aload_n 1, 1) := dk_43 (dk_at dksX3_be_4 7 rfl rfl)
theorem dX3_be_102 : decode cX3_be 102 = .ok (.getfield 26, 3) := dk_180 0 26 (dk_at dksX3_be_4 8 rfl rfl)
theorem dX3_be_105 : decode cX3_be 105 = .ok (.invokevirtual 60, 3) := dk_182 0 60 (dk_at dksX3_be_4 11 rfl rfl)
theorem dX3_be_108 : decode cX3_be 108 = .ok (.aload_n 0, 1) := dk_42 (dk_at dksX3_be_4 14 rfl rfl)
theorem dX3_be_109 : decode cX3_be 109 = .ok (.aload_n 1, 1) := dk_43 (dk_at dksX3_be_4 15 rfl rfl)
theorem dX3_be_110 : decode cX3_be 110 = .ok (.getfield 64, 3) := dk_180 0 64 (dk_at dksX3_be_4 16 rfl rfl)
theorem dX3_be_113 : decode cX3_be 113 = .ok (.putfield 64, 3) := dk_181 0 64 (dk_at dksX3_be_4 19 rfl rfl)
theorem dX3_be_116 : decode cX3_be 116 = .ok (.aload_n 0, 1) := dk_42 (dk_at dksX3_be_4 22 rfl rfl)
theorem dX3_be_117 : decode cX3_be 117 = .ok (.aload_n 1, 1) := dk_43 (dk_at dksX3_be_4 23 rfl rfl)
theorem dX3_be_118 : decode cX3_be 118 = .ok (.getfield 67, 3) := dk_180 0 67 (dk_at dksX3_be_5 0 rfl rfl)
theorem dX3_be_121 : decode cX3_be 121 = .ok (.putfield 67, 3) := dk_181 0 67 (dk_at dksX3_be_5 3 rfl rfl)
theorem dX3_be_124 : decode cX3_be 124 = .ok (.aload_n 0, 1) := dk_42 (dk_at dksX3_be_5 6 rfl rfl)
theorem dX3_be_125 : decode cX3_be 125 = .ok (.aload_n 1, 1) := dk_43 (dk_at dksX3_be_5 7 rfl rfl)
theorem dX3_be_126 : decode cX3_be 126 = .ok (.getfield 70, 3) := dk_180 0 70 (dk_at dksX3_be_5 8 rfl rfl)
theorem dX3_be_129 : decode cX3_be 129 = .ok (.putfield 70, 3) := dk_181 0 70 (dk_at dksX3_be_5 11 rfl rfl)
theorem dX3_be_132 : decode cX3_be 132 = .ok (.aload_n 0, 1) := dk_42 (dk_at dksX3_be_5 14 rfl rfl)
theorem dX3_be_133 : decode cX3_be 133 = .ok (.aload_n 1, 1) := dk_43 (dk_at dksX3_be_5 15 rfl rfl)
theorem dX3_be_134 : decode cX3_be 134 = .ok (.getfield 73, 3) := dk_180 0 73 (dk_at dksX3_be_5 16 rfl rfl)
theorem dX3_be_137 : decode cX3_be 137 = .ok (.putfield 73, 3) := dk_181 0 73 (dk_at dksX3_be_5 19 rfl rfl)
theorem dX3_be_140 : decode cX3_be 140 = .ok (.aload_n 0, 1) := dk_42 (dk_at dksX3_be_5 22 rfl rfl)
theorem dX3_be_141 : decode cX3_be 141 = .ok (.aload_n 1, 1) := dk_43 (dk_at dksX3_be_5 23 rfl rfl)
theorem dX3_be_142 : decode cX3_be 142 = .ok (.getfield 77, 3) := dk_180 0 77 (dk_at dksX3_be_6 0 rfl rfl)
theorem dX3_be_145 : decode cX3_be 145 = .ok (.putfield 77, 3) := dk_181 0 77 (dk_at dksX3_be_6 3 rfl rfl)
theorem dX3_be_148 : decode cX3_be 148 = .ok (.aload_n 0, 1) := dk_42 (dk_at dksX3_be_6 6 rfl rfl)
theorem dX3_be_149 : decode cX3_be 149 = .ok (.aload_n 1, 1) := dk_43 (dk_at dksX3_be_6 7 rfl rfl)
theorem dX3_be_150 : decode cX3_be 150 = .ok (.getfield 80, 3) := dk_180 0 80 (dk_at dksX3_be_6 8 rfl rfl)
theorem dX3_be_153 : decode cX3_be 153 = .ok (.putfield 80, 3) := dk_181 0 80 (dk_at dksX3_be_6 11 rfl rfl)
theorem dX3_be_156 : decode cX3_be 156 = .ok (.aload_n 0, 1) := dk_42 (dk_at dksX3_be_6 14 rfl rfl)
theorem dX3_be_157 : decode cX3_be 157 = .ok (.aload_n 1, 1) := dk_43 (dk_at dksX3_be_6 15 rfl rfl)
theorem dX3_be_158 : decode cX3_be 158 = .ok (.getfield 83, 3) := dk_180 0 83 (dk_at dksX3_be_6 16 rfl rfl)
theorem dX3_be_161 : decode cX3_be 161 = .ok (.putfield 83, 3) := dk_181 0 83 (dk_at dksX3_be_6 19 rfl rfl)
theorem dX3_be_164 : decode cX3_be 164 = .ok (.aload_n 0, 1) := dk_42 (dk_at dksX3_be_6 22 rfl rfl)
theorem dX3_be_165 : decode cX3_be 165 = .ok (.aload_n 1, 1) := dk_43 (dk_at dksX3_be_6 23 rfl rfl)
theorem dX3_be_166 : decode cX3_be 166 = .ok (.getfield 86, 3) := dk_180 0 86 (dk_at dksX3_be_7 0 rfl rfl)
theorem dX3_be_169 : decode cX3_be 169 = .ok (.putfield 86, 3) := dk_181 0 86 (dk_at dksX3_be_7 3 rfl rfl)
theorem dX3_be_172 : decode cX3_be 172 = .ok (.aload_n 0, 1) := dk_42 (dk_at dksX3_be_7 6 rfl rfl)
theorem dX3_be_173 : decode cX3_be 173 = .ok (.aload_n 1, 1) := dk_43 (dk_at dksX3_be_7 7 rfl rfl)
theorem dX3_be_174 : decode cX3_be 174 = .ok (.getfield 89, 3) := dk_180 0 89 (dk_at dksX3_be_7 8 rfl rfl)
theorem dX3_be_177 : decode cX3_be 177 = .ok (.putfield 89, 3) := dk_181 0 89 (dk_at dksX3_be_7 11 rfl rfl)
theorem dX3_be_180 : decode cX3_be 180 = .ok (.aload_n 0, 1) := dk_42 (dk_at dksX3_be_7 14 rfl rfl)
theorem dX3_be_181 : decode cX3_be 181 = .ok (.aload_n 1, 1) := dk_43 (dk_at dksX3_be_7 15 rfl rfl)
theorem dX3_be_182 : decode cX3_be 182 = .ok (.getfield 92, 3) := dk_180 0 92 (dk_at dksX3_be_7 16 rfl rfl)
theorem dX3_be_185 : decode cX3_be 185 = .ok (.putfield 92, 3) := dk_181 0 92 (dk_at dksX3_be_7 19 rfl rfl)
theorem dX3_be_188 : decode cX3_be 188 = .ok (.aload_n 0, 1) := dk_42 (dk_at dksX3_be_7 22 rfl rfl)
theorem dX3_be_189 : decode cX3_be 189 = .ok (.aload_n 1, 1) := dk_43 (dk_at dksX3_be_7 23 rfl rfl)
theorem dX3_be_190 : decode cX3_be 190 = .ok (.getfield 95, 3) := dk_180 0 95 (dk_at dksX3_be_8 0 rfl rfl)
theorem dX3_be_193 : decode cX3_be 193 = .ok (.putfield 95, 3) := dk_181 0 95 (dk_at dksX3_be_8 3 rfl rfl)
theorem dX3_be_196 : decode cX3_be 196 = .ok (.aload_n 0, 1) := dk_42 (dk_at dksX3_be_8 6 rfl rfl)
theorem dX3_be_197 : decode cX3_be 197 = .ok (.aload_n 1, 1) := dk_43 (dk_at dksX3_be_8 7 rfl rfl)
theorem dX3_be_198 : decode cX3_be 198 = .ok (.getfield 98, 3) := dk_180 0 98 (dk_at dksX3_be_8 8 rfl rfl)
theorem dX3_be_201 : decode cX3_be 201 = .ok (.putfield 98, 3) := dk_181 0 98 (dk_at dksX3_be_8 11 rfl rfl)
theorem dX3_be_204 : decode cX3_be 204 = .ok (.aload_n 0, 1) := dk_42 (dk_at dksX3_be_8 14 rfl rfl)
theorem dX3_be_205 : decode cX3_be 205 = .ok (.aload_n 1, 1) := dk_43 (dk_at dksX3_be_8 15 rfl rfl)
theorem dX3_be_206 : decode cX3_be 206 = .ok (.getfield 101, 3) := dk_180 0 101 (dk_at dksX3_be_8 16 rfl rfl)
theorem dX3_be_209 : decode cX3_be 209 = .ok (.putfield 101, 3) := dk_181 0 101 (dk_at dksX3_be_8 19 rfl rfl)
theorem dX3_be_212 : decode cX3_be 212 = .ok (.return_, 1) := dk_177 (dk_at dksX3_be_8 22 rfl rfl)
abbrev cX3_bell : ByteArray := prog_5_method_11_code
def yX3_bell : MethodName := ⟨RX3, "bell", "()I"⟩
def dkwX3_bell_2 : List UInt8 := [167, 0, 4, 3, 172]
abbrev dktX3_bell_2 : List UInt8 := dkwX3_bell_2 ++ []
def dkwX3_bell_1 : List UInt8 := [180, 0, 98, 42, 180, 0, 80, 161, 0, 18, 42, 180, 0, 98, 42, 180, 0, 77, 162, 0, 7, 4]
abbrev dktX3_bell_1 : List UInt8 := dkwX3_bell_1 ++ dktX3_bell_2
def dkwX3_bell_0 : List UInt8 := [42, 180, 0, 80, 42, 180, 0, 77, 160, 0, 6, 16, 254, 172, 42, 180, 0, 73, 153, 0, 25, 42]
abbrev dktX3_bell_0 : List UInt8 := dkwX3_bell_0 ++ dktX3_bell_1
theorem dksX3_bell_0 : cX3_bell.data.toList.drop 0 = dktX3_bell_0 := by decide +kernel
theorem dksX3_bell_1 : cX3_bell.data.toList.drop 22 = dktX3_bell_1 := dk_seg dksX3_bell_0 22 rfl rfl
theorem dksX3_bell_2 : cX3_bell.data.toList.drop 44 = dktX3_bell_2 := dk_seg dksX3_bell_1 22 rfl rfl
theorem dX3_bell_0 : decode cX3_bell 0 = .ok (.aload_n 0, 1) := dk_42 (dk_at dksX3_bell_0 0 rfl rfl)
theorem dX3_bell_1 : decode cX3_bell 1 = .ok (.getfield 80, 3) := dk_180 0 80 (dk_at dksX3_bell_0 1 rfl rfl)
theorem dX3_bell_4 : decode cX3_bell 4 = .ok (.aload_n 0, 1) := dk_42 (dk_at dksX3_bell_0 4 rfl rfl)
theorem dX3_bell_5 : decode cX3_bell 5 = .ok (.getfield 77, 3) := dk_180 0 77 (dk_at dksX3_bell_0 5 rfl rfl)
theorem dX3_bell_8 : decode cX3_bell 8 = .ok (.if_icmp .ne 6, 3) := dk_160 0 6 (dk_at dksX3_bell_0 8 rfl rfl)
theorem dX3_bell_11 : decode cX3_bell 11 = .ok (.bipush (-2), 2) := dk_16 254 (dk_at dksX3_bell_0 11 rfl rfl)
theorem dX3_bell_13 : decode cX3_bell 13 = .ok (.ireturn, 1) := dk_172 (dk_at dksX3_bell_0 13 rfl rfl)
theorem dX3_bell_14 : decode cX3_bell 14 = .ok (.aload_n 0, 1) := dk_42 (dk_at dksX3_bell_0 14 rfl rfl)
theorem dX3_bell_15 : decode cX3_bell 15 = .ok (.getfield 73, 3) := dk_180 0 73 (dk_at dksX3_bell_0 15 rfl rfl)
theorem dX3_bell_18 : decode cX3_bell 18 = .ok (.ifCond .eq 25, 3) := dk_153 0 25 (dk_at dksX3_bell_0 18 rfl rfl)
theorem dX3_bell_21 : decode cX3_bell 21 = .ok (.aload_n 0, 1) := dk_42 (dk_at dksX3_bell_0 21 rfl rfl)
theorem dX3_bell_22 : decode cX3_bell 22 = .ok (.getfield 98, 3) := dk_180 0 98 (dk_at dksX3_bell_1 0 rfl rfl)
theorem dX3_bell_25 : decode cX3_bell 25 = .ok (.aload_n 0, 1) := dk_42 (dk_at dksX3_bell_1 3 rfl rfl)
theorem dX3_bell_26 : decode cX3_bell 26 = .ok (.getfield 80, 3) := dk_180 0 80 (dk_at dksX3_bell_1 4 rfl rfl)
theorem dX3_bell_29 : decode cX3_bell 29 = .ok (.if_icmp .lt 18, 3) := dk_161 0 18 (dk_at dksX3_bell_1 7 rfl rfl)
theorem dX3_bell_32 : decode cX3_bell 32 = .ok (.aload_n 0, 1) := dk_42 (dk_at dksX3_bell_1 10 rfl rfl)
theorem dX3_bell_33 : decode cX3_bell 33 = .ok (.getfield 98, 3) := dk_180 0 98 (dk_at dksX3_bell_1 11 rfl rfl)
theorem dX3_bell_36 : decode cX3_bell 36 = .ok (.aload_n 0, 1) := dk_42 (dk_at dksX3_bell_1 14 rfl rfl)
theorem dX3_bell_37 : decode cX3_bell 37 = .ok (.getfield 77, 3) := dk_180 0 77 (dk_at dksX3_bell_1 15 rfl rfl)
theorem dX3_bell_40 : decode cX3_bell 40 = .ok (.if_icmp .ge 7, 3) := dk_162 0 7 (dk_at dksX3_bell_1 18 rfl rfl)
theorem dX3_bell_43 : decode cX3_bell 43 = .ok (.iconst 1, 1) := dk_4 (dk_at dksX3_bell_1 21 rfl rfl)
theorem dX3_bell_44 : decode cX3_bell 44 = .ok (.goto 4, 3) := dk_167 0 4 (dk_at dksX3_bell_2 0 rfl rfl)
theorem dX3_bell_47 : decode cX3_bell 47 = .ok (.iconst 0, 1) := dk_3 (dk_at dksX3_bell_2 3 rfl rfl)
theorem dX3_bell_48 : decode cX3_bell 48 = .ok (.ireturn, 1) := dk_172 (dk_at dksX3_bell_2 4 rfl rfl)
abbrev cX3_hasPlace : ByteArray := prog_5_method_8_code
def yX3_hasPlace : MethodName := ⟨RX3, "hasPlace", "()Z"⟩
def dkwX3_hasPlace_0 : List UInt8 := [42, 180, 0, 92, 42, 180, 0, 95, 100, 42, 180, 0, 67, 4, 100, 162, 0, 7, 4, 167, 0, 4, 3, 172]
abbrev dktX3_hasPlace_0 : List UInt8 := dkwX3_hasPlace_0 ++ []
theorem dksX3_hasPlace_0 : cX3_hasPlace.data.toList.drop 0 = dktX3_hasPlace_0 := by decide +kernel
theorem dX3_hasPlace_0 : decode cX3_hasPlace 0 = .ok (.aload_n 0, 1) := dk_42 (dk_at dksX3_hasPlace_0 0 rfl rfl)
theorem dX3_hasPlace_1 : decode cX3_hasPlace 1 = .ok (.getfield 92, 3) := dk_180 0 92 (dk_at dksX3_hasPlace_0 1 rfl rfl)
theorem dX3_hasPlace_4 : decode cX3_hasPlace 4 = .ok (.aload_n 0, 1) := dk_42 (dk_at dksX3_hasPlace_0 4 rfl rfl)
theorem dX3_hasPlace_5 : decode cX3_hasPlace 5 = .ok (.getfield 95, 3) := dk_180 0 95 (dk_at dksX3_hasPlace_0 5 rfl rfl)
theorem dX3_hasPlace_8 : decode cX3_hasPlace 8 = .ok (.isub, 1) := dk_100 (dk_at dksX3_hasPlace_0 8 rfl rfl)
theorem dX3_hasPlace_9 : decode cX3_hasPlace 9 = .ok (.aload_n 0, 1) := dk_42 (dk_at dksX3_hasPlace_0 9 rfl rfl)
theorem dX3_hasPlace_10 : decode cX3_hasPlace 10 = .ok (.getfield 67, 3) := dk_180 0 67 (dk_at dksX3_hasPlace_0 10 rfl rfl)
theorem dX3_hasPlace_13 : decode cX3_hasPlace 13 = .ok (.iconst 1, 1) := dk_4 (dk_at dksX3_hasPlace_0 13 rfl rfl)
theorem dX3_hasPlace_14 : decode cX3_hasPlace 14 = .ok (.isub, 1) := dk_100 (dk_at dksX3_hasPlace_0 14 rfl rfl)
theorem dX3_hasPlace_15 : decode cX3_hasPlace 15 = .ok (.if_icmp .ge 7, 3) := dk_162 0 7 (dk_at dksX3_hasPlace_0 15 rfl rfl)
theorem dX3_hasPlace_18 : decode cX3_hasPlace 18 = .ok (.iconst 1, 1) := dk_4 (dk_at dksX3_hasPlace_0 18 rfl rfl)
theorem dX3_hasPlace_19 : decode cX3_hasPlace 19 = .ok (.goto 4, 3) := dk_167 0 4 (dk_at dksX3_hasPlace_0 19 rfl rfl)
theorem dX3_hasPlace_22 : decode cX3_hasPlace 22 = .ok (.iconst 0, 1) := dk_3 (dk_at dksX3_hasPlace_0 22 rfl rfl)
theorem dX3_hasPlace_23 : decode cX3_hasPlace 23 = .ok (.ireturn, 1) := dk_172 (dk_at dksX3_hasPlace_0 23 rfl rfl)
abbrev cX3_post : ByteArray := prog_5_method_9_code
def yX3_post : MethodName := ⟨RX3, "post", "(LQueueDrive$Word;)V"⟩
def dkwX3_post_1 : List UInt8 := [182, 0, 53, 42, 89, 180, 0, 92, 4, 96, 181, 0, 92, 177]
abbrev dktX3_post_1 : List UInt8 := dkwX3_post_1 ++ []
def dkwX3_post_0 : List UInt8 := [42, 180, 0, 18, 187, 0, 57, 89, 43, 42, 180, 0, 86, 42, 42, 180, 0, 92, 182, 0, 108, 183, 0, 112]
abbrev dktX3_post_0 : List UInt8 := dkwX3_post_0 ++ dktX3_post_1
theorem dksX3_post_0 : cX3_post.data.toList.drop 0 = dktX3_post_0 := by decide +kernel
theorem dksX3_post_1 : cX3_post.data.toList.drop 24 = dktX3_post_1 := dk_seg dksX3_post_0 24 rfl rfl
theorem dX3_post_0 : decode cX3_post 0 = .ok (.aload_n 0, 1) := dk_42 (dk_at dksX3_post_0 0 rfl rfl)
theorem dX3_post_1 : decode cX3_post 1 = .ok (.getfield 18, 3) := dk_180 0 18 (dk_at dksX3_post_0 1 rfl rfl)
theorem dX3_post_4 : decode cX3_post 4 = .ok (.new 57, 3) := dk_187 0 57 (dk_at dksX3_post_0 4 rfl rfl)
theorem dX3_post_7 : decode cX3_post 7 = .ok (.dup, 1) := dk_89 (dk_at dksX3_post_0 7 rfl rfl)
theorem dX3_post_8 : decode cX3_post 8 = .ok (.aload_n 1, 1) := dk_43 (dk_at dksX3_post_0 8 rfl rfl)
theorem dX3_post_9 : decode cX3_post 9 = .ok (.aload_n 0, 1) := dk_42 (dk_at dksX3_post_0 9 rfl rfl)
theorem dX3_post_10 : decode cX3_post 10 = .ok (.getfield 86, 3) := dk_180 0 86 (dk_at dksX3_post_0 10 rfl rfl)
theorem dX3_post_13 : decode cX3_post 13 = .ok (.aload_n 0, 1) := dk_42 (dk_at dksX3_post_0 13 rfl rfl)
theorem dX3_post_14 : decode cX3_post 14 = .ok (.aload_n 0, 1) := dk_42 (dk_at dksX3_post_0 14 rfl rfl)
theorem dX3_post_15 : decode cX3_post 15 = .ok (.getfield 92, 3) := dk_180 0 92 (dk_at dksX3_post_0 15 rfl rfl)
theorem dX3_post_18 : decode cX3_post 18 = .ok (.invokevirtual 108, 3) := dk_182 0 108 (dk_at dksX3_post_0 18 rfl rfl)
theorem dX3_post_21 : decode cX3_post 21 = .ok (.invokespecial 112, 3) := dk_183 0 112 (dk_at dksX3_post_0 21 rfl rfl)
theorem dX3_post_24 : decode cX3_post 24 = .ok (.invokevirtual 53, 3) := dk_182 0 53 (dk_at dksX3_post_1 0 rfl rfl)
theorem dX3_post_27 : decode cX3_post 27 = .ok (.aload_n 0, 1) := dk_42 (dk_at dksX3_post_1 3 rfl rfl)
theorem dX3_post_28 : decode cX3_post 28 = .ok (.dup, 1) := dk_89 (dk_at dksX3_post_1 4 rfl rfl)
theorem dX3_post_29 : decode cX3_post 29 = .ok (.getfield 92, 3) := dk_180 0 92 (dk_at dksX3_post_1 5 rfl rfl)
theorem dX3_post_32 : decode cX3_post 32 = .ok (.iconst 1, 1) := dk_4 (dk_at dksX3_post_1 8 rfl rfl)
theorem dX3_post_33 : decode cX3_post 33 = .ok (.iadd, 1) := dk_96 (dk_at dksX3_post_1 9 rfl rfl)
theorem dX3_post_34 : decode cX3_post 34 = .ok (.putfield 92, 3) := dk_181 0 92 (dk_at dksX3_post_1 10 rfl rfl)
theorem dX3_post_37 : decode cX3_post 37 = .ok (.return_, 1) := dk_177 (dk_at dksX3_post_1 13 rfl rfl)
abbrev cX3_phaseOf : ByteArray := prog_5_method_7_code
def yX3_phaseOf : MethodName := ⟨RX3, "phaseOf", "(I)I"⟩
def dkwX3_phaseOf_0 : List UInt8 := [27, 42, 180, 0, 67, 108, 5, 112, 154, 0, 7, 4, 167, 0, 4, 3, 172]
abbrev dktX3_phaseOf_0 : List UInt8 := dkwX3_phaseOf_0 ++ []
theorem dksX3_phaseOf_0 : cX3_phaseOf.data.toList.drop 0 = dktX3_phaseOf_0 := by decide +kernel
theorem dX3_phaseOf_0 : decode cX3_phaseOf 0 = .ok (.iload_n 1, 1) := dk_27 (dk_at dksX3_phaseOf_0 0 rfl rfl)
theorem dX3_phaseOf_1 : decode cX3_phaseOf 1 = .ok (.aload_n 0, 1) := dk_42 (dk_at dksX3_phaseOf_0 1 rfl rfl)
theorem dX3_phaseOf_2 : decode cX3_phaseOf 2 = .ok (.getfield 67, 3) := dk_180 0 67 (dk_at dksX3_phaseOf_0 2 rfl rfl)
theorem dX3_phaseOf_5 : decode cX3_phaseOf 5 = .ok (.idiv, 1) := dk_108 (dk_at dksX3_phaseOf_0 5 rfl rfl)
theorem dX3_phaseOf_6 : decode cX3_phaseOf 6 = .ok (.iconst 2, 1) := dk_5 (dk_at dksX3_phaseOf_0 6 rfl rfl)
theorem dX3_phaseOf_7 : decode cX3_phaseOf 7 = .ok (.irem, 1) := dk_112 (dk_at dksX3_phaseOf_0 7 rfl rfl)
theorem dX3_phaseOf_8 : decode cX3_phaseOf 8 = .ok (.ifCond .ne 7, 3) := dk_154 0 7 (dk_at dksX3_phaseOf_0 8 rfl rfl)
theorem dX3_phaseOf_11 : decode cX3_phaseOf 11 = .ok (.iconst 1, 1) := dk_4 (dk_at dksX3_phaseOf_0 11 rfl rfl)
theorem dX3_phaseOf_12 : decode cX3_phaseOf 12 = .ok (.goto 4, 3) := dk_167 0 4 (dk_at dksX3_phaseOf_0 12 rfl rfl)
theorem dX3_phaseOf_15 : decode cX3_phaseOf 15 = .ok (.iconst 0, 1) := dk_3 (dk_at dksX3_phaseOf_0 15 rfl rfl)
theorem dX3_phaseOf_16 : decode cX3_phaseOf 16 = .ok (.ireturn, 1) := dk_172 (dk_at dksX3_phaseOf_0 16 rfl rfl)
abbrev cX3_hasWork : ByteArray := prog_5_method_4_code
def yX3_hasWork : MethodName := ⟨RX3, "hasWork", "()Z"⟩
def dkwX3_hasWork_0 : List UInt8 := [42, 180, 0, 83, 42, 180, 0, 86, 164, 0, 7, 4, 167, 0, 4, 3, 172]
abbrev dktX3_hasWork_0 : List UInt8 := dkwX3_hasWork_0 ++ []
theorem dksX3_hasWork_0 : cX3_hasWork.data.toList.drop 0 = dktX3_hasWork_0 := by decide +kernel
theorem dX3_hasWork_0 : decode cX3_hasWork 0 = .ok (.aload_n 0, 1) := dk_42 (dk_at dksX3_hasWork_0 0 rfl rfl)
theorem dX3_hasWork_1 : decode cX3_hasWork 1 = .ok (.getfield 83, 3) := dk_180 0 83 (dk_at dksX3_hasWork_0 1 rfl rfl)
theorem dX3_hasWork_4 : decode cX3_hasWork 4 = .ok (.aload_n 0, 1) := dk_42 (dk_at dksX3_hasWork_0 4 rfl rfl)
theorem dX3_hasWork_5 : decode cX3_hasWork 5 = .ok (.getfield 86, 3) := dk_180 0 86 (dk_at dksX3_hasWork_0 5 rfl rfl)
theorem dX3_hasWork_8 : decode cX3_hasWork 8 = .ok (.if_icmp .le 7, 3) := dk_164 0 7 (dk_at dksX3_hasWork_0 8 rfl rfl)
theorem dX3_hasWork_11 : decode cX3_hasWork 11 = .ok (.iconst 1, 1) := dk_4 (dk_at dksX3_hasWork_0 11 rfl rfl)
theorem dX3_hasWork_12 : decode cX3_hasWork 12 = .ok (.goto 4, 3) := dk_167 0 4 (dk_at dksX3_hasWork_0 12 rfl rfl)
theorem dX3_hasWork_15 : decode cX3_hasWork 15 = .ok (.iconst 0, 1) := dk_3 (dk_at dksX3_hasWork_0 15 rfl rfl)
theorem dX3_hasWork_16 : decode cX3_hasWork 16 = .ok (.ireturn, 1) := dk_172 (dk_at dksX3_hasWork_0 16 rfl rfl)
abbrev cX3_take : ByteArray := prog_5_method_10_code
def yX3_take : MethodName := ⟨RX3, "take", "()LQueueDrive$Post;"⟩
def dkwX3_take_1 : List UInt8 := [180, 0, 118, 181, 0, 89, 42, 180, 0, 26, 43, 180, 0, 121, 180, 0, 125, 182, 0, 130, 43, 176]
abbrev dktX3_take_1 : List UInt8 := dkwX3_take_1 ++ []
def dkwX3_take_0 : List UInt8 := [42, 180, 0, 18, 182, 0, 115, 192, 0, 57, 76, 42, 89, 180, 0, 95, 4, 96, 181, 0, 95, 42, 43]
abbrev dktX3_take_0 : List UInt8 := dkwX3_take_0 ++ dktX3_take_1
theorem dksX3_take_0 : cX3_take.data.toList.drop 0 = dktX3_take_0 := by decide +kernel
theorem dksX3_take_1 : cX3_take.data.toList.drop 23 = dktX3_take_1 := dk_seg dksX3_take_0 23 rfl rfl
theorem dX3_take_0 : decode cX3_take 0 = .ok (.aload_n 0, 1) := dk_42 (dk_at dksX3_take_0 0 rfl rfl)
theorem dX3_take_1 : decode cX3_take 1 = .ok (.getfield 18, 3) := dk_180 0 18 (dk_at dksX3_take_0 1 rfl rfl)
theorem dX3_take_4 : decode cX3_take 4 = .ok (.invokevirtual 115, 3) := dk_182 0 115 (dk_at dksX3_take_0 4 rfl rfl)
theorem dX3_take_7 : decode cX3_take 7 = .ok (.checkcast 57, 3) := dk_192 0 57 (dk_at dksX3_take_0 7 rfl rfl)
theorem dX3_take_10 : decode cX3_take 10 = .ok (.astore_n 1, 1) := dk_76 (dk_at dksX3_take_0 10 rfl rfl)
theorem dX3_take_11 : decode cX3_take 11 = .ok (.aload_n 0, 1) := dk_42 (dk_at dksX3_take_0 11 rfl rfl)
theorem dX3_take_12 : decode cX3_take 12 = .ok (.dup, 1) := dk_89 (dk_at dksX3_take_0 12 rfl rfl)
theorem dX3_take_13 : decode cX3_take 13 = .ok (.getfield 95, 3) := dk_180 0 95 (dk_at dksX3_take_0 13 rfl rfl)
theorem dX3_take_16 : decode cX3_take 16 = .ok (.iconst 1, 1) := dk_4 (dk_at dksX3_take_0 16 rfl rfl)
theorem dX3_take_17 : decode cX3_take 17 = .ok (.iadd, 1) := dk_96 (dk_at dksX3_take_0 17 rfl rfl)
theorem dX3_take_18 : decode cX3_take 18 = .ok (.putfield 95, 3) := dk_181 0 95 (dk_at dksX3_take_0 18 rfl rfl)
theorem dX3_take_21 : decode cX3_take 21 = .ok (.aload_n 0, 1) := dk_42 (dk_at dksX3_take_0 21 rfl rfl)
theorem dX3_take_22 : decode cX3_take 22 = .ok (.aload_n 1, 1) := dk_43 (dk_at dksX3_take_0 22 rfl rfl)
theorem dX3_take_23 : decode cX3_take 23 = .ok (.getfield 118, 3) := dk_180 0 118 (dk_at dksX3_take_1 0 rfl rfl)
theorem dX3_take_26 : decode cX3_take 26 = .ok (.putfield 89, 3) := dk_181 0 89 (dk_at dksX3_take_1 3 rfl rfl)
theorem dX3_take_29 : decode cX3_take 29 = .ok (.aload_n 0, 1) := dk_42 (dk_at dksX3_take_1 6 rfl rfl)
theorem dX3_take_30 : decode cX3_take 30 = .ok (.getfield 26, 3) := dk_180 0 26 (dk_at dksX3_take_1 7 rfl rfl)
theorem dX3_take_33 : decode cX3_take 33 = .ok (.aload_n 1, 1) := dk_43 (dk_at dksX3_take_1 10 rfl rfl)
theorem dX3_take_34 : decode cX3_take 34 = .ok (.getfield 121, 3) := dk_180 0 121 (dk_at dksX3_take_1 11 rfl rfl)
theorem dX3_take_37 : decode cX3_take 37 = .ok (.getfield 125, 3) := dk_180 0 125 (dk_at dksX3_take_1 14 rfl rfl)
theorem dX3_take_40 : decode cX3_take 40 = .ok (.invokevirtual 130, 3) := dk_182 0 130 (dk_at dksX3_take_1 17 rfl rfl)
theorem dX3_take_43 : decode cX3_take 43 = .ok (.aload_n 1, 1) := dk_43 (dk_at dksX3_take_1 20 rfl rfl)
theorem dX3_take_44 : decode cX3_take 44 = .ok (.areturn, 1) := dk_176 (dk_at dksX3_take_1 21 rfl rfl)
theorem q98 : (Jvm.Cond.initialized "QueueDrive$Line") ∈ lw_all := lw_g (lw_at lw_m1 7 rfl) rfl
theorem q185 : (Jvm.Cond.instantiable "QueueDrive$Line" (17 : Nat)) ∈ lw_all := lw_g (lw_at lw_m1 94 rfl) rfl
theorem q187 : (Jvm.Cond.instanceMethod ({ cls := "QueueDrive$Line", name := "<init>", desc := "(I)V" } : Jvm.MethodName)) ∈ lw_all := lw_g (lw_at lw_m1 96 rfl) rfl
theorem q188 : (Jvm.Cond.code ({ cls := "QueueDrive$Line", name := "<init>", desc := "(I)V" } : Jvm.MethodName) prog_5_method_1_code (2 : Nat) (Option.none : Option Jvm.ClassFile.FieldType)) ∈ lw_all := lw_g (lw_at lw_m1 97 rfl) rfl
theorem q189 : (Jvm.Cond.methodLink "QueueDrive$Line" (3 : Nat) ({ cls := "java/lang/Object", name := "<init>", desc := "()V" } : Jvm.MethodName)) ∈ lw_all := lw_g (lw_at lw_m1 98 rfl) rfl
theorem q190 : (Jvm.Cond.classLink "QueueDrive$Line" (9 : Nat) "java/util/ArrayDeque") ∈ lw_all := lw_g (lw_at lw_m1 99 rfl) rfl
theorem q192 : (Jvm.Cond.methodLink "QueueDrive$Line" (11 : Nat) ({ cls := "java/util/ArrayDeque", name := "<init>", desc := "()V" } : Jvm.MethodName)) ∈ lw_all := lw_g (lw_at lw_m1 101 rfl) rfl
theorem q211 : (Jvm.Cond.classLink "QueueDrive$Line" (21 : Nat) "java/util/BitSet") ∈ lw_all := lw_g (lw_at lw_m1 120 rfl) rfl
theorem q213 : (Jvm.Cond.methodLink "QueueDrive$Line" (23 : Nat) ({ cls := "java/util/BitSet", name := "<init>", desc := "(I)V" } : Jvm.MethodName)) ∈ lw_all := lw_g (lw_at lw_m1 122 rfl) rfl
theorem q552 : (Jvm.Cond.fieldLink "QueueDrive$Line" (30 : Nat) "QueueDrive$Line" "number" "I") ∈ lw_all := lw_g (lw_at lw_m2 221 rfl) rfl
theorem q556 : (Jvm.Cond.fieldLink "QueueDrive$Line" (12 : Nat) "QueueDrive$Line" "ring" "Ljava/util/ArrayDeque;") ∈ lw_all := lw_g (lw_at lw_m2 225 rfl) rfl
theorem q559 : (Jvm.Cond.fieldLink "QueueDrive$Line" (18 : Nat) "QueueDrive$Line" "posts" "Ljava/util/ArrayDeque;") ∈ lw_all := lw_g (lw_at lw_m2 228 rfl) rfl
theorem q561 : (Jvm.Cond.fieldLink "QueueDrive$Line" (26 : Nat) "QueueDrive$Line" "used" "Ljava/util/BitSet;") ∈ lw_all := lw_g (lw_at lw_m2 230 rfl) rfl
theorem q563 : (Jvm.Cond.fieldLink "QueueDrive$Line" (64 : Nat) "QueueDrive$Line" "slots" "I") ∈ lw_all := lw_g (lw_at lw_m2 232 rfl) rfl
theorem q565 : (Jvm.Cond.fieldLink "QueueDrive$Line" (67 : Nat) "QueueDrive$Line" "places" "I") ∈ lw_all := lw_g (lw_at lw_m2 234 rfl) rfl
theorem q567 : (Jvm.Cond.fieldLink "QueueDrive$Line" (70 : Nat) "QueueDrive$Line" "kind" "I") ∈ lw_all := lw_g (lw_at lw_m2 236 rfl) rfl
theorem q571 : (Jvm.Cond.fieldLink "QueueDrive$Line" (77 : Nat) "QueueDrive$Line" "written" "I") ∈ lw_all := lw_g (lw_at lw_m3 0 rfl) rfl
theorem q574 : (Jvm.Cond.fieldLink "QueueDrive$Line" (80 : Nat) "QueueDrive$Line" "rung" "I") ∈ lw_all := lw_g (lw_at lw_m3 3 rfl) rfl
theorem q577 : (Jvm.Cond.fieldLink "QueueDrive$Line" (83 : Nat) "QueueDrive$Line" "seen" "I") ∈ lw_all := lw_g (lw_at lw_m3 6 rfl) rfl
theorem q580 : (Jvm.Cond.fieldLink "QueueDrive$Line" (86 : Nat) "QueueDrive$Line" "fetched" "I") ∈ lw_all := lw_g (lw_at lw_m3 9 rfl) rfl
theorem q583 : (Jvm.Cond.fieldLink "QueueDrive$Line" (89 : Nat) "QueueDrive$Line" "told" "I") ∈ lw_all := lw_g (lw_at lw_m3 12 rfl) rfl
theorem q585 : (Jvm.Cond.fieldLink "QueueDrive$Line" (92 : Nat) "QueueDrive$Line" "posted" "I") ∈ lw_all := lw_g (lw_at lw_m3 14 rfl) rfl
theorem q588 : (Jvm.Cond.fieldLink "QueueDrive$Line" (95 : Nat) "QueueDrive$Line" "taken" "I") ∈ lw_all := lw_g (lw_at lw_m3 17 rfl) rfl
theorem q591 : (Jvm.Cond.fieldLink "QueueDrive$Line" (98 : Nat) "QueueDrive$Line" "mark" "I") ∈ lw_all := lw_g (lw_at lw_m3 20 rfl) rfl
theorem q594 : (Jvm.Cond.fieldLink "QueueDrive$Line" (73 : Nat) "QueueDrive$Line" "isShadowed" "Z") ∈ lw_all := lw_g (lw_at lw_m3 23 rfl) rfl
theorem q597 : (Jvm.Cond.fieldLink "QueueDrive$Line" (101 : Nat) "QueueDrive$Line" "isAwake" "Z") ∈ lw_all := lw_g (lw_at lw_m3 26 rfl) rfl
theorem q600 : (Jvm.Cond.laysFinal "QueueDrive$Line" "QueueDrive$Line" "number" "I") ∈ lw_all := lw_g (lw_at lw_m3 29 rfl) rfl
theorem q601 : (Jvm.Cond.soleField "QueueDrive$Line" "number") ∈ lw_all := lw_g (lw_at lw_m3 30 rfl) rfl
theorem q602 : (Jvm.Cond.laysFinal "QueueDrive$Line" "QueueDrive$Line" "ring" "Ljava/util/ArrayDeque;") ∈ lw_all := lw_g (lw_at lw_m3 31 rfl) rfl
theorem q603 : (Jvm.Cond.soleField "QueueDrive$Line" "ring") ∈ lw_all := lw_g (lw_at lw_m3 32 rfl) rfl
theorem q604 : (Jvm.Cond.laysFinal "QueueDrive$Line" "QueueDrive$Line" "posts" "Ljava/util/ArrayDeque;") ∈ lw_all := lw_g (lw_at lw_m3 33 rfl) rfl
theorem q605 : (Jvm.Cond.soleField "QueueDrive$Line" "posts") ∈ lw_all := lw_g (lw_at lw_m3 34 rfl) rfl
theorem q606 : (Jvm.Cond.laysFinal "QueueDrive$Line" "QueueDrive$Line" "used" "Ljava/util/BitSet;") ∈ lw_all := lw_g (lw_at lw_m3 35 rfl) rfl
theorem q607 : (Jvm.Cond.soleField "QueueDrive$Line" "used") ∈ lw_all := lw_g (lw_at lw_m3 36 rfl) rfl
theorem q608 : (Jvm.Cond.lays "QueueDrive$Line" "QueueDrive$Line" "slots" "I") ∈ lw_all := lw_g (lw_at lw_m3 37 rfl) rfl
theorem q609 : (Jvm.Cond.soleField "QueueDrive$Line" "slots") ∈ lw_all := lw_g (lw_at lw_m3 38 rfl) rfl
theorem q610 : (Jvm.Cond.lays "QueueDrive$Line" "QueueDrive$Line" "places" "I") ∈ lw_all := lw_g (lw_at lw_m3 39 rfl) rfl
theorem q611 : (Jvm.Cond.soleField "QueueDrive$Line" "places") ∈ lw_all := lw_g (lw_at lw_m3 40 rfl) rfl
theorem q612 : (Jvm.Cond.lays "QueueDrive$Line" "QueueDrive$Line" "kind" "I") ∈ lw_all := lw_g (lw_at lw_m3 41 rfl) rfl
theorem q613 : (Jvm.Cond.soleField "QueueDrive$Line" "kind") ∈ lw_all := lw_g (lw_at lw_m3 42 rfl) rfl
theorem q614 : (Jvm.Cond.lays "QueueDrive$Line" "QueueDrive$Line" "written" "I") ∈ lw_all := lw_g (lw_at lw_m3 43 rfl) rfl
theorem q615 : (Jvm.Cond.soleField "QueueDrive$Line" "written") ∈ lw_all := lw_g (lw_at lw_m3 44 rfl) rfl
theorem q616 : (Jvm.Cond.lays "QueueDrive$Line" "QueueDrive$Line" "rung" "I") ∈ lw_all := lw_g (lw_at lw_m3 45 rfl) rfl
theorem q617 : (Jvm.Cond.soleField "QueueDrive$Line" "rung") ∈ lw_all := lw_g (lw_at lw_m3 46 rfl) rfl
theorem q618 : (Jvm.Cond.lays "QueueDrive$Line" "QueueDrive$Line" "seen" "I") ∈ lw_all := lw_g (lw_at lw_m3 47 rfl) rfl
theorem q619 : (Jvm.Cond.soleField "QueueDrive$Line" "seen") ∈ lw_all := lw_g (lw_at lw_m3 48 rfl) rfl
theorem q620 : (Jvm.Cond.lays "QueueDrive$Line" "QueueDrive$Line" "fetched" "I") ∈ lw_all := lw_g (lw_at lw_m3 49 rfl) rfl
theorem q621 : (Jvm.Cond.soleField "QueueDrive$Line" "fetched") ∈ lw_all := lw_g (lw_at lw_m3 50 rfl) rfl
theorem q622 : (Jvm.Cond.lays "QueueDrive$Line" "QueueDrive$Line" "told" "I") ∈ lw_all := lw_g (lw_at lw_m3 51 rfl) rfl
theorem q623 : (Jvm.Cond.soleField "QueueDrive$Line" "told") ∈ lw_all := lw_g (lw_at lw_m3 52 rfl) rfl
theorem q624 : (Jvm.Cond.lays "QueueDrive$Line" "QueueDrive$Line" "posted" "I") ∈ lw_all := lw_g (lw_at lw_m3 53 rfl) rfl
theorem q625 : (Jvm.Cond.soleField "QueueDrive$Line" "posted") ∈ lw_all := lw_g (lw_at lw_m3 54 rfl) rfl
theorem q626 : (Jvm.Cond.lays "QueueDrive$Line" "QueueDrive$Line" "taken" "I") ∈ lw_all := lw_g (lw_at lw_m3 55 rfl) rfl
theorem q627 : (Jvm.Cond.soleField "QueueDrive$Line" "taken") ∈ lw_all := lw_g (lw_at lw_m3 56 rfl) rfl
theorem q628 : (Jvm.Cond.lays "QueueDrive$Line" "QueueDrive$Line" "mark" "I") ∈ lw_all := lw_g (lw_at lw_m3 57 rfl) rfl
theorem q629 : (Jvm.Cond.soleField "QueueDrive$Line" "mark") ∈ lw_all := lw_g (lw_at lw_m3 58 rfl) rfl
theorem q630 : (Jvm.Cond.lays "QueueDrive$Line" "QueueDrive$Line" "isShadowed" "Z") ∈ lw_all := lw_g (lw_at lw_m3 59 rfl) rfl
theorem q631 : (Jvm.Cond.soleField "QueueDrive$Line" "isShadowed") ∈ lw_all := lw_g (lw_at lw_m3 60 rfl) rfl
theorem q632 : (Jvm.Cond.lays "QueueDrive$Line" "QueueDrive$Line" "isAwake" "Z") ∈ lw_all := lw_g (lw_at lw_m3 61 rfl) rfl
theorem q633 : (Jvm.Cond.soleField "QueueDrive$Line" "isAwake") ∈ lw_all := lw_g (lw_at lw_m3 62 rfl) rfl
theorem q634 : (Jvm.Cond.superclass "QueueDrive$Line" "java/lang/Object") ∈ lw_all := lw_g (lw_at lw_m3 63 rfl) rfl
theorem q924 : (Jvm.Cond.instanceMethod ({ cls := "QueueDrive$Line", name := "empty", desc := "()V" } : Jvm.MethodName)) ∈ lw_all := lw_g (lw_at lw_m4 113 rfl) rfl
theorem q925 : (Jvm.Cond.selects "QueueDrive$Line" ({ cls := "QueueDrive$Line", name := "empty", desc := "()V" } : Jvm.MethodName) ({ cls := "QueueDrive$Line", name := "empty", desc := "()V" } : Jvm.MethodName)) ∈ lw_all := lw_g (lw_at lw_m4 114 rfl) rfl
theorem q926 : (Jvm.Cond.code ({ cls := "QueueDrive$Line", name := "empty", desc := "()V" } : Jvm.MethodName) prog_5_method_3_code (1 : Nat) (Option.none : Option Jvm.ClassFile.FieldType)) ∈ lw_all := lw_g (lw_at lw_m4 115 rfl) rfl
theorem q927 : (Jvm.Cond.methodLink "QueueDrive$Line" (34 : Nat) ({ cls := "java/util/ArrayDeque", name := "clear", desc := "()V" } : Jvm.MethodName)) ∈ lw_all := lw_g (lw_at lw_m4 116 rfl) rfl
theorem q934 : (Jvm.Cond.methodLink "QueueDrive$Line" (59 : Nat) ({ cls := "java/util/BitSet", name := "clear", desc := "()V" } : Jvm.MethodName)) ∈ lw_all := lw_g (lw_at lw_m4 123 rfl) rfl
theorem q1054 : (Jvm.Cond.instanceMethod ({ cls := "QueueDrive$Line", name := "bySlots", desc := "()I" } : Jvm.MethodName)) ∈ lw_all := lw_g (lw_at lw_m5 3 rfl) rfl
theorem q1055 : (Jvm.Cond.selects "QueueDrive$Line" ({ cls := "QueueDrive$Line", name := "bySlots", desc := "()I" } : Jvm.MethodName) ({ cls := "QueueDrive$Line", name := "bySlots", desc := "()I" } : Jvm.MethodName)) ∈ lw_all := lw_g (lw_at lw_m5 4 rfl) rfl
theorem q1056 : (Jvm.Cond.code ({ cls := "QueueDrive$Line", name := "bySlots", desc := "()I" } : Jvm.MethodName) prog_5_method_5_code (1 : Nat) (Option.some Jvm.ClassFile.FieldType.int)) ∈ lw_all := lw_g (lw_at lw_m5 5 rfl) rfl
theorem q1058 : (Jvm.Cond.instanceMethod ({ cls := "QueueDrive$Line", name := "byIds", desc := "()I" } : Jvm.MethodName)) ∈ lw_all := lw_g (lw_at lw_m5 7 rfl) rfl
theorem q1059 : (Jvm.Cond.selects "QueueDrive$Line" ({ cls := "QueueDrive$Line", name := "byIds", desc := "()I" } : Jvm.MethodName) ({ cls := "QueueDrive$Line", name := "byIds", desc := "()I" } : Jvm.MethodName)) ∈ lw_all := lw_g (lw_at lw_m5 8 rfl) rfl
theorem q1060 : (Jvm.Cond.code ({ cls := "QueueDrive$Line", name := "byIds", desc := "()I" } : Jvm.MethodName) prog_5_method_6_code (1 : Nat) (Option.some Jvm.ClassFile.FieldType.int)) ∈ lw_all := lw_g (lw_at lw_m5 9 rfl) rfl
theorem q1061 : (Jvm.Cond.methodLink "QueueDrive$Line" (104 : Nat) ({ cls := "java/util/BitSet", name := "cardinality", desc := "()I" } : Jvm.MethodName)) ∈ lw_all := lw_g (lw_at lw_m5 10 rfl) rfl
theorem q1081 : (Jvm.Cond.instanceMethod ({ cls := "QueueDrive$Line", name := "be", desc := "(LQueueDrive$Line;)V" } : Jvm.MethodName)) ∈ lw_all := lw_g (lw_at lw_m5 30 rfl) rfl
theorem q1082 : (Jvm.Cond.selects "QueueDrive$Line" ({ cls := "QueueDrive$Line", name := "be", desc := "(LQueueDrive$Line;)V" } : Jvm.MethodName) ({ cls := "QueueDrive$Line", name := "be", desc := "(LQueueDrive$Line;)V" } : Jvm.MethodName)) ∈ lw_all := lw_g (lw_at lw_m5 31 rfl) rfl
theorem q1083 : (Jvm.Cond.code ({ cls := "QueueDrive$Line", name := "be", desc := "(LQueueDrive$Line;)V" } : Jvm.MethodName) prog_5_method_2_code (4 : Nat) (Option.none : Option Jvm.ClassFile.FieldType)) ∈ lw_all := lw_g (lw_at lw_m5 32 rfl) rfl
theorem q1084 : (Jvm.Cond.methodLink "QueueDrive$Line" (37 : Nat) ({ cls := "java/util/ArrayDeque", name := "iterator", desc := "()Ljava/util/Iterator;" } : Jvm.MethodName)) ∈ lw_all := lw_g (lw_at lw_m5 33 rfl) rfl
theorem q1114 : (Jvm.Cond.interfaceEntry "QueueDrive$Line" (41 : Nat)) ∈ lw_tbl := lw_at lw_m5 63 rfl
theorem q1115 : (Jvm.Cond.methodLink "QueueDrive$Line" (41 : Nat) ({ cls := "java/util/Iterator", name := "hasNext", desc := "()Z" } : Jvm.MethodName)) ∈ lw_all := lw_g (lw_at lw_m5 64 rfl) rfl
theorem q1140 : (Jvm.Cond.interfaceEntry "QueueDrive$Line" (47 : Nat)) ∈ lw_tbl := lw_at lw_m5 89 rfl
theorem q1141 : (Jvm.Cond.methodLink "QueueDrive$Line" (47 : Nat) ({ cls := "java/util/Iterator", name := "next", desc := "()Ljava/lang/Object;" } : Jvm.MethodName)) ∈ lw_all := lw_g (lw_at lw_m5 90 rfl) rfl
theorem q1209 : (Jvm.Cond.selects "QueueDrive$Line" ({ cls := "java/lang/Object", name := "getClass", desc := "()Ljava/lang/Class;" } : Jvm.MethodName) ({ cls := "java/lang/Object", name := "getClass", desc := "()Ljava/lang/Class;" } : Jvm.MethodName)) ∈ lw_all := lw_g (lw_at lw_m5 158 rfl) rfl
theorem q1284 : (Jvm.Cond.classLink "QueueDrive$Line" (51 : Nat) "QueueDrive$Command") ∈ lw_all := lw_g (lw_at lw_m5 233 rfl) rfl
theorem q1285 : (Jvm.Cond.methodLink "QueueDrive$Line" (53 : Nat) ({ cls := "java/util/ArrayDeque", name := "addLast", desc := "(Ljava/lang/Object;)V" } : Jvm.MethodName)) ∈ lw_all := lw_g (lw_at lw_m5 234 rfl) rfl
theorem q1310 : (Jvm.Cond.classLink "QueueDrive$Line" (57 : Nat) "QueueDrive$Post") ∈ lw_all := lw_g (lw_at lw_m6 19 rfl) rfl
theorem q1311 : (Jvm.Cond.methodLink "QueueDrive$Line" (60 : Nat) ({ cls := "java/util/BitSet", name := "or", desc := "(Ljava/util/BitSet;)V" } : Jvm.MethodName)) ∈ lw_all := lw_g (lw_at lw_m6 20 rfl) rfl
theorem q1503 : (Jvm.Cond.instanceMethod ({ cls := "QueueDrive$Line", name := "bell", desc := "()I" } : Jvm.MethodName)) ∈ lw_all := lw_g (lw_at lw_m6 212 rfl) rfl
theorem q1504 : (Jvm.Cond.selects "QueueDrive$Line" ({ cls := "QueueDrive$Line", name := "bell", desc := "()I" } : Jvm.MethodName) ({ cls := "QueueDrive$Line", name := "bell", desc := "()I" } : Jvm.MethodName)) ∈ lw_all := lw_g (lw_at lw_m6 213 rfl) rfl
theorem q1505 : (Jvm.Cond.code ({ cls := "QueueDrive$Line", name := "bell", desc := "()I" } : Jvm.MethodName) prog_5_method_11_code (1 : Nat) (Option.some Jvm.ClassFile.FieldType.int)) ∈ lw_all := lw_g (lw_at lw_m6 214 rfl) rfl
theorem q1576 : (Jvm.Cond.fieldLink "QueueDrive$Line" (125 : Nat) "QueueDrive$Word" "id" "I") ∈ lw_all := lw_g (lw_at lw_m7 45 rfl) rfl
theorem q1596 : (Jvm.Cond.instanceMethod ({ cls := "QueueDrive$Line", name := "hasPlace", desc := "()Z" } : Jvm.MethodName)) ∈ lw_all := lw_g (lw_at lw_m7 65 rfl) rfl
theorem q1597 : (Jvm.Cond.selects "QueueDrive$Line" ({ cls := "QueueDrive$Line", name := "hasPlace", desc := "()Z" } : Jvm.MethodName) ({ cls := "QueueDrive$Line", name := "hasPlace", desc := "()Z" } : Jvm.MethodName)) ∈ lw_all := lw_g (lw_at lw_m7 66 rfl) rfl
theorem q1598 : (Jvm.Cond.code ({ cls := "QueueDrive$Line", name := "hasPlace", desc := "()Z" } : Jvm.MethodName) prog_5_method_8_code (1 : Nat) (Option.some Jvm.ClassFile.FieldType.boolean)) ∈ lw_all := lw_g (lw_at lw_m7 67 rfl) rfl
theorem q1600 : (Jvm.Cond.instanceMethod ({ cls := "QueueDrive$Line", name := "post", desc := "(LQueueDrive$Word;)V" } : Jvm.MethodName)) ∈ lw_all := lw_g (lw_at lw_m7 69 rfl) rfl
theorem q1601 : (Jvm.Cond.selects "QueueDrive$Line" ({ cls := "QueueDrive$Line", name := "post", desc := "(LQueueDrive$Word;)V" } : Jvm.MethodName) ({ cls := "QueueDrive$Line", name := "post", desc := "(LQueueDrive$Word;)V" } : Jvm.MethodName)) ∈ lw_all := lw_g (lw_at lw_m7 70 rfl) rfl
theorem q1602 : (Jvm.Cond.code ({ cls := "QueueDrive$Line", name := "post", desc := "(LQueueDrive$Word;)V" } : Jvm.MethodName) prog_5_method_9_code (2 : Nat) (Option.none : Option Jvm.ClassFile.FieldType)) ∈ lw_all := lw_g (lw_at lw_m7 71 rfl) rfl
theorem q1604 : (Jvm.Cond.methodLink "QueueDrive$Line" (108 : Nat) ({ cls := "QueueDrive$Line", name := "phaseOf", desc := "(I)I" } : Jvm.MethodName)) ∈ lw_all := lw_g (lw_at lw_m7 73 rfl) rfl
theorem q1605 : (Jvm.Cond.instanceMethod ({ cls := "QueueDrive$Line", name := "phaseOf", desc := "(I)I" } : Jvm.MethodName)) ∈ lw_all := lw_g (lw_at lw_m7 74 rfl) rfl
theorem q1606 : (Jvm.Cond.selects "QueueDrive$Line" ({ cls := "QueueDrive$Line", name := "phaseOf", desc := "(I)I" } : Jvm.MethodName) ({ cls := "QueueDrive$Line", name := "phaseOf", desc := "(I)I" } : Jvm.MethodName)) ∈ lw_all := lw_g (lw_at lw_m7 75 rfl) rfl
theorem q1607 : (Jvm.Cond.code ({ cls := "QueueDrive$Line", name := "phaseOf", desc := "(I)I" } : Jvm.MethodName) prog_5_method_7_code (2 : Nat) (Option.some Jvm.ClassFile.FieldType.int)) ∈ lw_all := lw_g (lw_at lw_m7 76 rfl) rfl
theorem q1608 : (Jvm.Cond.methodLink "QueueDrive$Line" (112 : Nat) ({ cls := "QueueDrive$Post", name := "<init>", desc := "(LQueueDrive$Word;II)V" } : Jvm.MethodName)) ∈ lw_all := lw_g (lw_at lw_m7 77 rfl) rfl
theorem q1613 : (Jvm.Cond.fieldLink "QueueDrive$Line" (121 : Nat) "QueueDrive$Post" "word" "LQueueDrive$Word;") ∈ lw_all := lw_g (lw_at lw_m7 82 rfl) rfl
theorem q1616 : (Jvm.Cond.fieldLink "QueueDrive$Line" (118 : Nat) "QueueDrive$Post" "head" "I") ∈ lw_all := lw_g (lw_at lw_m7 85 rfl) rfl
theorem q1703 : (Jvm.Cond.instanceMethod ({ cls := "QueueDrive$Line", name := "hasWork", desc := "()Z" } : Jvm.MethodName)) ∈ lw_all := lw_g (lw_at lw_m7 172 rfl) rfl
theorem q1704 : (Jvm.Cond.selects "QueueDrive$Line" ({ cls := "QueueDrive$Line", name := "hasWork", desc := "()Z" } : Jvm.MethodName) ({ cls := "QueueDrive$Line", name := "hasWork", desc := "()Z" } : Jvm.MethodName)) ∈ lw_all := lw_g (lw_at lw_m7 173 rfl) rfl
theorem q1705 : (Jvm.Cond.code ({ cls := "QueueDrive$Line", name := "hasWork", desc := "()Z" } : Jvm.MethodName) prog_5_method_4_code (1 : Nat) (Option.some Jvm.ClassFile.FieldType.boolean)) ∈ lw_all := lw_g (lw_at lw_m7 174 rfl) rfl
theorem q1777 : (Jvm.Cond.instanceMethod ({ cls := "QueueDrive$Line", name := "take", desc := "()LQueueDrive$Post;" } : Jvm.MethodName)) ∈ lw_all := lw_g (lw_at lw_m8 6 rfl) rfl
theorem q1778 : (Jvm.Cond.selects "QueueDrive$Line" ({ cls := "QueueDrive$Line", name := "take", desc := "()LQueueDrive$Post;" } : Jvm.MethodName) ({ cls := "QueueDrive$Line", name := "take", desc := "()LQueueDrive$Post;" } : Jvm.MethodName)) ∈ lw_all := lw_g (lw_at lw_m8 7 rfl) rfl
theorem q1779 : (Jvm.Cond.code ({ cls := "QueueDrive$Line", name := "take", desc := "()LQueueDrive$Post;" } : Jvm.MethodName) prog_5_method_10_code (2 : Nat) (Option.some (Jvm.ClassFile.FieldType.object "QueueDrive$Post"))) ∈ lw_all := lw_g (lw_at lw_m8 8 rfl) rfl
theorem q1780 : (Jvm.Cond.methodLink "QueueDrive$Line" (115 : Nat) ({ cls := "java/util/ArrayDeque", name := "pollFirst", desc := "()Ljava/lang/Object;" } : Jvm.MethodName)) ∈ lw_all := lw_g (lw_at lw_m8 9 rfl) rfl
theorem q1781 : (Jvm.Cond.methodLink "QueueDrive$Line" (130 : Nat) ({ cls := "java/util/BitSet", name := "clear", desc := "(I)V" } : Jvm.MethodName)) ∈ lw_all := lw_g (lw_at lw_m8 10 rfl) rfl
theorem q2775 : (Jvm.Cond.castable "QueueDrive$Line" "java/lang/Object") ∈ lw_tbl := lw_at lw_m12 44 rfl
theorem in_X3 : ∀ w ∈ wsX30, w ∈ lw_all := lw_in wsX30 [600, 602, 604, 606, 608, 610, 612, 614, 616, 618, 620, 622, 624, 626, 628, 630, 632] (by decide +kernel) (by decide +kernel)

/-! QueueDrive$Words -/
set_option maxRecDepth 100000
def RX5 : String := "QueueDrive$Words"
def TX5 : u_T := fun k => match k with
  | 0 => ("QueueDrive$Words", "of", "[B", true)
  | 1 => ("QueueDrive$Words", "size", "I", true)
  | 2 => ("QueueDrive$Words", "end", "I", true)
  | _ => ("QueueDrive$Words", "at", "I", false)
def tyX5 : Nat → FieldType := fun k => match k with
  | 0 => .array .byte
  | 1 => .int
  | 2 => .int
  | _ => .int
abbrev wsX50 : List Cond := u_ws RX5 TX5 4
theorem nmX5 : ∀ a, a < 4 → ∀ b, b < 4 → a ≠ b → (TX5 a).2.1 ≠ (TX5 b).2.1 := by decide +kernel
theorem tyX5_ok : ∀ k, k < 4 → parseFieldDescriptor (TX5 k).2.2.1 = some (tyX5 k) := by decide +kernel
abbrev cX5_init : ByteArray := prog_10_method_1_code
def yX5_init : MethodName := ⟨RX5, "<init>", "([BII)V"⟩
def dkwX5_init_0 : List UInt8 := [42, 183, 0, 3, 42, 43, 181, 0, 9, 42, 28, 181, 0, 15, 42, 28, 29, 184, 0, 19, 181, 0, 25, 177]
abbrev dktX5_init_0 : List UInt8 := dkwX5_init_0 ++ []
theorem dksX5_init_0 : cX5_init.data.toList.drop 0 = dktX5_init_0 := by decide +kernel
theorem dX5_init_0 : decode cX5_init 0 = .ok (.aload_n 0, 1) := dk_42 (dk_at dksX5_init_0 0 rfl rfl)
theorem dX5_init_1 : decode cX5_init 1 = .ok (.invokespecial 3, 3) := dk_183 0 3 (dk_at dksX5_init_0 1 rfl rfl)
theorem dX5_init_4 : decode cX5_init 4 = .ok (.aload_n 0, 1) := dk_42 (dk_at dksX5_init_0 4 rfl rfl)
theorem dX5_init_5 : decode cX5_init 5 = .ok (.aload_n 1, 1) := dk_43 (dk_at dksX5_init_0 5 rfl rfl)
theorem dX5_init_6 : decode cX5_init 6 = .ok (.putfield 9, 3) := dk_181 0 9 (dk_at dksX5_init_0 6 rfl rfl)
theorem dX5_init_9 : decode cX5_init 9 = .ok (.aload_n 0, 1) := dk_42 (dk_at dksX5_init_0 9 rfl rfl)
theorem dX5_init_10 : decode cX5_init 10 = .ok (.iload_n 2, 1) := dk_28 (dk_at dksX5_init_0 10 rfl rfl)
theorem dX5_init_11 : decode cX5_init 11 = .ok (.putfield 15, 3) := dk_181 0 15 (dk_at dksX5_init_0 11 rfl rfl)
theorem dX5_init_14 : decode cX5_init 14 = .ok (.aload_n 0, 1) := dk_42 (dk_at dksX5_init_0 14 rfl rfl)
theorem dX5_init_15 : decode cX5_init 15 = .ok (.iload_n 2, 1) := dk_28 (dk_at dksX5_init_0 15 rfl rfl)
theorem dX5_init_16 : decode cX5_init 16 = .ok (.iload_n 3, 1) := dk_29 (dk_at dksX5_init_0 16 rfl rfl)
theorem dX5_init_17 : decode cX5_init 17 = .ok (.invokestatic 19, 3) := dk_184 0 19 (dk_at dksX5_init_0 17 rfl rfl)
theorem dX5_init_20 : decode cX5_init 20 = .ok (.putfield 25, 3) := dk_181 0 25 (dk_at dksX5_init_0 20 rfl rfl)
theorem dX5_init_23 : decode cX5_init 23 = .ok (.return_, 1) := dk_177 (dk_at dksX5_init_0 23 rfl rfl)
abbrev cX5_digit : ByteArray := prog_10_method_6_code
def yX5_digit : MethodName := ⟨RX5, "digit", "(CI)I"⟩
def dkwX5_digit_1 : List UInt8 := [180, 0, 28, 4, 96, 181, 0, 28, 42, 180, 0, 9, 42, 180, 0, 28, 4, 100, 51, 27, 100, 172]
abbrev dktX5_digit_1 : List UInt8 := dkwX5_digit_1 ++ []
def dkwX5_digit_0 : List UInt8 := [42, 42, 182, 0, 40, 133, 27, 133, 27, 28, 96, 4, 100, 133, 184, 0, 44, 182, 0, 36, 42, 89]
abbrev dktX5_digit_0 : List UInt8 := dkwX5_digit_0 ++ dktX5_digit_1
theorem dksX5_digit_0 : cX5_digit.data.toList.drop 0 = dktX5_digit_0 := by decide +kernel
theorem dksX5_digit_1 : cX5_digit.data.toList.drop 22 = dktX5_digit_1 := dk_seg dksX5_digit_0 22 rfl rfl
theorem dX5_digit_0 : decode cX5_digit 0 = .ok (.aload_n 0, 1) := dk_42 (dk_at dksX5_digit_0 0 rfl rfl)
theorem dX5_digit_1 : decode cX5_digit 1 = .ok (.aload_n 0, 1) := dk_42 (dk_at dksX5_digit_0 1 rfl rfl)
theorem dX5_digit_2 : decode cX5_digit 2 = .ok (.invokevirtual 40, 3) := dk_182 0 40 (dk_at dksX5_digit_0 2 rfl rfl)
theorem dX5_digit_5 : decode cX5_digit 5 = .ok (.i2l, 1) := dk_133 (dk_at dksX5_digit_0 5 rfl rfl)
theorem dX5_digit_6 : decode cX5_digit 6 = .ok (.iload_n 1, 1) := dk_27 (dk_at dksX5_digit_0 6 rfl rfl)
theorem dX5_digit_7 : decode cX5_digit 7 = .ok (.i2l, 1) := dk_133 (dk_at dksX5_digit_0 7 rfl rfl)
theorem dX5_digit_8 : decode cX5_digit 8 = .ok (.iload_n 1, 1) := dk_27 (dk_at dksX5_digit_0 8 rfl rfl)
theorem dX5_digit_9 : decode cX5_digit 9 = .ok (.iload_n 2, 1) := dk_28 (dk_at dksX5_digit_0 9 rfl rfl)
theorem dX5_digit_10 : decode cX5_digit 10 = .ok (.iadd, 1) := dk_96 (dk_at dksX5_digit_0 10 rfl rfl)
theorem dX5_digit_11 : decode cX5_digit 11 = .ok (.iconst 1, 1) := dk_4 (dk_at dksX5_digit_0 11 rfl rfl)
theorem dX5_digit_12 : decode cX5_digit 12 = .ok (.isub, 1) := dk_100 (dk_at dksX5_digit_0 12 rfl rfl)
theorem dX5_digit_13 : decode cX5_digit 13 = .ok (.i2l, 1) := dk_133 (dk_at dksX5_digit_0 13 rfl rfl)
theorem dX5_digit_14 : decode cX5_digit 14 = .ok (.invokestatic 44, 3) := dk_184 0 44 (dk_at dksX5_digit_0 14 rfl rfl)
theorem dX5_digit_17 : decode cX5_digit 17 = .ok (.invokevirtual 36, 3) := dk_182 0 36 (dk_at dksX5_digit_0 17 rfl rfl)
theorem dX5_digit_20 : decode cX5_digit 20 = .ok (.aload_n 0, 1) := dk_42 (dk_at dksX5_digit_0 20 rfl rfl)
theorem dX5_digit_21 : decode cX5_digit 21 = .ok (.dup, 1) := dk_89 (dk_at dksX5_digit_0 21 rfl rfl)
theorem dX5_digit_22 : decode cX5_digit 22 = .ok (.getfield 28, 3) := dk_180 0 28 (dk_at dksX5_digit_1 0 rfl rfl)
theorem dX5_digit_25 : decode cX5_digit 25 = .ok (.iconst 1, 1) := dk_4 (dk_at dksX5_digit_1 3 rfl rfl)
theorem dX5_digit_26 : decode cX5_digit 26 = .ok (.iadd, 1) := dk_96 (dk_at dksX5_digit_1 4 rfl rfl)
theorem dX5_digit_27 : decode cX5_digit 27 = .ok (.putfield 28, 3) := dk_181 0 28 (dk_at dksX5_digit_1 5 rfl rfl)
theorem dX5_digit_30 : decode cX5_digit 30 = .ok (.aload_n 0, 1) := dk_42 (dk_at dksX5_digit_1 8 rfl rfl)
theorem dX5_digit_31 : decode cX5_digit 31 = .ok (.getfield 9, 3) := dk_180 0 9 (dk_at dksX5_digit_1 9 rfl rfl)
theorem dX5_digit_34 : decode cX5_digit 34 = .ok (.aload_n 0, 1) := dk_42 (dk_at dksX5_digit_1 12 rfl rfl)
theorem dX5_digit_35 : decode cX5_digit 35 = .ok (.getfield 28, 3) := dk_180 0 28 (dk_at dksX5_digit_1 13 rfl rfl)
theorem dX5_digit_38 : decode cX5_digit 38 = .ok (.iconst 1, 1) := dk_4 (dk_at dksX5_digit_1 16 rfl rfl)
theorem dX5_digit_39 : decode cX5_digit 39 = .ok (.isub, 1) := dk_100 (dk_at dksX5_digit_1 17 rfl rfl)
theorem dX5_digit_40 : decode cX5_digit 40 = .ok (.baload, 1) := dk_51 (dk_at dksX5_digit_1 18 rfl rfl)
theorem dX5_digit_41 : decode cX5_digit 41 = .ok (.iload_n 1, 1) := dk_27 (dk_at dksX5_digit_1 19 rfl rfl)
theorem dX5_digit_42 : decode cX5_digit 42 = .ok (.isub, 1) := dk_100 (dk_at dksX5_digit_1 20 rfl rfl)
theorem dX5_digit_43 : decode cX5_digit 43 = .ok (.ireturn, 1) := dk_172 (dk_at dksX5_digit_1 21 rfl rfl)
abbrev cX5_here : ByteArray := prog_10_method_2_code
def yX5_here : MethodName := ⟨RX5, "here", "()I"⟩
def dkwX5_here_1 : List UInt8 := [167, 0, 4, 2, 172]
abbrev dktX5_here_1 : List UInt8 := dkwX5_here_1 ++ []
def dkwX5_here_0 : List UInt8 := [42, 180, 0, 28, 42, 180, 0, 25, 162, 0, 19, 42, 180, 0, 9, 42, 180, 0, 28, 51, 17, 0, 255, 126]
abbrev dktX5_here_0 : List UInt8 := dkwX5_here_0 ++ dktX5_here_1
theorem dksX5_here_0 : cX5_here.data.toList.drop 0 = dktX5_here_0 := by decide +kernel
theorem dksX5_here_1 : cX5_here.data.toList.drop 24 = dktX5_here_1 := dk_seg dksX5_here_0 24 rfl rfl
theorem dX5_here_0 : decode cX5_here 0 = .ok (.aload_n 0, 1) := dk_42 (dk_at dksX5_here_0 0 rfl rfl)
theorem dX5_here_1 : decode cX5_here 1 = .ok (.getfield 28, 3) := dk_180 0 28 (dk_at dksX5_here_0 1 rfl rfl)
theorem dX5_here_4 : decode cX5_here 4 = .ok (.aload_n 0, 1) := dk_42 (dk_at dksX5_here_0 4 rfl rfl)
theorem dX5_here_5 : decode cX5_here 5 = .ok (.getfield 25, 3) := dk_180 0 25 (dk_at dksX5_here_0 5 rfl rfl)
theorem dX5_here_8 : decode cX5_here 8 = .ok (.if_icmp .ge 19, 3) := dk_162 0 19 (dk_at dksX5_here_0 8 rfl rfl)
theorem dX5_here_11 : decode cX5_here 11 = .ok (.aload_n 0, 1) := dk_42 (dk_at dksX5_here_0 11 rfl rfl)
theorem dX5_here_12 : decode cX5_here 12 = .ok (.getfield 9, 3) := dk_180 0 9 (dk_at dksX5_here_0 12 rfl rfl)
theorem dX5_here_15 : decode cX5_here 15 = .ok (.aload_n 0, 1) := dk_42 (dk_at dksX5_here_0 15 rfl rfl)
theorem dX5_here_16 : decode cX5_here 16 = .ok (.getfield 28, 3) := dk_180 0 28 (dk_at dksX5_here_0 16 rfl rfl)
theorem dX5_here_19 : decode cX5_here 19 = .ok (.baload, 1) := dk_51 (dk_at dksX5_here_0 19 rfl rfl)
theorem dX5_here_20 : decode cX5_here 20 = .ok (.sipush 255, 3) := dk_17 0 255 (dk_at dksX5_here_0 20 rfl rfl)
theorem dX5_here_23 : decode cX5_here 23 = .ok (.iand, 1) := dk_126 (dk_at dksX5_here_0 23 rfl rfl)
theorem dX5_here_24 : decode cX5_here 24 = .ok (.goto 4, 3) := dk_167 0 4 (dk_at dksX5_here_1 0 rfl rfl)
theorem dX5_here_27 : decode cX5_here 27 = .ok (.iconst (-1), 1) := dk_2 (dk_at dksX5_here_1 3 rfl rfl)
theorem dX5_here_28 : decode cX5_here 28 = .ok (.ireturn, 1) := dk_172 (dk_at dksX5_here_1 4 rfl rfl)
abbrev cX5_need : ByteArray := prog_10_method_3_code
def yX5_need : MethodName := ⟨RX5, "need", "(Z)V"⟩
def dkwX5_need_0 : List UInt8 := [27, 154, 0, 15, 187, 0, 31, 89, 42, 180, 0, 28, 183, 0, 33, 191, 177]
abbrev dktX5_need_0 : List UInt8 := dkwX5_need_0 ++ []
theorem dksX5_need_0 : cX5_need.data.toList.drop 0 = dktX5_need_0 := by decide +kernel
theorem dX5_need_0 : decode cX5_need 0 = .ok (.iload_n 1, 1) := dk_27 (dk_at dksX5_need_0 0 rfl rfl)
theorem dX5_need_1 : decode cX5_need 1 = .ok (.ifCond .ne 15, 3) := dk_154 0 15 (dk_at dksX5_need_0 1 rfl rfl)
theorem dX5_need_4 : decode cX5_need 4 = .ok (.new 31, 3) := dk_187 0 31 (dk_at dksX5_need_0 4 rfl rfl)
theorem dX5_need_7 : decode cX5_need 7 = .ok (.dup, 1) := dk_89 (dk_at dksX5_need_0 7 rfl rfl)
theorem dX5_need_8 : decode cX5_need 8 = .ok (.aload_n 0, 1) := dk_42 (dk_at dksX5_need_0 8 rfl rfl)
theorem dX5_need_9 : decode cX5_need 9 = .ok (.getfield 28, 3) := dk_180 0 28 (dk_at dksX5_need_0 9 rfl rfl)
theorem dX5_need_12 : decode cX5_need 12 = .ok (.invokespecial 33, 3) := dk_183 0 33 (dk_at dksX5_need_0 12 rfl rfl)
theorem dX5_need_15 : decode cX5_need 15 = .ok (.athrow, 1) := dk_191 (dk_at dksX5_need_0 15 rfl rfl)
theorem dX5_need_16 : decode cX5_need 16 = .ok (.return_, 1) := dk_177 (dk_at dksX5_need_0 16 rfl rfl)
abbrev cX5_passes : ByteArray := prog_10_method_5_code
def yX5_passes : MethodName := ⟨RX5, "passes", "(C)Z"⟩
def dkwX5_passes_0 : List UInt8 := [42, 182, 0, 40, 27, 159, 0, 5, 3, 172, 42, 89, 180, 0, 28, 4, 96, 181, 0, 28, 4, 172]
abbrev dktX5_passes_0 : List UInt8 := dkwX5_passes_0 ++ []
theorem dksX5_passes_0 : cX5_passes.data.toList.drop 0 = dktX5_passes_0 := by decide +kernel
theorem dX5_passes_0 : decode cX5_passes 0 = .ok (.aload_n 0, 1) := dk_42 (dk_at dksX5_passes_0 0 rfl rfl)
theorem dX5_passes_1 : decode cX5_passes 1 = .ok (.invokevirtual 40, 3) := dk_182 0 40 (dk_at dksX5_passes_0 1 rfl rfl)
theorem dX5_passes_4 : decode cX5_passes 4 = .ok (.iload_n 1, 1) := dk_27 (dk_at dksX5_passes_0 4 rfl rfl)
theorem dX5_passes_5 : decode cX5_passes 5 = .ok (.if_icmp .eq 5, 3) := dk_159 0 5 (dk_at dksX5_passes_0 5 rfl rfl)
theorem dX5_passes_8 : decode cX5_passes 8 = .ok (.iconst 0, 1) := dk_3 (dk_at dksX5_passes_0 8 rfl rfl)
theorem dX5_passes_9 : decode cX5_passes 9 = .ok (.ireturn, 1) := dk_172 (dk_at dksX5_passes_0 9 rfl rfl)
theorem dX5_passes_10 : decode cX5_passes 10 = .ok (.aload_n 0, 1) := dk_42 (dk_at dksX5_passes_0 10 rfl rfl)
theorem dX5_passes_11 : decode cX5_passes 11 = .ok (.dup, 1) := dk_89 (dk_at dksX5_passes_0 11 rfl rfl)
theorem dX5_passes_12 : decode cX5_passes 12 = .ok (.getfield 28, 3) := dk_180 0 28 (dk_at dksX5_passes_0 12 rfl rfl)
theorem dX5_passes_15 : decode cX5_passes 15 = .ok (.iconst 1, 1) := dk_4 (dk_at dksX5_passes_0 15 rfl rfl)
theorem dX5_passes_16 : decode cX5_passes 16 = .ok (.iadd, 1) := dk_96 (dk_at dksX5_passes_0 16 rfl rfl)
theorem dX5_passes_17 : decode cX5_passes 17 = .ok (.putfield 28, 3) := dk_181 0 28 (dk_at dksX5_passes_0 17 rfl rfl)
theorem dX5_passes_20 : decode cX5_passes 20 = .ok (.iconst 1, 1) := dk_4 (dk_at dksX5_passes_0 20 rfl rfl)
theorem dX5_passes_21 : decode cX5_passes 21 = .ok (.ireturn, 1) := dk_172 (dk_at dksX5_passes_0 21 rfl rfl)
abbrev cX5_needEnd : ByteArray := prog_10_method_4_code
def yX5_needEnd : MethodName := ⟨RX5, "needEnd", "()V"⟩
def dkwX5_needEnd_0 : List UInt8 := [42, 42, 180, 0, 28, 42, 180, 0, 15, 160, 0, 7, 4, 167, 0, 4, 3, 182, 0, 36, 177]
abbrev dktX5_needEnd_0 : List UInt8 := dkwX5_needEnd_0 ++ []
theorem dksX5_needEnd_0 : cX5_needEnd.data.toList.drop 0 = dktX5_needEnd_0 := by decide +kernel
theorem dX5_needEnd_0 : decode cX5_needEnd 0 = .ok (.aload_n 0, 1) := dk_42 (dk_at dksX5_needEnd_0 0 rfl rfl)
theorem dX5_needEnd_1 : decode cX5_needEnd 1 = .ok (.aload_n 0, 1) := dk_42 (dk_at dksX5_needEnd_0 1 rfl rfl)
theorem dX5_needEnd_2 : decode cX5_needEnd 2 = .ok (.getfield 28, 3) := dk_180 0 28 (dk_at dksX5_needEnd_0 2 rfl rfl)
theorem dX5_needEnd_5 : decode cX5_needEnd 5 = .ok (.aload_n 0, 1) := dk_42 (dk_at dksX5_needEnd_0 5 rfl rfl)
theorem dX5_needEnd_6 : decode cX5_needEnd 6 = .ok (.getfield 15, 3) := dk_180 0 15 (dk_at dksX5_needEnd_0 6 rfl rfl)
theorem dX5_needEnd_9 : decode cX5_needEnd 9 = .ok (.if_icmp .ne 7, 3) := dk_160 0 7 (dk_at dksX5_needEnd_0 9 rfl rfl)
theorem dX5_needEnd_12 : decode cX5_needEnd 12 = .ok (.iconst 1, 1) := dk_4 (dk_at dksX5_needEnd_0 12 rfl rfl)
theorem dX5_needEnd_13 : decode cX5_needEnd 13 = .ok (.goto 4, 3) := dk_167 0 4 (dk_at dksX5_needEnd_0 13 rfl rfl)
theorem dX5_needEnd_16 : decode cX5_needEnd 16 = .ok (.iconst 0, 1) := dk_3 (dk_at dksX5_needEnd_0 16 rfl rfl)
theorem dX5_needEnd_17 : decode cX5_needEnd 17 = .ok (.invokevirtual 36, 3) := dk_182 0 36 (dk_at dksX5_needEnd_0 17 rfl rfl)
theorem dX5_needEnd_20 : decode cX5_needEnd 20 = .ok (.return_, 1) := dk_177 (dk_at dksX5_needEnd_0 20 rfl rfl)
abbrev cX5_number : ByteArray := prog_10_method_7_code
def yX5_number : MethodName := ⟨RX5, "number", "(I)I"⟩
def dkwX5_number_2 : List UInt8 := [132, 3, 1, 167, 255, 217, 28, 172]
abbrev dktX5_number_2 : List UInt8 := dkwX5_number_2 ++ []
def dkwX5_number_1 : List UInt8 := [20, 0, 54, 184, 0, 44, 153, 0, 23, 16, 10, 28, 104, 42, 16, 48, 16, 10, 182, 0, 48, 96, 61]
abbrev dktX5_number_1 : List UInt8 := dkwX5_number_1 ++ dktX5_number_2
def dkwX5_number_0 : List UInt8 := [42, 16, 48, 16, 10, 182, 0, 48, 61, 4, 62, 29, 27, 162, 0, 40, 42, 182, 0, 40, 133, 20, 0, 52]
abbrev dktX5_number_0 : List UInt8 := dkwX5_number_0 ++ dktX5_number_1
theorem dksX5_number_0 : cX5_number.data.toList.drop 0 = dktX5_number_0 := by decide +kernel
theorem dksX5_number_1 : cX5_number.data.toList.drop 24 = dktX5_number_1 := dk_seg dksX5_number_0 24 rfl rfl
theorem dksX5_number_2 : cX5_number.data.toList.drop 47 = dktX5_number_2 := dk_seg dksX5_number_1 23 rfl rfl
theorem dX5_number_0 : decode cX5_number 0 = .ok (.aload_n 0, 1) := dk_42 (dk_at dksX5_number_0 0 rfl rfl)
theorem dX5_number_1 : decode cX5_number 1 = .ok (.bipush 48, 2) := dk_16 48 (dk_at dksX5_number_0 1 rfl rfl)
theorem dX5_number_3 : decode cX5_number 3 = .ok (.bipush 10, 2) := dk_16 10 (dk_at dksX5_number_0 3 rfl rfl)
theorem dX5_number_5 : decode cX5_number 5 = .ok (.invokevirtual 48, 3) := dk_182 0 48 (dk_at dksX5_number_0 5 rfl rfl)
theorem dX5_number_8 : decode cX5_number 8 = .ok (.istore_n 2, 1) := dk_61 (dk_at dksX5_number_0 8 rfl rfl)
theorem dX5_number_9 : decode cX5_number 9 = .ok (.iconst 1, 1) := dk_4 (dk_at dksX5_number_0 9 rfl rfl)
theorem dX5_number_10 : decode cX5_number 10 = .ok (.istore_n 3, 1) := dk_62 (dk_at dksX5_number_0 10 rfl rfl)
theorem dX5_number_11 : decode cX5_number 11 = .ok (.iload_n 3, 1) := dk_29 (dk_at dksX5_number_0 11 rfl rfl)
theorem dX5_number_12 : decode cX5_number 12 = .ok (.iload_n 1, 1) := dk_27 (dk_at dksX5_number_0 12 rfl rfl)
theorem dX5_number_13 : decode cX5_number 13 = .ok (.if_icmp .ge 40, 3) := dk_162 0 40 (dk_at dksX5_number_0 13 rfl rfl)
theorem dX5_number_16 : decode cX5_number 16 = .ok (.aload_n 0, 1) := dk_42 (dk_at dksX5_number_0 16 rfl rfl)
theorem dX5_number_17 : decode cX5_number 17 = .ok (.invokevirtual 40, 3) := dk_182 0 40 (dk_at dksX5_number_0 17 rfl rfl)
theorem dX5_number_20 : decode cX5_number 20 = .ok (.i2l, 1) := dk_133 (dk_at dksX5_number_0 20 rfl rfl)
theorem dX5_number_21 : decode cX5_number 21 = .ok (.ldc2_w 52, 3) := dk_20 0 52 (dk_at dksX5_number_0 21 rfl rfl)
theorem dX5_number_24 : decode cX5_number 24 = .ok (.ldc2_w 54, 3) := dk_20 0 54 (dk_at dksX5_number_1 0 rfl rfl)
theorem dX5_number_27 : decode cX5_number 27 = .ok (.invokestatic 44, 3) := dk_184 0 44 (dk_at dksX5_number_1 3 rfl rfl)
theorem dX5_number_30 : decode cX5_number 30 = .ok (.ifCond .eq 23, 3) := dk_153 0 23 (dk_at dksX5_number_1 6 rfl rfl)
theorem dX5_number_33 : decode cX5_number 33 = .ok (.bipush 10, 2) := dk_16 10 (dk_at dksX5_number_1 9 rfl rfl)
theorem dX5_number_35 : decode cX5_number 35 = .ok (.iload_n 2, 1) := dk_28 (dk_at dksX5_number_1 11 rfl rfl)
theorem dX5_number_36 : decode cX5_number 36 = .ok (.imul, 1) := dk_104 (dk_at dksX5_number_1 12 rfl rfl)
theorem dX5_number_37 : decode cX5_number 37 = .ok (.aload_n 0, 1) := dk_42 (dk_at dksX5_number_1 13 rfl rfl)
theorem dX5_number_38 : decode cX5_number 38 = .ok (.bipush 48, 2) := dk_16 48 (dk_at dksX5_number_1 14 rfl rfl)
theorem dX5_number_40 : decode cX5_number 40 = .ok (.bipush 10, 2) := dk_16 10 (dk_at dksX5_number_1 16 rfl rfl)
theorem dX5_number_42 : decode cX5_number 42 = .ok (.invokevirtual 48, 3) := dk_182 0 48 (dk_at dksX5_number_1 18 rfl rfl)
theorem dX5_number_45 : decode cX5_number 45 = .ok (.iadd, 1) := dk_96 (dk_at dksX5_number_1 21 rfl rfl)
theorem dX5_number_46 : decode cX5_number 46 = .ok (.istore_n 2, 1) := dk_61 (dk_at dksX5_number_1 22 rfl rfl)
theorem dX5_number_47 : decode cX5_number 47 = .ok (.iinc 3 1, 3) := dk_132 3 1 (dk_at dksX5_number_2 0 rfl rfl)
theorem dX5_number_50 : decode cX5_number 50 = .ok (.goto (-39), 3) := dk_167 255 217 (dk_at dksX5_number_2 3 rfl rfl)
theorem dX5_number_53 : decode cX5_number 53 = .ok (.iload_n 2, 1) := dk_28 (dk_at dksX5_number_2 6 rfl rfl)
theorem dX5_number_54 : decode cX5_number 54 = .ok (.ireturn, 1) := dk_172 (dk_at dksX5_number_2 7 rfl rfl)
theorem q118 : (Jvm.Cond.initialized "QueueDrive$Words") ∈ lw_all := lw_g (lw_at lw_m1 27 rfl) rfl
theorem q789 : (Jvm.Cond.instantiable "QueueDrive$Words" (4 : Nat)) ∈ lw_all := lw_g (lw_at lw_m3 218 rfl) rfl
theorem q791 : (Jvm.Cond.instanceMethod ({ cls := "QueueDrive$Words", name := "<init>", desc := "([BII)V" } : Jvm.MethodName)) ∈ lw_all := lw_g (lw_at lw_m3 220 rfl) rfl
theorem q792 : (Jvm.Cond.code ({ cls := "QueueDrive$Words", name := "<init>", desc := "([BII)V" } : Jvm.MethodName) prog_10_method_1_code (4 : Nat) (Option.none : Option Jvm.ClassFile.FieldType)) ∈ lw_all := lw_g (lw_at lw_m3 221 rfl) rfl
theorem q793 : (Jvm.Cond.methodLink "QueueDrive$Words" (3 : Nat) ({ cls := "java/lang/Object", name := "<init>", desc := "()V" } : Jvm.MethodName)) ∈ lw_all := lw_g (lw_at lw_m3 222 rfl) rfl
theorem q794 : (Jvm.Cond.methodLink "QueueDrive$Words" (19 : Nat) ({ cls := "java/lang/Math", name := "min", desc := "(II)I" } : Jvm.MethodName)) ∈ lw_all := lw_g (lw_at lw_m3 223 rfl) rfl
theorem q795 : (Jvm.Cond.fieldLink "QueueDrive$Words" (9 : Nat) "QueueDrive$Words" "of" "[B") ∈ lw_all := lw_g (lw_at lw_m3 224 rfl) rfl
theorem q796 : (Jvm.Cond.fieldLink "QueueDrive$Words" (15 : Nat) "QueueDrive$Words" "size" "I") ∈ lw_all := lw_g (lw_at lw_m3 225 rfl) rfl
theorem q797 : (Jvm.Cond.fieldLink "QueueDrive$Words" (25 : Nat) "QueueDrive$Words" "end" "I") ∈ lw_all := lw_g (lw_at lw_m3 226 rfl) rfl
theorem q800 : (Jvm.Cond.fieldLink "QueueDrive$Words" (28 : Nat) "QueueDrive$Words" "at" "I") ∈ lw_all := lw_g (lw_at lw_m3 229 rfl) rfl
theorem q806 : (Jvm.Cond.laysFinal "QueueDrive$Words" "QueueDrive$Words" "of" "[B") ∈ lw_all := lw_g (lw_at lw_m3 235 rfl) rfl
theorem q807 : (Jvm.Cond.soleField "QueueDrive$Words" "of") ∈ lw_all := lw_g (lw_at lw_m3 236 rfl) rfl
theorem q808 : (Jvm.Cond.laysFinal "QueueDrive$Words" "QueueDrive$Words" "size" "I") ∈ lw_all := lw_g (lw_at lw_m3 237 rfl) rfl
theorem q809 : (Jvm.Cond.soleField "QueueDrive$Words" "size") ∈ lw_all := lw_g (lw_at lw_m3 238 rfl) rfl
theorem q810 : (Jvm.Cond.laysFinal "QueueDrive$Words" "QueueDrive$Words" "end" "I") ∈ lw_all := lw_g (lw_at lw_m3 239 rfl) rfl
theorem q811 : (Jvm.Cond.soleField "QueueDrive$Words" "end") ∈ lw_all := lw_g (lw_at lw_m4 0 rfl) rfl
theorem q812 : (Jvm.Cond.lays "QueueDrive$Words" "QueueDrive$Words" "at" "I") ∈ lw_all := lw_g (lw_at lw_m4 1 rfl) rfl
theorem q813 : (Jvm.Cond.soleField "QueueDrive$Words" "at") ∈ lw_all := lw_g (lw_at lw_m4 2 rfl) rfl
theorem q814 : (Jvm.Cond.superclass "QueueDrive$Words" "java/lang/Object") ∈ lw_all := lw_g (lw_at lw_m4 3 rfl) rfl
theorem q816 : (Jvm.Cond.instanceMethod ({ cls := "QueueDrive$Words", name := "digit", desc := "(CI)I" } : Jvm.MethodName)) ∈ lw_all := lw_g (lw_at lw_m4 5 rfl) rfl
theorem q817 : (Jvm.Cond.selects "QueueDrive$Words" ({ cls := "QueueDrive$Words", name := "digit", desc := "(CI)I" } : Jvm.MethodName) ({ cls := "QueueDrive$Words", name := "digit", desc := "(CI)I" } : Jvm.MethodName)) ∈ lw_all := lw_g (lw_at lw_m4 6 rfl) rfl
theorem q818 : (Jvm.Cond.sameMethod "QueueDrive$Words" "QueueDrive$Words" "digit" "(CI)I") ∈ lw_all := lw_g (lw_at lw_m4 7 rfl) rfl
theorem q821 : (Jvm.Cond.code ({ cls := "QueueDrive$Words", name := "digit", desc := "(CI)I" } : Jvm.MethodName) prog_10_method_6_code (3 : Nat) (Option.some Jvm.ClassFile.FieldType.int)) ∈ lw_all := lw_g (lw_at lw_m4 10 rfl) rfl
theorem q822 : (Jvm.Cond.methodLink "QueueDrive$Words" (40 : Nat) ({ cls := "QueueDrive$Words", name := "here", desc := "()I" } : Jvm.MethodName)) ∈ lw_all := lw_g (lw_at lw_m4 11 rfl) rfl
theorem q823 : (Jvm.Cond.instanceMethod ({ cls := "QueueDrive$Words", name := "here", desc := "()I" } : Jvm.MethodName)) ∈ lw_all := lw_g (lw_at lw_m4 12 rfl) rfl
theorem q824 : (Jvm.Cond.selects "QueueDrive$Words" ({ cls := "QueueDrive$Words", name := "here", desc := "()I" } : Jvm.MethodName) ({ cls := "QueueDrive$Words", name := "here", desc := "()I" } : Jvm.MethodName)) ∈ lw_all := lw_g (lw_at lw_m4 13 rfl) rfl
theorem q825 : (Jvm.Cond.sameMethod "QueueDrive$Words" "QueueDrive$Words" "here" "()I") ∈ lw_all := lw_g (lw_at lw_m4 14 rfl) rfl
theorem q828 : (Jvm.Cond.code ({ cls := "QueueDrive$Words", name := "here", desc := "()I" } : Jvm.MethodName) prog_10_method_2_code (1 : Nat) (Option.some Jvm.ClassFile.FieldType.int)) ∈ lw_all := lw_g (lw_at lw_m4 17 rfl) rfl
theorem q829 : (Jvm.Cond.methodLinkNest "QueueDrive$Words" (44 : Nat) ({ cls := "QueueDrive", name := "in", desc := "(JJJ)Z" } : Jvm.MethodName) "QueueDrive") ∈ lw_tbl := lw_at lw_m4 18 rfl
theorem q830 : (Jvm.Cond.methodLink "QueueDrive$Words" (36 : Nat) ({ cls := "QueueDrive$Words", name := "need", desc := "(Z)V" } : Jvm.MethodName)) ∈ lw_all := lw_g (lw_at lw_m4 19 rfl) rfl
theorem q831 : (Jvm.Cond.instanceMethod ({ cls := "QueueDrive$Words", name := "need", desc := "(Z)V" } : Jvm.MethodName)) ∈ lw_all := lw_g (lw_at lw_m4 20 rfl) rfl
theorem q832 : (Jvm.Cond.selects "QueueDrive$Words" ({ cls := "QueueDrive$Words", name := "need", desc := "(Z)V" } : Jvm.MethodName) ({ cls := "QueueDrive$Words", name := "need", desc := "(Z)V" } : Jvm.MethodName)) ∈ lw_all := lw_g (lw_at lw_m4 21 rfl) rfl
theorem q833 : (Jvm.Cond.sameMethod "QueueDrive$Words" "QueueDrive$Words" "need" "(Z)V") ∈ lw_all := lw_g (lw_at lw_m4 22 rfl) rfl
theorem q836 : (Jvm.Cond.code ({ cls := "QueueDrive$Words", name := "need", desc := "(Z)V" } : Jvm.MethodName) prog_10_method_3_code (2 : Nat) (Option.none : Option Jvm.ClassFile.FieldType)) ∈ lw_all := lw_g (lw_at lw_m4 25 rfl) rfl
theorem q837 : (Jvm.Cond.classLink "QueueDrive$Words" (31 : Nat) "QueueDrive$Fault") ∈ lw_all := lw_g (lw_at lw_m4 26 rfl) rfl
theorem q846 : (Jvm.Cond.methodLink "QueueDrive$Words" (33 : Nat) ({ cls := "QueueDrive$Fault", name := "<init>", desc := "(I)V" } : Jvm.MethodName)) ∈ lw_all := lw_g (lw_at lw_m4 35 rfl) rfl
theorem q910 : (Jvm.Cond.instanceMethod ({ cls := "QueueDrive$Words", name := "passes", desc := "(C)Z" } : Jvm.MethodName)) ∈ lw_all := lw_g (lw_at lw_m4 99 rfl) rfl
theorem q911 : (Jvm.Cond.selects "QueueDrive$Words" ({ cls := "QueueDrive$Words", name := "passes", desc := "(C)Z" } : Jvm.MethodName) ({ cls := "QueueDrive$Words", name := "passes", desc := "(C)Z" } : Jvm.MethodName)) ∈ lw_all := lw_g (lw_at lw_m4 100 rfl) rfl
theorem q912 : (Jvm.Cond.sameMethod "QueueDrive$Words" "QueueDrive$Words" "passes" "(C)Z") ∈ lw_all := lw_g (lw_at lw_m4 101 rfl) rfl
theorem q915 : (Jvm.Cond.code ({ cls := "QueueDrive$Words", name := "passes", desc := "(C)Z" } : Jvm.MethodName) prog_10_method_5_code (2 : Nat) (Option.some Jvm.ClassFile.FieldType.boolean)) ∈ lw_all := lw_g (lw_at lw_m4 104 rfl) rfl
theorem q917 : (Jvm.Cond.instanceMethod ({ cls := "QueueDrive$Words", name := "needEnd", desc := "()V" } : Jvm.MethodName)) ∈ lw_all := lw_g (lw_at lw_m4 106 rfl) rfl
theorem q918 : (Jvm.Cond.selects "QueueDrive$Words" ({ cls := "QueueDrive$Words", name := "needEnd", desc := "()V" } : Jvm.MethodName) ({ cls := "QueueDrive$Words", name := "needEnd", desc := "()V" } : Jvm.MethodName)) ∈ lw_all := lw_g (lw_at lw_m4 107 rfl) rfl
theorem q919 : (Jvm.Cond.sameMethod "QueueDrive$Words" "QueueDrive$Words" "needEnd" "()V") ∈ lw_all := lw_g (lw_at lw_m4 108 rfl) rfl
theorem q922 : (Jvm.Cond.code ({ cls := "QueueDrive$Words", name := "needEnd", desc := "()V" } : Jvm.MethodName) prog_10_method_4_code (1 : Nat) (Option.none : Option Jvm.ClassFile.FieldType)) ∈ lw_all := lw_g (lw_at lw_m4 111 rfl) rfl
theorem q986 : (Jvm.Cond.declares ({ cls := "QueueDrive$Words", name := "passes", desc := "(C)Z" } : Jvm.MethodName)) ∈ lw_tbl := lw_at lw_m4 175 rfl
theorem q990 : (Jvm.Cond.declares ({ cls := "QueueDrive$Words", name := "here", desc := "()I" } : Jvm.MethodName)) ∈ lw_tbl := lw_at lw_m4 179 rfl
theorem q994 : (Jvm.Cond.declares ({ cls := "QueueDrive$Words", name := "need", desc := "(Z)V" } : Jvm.MethodName)) ∈ lw_tbl := lw_at lw_m4 183 rfl
theorem q1001 : (Jvm.Cond.declares ({ cls := "QueueDrive$Words", name := "number", desc := "(I)I" } : Jvm.MethodName)) ∈ lw_tbl := lw_at lw_m4 190 rfl
theorem q1003 : (Jvm.Cond.instanceMethod ({ cls := "QueueDrive$Words", name := "number", desc := "(I)I" } : Jvm.MethodName)) ∈ lw_all := lw_g (lw_at lw_m4 192 rfl) rfl
theorem q1004 : (Jvm.Cond.code ({ cls := "QueueDrive$Words", name := "number", desc := "(I)I" } : Jvm.MethodName) prog_10_method_7_code (4 : Nat) (Option.some Jvm.ClassFile.FieldType.int)) ∈ lw_all := lw_g (lw_at lw_m4 193 rfl) rfl
theorem q1005 : (Jvm.Cond.methodLink "QueueDrive$Words" (48 : Nat) ({ cls := "QueueDrive$Words", name := "digit", desc := "(CI)I" } : Jvm.MethodName)) ∈ lw_all := lw_g (lw_at lw_m4 194 rfl) rfl
theorem q1006 : (Jvm.Cond.constantLong "QueueDrive$Words" (52 : Nat) (48 : Int64)) ∈ lw_all := lw_g (lw_at lw_m4 195 rfl) rfl
theorem q1007 : (Jvm.Cond.constantLong "QueueDrive$Words" (54 : Nat) (57 : Int64)) ∈ lw_all := lw_g (lw_at lw_m4 196 rfl) rfl
theorem q1020 : (Jvm.Cond.declares ({ cls := "QueueDrive$Words", name := "needEnd", desc := "()V" } : Jvm.MethodName)) ∈ lw_tbl := lw_at lw_m4 209 rfl
theorem q1214 : (Jvm.Cond.selects "QueueDrive$Words" ({ cls := "java/lang/Object", name := "getClass", desc := "()Ljava/lang/Class;" } : Jvm.MethodName) ({ cls := "java/lang/Object", name := "getClass", desc := "()Ljava/lang/Class;" } : Jvm.MethodName)) ∈ lw_all := lw_g (lw_at lw_m5 163 rfl) rfl
theorem q1920 : (Jvm.Cond.declares ({ cls := "QueueDrive$Words", name := "digit", desc := "(CI)I" } : Jvm.MethodName)) ∈ lw_tbl := lw_at lw_m8 149 rfl
theorem q2786 : (Jvm.Cond.castable "QueueDrive$Words" "java/lang/Object") ∈ lw_tbl := lw_at lw_m12 55 rfl
theorem in_X5 : ∀ w ∈ wsX50, w ∈ lw_all := lw_in wsX50 [806, 808, 810, 812] (by decide +kernel) (by decide +kernel)

/-! QueueDrive$Fault -/
set_option maxRecDepth 100000
def RX6 : String := "QueueDrive$Fault"
def TX6 : u_T := fun k => match k with
  | 0 => ("java/lang/Throwable", "cause", "Ljava/lang/Throwable;", false)
  | 1 => ("java/lang/Throwable", "stackTrace", "[Ljava/lang/StackTraceElement;", false)
  | 2 => ("java/lang/Throwable", "suppressedExceptions", "Ljava/util/List;", false)
  | 3 => ("java/lang/Throwable", "detailMessage", "Ljava/lang/String;", false)
  | 4 => ("java/lang/Throwable", "backtrace", "Ljava/lang/Object;", false)
  | 5 => ("java/lang/Throwable", "depth", "I", false)
  | _ => ("QueueDrive$Fault", "at", "I", true)
def tyX6 : Nat → FieldType := fun k => match k with
  | 0 => .object "java/lang/Throwable"
  | 1 => .array (.object "java/lang/StackTraceElement")
  | 2 => .object "java/util/List"
  | 3 => .object "java/lang/String"
  | 4 => .object "java/lang/Object"
  | 5 => .int
  | _ => .int
abbrev wsX60 : List Cond := u_ws RX6 TX6 7
theorem nmX6 : ∀ a, a < 7 → ∀ b, b < 7 → a ≠ b → (TX6 a).2.1 ≠ (TX6 b).2.1 := by decide +kernel
theorem tyX6_ok : ∀ k, k < 7 → parseFieldDescriptor (TX6 k).2.2.1 = some (tyX6 k) := by decide +kernel
abbrev cX6_init : ByteArray := prog_4_method_1_code
def yX6_init : MethodName := ⟨RX6, "<init>", "(I)V"⟩
def dkwX6_init_0 : List UInt8 := [42, 183, 0, 1, 42, 27, 181, 0, 7, 177]
abbrev dktX6_init_0 : List UInt8 := dkwX6_init_0 ++ []
theorem dksX6_init_0 : cX6_init.data.toList.drop 0 = dktX6_init_0 := by decide +kernel
theorem dX6_init_0 : decode cX6_init 0 = .ok (.aload_n 0, 1) := dk_42 (dk_at dksX6_init_0 0 rfl rfl)
theorem dX6_init_1 : decode cX6_init 1 = .ok (.invokespecial 1, 3) := dk_183 0 1 (dk_at dksX6_init_0 1 rfl rfl)
theorem dX6_init_4 : decode cX6_init 4 = .ok (.aload_n 0, 1) := dk_42 (dk_at dksX6_init_0 4 rfl rfl)
theorem dX6_init_5 : decode cX6_init 5 = .ok (.iload_n 1, 1) := dk_27 (dk_at dksX6_init_0 5 rfl rfl)
theorem dX6_init_6 : decode cX6_init 6 = .ok (.putfield 7, 3) := dk_181 0 7 (dk_at dksX6_init_0 6 rfl rfl)
theorem dX6_init_9 : decode cX6_init 9 = .ok (.return_, 1) := dk_177 (dk_at dksX6_init_0 9 rfl rfl)
theorem q119 : (Jvm.Cond.initialized "QueueDrive$Fault") ∈ lw_all := lw_g (lw_at lw_m1 28 rfl) rfl
theorem q250 : (Jvm.Cond.selects "QueueDrive$Fault" ({ cls := "java/lang/Throwable", name := "fillInStackTrace", desc := "()Ljava/lang/Throwable;" } : Jvm.MethodName) ({ cls := "java/lang/Throwable", name := "fillInStackTrace", desc := "()Ljava/lang/Throwable;" } : Jvm.MethodName)) ∈ lw_all := lw_g (lw_at lw_m1 159 rfl) rfl
theorem q838 : (Jvm.Cond.instantiable "QueueDrive$Fault" (7 : Nat)) ∈ lw_all := lw_g (lw_at lw_m4 27 rfl) rfl
theorem q839 : (Jvm.Cond.castable "QueueDrive$Fault" "QueueDrive$Fault") ∈ lw_tbl := lw_at lw_m4 28 rfl
theorem q840 : (Jvm.Cond.selects "QueueDrive$Fault" ({ cls := "java/lang/Throwable", name := "fillInStackTrace", desc := "(I)Ljava/lang/Throwable;" } : Jvm.MethodName) ({ cls := "java/lang/Throwable", name := "fillInStackTrace", desc := "(I)Ljava/lang/Throwable;" } : Jvm.MethodName)) ∈ lw_all := lw_g (lw_at lw_m4 29 rfl) rfl
theorem q841 : (Jvm.Cond.lays "QueueDrive$Fault" "java/lang/Throwable" "cause" "Ljava/lang/Throwable;") ∈ lw_all := lw_g (lw_at lw_m4 30 rfl) rfl
theorem q842 : (Jvm.Cond.lays "QueueDrive$Fault" "java/lang/Throwable" "stackTrace" "[Ljava/lang/StackTraceElement;") ∈ lw_all := lw_g (lw_at lw_m4 31 rfl) rfl
theorem q843 : (Jvm.Cond.lays "QueueDrive$Fault" "java/lang/Throwable" "suppressedExceptions" "Ljava/util/List;") ∈ lw_all := lw_g (lw_at lw_m4 32 rfl) rfl
theorem q844 : (Jvm.Cond.lays "QueueDrive$Fault" "java/lang/Throwable" "detailMessage" "Ljava/lang/String;") ∈ lw_all := lw_g (lw_at lw_m4 33 rfl) rfl
theorem q845 : (Jvm.Cond.lays "QueueDrive$Fault" "java/lang/Throwable" "backtrace" "Ljava/lang/Object;") ∈ lw_all := lw_g (lw_at lw_m4 34 rfl) rfl
theorem q847 : (Jvm.Cond.instanceMethod ({ cls := "QueueDrive$Fault", name := "<init>", desc := "(I)V" } : Jvm.MethodName)) ∈ lw_all := lw_g (lw_at lw_m4 36 rfl) rfl
theorem q848 : (Jvm.Cond.code ({ cls := "QueueDrive$Fault", name := "<init>", desc := "(I)V" } : Jvm.MethodName) prog_4_method_1_code (2 : Nat) (Option.none : Option Jvm.ClassFile.FieldType)) ∈ lw_all := lw_g (lw_at lw_m4 37 rfl) rfl
theorem q849 : (Jvm.Cond.methodLink "QueueDrive$Fault" (1 : Nat) ({ cls := "java/lang/Exception", name := "<init>", desc := "()V" } : Jvm.MethodName)) ∈ lw_all := lw_g (lw_at lw_m4 38 rfl) rfl
theorem q850 : (Jvm.Cond.fieldLink "QueueDrive$Fault" (7 : Nat) "QueueDrive$Fault" "at" "I") ∈ lw_all := lw_g (lw_at lw_m4 39 rfl) rfl
theorem q852 : (Jvm.Cond.laysFinal "QueueDrive$Fault" "QueueDrive$Fault" "at" "I") ∈ lw_all := lw_g (lw_at lw_m4 41 rfl) rfl
theorem q853 : (Jvm.Cond.soleField "QueueDrive$Fault" "at") ∈ lw_all := lw_g (lw_at lw_m4 42 rfl) rfl
theorem q854 : (Jvm.Cond.lays "QueueDrive$Fault" "java/lang/Throwable" "depth" "I") ∈ lw_all := lw_g (lw_at lw_m4 43 rfl) rfl
theorem q855 : (Jvm.Cond.superclass "QueueDrive$Fault" "java/lang/Exception") ∈ lw_all := lw_g (lw_at lw_m4 44 rfl) rfl
theorem q1196 : (Jvm.Cond.selects "QueueDrive$Fault" ({ cls := "java/lang/Throwable", name := "toString", desc := "()Ljava/lang/String;" } : Jvm.MethodName) ({ cls := "java/lang/Throwable", name := "toString", desc := "()Ljava/lang/String;" } : Jvm.MethodName)) ∈ lw_all := lw_g (lw_at lw_m5 145 rfl) rfl
theorem q1208 : (Jvm.Cond.selects "QueueDrive$Fault" ({ cls := "java/lang/Object", name := "getClass", desc := "()Ljava/lang/Class;" } : Jvm.MethodName) ({ cls := "java/lang/Object", name := "getClass", desc := "()Ljava/lang/Class;" } : Jvm.MethodName)) ∈ lw_all := lw_g (lw_at lw_m5 157 rfl) rfl
theorem q1234 : (Jvm.Cond.selects "QueueDrive$Fault" ({ cls := "java/lang/Throwable", name := "getLocalizedMessage", desc := "()Ljava/lang/String;" } : Jvm.MethodName) ({ cls := "java/lang/Throwable", name := "getLocalizedMessage", desc := "()Ljava/lang/String;" } : Jvm.MethodName)) ∈ lw_all := lw_g (lw_at lw_m5 183 rfl) rfl
theorem q1243 : (Jvm.Cond.selects "QueueDrive$Fault" ({ cls := "java/lang/Throwable", name := "getMessage", desc := "()Ljava/lang/String;" } : Jvm.MethodName) ({ cls := "java/lang/Throwable", name := "getMessage", desc := "()Ljava/lang/String;" } : Jvm.MethodName)) ∈ lw_all := lw_g (lw_at lw_m5 192 rfl) rfl
theorem q2787 : (Jvm.Cond.castable "QueueDrive$Fault" "java/lang/Object") ∈ lw_tbl := lw_at lw_m12 56 rfl
theorem in_X6 : ∀ w ∈ wsX60, w ∈ lw_all := lw_in wsX60 [841, 842, 843, 844, 845, 854, 852] (by decide +kernel) (by decide +kernel)

/-! QueueDrive$Rule -/
set_option maxRecDepth 100000
def RX7 : String := "QueueDrive$Rule"
def TX7 : u_T := fun k => match k with
  | 0 => ("QueueDrive$Words", "of", "[B", true)
  | 1 => ("QueueDrive$Words", "size", "I", true)
  | 2 => ("QueueDrive$Words", "end", "I", true)
  | 3 => ("QueueDrive$Words", "at", "I", false)
  | 4 => ("QueueDrive$Rule", "drive", "LQueueDrive$Drive;", false)
  | 5 => ("QueueDrive$Rule", "command", "LQueueDrive$Command;", false)
  | _ => ("QueueDrive$Rule", "line", "LQueueDrive$Line;", false)
def tyX7 : Nat → FieldType := fun k => match k with
  | 0 => .array .byte
  | 1 => .int
  | 2 => .int
  | 3 => .int
  | 4 => .object "QueueDrive$Drive"
  | 5 => .object "QueueDrive$Command"
  | _ => .object "QueueDrive$Line"
abbrev wsX70 : List Cond := u_ws RX7 TX7 7
theorem nmX7 : ∀ a, a < 7 → ∀ b, b < 7 → a ≠ b → (TX7 a).2.1 ≠ (TX7 b).2.1 := by decide +kernel
theorem tyX7_ok : ∀ k, k < 7 → parseFieldDescriptor (TX7 k).2.2.1 = some (tyX7 k) := by decide +kernel
abbrev cX7_init : ByteArray := prog_8_method_1_code
def yX7_init : MethodName := ⟨RX7, "<init>", "([BI)V"⟩
def dkwX7_init_0 : List UInt8 := [42, 43, 28, 16, 40, 183, 0, 3, 177]
abbrev dktX7_init_0 : List UInt8 := dkwX7_init_0 ++ []
theorem dksX7_init_0 : cX7_init.data.toList.drop 0 = dktX7_init_0 := by decide +kernel
theorem dX7_init_0 : decode cX7_init 0 = .ok (.aload_n 0, 1) := dk_42 (dk_at dksX7_init_0 0 rfl rfl)
theorem dX7_init_1 : decode cX7_init 1 = .ok (.aload_n 1, 1) := dk_43 (dk_at dksX7_init_0 1 rfl rfl)
theorem dX7_init_2 : decode cX7_init 2 = .ok (.iload_n 2, 1) := dk_28 (dk_at dksX7_init_0 2 rfl rfl)
theorem dX7_init_3 : decode cX7_init 3 = .ok (.bipush 40, 2) := dk_16 40 (dk_at dksX7_init_0 3 rfl rfl)
theorem dX7_init_5 : decode cX7_init 5 = .ok (.invokespecial 3, 3) := dk_183 0 3 (dk_at dksX7_init_0 5 rfl rfl)
theorem dX7_init_8 : decode cX7_init 8 = .ok (.return_, 1) := dk_177 (dk_at dksX7_init_0 8 rfl rfl)
abbrev cX7_read : ByteArray := prog_8_method_2_code
def yX7_read : MethodName := ⟨RX7, "read", "()LQueueDrive$Rule;"⟩
def dkwX7_read_0 : List UInt8 := [42, 3, 182, 0, 9, 87, 42, 182, 0, 15, 42, 176]
abbrev dktX7_read_0 : List UInt8 := dkwX7_read_0 ++ []
theorem dksX7_read_0 : cX7_read.data.toList.drop 0 = dktX7_read_0 := by decide +kernel
theorem dX7_read_0 : decode cX7_read 0 = .ok (.aload_n 0, 1) := dk_42 (dk_at dksX7_read_0 0 rfl rfl)
theorem dX7_read_1 : decode cX7_read 1 = .ok (.iconst 0, 1) := dk_3 (dk_at dksX7_read_0 1 rfl rfl)
theorem dX7_read_2 : decode cX7_read 2 = .ok (.invokevirtual 9, 3) := dk_182 0 9 (dk_at dksX7_read_0 2 rfl rfl)
theorem dX7_read_5 : decode cX7_read 5 = .ok (.pop, 1) := dk_87 (dk_at dksX7_read_0 5 rfl rfl)
theorem dX7_read_6 : decode cX7_read 6 = .ok (.aload_n 0, 1) := dk_42 (dk_at dksX7_read_0 6 rfl rfl)
theorem dX7_read_7 : decode cX7_read 7 = .ok (.invokevirtual 15, 3) := dk_182 0 15 (dk_at dksX7_read_0 7 rfl rfl)
theorem dX7_read_10 : decode cX7_read 10 = .ok (.aload_n 0, 1) := dk_42 (dk_at dksX7_read_0 10 rfl rfl)
theorem dX7_read_11 : decode cX7_read 11 = .ok (.areturn, 1) := dk_176 (dk_at dksX7_read_0 11 rfl rfl)
abbrev cX7_whole : ByteArray := prog_8_method_4_code
def yX7_whole : MethodName := ⟨RX7, "whole", "(I)I"⟩
def dkwX7_whole_3 : List UInt8 := [4, 167, 0, 4, 3, 172, 28, 172]
abbrev dktX7_whole_3 : List UInt8 := dkwX7_whole_3 ++ []
def dkwX7_whole_2 : List UInt8 := [4, 167, 0, 4, 3, 172, 42, 16, 61, 182, 0, 40, 153, 0, 18, 28, 42, 27, 182, 0, 37, 160, 0, 7]
abbrev dktX7_whole_2 : List UInt8 := dkwX7_whole_2 ++ dktX7_whole_3
def dkwX7_whole_1 : List UInt8 := [4, 167, 0, 4, 3, 172, 42, 16, 62, 182, 0, 40, 153, 0, 18, 28, 42, 27, 182, 0, 37, 164, 0, 7]
abbrev dktX7_whole_1 : List UInt8 := dkwX7_whole_1 ++ dktX7_whole_2
def dkwX7_whole_0 : List UInt8 := [42, 27, 182, 0, 37, 61, 42, 16, 60, 182, 0, 40, 153, 0, 18, 28, 42, 27, 182, 0, 37, 162, 0, 7]
abbrev dktX7_whole_0 : List UInt8 := dkwX7_whole_0 ++ dktX7_whole_1
theorem dksX7_whole_0 : cX7_whole.data.toList.drop 0 = dktX7_whole_0 := by decide +kernel
theorem dksX7_whole_1 : cX7_whole.data.toList.drop 24 = dktX7_whole_1 := dk_seg dksX7_whole_0 24 rfl rfl
theorem dksX7_whole_2 : cX7_whole.data.toList.drop 48 = dktX7_whole_2 := dk_seg dksX7_whole_1 24 rfl rfl
theorem dksX7_whole_3 : cX7_whole.data.toList.drop 72 = dktX7_whole_3 := dk_seg dksX7_whole_2 24 rfl rfl
theorem dX7_whole_0 : decode cX7_whole 0 = .ok (.aload_n 0, 1) := dk_42 (dk_at dksX7_whole_0 0 rfl rfl)
theorem dX7_whole_1 : decode cX7_whole 1 = .ok (.iload_n 1, 1) := dk_27 (dk_at dksX7_whole_0 1 rfl rfl)
theorem dX7_whole_2 : decode cX7_whole 2 = .ok (.invokevirtual 37, 3) := dk_182 0 37 (dk_at dksX7_whole_0 2 rfl rfl)
theorem dX7_whole_5 : decode cX7_whole 5 = .ok (.istore_n 2, 1) := dk_61 (dk_at dksX7_whole_0 5 rfl rfl)
theorem dX7_whole_6 : decode cX7_whole 6 = .ok (.aload_n 0, 1) := dk_42 (dk_at dksX7_whole_0 6 rfl rfl)
theorem dX7_whole_7 : decode cX7_whole 7 = .ok (.bipush 60, 2) := dk_16 60 (dk_at dksX7_whole_0 7 rfl rfl)
theorem dX7_whole_9 : decode cX7_whole 9 = .ok (.invokevirtual 40, 3) := dk_182 0 40 (dk_at dksX7_whole_0 9 rfl rfl)
theorem dX7_whole_12 : decode cX7_whole 12 = .ok (.ifCond .eq 18, 3) := dk_153 0 18 (dk_at dksX7_whole_0 12 rfl rfl)
theorem dX7_whole_15 : decode cX7_whole 15 = .ok (.iload_n 2, 1) := dk_28 (dk_at dksX7_whole_0 15 rfl rfl)
theorem dX7_whole_16 : decode cX7_whole 16 = .ok (.aload_n 0, 1) := dk_42 (dk_at dksX7_whole_0 16 rfl rfl)
theorem dX7_whole_17 : decode cX7_whole 17 = .ok (.iload_n 1, 1) := dk_27 (dk_at dksX7_whole_0 17 rfl rfl)
theorem dX7_whole_18 : decode cX7_whole 18 = .ok (.invokevirtual 37, 3) := dk_182 0 37 (dk_at dksX7_whole_0 18 rfl rfl)
theorem dX7_whole_21 : decode cX7_whole 21 = .ok (.if_icmp .ge 7, 3) := dk_162 0 7 (dk_at dksX7_whole_0 21 rfl rfl)
theorem dX7_whole_24 : decode cX7_whole 24 = .ok (.iconst 1, 1) := dk_4 (dk_at dksX7_whole_1 0 rfl rfl)
theorem dX7_whole_25 : decode cX7_whole 25 = .ok (.goto 4, 3) := dk_167 0 4 (dk_at dksX7_whole_1 1 rfl rfl)
theorem dX7_whole_28 : decode cX7_whole 28 = .ok (.iconst 0, 1) := dk_3 (dk_at dksX7_whole_1 4 rfl rfl)
theorem dX7_whole_29 : decode cX7_whole 29 = .ok (.ireturn, 1) := dk_172 (dk_at dksX7_whole_1 5 rfl rfl)
theorem dX7_whole_30 : decode cX7_whole 30 = .ok (.aload_n 0, 1) := dk_42 (dk_at dksX7_whole_1 6 rfl rfl)
theorem dX7_whole_31 : decode cX7_whole 31 = .ok (.bipush 62, 2) := dk_16 62 (dk_at dksX7_whole_1 7 rfl rfl)
theorem dX7_whole_33 : decode cX7_whole 33 = .ok (.invokevirtual 40, 3) := dk_182 0 40 (dk_at dksX7_whole_1 9 rfl rfl)
theorem dX7_whole_36 : decode cX7_whole 36 = .ok (.ifCond .eq 18, 3) := dk_153 0 18 (dk_at dksX7_whole_1 12 rfl rfl)
theorem dX7_whole_39 : decode cX7_whole 39 = .ok (.iload_n 2, 1) := dk_28 (dk_at dksX7_whole_1 15 rfl rfl)
theorem dX7_whole_40 : decode cX7_whole 40 = .ok (.aload_n 0, 1) := dk_42 (dk_at dksX7_whole_1 16 rfl rfl)
theorem dX7_whole_41 : decode cX7_whole 41 = .ok (.iload_n 1, 1) := dk_27 (dk_at dksX7_whole_1 17 rfl rfl)
theorem dX7_whole_42 : decode cX7_whole 42 = .ok (.invokevirtual 37, 3) := dk_182 0 37 (dk_at dksX7_whole_1 18 rfl rfl)
theorem dX7_whole_45 : decode cX7_whole 45 = .ok (.if_icmp .le 7, 3) := dk_164 0 7 (dk_at dksX7_whole_1 21 rfl rfl)
theorem dX7_whole_48 : decode cX7_whole 48 = .ok (.iconst 1, 1) := dk_4 (dk_at dksX7_whole_2 0 rfl rfl)
theorem dX7_whole_49 : decode cX7_whole 49 = .ok (.goto 4, 3) := dk_167 0 4 (dk_at dksX7_whole_2 1 rfl rfl)
theorem dX7_whole_52 : decode cX7_whole 52 = .ok (.iconst 0, 1) := dk_3 (dk_at dksX7_whole_2 4 rfl rfl)
theorem dX7_whole_53 : decode cX7_whole 53 = .ok (.ireturn, 1) := dk_172 (dk_at dksX7_whole_2 5 rfl rfl)
theorem dX7_whole_54 : decode cX7_whole 54 = .ok (.aload_n 0, 1) := dk_42 (dk_at dksX7_whole_2 6 rfl rfl)
theorem dX7_whole_55 : decode cX7_whole 55 = .ok (.bipush 61, 2) := dk_16 61 (dk_at dksX7_whole_2 7 rfl rfl)
theorem dX7_whole_57 : decode cX7_whole 57 = .ok (.invokevirtual 40, 3) := dk_182 0 40 (dk_at dksX7_whole_2 9 rfl rfl)
theorem dX7_whole_60 : decode cX7_whole 60 = .ok (.ifCond .eq 18, 3) := dk_153 0 18 (dk_at dksX7_whole_2 12 rfl rfl)
theorem dX7_whole_63 : decode cX7_whole 63 = .ok (.iload_n 2, 1) := dk_28 (dk_at dksX7_whole_2 15 rfl rfl)
theorem dX7_whole_64 : decode cX7_whole 64 = .ok (.aload_n 0, 1) := dk_42 (dk_at dksX7_whole_2 16 rfl rfl)
theorem dX7_whole_65 : decode cX7_whole 65 = .ok (.iload_n 1, 1) := dk_27 (dk_at dksX7_whole_2 17 rfl rfl)
theorem dX7_whole_66 : decode cX7_whole 66 = .ok (.invokevirtual 37, 3) := dk_182 0 37 (dk_at dksX7_whole_2 18 rfl rfl)
theorem dX7_whole_69 : decode cX7_whole 69 = .ok (.if_icmp .ne 7, 3) := dk_160 0 7 (dk_at dksX7_whole_2 21 rfl rfl)
theorem dX7_whole_72 : decode cX7_whole 72 = .ok (.iconst 1, 1) := dk_4 (dk_at dksX7_whole_3 0 rfl rfl)
theorem dX7_whole_73 : decode cX7_whole 73 = .ok (.goto 4, 3) := dk_167 0 4 (dk_at dksX7_whole_3 1 rfl rfl)
theorem dX7_whole_76 : decode cX7_whole 76 = .ok (.iconst 0, 1) := dk_3 (dk_at dksX7_whole_3 4 rfl rfl)
theorem dX7_whole_77 : decode cX7_whole 77 = .ok (.ireturn, 1) := dk_172 (dk_at dksX7_whole_3 5 rfl rfl)
theorem dX7_whole_78 : decode cX7_whole 78 = .ok (.iload_n 2, 1) := dk_28 (dk_at dksX7_whole_3 6 rfl rfl)
theorem dX7_whole_79 : decode cX7_whole 79 = .ok (.ireturn, 1) := dk_172 (dk_at dksX7_whole_3 7 rfl rfl)
abbrev cX7_sum : ByteArray := prog_8_method_5_code
def yX7_sum : MethodName := ⟨RX7, "sum", "(I)I"⟩
def dkwX7_sum_3 : List UInt8 := [100, 61, 167, 255, 190, 28, 172]
abbrev dktX7_sum_3 : List UInt8 := dkwX7_sum_3 ++ []
def dkwX7_sum_2 : List UInt8 := [181, 0, 31, 42, 27, 182, 0, 44, 54, 4, 29, 153, 0, 10, 28, 21, 4, 96, 167, 0, 7, 28, 21, 4]
abbrev dktX7_sum_2 : List UInt8 := dkwX7_sum_2 ++ dktX7_sum_3
def dkwX7_sum_1 : List UInt8 := [42, 182, 0, 47, 16, 43, 160, 0, 7, 4, 167, 0, 4, 3, 62, 42, 89, 180, 0, 31, 4, 96]
abbrev dktX7_sum_1 : List UInt8 := dkwX7_sum_1 ++ dktX7_sum_2
def dkwX7_sum_0 : List UInt8 := [42, 27, 182, 0, 44, 61, 42, 182, 0, 47, 16, 43, 159, 0, 12, 42, 182, 0, 47, 16, 45, 160, 0, 54]
abbrev dktX7_sum_0 : List UInt8 := dkwX7_sum_0 ++ dktX7_sum_1
theorem dksX7_sum_0 : cX7_sum.data.toList.drop 0 = dktX7_sum_0 := by decide +kernel
theorem dksX7_sum_1 : cX7_sum.data.toList.drop 24 = dktX7_sum_1 := dk_seg dksX7_sum_0 24 rfl rfl
theorem dksX7_sum_2 : cX7_sum.data.toList.drop 46 = dktX7_sum_2 := dk_seg dksX7_sum_1 22 rfl rfl
theorem dksX7_sum_3 : cX7_sum.data.toList.drop 70 = dktX7_sum_3 := dk_seg dksX7_sum_2 24 rfl rfl
theorem dX7_sum_0 : decode cX7_sum 0 = .ok (.aload_n 0, 1) := dk_42 (dk_at dksX7_sum_0 0 rfl rfl)
theorem dX7_sum_1 : decode cX7_sum 1 = .ok (.iload_n 1, 1) := dk_27 (dk_at dksX7_sum_0 1 rfl rfl)
theorem dX7_sum_2 : decode cX7_sum 2 = .ok (.invokevirtual 44, 3) := dk_182 0 44 (dk_at dksX7_sum_0 2 rfl rfl)
theorem dX7_sum_5 : decode cX7_sum 5 = .ok (.istore_n 2, 1) := dk_61 (dk_at dksX7_sum_0 5 rfl rfl)
theorem dX7_sum_6 : decode cX7_sum 6 = .ok (.aload_n 0, 1) := dk_42 (dk_at dksX7_sum_0 6 rfl rfl)
theorem dX7_sum_7 : decode cX7_sum 7 = .ok (.invokevirtual 47, 3) := dk_182 0 47 (dk_at dksX7_sum_0 7 rfl rfl)
theorem dX7_sum_10 : decode cX7_sum 10 = .ok (.bipush 43, 2) := dk_16 43 (dk_at dksX7_sum_0 10 rfl rfl)
theorem dX7_sum_12 : decode cX7_sum 12 = .ok (.if_icmp .eq 12, 3) := dk_159 0 12 (dk_at dksX7_sum_0 12 rfl rfl)
theorem dX7_sum_15 : decode cX7_sum 15 = .ok (.aload_n 0, 1) := dk_42 (dk_at dksX7_sum_0 15 rfl rfl)
theorem dX7_sum_16 : decode cX7_sum 16 = .ok (.invokevirtual 47, 3) := dk_182 0 47 (dk_at dksX7_sum_0 16 rfl rfl)
theorem dX7_sum_19 : decode cX7_sum 19 = .ok (.bipush 45, 2) := dk_16 45 (dk_at dksX7_sum_0 19 rfl rfl)
theorem dX7_sum_21 : decode cX7_sum 21 = .ok (.if_icmp .ne 54, 3) := dk_160 0 54 (dk_at dksX7_sum_0 21 rfl rfl)
theorem dX7_sum_24 : decode cX7_sum 24 = .ok (.aload_n 0, 1) := dk_42 (dk_at dksX7_sum_1 0 rfl rfl)
theorem dX7_sum_25 : decode cX7_sum 25 = .ok (.invokevirtual 47, 3) := dk_182 0 47 (dk_at dksX7_sum_1 1 rfl rfl)
theorem dX7_sum_28 : decode cX7_sum 28 = .ok (.bipush 43, 2) := dk_16 43 (dk_at dksX7_sum_1 4 rfl rfl)
theorem dX7_sum_30 : decode cX7_sum 30 = .ok (.if_icmp .ne 7, 3) := dk_160 0 7 (dk_at dksX7_sum_1 6 rfl rfl)
theorem dX7_sum_33 : decode cX7_sum 33 = .ok (.iconst 1, 1) := dk_4 (dk_at dksX7_sum_1 9 rfl rfl)
theorem dX7_sum_34 : decode cX7_sum 34 = .ok (.goto 4, 3) := dk_167 0 4 (dk_at dksX7_sum_1 10 rfl rfl)
theorem dX7_sum_37 : decode cX7_sum 37 = .ok (.iconst 0, 1) := dk_3 (dk_at dksX7_sum_1 13 rfl rfl)
theorem dX7_sum_38 : decode cX7_sum 38 = .ok (.istore_n 3, 1) := dk_62 (dk_at dksX7_sum_1 14 rfl rfl)
theorem dX7_sum_39 : decode cX7_sum 39 = .ok (.aload_n 0, 1) := dk_42 (dk_at dksX7_sum_1 15 rfl rfl)
theorem dX7_sum_40 : decode cX7_sum 40 = .ok (.dup, 1) := dk_89 (dk_at dksX7_sum_1 16 rfl rfl)
theorem dX7_sum_41 : decode cX7_sum 41 = .ok (.getfield 31, 3) := dk_180 0 31 (dk_at dksX7_sum_1 17 rfl rfl)
theorem dX7_sum_44 : decode cX7_sum 44 = .ok (.iconst 1, 1) := dk_4 (dk_at dksX7_sum_1 20 rfl rfl)
theorem dX7_sum_45 : decode cX7_sum 45 = .ok (.iadd, 1) := dk_96 (dk_at dksX7_sum_1 21 rfl rfl)
theorem dX7_sum_46 : decode cX7_sum 46 = .ok (.putfield 31, 3) := dk_181 0 31 (dk_at dksX7_sum_2 0 rfl rfl)
theorem dX7_sum_49 : decode cX7_sum 49 = .ok (.aload_n 0, 1) := dk_42 (dk_at dksX7_sum_2 3 rfl rfl)
theorem dX7_sum_50 : decode cX7_sum 50 = .ok (.iload_n 1, 1) := dk_27 (dk_at dksX7_sum_2 4 rfl rfl)
theorem dX7_sum_51 : decode cX7_sum 51 = .ok (.invokevirtual 44, 3) := dk_182 0 44 (dk_at dksX7_sum_2 5 rfl rfl)
theorem dX7_sum_54 : decode cX7_sum 54 = .ok (.istore 4, 2) := dk_54 4 (dk_at dksX7_sum_2 8 rfl rfl)
theorem dX7_sum_56 : decode cX7_sum 56 = .ok (.iload_n 3, 1) := dk_29 (dk_at dksX7_sum_2 10 rfl rfl)
theorem dX7_sum_57 : decode cX7_sum 57 = .ok (.ifCond .eq 10, 3) := dk_153 0 10 (dk_at dksX7_sum_2 11 rfl rfl)
theorem dX7_sum_60 : decode cX7_sum 60 = .ok (.iload_n 2, 1) := dk_28 (dk_at dksX7_sum_2 14 rfl rfl)
theorem dX7_sum_61 : decode cX7_sum 61 = .ok (.iload 4, 2) := dk_21 4 (dk_at dksX7_sum_2 15 rfl rfl)
theorem dX7_sum_63 : decode cX7_sum 63 = .ok (.iadd, 1) := dk_96 (dk_at dksX7_sum_2 17 rfl rfl)
theorem dX7_sum_64 : decode cX7_sum 64 = .ok (.goto 7, 3) := dk_167 0 7 (dk_at dksX7_sum_2 18 rfl rfl)
theorem dX7_sum_67 : decode cX7_sum 67 = .ok (.iload_n 2, 1) := dk_28 (dk_at dksX7_sum_2 21 rfl rfl)
theorem dX7_sum_68 : decode cX7_sum 68 = .ok (.iload 4, 2) := dk_21 4 (dk_at dksX7_sum_2 22 rfl rfl)
theorem dX7_sum_70 : decode cX7_sum 70 = .ok (.isub, 1) := dk_100 (dk_at dksX7_sum_3 0 rfl rfl)
theorem dX7_sum_71 : decode cX7_sum 71 = .ok (.istore_n 2, 1) := dk_61 (dk_at dksX7_sum_3 1 rfl rfl)
theorem dX7_sum_72 : decode cX7_sum 72 = .ok (.goto (-66), 3) := dk_167 255 190 (dk_at dksX7_sum_3 2 rfl rfl)
theorem dX7_sum_75 : decode cX7_sum 75 = .ok (.iload_n 2, 1) := dk_28 (dk_at dksX7_sum_3 5 rfl rfl)
theorem dX7_sum_76 : decode cX7_sum 76 = .ok (.ireturn, 1) := dk_172 (dk_at dksX7_sum_3 6 rfl rfl)
abbrev cX7_product : ByteArray := prog_8_method_6_code
def yX7_product : MethodName := ⟨RX7, "product", "(I)I"⟩
def dkwX7_product_3 : List UInt8 := [154, 0, 7, 3, 167, 0, 7, 28, 21, 4, 108, 61, 167, 255, 181, 28, 172]
abbrev dktX7_product_3 : List UInt8 := dkwX7_product_3 ++ []
def dkwX7_product_2 : List UInt8 := [181, 0, 31, 42, 27, 182, 0, 51, 54, 4, 29, 153, 0, 10, 28, 21, 4, 104, 167, 0, 16, 21, 4]
abbrev dktX7_product_2 : List UInt8 := dkwX7_product_2 ++ dktX7_product_3
def dkwX7_product_1 : List UInt8 := [42, 182, 0, 47, 16, 42, 160, 0, 7, 4, 167, 0, 4, 3, 62, 42, 89, 180, 0, 31, 4, 96]
abbrev dktX7_product_1 : List UInt8 := dkwX7_product_1 ++ dktX7_product_2
def dkwX7_product_0 : List UInt8 := [42, 27, 182, 0, 51, 61, 42, 182, 0, 47, 16, 42, 159, 0, 12, 42, 182, 0, 47, 16, 47, 160, 0, 63]
abbrev dktX7_product_0 : List UInt8 := dkwX7_product_0 ++ dktX7_product_1
theorem dksX7_product_0 : cX7_product.data.toList.drop 0 = dktX7_product_0 := by decide +kernel
theorem dksX7_product_1 : cX7_product.data.toList.drop 24 = dktX7_product_1 := dk_seg dksX7_product_0 24 rfl rfl
theorem dksX7_product_2 : cX7_product.data.toList.drop 46 = dktX7_product_2 := dk_seg dksX7_product_1 22 rfl rfl
theorem dksX7_product_3 : cX7_product.data.toList.drop 69 = dktX7_product_3 := dk_seg dksX7_product_2 23 rfl rfl
theorem dX7_product_0 : decode cX7_product 0 = .ok (.aload_n 0, 1) := dk_42 (dk_at dksX7_product_0 0 rfl rfl)
theorem dX7_product_1 : decode cX7_product 1 = .ok (.iload_n 1, 1) := dk_27 (dk_at dksX7_product_0 1 rfl rfl)
theorem dX7_product_2 : decode cX7_product 2 = .ok (.invokevirtual 51, 3) := dk_182 0 51 (dk_at dksX7_product_0 2 rfl rfl)
theorem dX7_product_5 : decode cX7_product 5 = .ok (.istore_n 2, 1) := dk_61 (dk_at dksX7_product_0 5 rfl rfl)
theorem dX7_product_6 : decode cX7_product 6 = .ok (.aload_n 0, 1) := dk_42 (dk_at dksX7_product_0 6 rfl rfl)
theorem dX7_product_7 : decode cX7_product 7 = .ok (.invokevirtual 47, 3) := dk_182 0 47 (dk_at dksX7_product_0 7 rfl rfl)
theorem dX7_product_10 : decode cX7_product 10 = .ok (.bipush 42, 2) := dk_16 42 (dk_at dksX7_product_0 10 rfl rfl)
theorem dX7_product_12 : decode cX7_product 12 = .ok (.if_icmp .eq 12, 3) := dk_159 0 12 (dk_at dksX7_product_0 12 rfl rfl)
theorem dX7_product_15 : decode cX7_product 15 = .ok (.aload_n 0, 1) := dk_42 (dk_at dksX7_product_0 15 rfl rfl)
theorem dX7_product_16 : decode cX7_product 16 = .ok (.invokevirtual 47, 3) := dk_182 0 47 (dk_at dksX7_product_0 16 rfl rfl)
theorem dX7_product_19 : decode cX7_product 19 = .ok (.bipush 47, 2) := dk_16 47 (dk_at dksX7_product_0 19 rfl rfl)
theorem dX7_product_21 : decode cX7_product 21 = .ok (.if_icmp .ne 63, 3) := dk_160 0 63 (dk_at dksX7_product_0 21 rfl rfl)
theorem dX7_product_24 : decode cX7_product 24 = .ok (.aload_n 0, 1) := dk_42 (dk_at dksX7_product_1 0 rfl rfl)
theorem dX7_product_25 : decode cX7_product 25 = .ok (.invokevirtual 47, 3) := dk_182 0 47 (dk_at dksX7_product_1 1 rfl rfl)
theorem dX7_product_28 : decode cX7_product 28 = .ok (.bipush 42, 2) := dk_16 42 (dk_at dksX7_product_1 4 rfl rfl)
theorem dX7_product_30 : decode cX7_product 30 = .ok (.if_icmp .ne 7, 3) := dk_160 0 7 (dk_at dksX7_product_1 6 rfl rfl)
theorem dX7_product_33 : decode cX7_product 33 = .ok (.iconst 1, 1) := dk_4 (dk_at dksX7_product_1 9 rfl rfl)
theorem dX7_product_34 : decode cX7_product 34 = .ok (.goto 4, 3) := dk_167 0 4 (dk_at dksX7_product_1 10 rfl rfl)
theorem dX7_product_37 : decode cX7_product 37 = .ok (.iconst 0, 1) := dk_3 (dk_at dksX7_product_1 13 rfl rfl)
theorem dX7_product_38 : decode cX7_product 38 = .ok (.istore_n 3, 1) := dk_62 (dk_at dksX7_product_1 14 rfl rfl)
theorem dX7_product_39 : decode cX7_product 39 = .ok (.aload_n 0, 1) := dk_42 (dk_at dksX7_product_1 15 rfl rfl)
theorem dX7_product_40 : decode cX7_product 40 = .ok (.dup, 1) := dk_89 (dk_at dksX7_product_1 16 rfl rfl)
theorem dX7_product_41 : decode cX7_product 41 = .ok (.getfield 31, 3) := dk_180 0 31 (dk_at dksX7_product_1 17 rfl rfl)
theorem dX7_product_44 : decode cX7_product 44 = .ok (.iconst 1, 1) := dk_4 (dk_at dksX7_product_1 20 rfl rfl)
theorem dX7_product_45 : decode cX7_product 45 = .ok (.iadd, 1) := dk_96 (dk_at dksX7_product_1 21 rfl rfl)
theorem dX7_product_46 : decode cX7_product 46 = .ok (.putfield 31, 3) := dk_181 0 31 (dk_at dksX7_product_2 0 rfl rfl)
theorem dX7_product_49 : decode cX7_product 49 = .ok (.aload_n 0, 1) := dk_42 (dk_at dksX7_product_2 3 rfl rfl)
theorem dX7_product_50 : decode cX7_product 50 = .ok (.iload_n 1, 1) := dk_27 (dk_at dksX7_product_2 4 rfl rfl)
theorem dX7_product_51 : decode cX7_product 51 = .ok (.invokevirtual 51, 3) := dk_182 0 51 (dk_at dksX7_product_2 5 rfl rfl)
theorem dX7_product_54 : decode cX7_product 54 = .ok (.istore 4, 2) := dk_54 4 (dk_at dksX7_product_2 8 rfl rfl)
theorem dX7_product_56 : decode cX7_product 56 = .ok (.iload_n 3, 1) := dk_29 (dk_at dksX7_product_2 10 rfl rfl)
theorem dX7_product_57 : decode cX7_product 57 = .ok (.ifCond .eq 10, 3) := dk_153 0 10 (dk_at dksX7_product_2 11 rfl rfl)
theorem dX7_product_60 : decode cX7_product 60 = .ok (.iload_n 2, 1) := dk_28 (dk_at dksX7_product_2 14 rfl rfl)
theorem dX7_product_61 : decode cX7_product 61 = .ok (.iload 4, 2) := dk_21 4 (dk_at dksX7_product_2 15 rfl rfl)
theorem dX7_product_63 : decode cX7_product 63 = .ok (.imul, 1) := dk_104 (dk_at dksX7_product_2 17 rfl rfl)
theorem dX7_product_64 : decode cX7_product 64 = .ok (.goto 16, 3) := dk_167 0 16 (dk_at dksX7_product_2 18 rfl rfl)
theorem dX7_product_67 : decode cX7_product 67 = .ok (.iload 4, 2) := dk_21 4 (dk_at dksX7_product_2 21 rfl rfl)
theorem dX7_product_69 : decode cX7_product 69 = .ok (.ifCond .ne 7, 3) := dk_154 0 7 (dk_at dksX7_product_3 0 rfl rfl)
theorem dX7_product_72 : decode cX7_product 72 = .ok (.iconst 0, 1) := dk_3 (dk_at dksX7_product_3 3 rfl rfl)
theorem dX7_product_73 : decode cX7_product 73 = .ok (.goto 7, 3) := dk_167 0 7 (dk_at dksX7_product_3 4 rfl rfl)
theorem dX7_product_76 : decode cX7_product 76 = .ok (.iload_n 2, 1) := dk_28 (dk_at dksX7_product_3 7 rfl rfl)
theorem dX7_product_77 : decode cX7_product 77 = .ok (.iload 4, 2) := dk_21 4 (dk_at dksX7_product_3 8 rfl rfl)
theorem dX7_product_79 : decode cX7_product 79 = .ok (.idiv, 1) := dk_108 (dk_at dksX7_product_3 10 rfl rfl)
theorem dX7_product_80 : decode cX7_product 80 = .ok (.istore_n 2, 1) := dk_61 (dk_at dksX7_product_3 11 rfl rfl)
theorem dX7_product_81 : decode cX7_product 81 = .ok (.goto (-75), 3) := dk_167 255 181 (dk_at dksX7_product_3 12 rfl rfl)
theorem dX7_product_84 : decode cX7_product 84 = .ok (.iload_n 2, 1) := dk_28 (dk_at dksX7_product_3 15 rfl rfl)
theorem dX7_product_85 : decode cX7_product 85 = .ok (.ireturn, 1) := dk_172 (dk_at dksX7_product_3 16 rfl rfl)
abbrev cX7_thing : ByteArray := prog_8_method_7_code
def yX7_thing : MethodName := ⟨RX7, "thing", "(I)I"⟩
def dkwX7_thing_6 : List UInt8 := [42, 28, 182, 0, 76, 172]
abbrev dktX7_thing_6 : List UInt8 := dkwX7_thing_6 ++ []
def dkwX7_thing_5 : List UInt8 := [182, 0, 54, 42, 89, 180, 0, 31, 4, 96, 181, 0, 31, 42, 180, 0, 19, 199, 0, 7, 3, 167, 0, 8]
abbrev dktX7_thing_5 : List UInt8 := dkwX7_thing_5 ++ dktX7_thing_6
def dkwX7_thing_4 : List UInt8 := [182, 0, 47, 61, 42, 28, 2, 159, 0, 16, 18, 69, 28, 182, 0, 71, 155, 0, 7, 4, 167, 0, 4, 3]
abbrev dktX7_thing_4 : List UInt8 := dkwX7_thing_4 ++ dktX7_thing_5
def dkwX7_thing_3 : List UInt8 := [182, 0, 47, 133, 20, 0, 58, 20, 0, 60, 184, 0, 62, 153, 0, 9, 42, 6, 182, 0, 66, 172, 42]
abbrev dktX7_thing_3 : List UInt8 := dkwX7_thing_3 ++ dktX7_thing_4
def dkwX7_thing_2 : List UInt8 := [181, 0, 31, 42, 27, 4, 96, 182, 0, 9, 61, 42, 42, 16, 41, 182, 0, 40, 182, 0, 54, 28, 172, 42]
abbrev dktX7_thing_2 : List UInt8 := dkwX7_thing_2 ++ dktX7_thing_3
def dkwX7_thing_1 : List UInt8 := [160, 0, 47, 42, 27, 7, 162, 0, 7, 4, 167, 0, 4, 3, 182, 0, 54, 42, 89, 180, 0, 31, 4, 96]
abbrev dktX7_thing_1 : List UInt8 := dkwX7_thing_1 ++ dktX7_thing_2
def dkwX7_thing_0 : List UInt8 := [42, 16, 45, 182, 0, 40, 153, 0, 10, 42, 27, 182, 0, 51, 116, 172, 42, 182, 0, 47, 16, 40]
abbrev dktX7_thing_0 : List UInt8 := dkwX7_thing_0 ++ dktX7_thing_1
theorem dksX7_thing_0 : cX7_thing.data.toList.drop 0 = dktX7_thing_0 := by decide +kernel
theorem dksX7_thing_1 : cX7_thing.data.toList.drop 22 = dktX7_thing_1 := dk_seg dksX7_thing_0 22 rfl rfl
theorem dksX7_thing_2 : cX7_thing.data.toList.drop 46 = dktX7_thing_2 := dk_seg dksX7_thing_1 24 rfl rfl
theorem dksX7_thing_3 : cX7_thing.data.toList.drop 70 = dktX7_thing_3 := dk_seg dksX7_thing_2 24 rfl rfl
theorem dksX7_thing_4 : cX7_thing.data.toList.drop 93 = dktX7_thing_4 := dk_seg dksX7_thing_3 23 rfl rfl
theorem dksX7_thing_5 : cX7_thing.data.toList.drop 117 = dktX7_thing_5 := dk_seg dksX7_thing_4 24 rfl rfl
theorem dksX7_thing_6 : cX7_thing.data.toList.drop 141 = dktX7_thing_6 := dk_seg dksX7_thing_5 24 rfl rfl
theorem dX7_thing_0 : decode cX7_thing 0 = .ok (.aload_n 0, 1) := dk_42 (dk_at dksX7_thing_0 0 rfl rfl)
theorem dX7_thing_1 : decode cX7_thing 1 = .ok (.bipush 45, 2) := dk_16 45 (dk_at dksX7_thing_0 1 rfl rfl)
theorem dX7_thing_3 : decode cX7_thing 3 = .ok (.invokevirtual 40, 3) := dk_182 0 40 (dk_at dksX7_thing_0 3 rfl rfl)
theorem dX7_thing_6 : decode cX7_thing 6 = .ok (.ifCond .eq 10, 3) := dk_153 0 10 (dk_at dksX7_thing_0 6 rfl rfl)
theorem dX7_thing_9 : decode cX7_thing 9 = .ok (.aload_n 0, 1) := dk_42 (dk_at dksX7_thing_0 9 rfl rfl)
theorem dX7_thing_10 : decode cX7_thing 10 = .ok (.iload_n 1, 1) := dk_27 (dk_at dksX7_thing_0 10 rfl rfl)
theorem dX7_thing_11 : decode cX7_thing 11 = .ok (.invokevirtual 51, 3) := dk_182 0 51 (dk_at dksX7_thing_0 11 rfl rfl)
theorem dX7_thing_14 : decode cX7_thing 14 = .ok (.ineg, 1) := dk_116 (dk_at dksX7_thing_0 14 rfl rfl)
theorem dX7_thing_15 : decode cX7_thing 15 = .ok (.ireturn, 1) := dk_172 (dk_at dksX7_thing_0 15 rfl rfl)
theorem dX7_thing_16 : decode cX7_thing 16 = .ok (.aload_n 0, 1) := dk_42 (dk_at dksX7_thing_0 16 rfl rfl)
theorem dX7_thing_17 : decode cX7_thing 17 = .ok (.invokevirtual 47, 3) := dk_182 0 47 (dk_at dksX7_thing_0 17 rfl rfl)
theorem dX7_thing_20 : decode cX7_thing 20 = .ok (.bipush 40, 2) := dk_16 40 (dk_at dksX7_thing_0 20 rfl rfl)
theorem dX7_thing_22 : decode cX7_thing 22 = .ok (.if_icmp .ne 47, 3) := dk_160 0 47 (dk_at dksX7_thing_1 0 rfl rfl)
theorem dX7_thing_25 : decode cX7_thing 25 = .ok (.aload_n 0, 1) := dk_42 (dk_at dksX7_thing_1 3 rfl rfl)
theorem dX7_thing_26 : decode cX7_thing 26 = .ok (.iload_n 1, 1) := dk_27 (dk_at dksX7_thing_1 4 rfl rfl)
theorem dX7_thing_27 : decode cX7_thing 27 = .ok (.iconst 4, 1) := dk_7 (dk_at dksX7_thing_1 5 rfl rfl)
theorem dX7_thing_28 : decode cX7_thing 28 = .ok (.if_icmp .ge 7, 3) := dk_162 0 7 (dk_at dksX7_thing_1 6 rfl rfl)
theorem dX7_thing_31 : decode cX7_thing 31 = .ok (.iconst 1, 1) := dk_4 (dk_at dksX7_thing_1 9 rfl rfl)
theorem dX7_thing_32 : decode cX7_thing 32 = .ok (.goto 4, 3) := dk_167 0 4 (dk_at dksX7_thing_1 10 rfl rfl)
theorem dX7_thing_35 : decode cX7_thing 35 = .ok (.iconst 0, 1) := dk_3 (dk_at dksX7_thing_1 13 rfl rfl)
theorem dX7_thing_36 : decode cX7_thing 36 = .ok (.invokevirtual 54, 3) := dk_182 0 54 (dk_at dksX7_thing_1 14 rfl rfl)
theorem dX7_thing_39 : decode cX7_thing 39 = .ok (.aload_n 0, 1) := dk_42 (dk_at dksX7_thing_1 17 rfl rfl)
theorem dX7_thing_40 : decode cX7_thing 40 = .ok (.dup, 1) := dk_89 (dk_at dksX7_thing_1 18 rfl rfl)
theorem dX7_thing_41 : decode cX7_thing 41 = .ok (.getfield 31, 3) := dk_180 0 31 (dk_at dksX7_thing_1 19 rfl rfl)
theorem dX7_thing_44 : decode cX7_thing 44 = .ok (.iconst 1, 1) := dk_4 (dk_at dksX7_thing_1 22 rfl rfl)
theorem dX7_thing_45 : decode cX7_thing 45 = .ok (.iadd, 1) := dk_96 (dk_at dksX7_thing_1 23 rfl rfl)
theorem dX7_thing_46 : decode cX7_thing 46 = .ok (.putfield 31, 3) := dk_181 0 31 (dk_at dksX7_thing_2 0 rfl rfl)
theorem dX7_thing_49 : decode cX7_thing 49 = .ok (.aload_n 0, 1) := dk_42 (dk_at dksX7_thing_2 3 rfl rfl)
theorem dX7_thing_50 : decode cX7_thing 50 = .ok (.iload_n 1, 1) := dk_27 (dk_at dksX7_thing_2 4 rfl rfl)
theorem dX7_thing_51 : decode cX7_thing 51 = .ok (.iconst 1, 1) := dk_4 (dk_at dksX7_thing_2 5 rfl rfl)
theorem dX7_thing_52 : decode cX7_thing 52 = .ok (.iadd, 1) := dk_96 (dk_at dksX7_thing_2 6 rfl rfl)
theorem dX7_thing_53 : decode cX7_thing 53 = .ok (.invokevirtual 9, 3) := dk_182 0 9 (dk_at dksX7_thing_2 7 rfl rfl)
theorem dX7_thing_56 : decode cX7_thing 56 = .ok (.istore_n 2, 1) := dk_61 (dk_at dksX7_thing_2 10 rfl rfl)
theorem dX7_thing_57 : decode cX7_thing 57 = .ok (.aload_n 0, 1) := dk_42 (dk_at dksX7_thing_2 11 rfl rfl)
theorem dX7_thing_58 : decode cX7_thing 58 = .ok (.aload_n 0, 1) := dk_42 (dk_at dksX7_thing_2 12 rfl rfl)
theorem dX7_thing_59 : decode cX7_thing 59 = .ok (.bipush 41, 2) := dk_16 41 (dk_at dksX7_thing_2 13 rfl rfl)
theorem dX7_thing_61 : decode cX7_thing 61 = .ok (.invokevirtual 40, 3) := dk_182 0 40 (dk_at dksX7_thing_2 15 rfl rfl)
theorem dX7_thing_64 : decode cX7_thing 64 = .ok (.invokevirtual 54, 3) := dk_182 0 54 (dk_at dksX7_thing_2 18 rfl rfl)
theorem dX7_thing_67 : decode cX7_thing 67 = .ok (.iload_n 2, 1) := dk_28 (dk_at dksX7_thing_2 21 rfl rfl)
theorem dX7_thing_68 : decode cX7_thing 68 = .ok (.ireturn, 1) := dk_172 (dk_at dksX7_thing_2 22 rfl rfl)
theorem dX7_thing_69 : decode cX7_thing 69 = .ok (.aload_n 0, 1) := dk_42 (dk_at dksX7_thing_2 23 rfl rfl)
theorem dX7_thing_70 : decode cX7_thing 70 = .ok (.invokevirtual 47, 3) := dk_182 0 47 (dk_at dksX7_thing_3 0 rfl rfl)
theorem dX7_thing_73 : decode cX7_thing 73 = .ok (.i2l, 1) := dk_133 (dk_at dksX7_thing_3 3 rfl rfl)
theorem dX7_thing_74 : decode cX7_thing 74 = .ok (.ldc2_w 58, 3) := dk_20 0 58 (dk_at dksX7_thing_3 4 rfl rfl)
theorem dX7_thing_77 : decode cX7_thing 77 = .ok (.ldc2_w 60, 3) := dk_20 0 60 (dk_at dksX7_thing_3 7 rfl rfl)
theorem dX7_thing_80 : decode cX7_thing 80 = .ok (.invokestatic 62, 3) := dk_184 0 62 (dk_at dksX7_thing_3 10 rfl rfl)
theorem dX7_thing_83 : decode cX7_thing 83 = .ok (.ifCond .eq 9, 3) := dk_153 0 9 (dk_at dksX7_thing_3 13 rfl rfl)
theorem dX7_thing_86 : decode cX7_thing 86 = .ok (.aload_n 0, 1) := dk_42 (dk_at dksX7_thing_3 16 rfl rfl)
theorem dX7_thing_87 : decode cX7_thing 87 = .ok (.iconst 3, 1) := dk_6 (dk_at dksX7_thing_3 17 rfl rfl)
theorem dX7_thing_88 : decode cX7_thing 88 = .ok (.invokevirtual 66, 3) := dk_182 0 66 (dk_at dksX7_thing_3 18 rfl rfl)
theorem dX7_thing_91 : decode cX7_thing 91 = .ok (.ireturn, 1) := dk_172 (dk_at dksX7_thing_3 21 rfl rfl)
theorem dX7_thing_92 : decode cX7_thing 92 = .ok (.aload_n 0, 1) := dk_42 (dk_at dksX7_thing_3 22 rfl rfl)
theorem dX7_thing_93 : decode cX7_thing 93 = .ok (.invokevirtual 47, 3) := dk_182 0 47 (dk_at dksX7_thing_4 0 rfl rfl)
theorem dX7_thing_96 : decode cX7_thing 96 = .ok (.istore_n 2, 1) := dk_61 (dk_at dksX7_thing_4 3 rfl rfl)
theorem dX7_thing_97 : decode cX7_thing 97 = .ok (.aload_n 0, 1) := dk_42 (dk_at dksX7_thing_4 4 rfl rfl)
theorem dX7_thing_98 : decode cX7_thing 98 = .ok (.iload_n 2, 1) := dk_28 (dk_at dksX7_thing_4 5 rfl rfl)
theorem dX7_thing_99 : decode cX7_thing 99 = .ok (.iconst (-1), 1) := dk_2 (dk_at dksX7_thing_4 6 rfl rfl)
theorem dX7_thing_100 : decode cX7_thing 100 = .ok (.if_icmp .eq 16, 3) := dk_159 0 16 (dk_at dksX7_thing_4 7 rfl rfl)
theorem dX7_thing_103 : decode cX7_thing 103 = .ok (.ldc 69, 2) := dk_18 69 (dk_at dksX7_thing_4 10 rfl rfl)
theorem dX7_thing_105 : decode cX7_thing 105 = .ok (.iload_n 2, 1) := dk_28 (dk_at dksX7_thing_4 12 rfl rfl)
theorem dX7_thing_106 : decode cX7_thing 106 = .ok (.invokevirtual 71, 3) := dk_182 0 71 (dk_at dksX7_thing_4 13 rfl rfl)
theorem dX7_thing_109 : decode cX7_thing 109 = .ok (.ifCond .lt 7, 3) := dk_155 0 7 (dk_at dksX7_thing_4 16 rfl rfl)
theorem dX7_thing_112 : decode cX7_thing 112 = .ok (.iconst 1, 1) := dk_4 (dk_at dksX7_thing_4 19 rfl rfl)
theorem dX7_thing_113 : decode cX7_thing 113 = .ok (.goto 4, 3) := dk_167 0 4 (dk_at dksX7_thing_4 20 rfl rfl)
theorem dX7_thing_116 : decode cX7_thing 116 = .ok (.iconst 0, 1) := dk_3 (dk_at dksX7_thing_4 23 rfl rfl)
theorem dX7_thing_117 : decode cX7_thing 117 = .ok (.invokevirtual 54, 3) := dk_182 0 54 (dk_at dksX7_thing_5 0 rfl rfl)
theorem dX7_thing_120 : decode cX7_thing 120 = .ok (.aload_n 0, 1) := dk_42 (dk_at dksX7_thing_5 3 rfl rfl)
theorem dX7_thing_121 : decode cX7_thing 121 = .ok (.dup, 1) := dk_89 (dk_at dksX7_thing_5 4 rfl rfl)
theorem dX7_thing_122 : decode cX7_thing 122 = .ok (.getfield 31, 3) := dk_180 0 31 (dk_at dksX7_thing_5 5 rfl rfl)
theorem dX7_thing_125 : decode cX7_thing 125 = .ok (.iconst 1, 1) := dk_4 (dk_at dksX7_thing_5 8 rfl rfl)
theorem dX7_thing_126 : decode cX7_thing 126 = .ok (.iadd, 1) := dk_96 (dk_at dksX7_thing_5 9 rfl rfl)
theorem dX7_thing_127 : decode cX7_thing 127 = .ok (.putfield 31, 3) := dk_181 0 31 (dk_at dksX7_thing_5 10 rfl rfl)
theorem dX7_thing_130 : decode cX7_thing 130 = .ok (.aload_n 0, 1) := dk_42 (dk_at dksX7_thing_5 13 rfl rfl)
theorem dX7_thing_131 : decode cX7_thing 131 = .ok (.getfield 19, 3) := dk_180 0 19 (dk_at dksX7_thing_5 14 rfl rfl)
theorem dX7_thing_134 : decode cX7_thing 134 = .ok (.ifnonnull 7, 3) := dk_199 0 7 (dk_at dksX7_thing_5 17 rfl rfl)
theorem dX7_thing_137 : decode cX7_thing 137 = .ok (.iconst 0, 1) := dk_3 (dk_at dksX7_thing_5 20 rfl rfl)
theorem dX7_thing_138 : decode cX7_thing 138 = .ok (.goto 8, 3) := dk_167 0 8 (dk_at dksX7_thing_5 21 rfl rfl)
theorem dX7_thing_141 : decode cX7_thing 141 = .ok (.aload_n 0, 1) := dk_42 (dk_at dksX7_thing_6 0 rfl rfl)
theorem dX7_thing_142 : decode cX7_thing 142 = .ok (.iload_n 2, 1) := dk_28 (dk_at dksX7_thing_6 1 rfl rfl)
theorem dX7_thing_143 : decode cX7_thing 143 = .ok (.invokevirtual 76, 3) := dk_182 0 76 (dk_at dksX7_thing_6 2 rfl rfl)
theorem dX7_thing_146 : decode cX7_thing 146 = .ok (.ireturn, 1) := dk_172 (dk_at dksX7_thing_6 5 rfl rfl)
abbrev cX7_value : ByteArray := prog_8_method_8_code
def yX7_value : MethodName := ⟨RX7, "value", "(I)I"⟩
def dkwX7_value_4 : List UInt8 := [182, 0, 102, 172, 42, 180, 0, 19, 180, 0, 107, 16, 7, 112, 172]
abbrev dktX7_value_4 : List UInt8 := dkwX7_value_4 ++ []
def dkwX7_value_3 : List UInt8 := [42, 180, 0, 27, 180, 0, 89, 172, 42, 180, 0, 27, 180, 0, 93, 172, 42, 180, 0, 19, 180, 0, 96]
abbrev dktX7_value_3 : List UInt8 := dkwX7_value_3 ++ dktX7_value_4
def dkwX7_value_2 : List UInt8 := [42, 180, 0, 23, 180, 0, 79, 172, 42, 180, 0, 23, 180, 0, 84, 172, 42, 180, 0, 23, 180, 0, 87, 172]
abbrev dktX7_value_2 : List UInt8 := dkwX7_value_2 ++ dktX7_value_3
def dkwX7_value_1 : List UInt8 := [171, 0, 0, 0, 0, 0, 110, 0, 0, 0, 6, 0, 0, 0, 98, 0, 0, 0, 67, 0, 0, 0, 99, 0, 0, 0, 91, 0, 0, 0, 100, 0, 0, 0, 99, 0, 0, 0, 111, 0, 0, 0, 59, 0, 0, 0, 113, 0, 0, 0, 83, 0, 0, 0, 118, 0, 0, 0, 75]
abbrev dktX7_value_1 : List UInt8 := dkwX7_value_1 ++ dktX7_value_2
def dkwX7_value_0 : List UInt8 := [27]
abbrev dktX7_value_0 : List UInt8 := dkwX7_value_0 ++ dktX7_value_1
theorem dksX7_value_0 : cX7_value.data.toList.drop 0 = dktX7_value_0 := by decide +kernel
theorem dksX7_value_1 : cX7_value.data.toList.drop 1 = dktX7_value_1 := dk_seg dksX7_value_0 1 rfl rfl
theorem dksX7_value_2 : cX7_value.data.toList.drop 60 = dktX7_value_2 := dk_seg dksX7_value_1 59 rfl rfl
theorem dksX7_value_3 : cX7_value.data.toList.drop 84 = dktX7_value_3 := dk_seg dksX7_value_2 24 rfl rfl
theorem dksX7_value_4 : cX7_value.data.toList.drop 107 = dktX7_value_4 := dk_seg dksX7_value_3 23 rfl rfl
theorem dX7_value_0 : decode cX7_value 0 = .ok (.iload_n 1, 1) := dk_27 (dk_at dksX7_value_0 0 rfl rfl)
theorem dX7_value_1 : decode cX7_value 1 = .ok (.lookupswitch 110 #[(98, 67), (99, 91), (100, 99), (111, 59), (113, 83), (118, 75)], 59) := by decide +kernel
theorem dX7_value_60 : decode cX7_value 60 = .ok (.aload_n 0, 1) := dk_42 (dk_at dksX7_value_2 0 rfl rfl)
theorem dX7_value_61 : decode cX7_value 61 = .ok (.getfield 23, 3) := dk_180 0 23 (dk_at dksX7_value_2 1 rfl rfl)
theorem dX7_value_64 : decode cX7_value 64 = .ok (.getfield 79, 3) := dk_180 0 79 (dk_at dksX7_value_2 4 rfl rfl)
theorem dX7_value_67 : decode cX7_value 67 = .ok (.ireturn, 1) := dk_172 (dk_at dksX7_value_2 7 rfl rfl)
theorem dX7_value_68 : decode cX7_value 68 = .ok (.aload_n 0, 1) := dk_42 (dk_at dksX7_value_2 8 rfl rfl)
theorem dX7_value_69 : decode cX7_value 69 = .ok (.getfield 23, 3) := dk_180 0 23 (dk_at dksX7_value_2 9 rfl rfl)
theorem dX7_value_72 : decode cX7_value 72 = .ok (.getfield 84, 3) := dk_180 0 84 (dk_at dksX7_value_2 12 rfl rfl)
theorem dX7_value_75 : decode cX7_value 75 = .ok (.ireturn, 1) := dk_172 (dk_at dksX7_value_2 15 rfl rfl)
theorem dX7_value_76 : decode cX7_value 76 = .ok (.aload_n 0, 1) := dk_42 (dk_at dksX7_value_2 16 rfl rfl)
theorem dX7_value_77 : decode cX7_value 77 = .ok (.getfield 23, 3) := dk_180 0 23 (dk_at dksX7_value_2 17 rfl rfl)
theorem dX7_value_80 : decode cX7_value 80 = .ok (.getfield 87, 3) := dk_180 0 87 (dk_at dksX7_value_2 20 rfl rfl)
theorem dX7_value_83 : decode cX7_value 83 = .ok (.ireturn, 1) := dk_172 (dk_at dksX7_value_2 23 rfl rfl)
theorem dX7_value_84 : decode cX7_value 84 = .ok (.aload_n 0, 1) := dk_42 (dk_at dksX7_value_3 0 rfl rfl)
theorem dX7_value_85 : decode cX7_value 85 = .ok (.getfield 27, 3) := dk_180 0 27 (dk_at dksX7_value_3 1 rfl rfl)
theorem dX7_value_88 : decode cX7_value 88 = .ok (.getfield 89, 3) := dk_180 0 89 (dk_at dksX7_value_3 4 rfl rfl)
theorem dX7_value_91 : decode cX7_value 91 = .ok (.ireturn, 1) := dk_172 (dk_at dksX7_value_3 7 rfl rfl)
theorem dX7_value_92 : decode cX7_value 92 = .ok (.aload_n 0, 1) := dk_42 (dk_at dksX7_value_3 8 rfl rfl)
theorem dX7_value_93 : decode cX7_value 93 = .ok (.getfield 27, 3) := dk_180 0 27 (dk_at dksX7_value_3 9 rfl rfl)
theorem dX7_value_96 : decode cX7_value 96 = .ok (.getfield 93, 3) := dk_180 0 93 (dk_at dksX7_value_3 12 rfl rfl)
theorem dX7_value_99 : decode cX7_value 99 = .ok (.ireturn, 1) := dk_172 (dk_at dksX7_value_3 15 rfl rfl)
theorem dX7_value_100 : decode cX7_value 100 = .ok (.aload_n 0, 1) := dk_42 (dk_at dksX7_value_3 16 rfl rfl)
theorem dX7_value_101 : decode cX7_value 101 = .ok (.getfield 19, 3) := dk_180 0 19 (dk_at dksX7_value_3 17 rfl rfl)
theorem dX7_value_104 : decode cX7_value 104 = .ok (.getfield 96, 3) := dk_180 0 96 (dk_at dksX7_value_3 20 rfl rfl)
theorem dX7_value_107 : decode cX7_value 107 = .ok (.invokevirtual 102, 3) := dk_182 0 102 (dk_at dksX7_value_4 0 rfl rfl)
theorem dX7_value_110 : decode cX7_value 110 = .ok (.ireturn, 1) := dk_172 (dk_at dksX7_value_4 3 rfl rfl)
theorem dX7_value_111 : decode cX7_value 111 = .ok (.aload_n 0, 1) := dk_42 (dk_at dksX7_value_4 4 rfl rfl)
theorem dX7_value_112 : decode cX7_value 112 = .ok (.getfield 19, 3) := dk_180 0 19 (dk_at dksX7_value_4 5 rfl rfl)
theorem dX7_value_115 : decode cX7_value 115 = .ok (.getfield 107, 3) := dk_180 0 107 (dk_at dksX7_value_4 8 rfl rfl)
theorem dX7_value_118 : decode cX7_value 118 = .ok (.bipush 7, 2) := dk_16 7 (dk_at dksX7_value_4 11 rfl rfl)
theorem dX7_value_120 : decode cX7_value 120 = .ok (.irem, 1) := dk_112 (dk_at dksX7_value_4 13 rfl rfl)
theorem dX7_value_121 : decode cX7_value 121 = .ok (.ireturn, 1) := dk_172 (dk_at dksX7_value_4 14 rfl rfl)
abbrev cX7_of : ByteArray := prog_8_method_3_code
def yX7_of : MethodName := ⟨RX7, "of", "(LQueueDrive$Drive;LQueueDrive$Command;LQueueDrive$Line;)I"⟩
def dkwX7_of_2 : List UInt8 := [21, 5, 172, 58, 6, 42, 1, 181, 0, 19, 25, 6, 191]
abbrev dktX7_of_2 : List UInt8 := dkwX7_of_2 ++ []
def dkwX7_of_1 : List UInt8 := [182, 0, 9, 54, 4, 42, 1, 181, 0, 19, 21, 4, 172, 58, 4, 3, 54, 5, 42, 1, 181, 0, 19]
abbrev dktX7_of_1 : List UInt8 := dkwX7_of_1 ++ dktX7_of_2
def dkwX7_of_0 : List UInt8 := [42, 43, 181, 0, 19, 42, 44, 181, 0, 23, 42, 45, 181, 0, 27, 42, 3, 181, 0, 31, 42, 3]
abbrev dktX7_of_0 : List UInt8 := dkwX7_of_0 ++ dktX7_of_1
theorem dksX7_of_0 : cX7_of.data.toList.drop 0 = dktX7_of_0 := by decide +kernel
theorem dksX7_of_1 : cX7_of.data.toList.drop 22 = dktX7_of_1 := dk_seg dksX7_of_0 22 rfl rfl
theorem dksX7_of_2 : cX7_of.data.toList.drop 45 = dktX7_of_2 := dk_seg dksX7_of_1 23 rfl rfl
theorem dX7_of_0 : decode cX7_of 0 = .ok (.aload_n 0, 1) := dk_42 (dk_at dksX7_of_0 0 rfl rfl)
theorem dX7_of_1 : decode cX7_of 1 = .ok (.aload_n 1, 1) := dk_43 (dk_at dksX7_of_0 1 rfl rfl)
theorem dX7_of_2 : decode cX7_of 2 = .ok (.putfield 19, 3) := dk_181 0 19 (dk_at dksX7_of_0 2 rfl rfl)
theorem dX7_of_5 : decode cX7_of 5 = .ok (.aload_n 0, 1) := dk_42 (dk_at dksX7_of_0 5 rfl rfl)
theorem dX7_of_6 : decode cX7_of 6 = .ok (.aload_n 2, 1) := dk_44 (dk_at dksX7_of_0 6 rfl rfl)
theorem dX7_of_7 : decode cX7_of 7 = .ok (.putfield 23, 3) := dk_181 0 23 (dk_at dksX7_of_0 7 rfl rfl)
theorem dX7_of_10 : decode cX7_of 10 = .ok (.aload_n 0, 1) := dk_42 (dk_at dksX7_of_0 10 rfl rfl)
theorem dX7_of_11 : decode cX7_of 11 = .ok (.aload_n 3, 1) := dk_45 (dk_at dksX7_of_0 11 rfl rfl)
theorem dX7_of_12 : decode cX7_of 12 = .ok (.putfield 27, 3) := dk_181 0 27 (dk_at dksX7_of_0 12 rfl rfl)
theorem dX7_of_15 : decode cX7_of 15 = .ok (.aload_n 0, 1) := dk_42 (dk_at dksX7_of_0 15 rfl rfl)
theorem dX7_of_16 : decode cX7_of 16 = .ok (.iconst 0, 1) := dk_3 (dk_at dksX7_of_0 16 rfl rfl)
theorem dX7_of_17 : decode cX7_of 17 = .ok (.putfield 31, 3) := dk_181 0 31 (dk_at dksX7_of_0 17 rfl rfl)
theorem dX7_of_20 : decode cX7_of 20 = .ok (.aload_n 0, 1) := dk_42 (dk_at dksX7_of_0 20 rfl rfl)
theorem dX7_of_21 : decode cX7_of 21 = .ok (.iconst 0, 1) := dk_3 (dk_at dksX7_of_0 21 rfl rfl)
theorem dX7_of_22 : decode cX7_of 22 = .ok (.invokevirtual 9, 3) := dk_182 0 9 (dk_at dksX7_of_1 0 rfl rfl)
theorem dX7_of_25 : decode cX7_of 25 = .ok (.istore 4, 2) := dk_54 4 (dk_at dksX7_of_1 3 rfl rfl)
theorem dX7_of_27 : decode cX7_of 27 = .ok (.aload_n 0, 1) := dk_42 (dk_at dksX7_of_1 5 rfl rfl)
theorem dX7_of_28 : decode cX7_of 28 = .ok (.aconst_null, 1) := dk_1 (dk_at dksX7_of_1 6 rfl rfl)
theorem dX7_of_29 : decode cX7_of 29 = .ok (.putfield 19, 3) := dk_181 0 19 (dk_at dksX7_of_1 7 rfl rfl)
theorem dX7_of_32 : decode cX7_of 32 = .ok (.iload 4, 2) := dk_21 4 (dk_at dksX7_of_1 10 rfl rfl)
theorem dX7_of_34 : decode cX7_of 34 = .ok (.ireturn, 1) := dk_172 (dk_at dksX7_of_1 12 rfl rfl)
theorem dX7_of_35 : decode cX7_of 35 = .ok (.astore 4, 2) := dk_58 4 (dk_at dksX7_of_1 13 rfl rfl)
theorem dX7_of_37 : decode cX7_of 37 = .ok (.iconst 0, 1) := dk_3 (dk_at dksX7_of_1 15 rfl rfl)
theorem dX7_of_38 : decode cX7_of 38 = .ok (.istore 5, 2) := dk_54 5 (dk_at dksX7_of_1 16 rfl rfl)
theorem dX7_of_40 : decode cX7_of 40 = .ok (.aload_n 0, 1) := dk_42 (dk_at dksX7_of_1 18 rfl rfl)
theorem dX7_of_41 : decode cX7_of 41 = .ok (.aconst_null, 1) := dk_1 (dk_at dksX7_of_1 19 rfl rfl)
theorem dX7_of_42 : decode cX7_of 42 = .ok (.putfield 19, 3) := dk_181 0 19 (dk_at dksX7_of_1 20 rfl rfl)
theorem dX7_of_45 : decode cX7_of 45 = .ok (.iload 5, 2) := dk_21 5 (dk_at dksX7_of_2 0 rfl rfl)
theorem dX7_of_47 : decode cX7_of 47 = .ok (.ireturn, 1) := dk_172 (dk_at dksX7_of_2 2 rfl rfl)
theorem dX7_of_48 : decode cX7_of 48 = .ok (.astore 6, 2) := dk_58 6 (dk_at dksX7_of_2 3 rfl rfl)
theorem dX7_of_50 : decode cX7_of 50 = .ok (.aload_n 0, 1) := dk_42 (dk_at dksX7_of_2 5 rfl rfl)
theorem dX7_of_51 : decode cX7_of 51 = .ok (.aconst_null, 1) := dk_1 (dk_at dksX7_of_2 6 rfl rfl)
theorem dX7_of_52 : decode cX7_of 52 = .ok (.putfield 19, 3) := dk_181 0 19 (dk_at dksX7_of_2 7 rfl rfl)
theorem dX7_of_55 : decode cX7_of 55 = .ok (.aload 6, 2) := dk_25 6 (dk_at dksX7_of_2 10 rfl rfl)
theorem dX7_of_57 : decode cX7_of 57 = .ok (.athrow, 1) := dk_191 (dk_at dksX7_of_2 12 rfl rfl)
theorem q121 : (Jvm.Cond.initialized "QueueDrive$Rule") ∈ lw_all := lw_g (lw_at lw_m1 30 rfl) rfl
theorem q554 : (Jvm.Cond.fieldLink "QueueDrive$Rule" (89 : Nat) "QueueDrive$Line" "number" "I") ∈ lw_all := lw_g (lw_at lw_m2 223 rfl) rfl
theorem q569 : (Jvm.Cond.fieldLink "QueueDrive$Rule" (93 : Nat) "QueueDrive$Line" "kind" "I") ∈ lw_all := lw_g (lw_at lw_m2 238 rfl) rfl
theorem q638 : (Jvm.Cond.fieldLink "QueueDrive$Rule" (96 : Nat) "QueueDrive$Drive" "running" "Ljava/util/LinkedList;") ∈ lw_all := lw_g (lw_at lw_m3 67 rfl) rfl
theorem q656 : (Jvm.Cond.fieldLink "QueueDrive$Rule" (107 : Nat) "QueueDrive$Drive" "tick" "I") ∈ lw_all := lw_g (lw_at lw_m3 85 rfl) rfl
theorem q803 : (Jvm.Cond.fieldLink "QueueDrive$Rule" (31 : Nat) "QueueDrive$Rule" "at" "I") ∈ lw_all := lw_g (lw_at lw_m3 232 rfl) rfl
theorem q804 : (Jvm.Cond.sameField "QueueDrive$Rule" "QueueDrive$Words" "at" "I") ∈ lw_all := lw_g (lw_at lw_m3 233 rfl) rfl
theorem q820 : (Jvm.Cond.selects "QueueDrive$Rule" ({ cls := "QueueDrive$Words", name := "digit", desc := "(CI)I" } : Jvm.MethodName) ({ cls := "QueueDrive$Words", name := "digit", desc := "(CI)I" } : Jvm.MethodName)) ∈ lw_all := lw_g (lw_at lw_m4 9 rfl) rfl
theorem q827 : (Jvm.Cond.selects "QueueDrive$Rule" ({ cls := "QueueDrive$Words", name := "here", desc := "()I" } : Jvm.MethodName) ({ cls := "QueueDrive$Words", name := "here", desc := "()I" } : Jvm.MethodName)) ∈ lw_all := lw_g (lw_at lw_m4 16 rfl) rfl
theorem q835 : (Jvm.Cond.selects "QueueDrive$Rule" ({ cls := "QueueDrive$Words", name := "need", desc := "(Z)V" } : Jvm.MethodName) ({ cls := "QueueDrive$Words", name := "need", desc := "(Z)V" } : Jvm.MethodName)) ∈ lw_all := lw_g (lw_at lw_m4 24 rfl) rfl
theorem q914 : (Jvm.Cond.selects "QueueDrive$Rule" ({ cls := "QueueDrive$Words", name := "passes", desc := "(C)Z" } : Jvm.MethodName) ({ cls := "QueueDrive$Words", name := "passes", desc := "(C)Z" } : Jvm.MethodName)) ∈ lw_all := lw_g (lw_at lw_m4 103 rfl) rfl
theorem q921 : (Jvm.Cond.selects "QueueDrive$Rule" ({ cls := "QueueDrive$Words", name := "needEnd", desc := "()V" } : Jvm.MethodName) ({ cls := "QueueDrive$Words", name := "needEnd", desc := "()V" } : Jvm.MethodName)) ∈ lw_all := lw_g (lw_at lw_m4 110 rfl) rfl
theorem q945 : (Jvm.Cond.instantiable "QueueDrive$Rule" (7 : Nat)) ∈ lw_all := lw_g (lw_at lw_m4 134 rfl) rfl
theorem q947 : (Jvm.Cond.instanceMethod ({ cls := "QueueDrive$Rule", name := "<init>", desc := "([BI)V" } : Jvm.MethodName)) ∈ lw_all := lw_g (lw_at lw_m4 136 rfl) rfl
theorem q948 : (Jvm.Cond.code ({ cls := "QueueDrive$Rule", name := "<init>", desc := "([BI)V" } : Jvm.MethodName) prog_8_method_1_code (3 : Nat) (Option.none : Option Jvm.ClassFile.FieldType)) ∈ lw_all := lw_g (lw_at lw_m4 137 rfl) rfl
theorem q949 : (Jvm.Cond.methodLink "QueueDrive$Rule" (3 : Nat) ({ cls := "QueueDrive$Words", name := "<init>", desc := "([BII)V" } : Jvm.MethodName)) ∈ lw_all := lw_g (lw_at lw_m4 138 rfl) rfl
theorem q950 : (Jvm.Cond.fieldLink "QueueDrive$Rule" (19 : Nat) "QueueDrive$Rule" "drive" "LQueueDrive$Drive;") ∈ lw_all := lw_g (lw_at lw_m4 139 rfl) rfl
theorem q951 : (Jvm.Cond.fieldLink "QueueDrive$Rule" (23 : Nat) "QueueDrive$Rule" "command" "LQueueDrive$Command;") ∈ lw_all := lw_g (lw_at lw_m4 140 rfl) rfl
theorem q952 : (Jvm.Cond.fieldLink "QueueDrive$Rule" (27 : Nat) "QueueDrive$Rule" "line" "LQueueDrive$Line;") ∈ lw_all := lw_g (lw_at lw_m4 141 rfl) rfl
theorem q953 : (Jvm.Cond.lays "QueueDrive$Rule" "QueueDrive$Rule" "drive" "LQueueDrive$Drive;") ∈ lw_all := lw_g (lw_at lw_m4 142 rfl) rfl
theorem q954 : (Jvm.Cond.soleField "QueueDrive$Rule" "drive") ∈ lw_all := lw_g (lw_at lw_m4 143 rfl) rfl
theorem q955 : (Jvm.Cond.lays "QueueDrive$Rule" "QueueDrive$Rule" "command" "LQueueDrive$Command;") ∈ lw_all := lw_g (lw_at lw_m4 144 rfl) rfl
theorem q956 : (Jvm.Cond.soleField "QueueDrive$Rule" "command") ∈ lw_all := lw_g (lw_at lw_m4 145 rfl) rfl
theorem q957 : (Jvm.Cond.lays "QueueDrive$Rule" "QueueDrive$Rule" "line" "LQueueDrive$Line;") ∈ lw_all := lw_g (lw_at lw_m4 146 rfl) rfl
theorem q958 : (Jvm.Cond.soleField "QueueDrive$Rule" "line") ∈ lw_all := lw_g (lw_at lw_m4 147 rfl) rfl
theorem q959 : (Jvm.Cond.laysFinal "QueueDrive$Rule" "QueueDrive$Words" "of" "[B") ∈ lw_all := lw_g (lw_at lw_m4 148 rfl) rfl
theorem q960 : (Jvm.Cond.laysFinal "QueueDrive$Rule" "QueueDrive$Words" "size" "I") ∈ lw_all := lw_g (lw_at lw_m4 149 rfl) rfl
theorem q961 : (Jvm.Cond.laysFinal "QueueDrive$Rule" "QueueDrive$Words" "end" "I") ∈ lw_all := lw_g (lw_at lw_m4 150 rfl) rfl
theorem q962 : (Jvm.Cond.lays "QueueDrive$Rule" "QueueDrive$Words" "at" "I") ∈ lw_all := lw_g (lw_at lw_m4 151 rfl) rfl
theorem q963 : (Jvm.Cond.superclass "QueueDrive$Rule" "QueueDrive$Words") ∈ lw_all := lw_g (lw_at lw_m4 152 rfl) rfl
theorem q965 : (Jvm.Cond.instanceMethod ({ cls := "QueueDrive$Rule", name := "read", desc := "()LQueueDrive$Rule;" } : Jvm.MethodName)) ∈ lw_all := lw_g (lw_at lw_m4 154 rfl) rfl
theorem q966 : (Jvm.Cond.selects "QueueDrive$Rule" ({ cls := "QueueDrive$Rule", name := "read", desc := "()LQueueDrive$Rule;" } : Jvm.MethodName) ({ cls := "QueueDrive$Rule", name := "read", desc := "()LQueueDrive$Rule;" } : Jvm.MethodName)) ∈ lw_all := lw_g (lw_at lw_m4 155 rfl) rfl
theorem q967 : (Jvm.Cond.code ({ cls := "QueueDrive$Rule", name := "read", desc := "()LQueueDrive$Rule;" } : Jvm.MethodName) prog_8_method_2_code (1 : Nat) (Option.some (Jvm.ClassFile.FieldType.object "QueueDrive$Rule"))) ∈ lw_all := lw_g (lw_at lw_m4 156 rfl) rfl
theorem q968 : (Jvm.Cond.methodLink "QueueDrive$Rule" (9 : Nat) ({ cls := "QueueDrive$Rule", name := "whole", desc := "(I)I" } : Jvm.MethodName)) ∈ lw_all := lw_g (lw_at lw_m4 157 rfl) rfl
theorem q969 : (Jvm.Cond.privateMethod ({ cls := "QueueDrive$Rule", name := "whole", desc := "(I)I" } : Jvm.MethodName)) ∈ lw_tbl := lw_at lw_m4 158 rfl
theorem q970 : (Jvm.Cond.instanceMethod ({ cls := "QueueDrive$Rule", name := "whole", desc := "(I)I" } : Jvm.MethodName)) ∈ lw_all := lw_g (lw_at lw_m4 159 rfl) rfl
theorem q971 : (Jvm.Cond.code ({ cls := "QueueDrive$Rule", name := "whole", desc := "(I)I" } : Jvm.MethodName) prog_8_method_4_code (3 : Nat) (Option.some Jvm.ClassFile.FieldType.int)) ∈ lw_all := lw_g (lw_at lw_m4 160 rfl) rfl
theorem q972 : (Jvm.Cond.methodLink "QueueDrive$Rule" (37 : Nat) ({ cls := "QueueDrive$Rule", name := "sum", desc := "(I)I" } : Jvm.MethodName)) ∈ lw_all := lw_g (lw_at lw_m4 161 rfl) rfl
theorem q973 : (Jvm.Cond.privateMethod ({ cls := "QueueDrive$Rule", name := "sum", desc := "(I)I" } : Jvm.MethodName)) ∈ lw_tbl := lw_at lw_m4 162 rfl
theorem q974 : (Jvm.Cond.instanceMethod ({ cls := "QueueDrive$Rule", name := "sum", desc := "(I)I" } : Jvm.MethodName)) ∈ lw_all := lw_g (lw_at lw_m4 163 rfl) rfl
theorem q975 : (Jvm.Cond.code ({ cls := "QueueDrive$Rule", name := "sum", desc := "(I)I" } : Jvm.MethodName) prog_8_method_5_code (5 : Nat) (Option.some Jvm.ClassFile.FieldType.int)) ∈ lw_all := lw_g (lw_at lw_m4 164 rfl) rfl
theorem q976 : (Jvm.Cond.methodLink "QueueDrive$Rule" (44 : Nat) ({ cls := "QueueDrive$Rule", name := "product", desc := "(I)I" } : Jvm.MethodName)) ∈ lw_all := lw_g (lw_at lw_m4 165 rfl) rfl
theorem q977 : (Jvm.Cond.privateMethod ({ cls := "QueueDrive$Rule", name := "product", desc := "(I)I" } : Jvm.MethodName)) ∈ lw_tbl := lw_at lw_m4 166 rfl
theorem q978 : (Jvm.Cond.instanceMethod ({ cls := "QueueDrive$Rule", name := "product", desc := "(I)I" } : Jvm.MethodName)) ∈ lw_all := lw_g (lw_at lw_m4 167 rfl) rfl
theorem q979 : (Jvm.Cond.code ({ cls := "QueueDrive$Rule", name := "product", desc := "(I)I" } : Jvm.MethodName) prog_8_method_6_code (5 : Nat) (Option.some Jvm.ClassFile.FieldType.int)) ∈ lw_all := lw_g (lw_at lw_m4 168 rfl) rfl
theorem q980 : (Jvm.Cond.methodLink "QueueDrive$Rule" (51 : Nat) ({ cls := "QueueDrive$Rule", name := "thing", desc := "(I)I" } : Jvm.MethodName)) ∈ lw_all := lw_g (lw_at lw_m4 169 rfl) rfl
theorem q981 : (Jvm.Cond.privateMethod ({ cls := "QueueDrive$Rule", name := "thing", desc := "(I)I" } : Jvm.MethodName)) ∈ lw_tbl := lw_at lw_m4 170 rfl
theorem q982 : (Jvm.Cond.instanceMethod ({ cls := "QueueDrive$Rule", name := "thing", desc := "(I)I" } : Jvm.MethodName)) ∈ lw_all := lw_g (lw_at lw_m4 171 rfl) rfl
theorem q983 : (Jvm.Cond.code ({ cls := "QueueDrive$Rule", name := "thing", desc := "(I)I" } : Jvm.MethodName) prog_8_method_7_code (3 : Nat) (Option.some Jvm.ClassFile.FieldType.int)) ∈ lw_all := lw_g (lw_at lw_m4 172 rfl) rfl
theorem q984 : (Jvm.Cond.methodLink "QueueDrive$Rule" (40 : Nat) ({ cls := "QueueDrive$Rule", name := "passes", desc := "(C)Z" } : Jvm.MethodName)) ∈ lw_all := lw_g (lw_at lw_m4 173 rfl) rfl
theorem q985 : (Jvm.Cond.sameMethod "QueueDrive$Rule" "QueueDrive$Words" "passes" "(C)Z") ∈ lw_all := lw_g (lw_at lw_m4 174 rfl) rfl
theorem q987 : (Jvm.Cond.selects "QueueDrive$Rule" ({ cls := "QueueDrive$Rule", name := "passes", desc := "(C)Z" } : Jvm.MethodName) ({ cls := "QueueDrive$Words", name := "passes", desc := "(C)Z" } : Jvm.MethodName)) ∈ lw_all := lw_g (lw_at lw_m4 176 rfl) rfl
theorem q988 : (Jvm.Cond.methodLink "QueueDrive$Rule" (47 : Nat) ({ cls := "QueueDrive$Rule", name := "here", desc := "()I" } : Jvm.MethodName)) ∈ lw_all := lw_g (lw_at lw_m4 177 rfl) rfl
theorem q989 : (Jvm.Cond.sameMethod "QueueDrive$Rule" "QueueDrive$Words" "here" "()I") ∈ lw_all := lw_g (lw_at lw_m4 178 rfl) rfl
theorem q991 : (Jvm.Cond.selects "QueueDrive$Rule" ({ cls := "QueueDrive$Rule", name := "here", desc := "()I" } : Jvm.MethodName) ({ cls := "QueueDrive$Words", name := "here", desc := "()I" } : Jvm.MethodName)) ∈ lw_all := lw_g (lw_at lw_m4 180 rfl) rfl
theorem q992 : (Jvm.Cond.methodLink "QueueDrive$Rule" (54 : Nat) ({ cls := "QueueDrive$Rule", name := "need", desc := "(Z)V" } : Jvm.MethodName)) ∈ lw_all := lw_g (lw_at lw_m4 181 rfl) rfl
theorem q993 : (Jvm.Cond.sameMethod "QueueDrive$Rule" "QueueDrive$Words" "need" "(Z)V") ∈ lw_all := lw_g (lw_at lw_m4 182 rfl) rfl
theorem q995 : (Jvm.Cond.selects "QueueDrive$Rule" ({ cls := "QueueDrive$Rule", name := "need", desc := "(Z)V" } : Jvm.MethodName) ({ cls := "QueueDrive$Words", name := "need", desc := "(Z)V" } : Jvm.MethodName)) ∈ lw_all := lw_g (lw_at lw_m4 184 rfl) rfl
theorem q996 : (Jvm.Cond.constantLong "QueueDrive$Rule" (58 : Nat) (48 : Int64)) ∈ lw_all := lw_g (lw_at lw_m4 185 rfl) rfl
theorem q997 : (Jvm.Cond.constantLong "QueueDrive$Rule" (60 : Nat) (57 : Int64)) ∈ lw_all := lw_g (lw_at lw_m4 186 rfl) rfl
theorem q998 : (Jvm.Cond.methodLinkNest "QueueDrive$Rule" (62 : Nat) ({ cls := "QueueDrive", name := "in", desc := "(JJJ)Z" } : Jvm.MethodName) "QueueDrive") ∈ lw_tbl := lw_at lw_m4 187 rfl
theorem q999 : (Jvm.Cond.methodLink "QueueDrive$Rule" (66 : Nat) ({ cls := "QueueDrive$Rule", name := "number", desc := "(I)I" } : Jvm.MethodName)) ∈ lw_all := lw_g (lw_at lw_m4 188 rfl) rfl
theorem q1000 : (Jvm.Cond.sameMethod "QueueDrive$Rule" "QueueDrive$Words" "number" "(I)I") ∈ lw_all := lw_g (lw_at lw_m4 189 rfl) rfl
theorem q1002 : (Jvm.Cond.selects "QueueDrive$Rule" ({ cls := "QueueDrive$Rule", name := "number", desc := "(I)I" } : Jvm.MethodName) ({ cls := "QueueDrive$Words", name := "number", desc := "(I)I" } : Jvm.MethodName)) ∈ lw_all := lw_g (lw_at lw_m4 191 rfl) rfl
theorem q1008 : (Jvm.Cond.stringRef "QueueDrive$Rule" (69 : Nat) "obvqcdn") ∈ lw_tbl := lw_at lw_m4 197 rfl
theorem q1009 : (Jvm.Cond.methodLink "QueueDrive$Rule" (71 : Nat) ({ cls := "java/lang/String", name := "indexOf", desc := "(I)I" } : Jvm.MethodName)) ∈ lw_all := lw_g (lw_at lw_m4 198 rfl) rfl
theorem q1010 : (Jvm.Cond.methodLink "QueueDrive$Rule" (76 : Nat) ({ cls := "QueueDrive$Rule", name := "value", desc := "(I)I" } : Jvm.MethodName)) ∈ lw_all := lw_g (lw_at lw_m4 199 rfl) rfl
theorem q1011 : (Jvm.Cond.privateMethod ({ cls := "QueueDrive$Rule", name := "value", desc := "(I)I" } : Jvm.MethodName)) ∈ lw_tbl := lw_at lw_m4 200 rfl
theorem q1012 : (Jvm.Cond.instanceMethod ({ cls := "QueueDrive$Rule", name := "value", desc := "(I)I" } : Jvm.MethodName)) ∈ lw_all := lw_g (lw_at lw_m4 201 rfl) rfl
theorem q1013 : (Jvm.Cond.code ({ cls := "QueueDrive$Rule", name := "value", desc := "(I)I" } : Jvm.MethodName) prog_8_method_8_code (2 : Nat) (Option.some Jvm.ClassFile.FieldType.int)) ∈ lw_all := lw_g (lw_at lw_m4 202 rfl) rfl
theorem q1014 : (Jvm.Cond.methodLink "QueueDrive$Rule" (102 : Nat) ({ cls := "java/util/LinkedList", name := "size", desc := "()I" } : Jvm.MethodName)) ∈ lw_all := lw_g (lw_at lw_m4 203 rfl) rfl
theorem q1018 : (Jvm.Cond.methodLink "QueueDrive$Rule" (15 : Nat) ({ cls := "QueueDrive$Rule", name := "needEnd", desc := "()V" } : Jvm.MethodName)) ∈ lw_all := lw_g (lw_at lw_m4 207 rfl) rfl
theorem q1019 : (Jvm.Cond.sameMethod "QueueDrive$Rule" "QueueDrive$Words" "needEnd" "()V") ∈ lw_all := lw_g (lw_at lw_m4 208 rfl) rfl
theorem q1021 : (Jvm.Cond.selects "QueueDrive$Rule" ({ cls := "QueueDrive$Rule", name := "needEnd", desc := "()V" } : Jvm.MethodName) ({ cls := "QueueDrive$Words", name := "needEnd", desc := "()V" } : Jvm.MethodName)) ∈ lw_all := lw_g (lw_at lw_m4 210 rfl) rfl
theorem q1212 : (Jvm.Cond.selects "QueueDrive$Rule" ({ cls := "java/lang/Object", name := "getClass", desc := "()Ljava/lang/Class;" } : Jvm.MethodName) ({ cls := "java/lang/Object", name := "getClass", desc := "()Ljava/lang/Class;" } : Jvm.MethodName)) ∈ lw_all := lw_g (lw_at lw_m5 161 rfl) rfl
theorem q1467 : (Jvm.Cond.fieldLink "QueueDrive$Rule" (79 : Nat) "QueueDrive$Command" "op" "I") ∈ lw_all := lw_g (lw_at lw_m6 176 rfl) rfl
theorem q1471 : (Jvm.Cond.fieldLink "QueueDrive$Rule" (84 : Nat) "QueueDrive$Command" "block" "I") ∈ lw_all := lw_g (lw_at lw_m6 180 rfl) rfl
theorem q1475 : (Jvm.Cond.fieldLink "QueueDrive$Rule" (87 : Nat) "QueueDrive$Command" "value" "I") ∈ lw_all := lw_g (lw_at lw_m6 184 rfl) rfl
theorem q1747 : (Jvm.Cond.instanceMethod ({ cls := "QueueDrive$Rule", name := "of", desc := "(LQueueDrive$Drive;LQueueDrive$Command;LQueueDrive$Line;)I" } : Jvm.MethodName)) ∈ lw_all := lw_g (lw_at lw_m7 216 rfl) rfl
theorem q1748 : (Jvm.Cond.selects "QueueDrive$Rule" ({ cls := "QueueDrive$Rule", name := "of", desc := "(LQueueDrive$Drive;LQueueDrive$Command;LQueueDrive$Line;)I" } : Jvm.MethodName) ({ cls := "QueueDrive$Rule", name := "of", desc := "(LQueueDrive$Drive;LQueueDrive$Command;LQueueDrive$Line;)I" } : Jvm.MethodName)) ∈ lw_all := lw_g (lw_at lw_m7 217 rfl) rfl
theorem q1749 : (Jvm.Cond.codeWith ({ cls := "QueueDrive$Rule", name := "of", desc := "(LQueueDrive$Drive;LQueueDrive$Command;LQueueDrive$Line;)I" } : Jvm.MethodName) prog_8_method_3_code (7 : Nat) (Option.some Jvm.ClassFile.FieldType.int) [((20 : Nat), (27 : Nat), (35 : Nat), (35 : Nat)), ((20 : Nat), (27 : Nat), (48 : Nat), (0 : Nat)), ((35 : Nat), (40 : Nat), (48 : Nat), (0 : Nat)), ((48 : Nat), (50 : Nat), (48 : Nat), (0 : Nat))]) ∈ lw_all := lw_g (lw_at lw_m7 218 rfl) rfl
theorem q1750 : (Jvm.Cond.classLink "QueueDrive$Rule" (35 : Nat) "QueueDrive$Fault") ∈ lw_all := lw_g (lw_at lw_m7 219 rfl) rfl
theorem q2788 : (Jvm.Cond.castable "QueueDrive$Rule" "java/lang/Object") ∈ lw_tbl := lw_at lw_m12 57 rfl
theorem in_X7 : ∀ w ∈ wsX70, w ∈ lw_all := lw_in wsX70 [959, 960, 961, 962, 953, 955, 957] (by decide +kernel) (by decide +kernel)

/-! QueueDrive$Command -/
set_option maxRecDepth 100000
def RX8 : String := "QueueDrive$Command"
def TX8 : u_T := fun k => match k with
  | 0 => ("QueueDrive$Command", "line", "I", true)
  | 1 => ("QueueDrive$Command", "id", "I", true)
  | 2 => ("QueueDrive$Command", "op", "I", true)
  | 3 => ("QueueDrive$Command", "block", "I", true)
  | 4 => ("QueueDrive$Command", "value", "I", true)
  | _ => ("QueueDrive$Command", "isCalled", "Z", true)
def tyX8 : Nat → FieldType := fun k => match k with
  | 0 => .int
  | 1 => .int
  | 2 => .int
  | 3 => .int
  | 4 => .int
  | _ => .boolean
abbrev wsX80 : List Cond := u_ws RX8 TX8 6
theorem nmX8 : ∀ a, a < 6 → ∀ b, b < 6 → a ≠ b → (TX8 a).2.1 ≠ (TX8 b).2.1 := by decide +kernel
theorem tyX8_ok : ∀ k, k < 6 → parseFieldDescriptor (TX8 k).2.2.1 = some (tyX8 k) := by decide +kernel
abbrev cX8_init : ByteArray := prog_2_method_1_code
def yX8_init : MethodName := ⟨RX8, "<init>", "(IIIIIZ)V"⟩
def dkwX8_init_1 : List UInt8 := [181, 0, 21, 42, 21, 5, 181, 0, 24, 42, 21, 6, 181, 0, 27, 177]
abbrev dktX8_init_1 : List UInt8 := dkwX8_init_1 ++ []
def dkwX8_init_0 : List UInt8 := [42, 183, 0, 3, 42, 27, 181, 0, 9, 42, 28, 181, 0, 15, 42, 29, 181, 0, 18, 42, 21, 4]
abbrev dktX8_init_0 : List UInt8 := dkwX8_init_0 ++ dktX8_init_1
theorem dksX8_init_0 : cX8_init.data.toList.drop 0 = dktX8_init_0 := by decide +kernel
theorem dksX8_init_1 : cX8_init.data.toList.drop 22 = dktX8_init_1 := dk_seg dksX8_init_0 22 rfl rfl
theorem dX8_init_0 : decode cX8_init 0 = .ok (.aload_n 0, 1) := dk_42 (dk_at dksX8_init_0 0 rfl rfl)
theorem dX8_init_1 : decode cX8_init 1 = .ok (.invokespecial 3, 3) := dk_183 0 3 (dk_at dksX8_init_0 1 rfl rfl)
theorem dX8_init_4 : decode cX8_init 4 = .ok (.aload_n 0, 1) := dk_42 (dk_at dksX8_init_0 4 rfl rfl)
theorem dX8_init_5 : decode cX8_init 5 = .ok (.iload_n 1, 1) := dk_27 (dk_at dksX8_init_0 5 rfl rfl)
theorem dX8_init_6 : decode cX8_init 6 = .ok (.putfield 9, 3) := dk_181 0 9 (dk_at dksX8_init_0 6 rfl rfl)
theorem dX8_init_9 : decode cX8_init 9 = .ok (.aload_n 0, 1) := dk_42 (dk_at dksX8_init_0 9 rfl rfl)
theorem dX8_init_10 : decode cX8_init 10 = .ok (.iload_n 2, 1) := dk_28 (dk_at dksX8_init_0 10 rfl rfl)
theorem dX8_init_11 : decode cX8_init 11 = .ok (.putfield 15, 3) := dk_181 0 15 (dk_at dksX8_init_0 11 rfl rfl)
theorem dX8_init_14 : decode cX8_init 14 = .ok (.aload_n 0, 1) := dk_42 (dk_at dksX8_init_0 14 rfl rfl)
theorem dX8_init_15 : decode cX8_init 15 = .ok (.iload_n 3, 1) := dk_29 (dk_at dksX8_init_0 15 rfl rfl)
theorem dX8_init_16 : decode cX8_init 16 = .ok (.putfield 18, 3) := dk_181 0 18 (dk_at dksX8_init_0 16 rfl rfl)
theorem dX8_init_19 : decode cX8_init 19 = .ok (.aload_n 0, 1) := dk_42 (dk_at dksX8_init_0 19 rfl rfl)
theorem dX8_init_20 : decode cX8_init 20 = .ok (.iload 4, 2) := dk_21 4 (dk_at dksX8_init_0 20 rfl rfl)
theorem dX8_init_22 : decode cX8_init 22 = .ok (.putfield 21, 3) := dk_181 0 21 (dk_at dksX8_init_1 0 rfl rfl)
theorem dX8_init_25 : decode cX8_init 25 = .ok (.aload_n 0, 1) := dk_42 (dk_at dksX8_init_1 3 rfl rfl)
theorem dX8_init_26 : decode cX8_init 26 = .ok (.iload 5, 2) := dk_21 5 (dk_at dksX8_init_1 4 rfl rfl)
theorem dX8_init_28 : decode cX8_init 28 = .ok (.putfield 24, 3) := dk_181 0 24 (dk_at dksX8_init_1 6 rfl rfl)
theorem dX8_init_31 : decode cX8_init 31 = .ok (.aload_n 0, 1) := dk_42 (dk_at dksX8_init_1 9 rfl rfl)
theorem dX8_init_32 : decode cX8_init 32 = .ok (.iload 6, 2) := dk_21 6 (dk_at dksX8_init_1 10 rfl rfl)
theorem dX8_init_34 : decode cX8_init 34 = .ok (.putfield 27, 3) := dk_181 0 27 (dk_at dksX8_init_1 12 rfl rfl)
theorem dX8_init_37 : decode cX8_init 37 = .ok (.return_, 1) := dk_177 (dk_at dksX8_init_1 15 rfl rfl)
abbrev cX8_calledBack : ByteArray := prog_2_method_2_code
def yX8_calledBack : MethodName := ⟨RX8, "calledBack", "()LQueueDrive$Command;"⟩
def dkwX8_calledBack_1 : List UInt8 := [4, 183, 0, 31, 176]
abbrev dktX8_calledBack_1 : List UInt8 := dkwX8_calledBack_1 ++ []
def dkwX8_calledBack_0 : List UInt8 := [187, 0, 10, 89, 42, 180, 0, 9, 42, 180, 0, 15, 42, 180, 0, 18, 42, 180, 0, 21, 42, 180, 0, 24]
abbrev dktX8_calledBack_0 : List UInt8 := dkwX8_calledBack_0 ++ dktX8_calledBack_1
theorem dksX8_calledBack_0 : cX8_calledBack.data.toList.drop 0 = dktX8_calledBack_0 := by decide +kernel
theorem dksX8_calledBack_1 : cX8_calledBack.data.toList.drop 24 = dktX8_calledBack_1 := dk_seg dksX8_calledBack_0 24 rfl rfl
theorem dX8_calledBack_0 : decode cX8_calledBack 0 = .ok (.new 10, 3) := dk_187 0 10 (dk_at dksX8_calledBack_0 0 rfl rfl)
theorem dX8_calledBack_3 : decode cX8_calledBack 3 = .ok (.dup, 1) := dk_89 (dk_at dksX8_calledBack_0 3 rfl rfl)
theorem dX8_calledBack_4 : decode cX8_calledBack 4 = .ok (.aload_n 0, 1) := dk_42 (dk_at dksX8_calledBack_0 4 rfl rfl)
theorem dX8_calledBack_5 : decode cX8_calledBack 5 = .ok (.getfield 9, 3) := dk_180 0 9 (dk_at dksX8_calledBack_0 5 rfl rfl)
theorem dX8_calledBack_8 : decode cX8_calledBack 8 = .ok (.aload_n 0, 1) := dk_42 (dk_at dksX8_calledBack_0 8 rfl rfl)
theorem dX8_calledBack_9 : decode cX8_calledBack 9 = .ok (.getfield 15, 3) := dk_180 0 15 (dk_at dksX8_calledBack_0 9 rfl rfl)
theorem dX8_calledBack_12 : decode cX8_calledBack 12 = .ok (.aload_n 0, 1) := dk_42 (dk_at dksX8_calledBack_0 12 rfl rfl)
theorem dX8_calledBack_13 : decode cX8_calledBack 13 = .ok (.getfield 18, 3) := dk_180 0 18 (dk_at dksX8_calledBack_0 13 rfl rfl)
theorem dX8_calledBack_16 : decode cX8_calledBack 16 = .ok (.aload_n 0, 1) := dk_42 (dk_at dksX8_calledBack_0 16 rfl rfl)
theorem dX8_calledBack_17 : decode cX8_calledBack 17 = .ok (.getfield 21, 3) := dk_180 0 21 (dk_at dksX8_calledBack_0 17 rfl rfl)
theorem dX8_calledBack_20 : decode cX8_calledBack 20 = .ok (.aload_n 0, 1) := dk_42 (dk_at dksX8_calledBack_0 20 rfl rfl)
theorem dX8_calledBack_21 : decode cX8_calledBack 21 = .ok (.getfield 24, 3) := dk_180 0 24 (dk_at dksX8_calledBack_0 21 rfl rfl)
theorem dX8_calledBack_24 : decode cX8_calledBack 24 = .ok (.iconst 1, 1) := dk_4 (dk_at dksX8_calledBack_1 0 rfl rfl)
theorem dX8_calledBack_25 : decode cX8_calledBack 25 = .ok (.invokespecial 31, 3) := dk_183 0 31 (dk_at dksX8_calledBack_1 1 rfl rfl)
theorem dX8_calledBack_28 : decode cX8_calledBack 28 = .ok (.areturn, 1) := dk_176 (dk_at dksX8_calledBack_1 4 rfl rfl)
abbrev cX8_isWrite : ByteArray := prog_2_method_3_code
def yX8_isWrite : MethodName := ⟨RX8, "isWrite", "()Z"⟩
def dkwX8_isWrite_0 : List UInt8 := [42, 180, 0, 18, 4, 159, 0, 11, 42, 180, 0, 18, 6, 160, 0, 7, 4, 167, 0, 4, 3, 172]
abbrev dktX8_isWrite_0 : List UInt8 := dkwX8_isWrite_0 ++ []
theorem dksX8_isWrite_0 : cX8_isWrite.data.toList.drop 0 = dktX8_isWrite_0 := by decide +kernel
theorem dX8_isWrite_0 : decode cX8_isWrite 0 = .ok (.aload_n 0, 1) := dk_42 (dk_at dksX8_isWrite_0 0 rfl rfl)
theorem dX8_isWrite_1 : decode cX8_isWrite 1 = .ok (.getfield 18, 3) := dk_180 0 18 (dk_at dksX8_isWrite_0 1 rfl rfl)
theorem dX8_isWrite_4 : decode cX8_isWrite 4 = .ok (.iconst 1, 1) := dk_4 (dk_at dksX8_isWrite_0 4 rfl rfl)
theorem dX8_isWrite_5 : decode cX8_isWrite 5 = .ok (.if_icmp .eq 11, 3) := dk_159 0 11 (dk_at dksX8_isWrite_0 5 rfl rfl)
theorem dX8_isWrite_8 : decode cX8_isWrite 8 = .ok (.aload_n 0, 1) := dk_42 (dk_at dksX8_isWrite_0 8 rfl rfl)
theorem dX8_isWrite_9 : decode cX8_isWrite 9 = .ok (.getfield 18, 3) := dk_180 0 18 (dk_at dksX8_isWrite_0 9 rfl rfl)
theorem dX8_isWrite_12 : decode cX8_isWrite 12 = .ok (.iconst 3, 1) := dk_6 (dk_at dksX8_isWrite_0 12 rfl rfl)
theorem dX8_isWrite_13 : decode cX8_isWrite 13 = .ok (.if_icmp .ne 7, 3) := dk_160 0 7 (dk_at dksX8_isWrite_0 13 rfl rfl)
theorem dX8_isWrite_16 : decode cX8_isWrite 16 = .ok (.iconst 1, 1) := dk_4 (dk_at dksX8_isWrite_0 16 rfl rfl)
theorem dX8_isWrite_17 : decode cX8_isWrite 17 = .ok (.goto 4, 3) := dk_167 0 4 (dk_at dksX8_isWrite_0 17 rfl rfl)
theorem dX8_isWrite_20 : decode cX8_isWrite 20 = .ok (.iconst 0, 1) := dk_3 (dk_at dksX8_isWrite_0 20 rfl rfl)
theorem dX8_isWrite_21 : decode cX8_isWrite 21 = .ok (.ireturn, 1) := dk_172 (dk_at dksX8_isWrite_0 21 rfl rfl)
theorem q129 : (Jvm.Cond.initialized "QueueDrive$Command") ∈ lw_all := lw_g (lw_at lw_m1 38 rfl) rfl
theorem q1206 : (Jvm.Cond.selects "QueueDrive$Command" ({ cls := "java/lang/Object", name := "getClass", desc := "()Ljava/lang/Class;" } : Jvm.MethodName) ({ cls := "java/lang/Object", name := "getClass", desc := "()Ljava/lang/Class;" } : Jvm.MethodName)) ∈ lw_all := lw_g (lw_at lw_m5 155 rfl) rfl
theorem q1453 : (Jvm.Cond.instantiable "QueueDrive$Command" (6 : Nat)) ∈ lw_all := lw_g (lw_at lw_m6 162 rfl) rfl
theorem q1455 : (Jvm.Cond.instanceMethod ({ cls := "QueueDrive$Command", name := "<init>", desc := "(IIIIIZ)V" } : Jvm.MethodName)) ∈ lw_all := lw_g (lw_at lw_m6 164 rfl) rfl
theorem q1456 : (Jvm.Cond.code ({ cls := "QueueDrive$Command", name := "<init>", desc := "(IIIIIZ)V" } : Jvm.MethodName) prog_2_method_1_code (7 : Nat) (Option.none : Option Jvm.ClassFile.FieldType)) ∈ lw_all := lw_g (lw_at lw_m6 165 rfl) rfl
theorem q1457 : (Jvm.Cond.methodLink "QueueDrive$Command" (3 : Nat) ({ cls := "java/lang/Object", name := "<init>", desc := "()V" } : Jvm.MethodName)) ∈ lw_all := lw_g (lw_at lw_m6 166 rfl) rfl
theorem q1458 : (Jvm.Cond.fieldLink "QueueDrive$Command" (9 : Nat) "QueueDrive$Command" "line" "I") ∈ lw_all := lw_g (lw_at lw_m6 167 rfl) rfl
theorem q1462 : (Jvm.Cond.fieldLink "QueueDrive$Command" (15 : Nat) "QueueDrive$Command" "id" "I") ∈ lw_all := lw_g (lw_at lw_m6 171 rfl) rfl
theorem q1466 : (Jvm.Cond.fieldLink "QueueDrive$Command" (18 : Nat) "QueueDrive$Command" "op" "I") ∈ lw_all := lw_g (lw_at lw_m6 175 rfl) rfl
theorem q1470 : (Jvm.Cond.fieldLink "QueueDrive$Command" (21 : Nat) "QueueDrive$Command" "block" "I") ∈ lw_all := lw_g (lw_at lw_m6 179 rfl) rfl
theorem q1474 : (Jvm.Cond.fieldLink "QueueDrive$Command" (24 : Nat) "QueueDrive$Command" "value" "I") ∈ lw_all := lw_g (lw_at lw_m6 183 rfl) rfl
theorem q1477 : (Jvm.Cond.fieldLink "QueueDrive$Command" (27 : Nat) "QueueDrive$Command" "isCalled" "Z") ∈ lw_all := lw_g (lw_at lw_m6 186 rfl) rfl
theorem q1480 : (Jvm.Cond.laysFinal "QueueDrive$Command" "QueueDrive$Command" "line" "I") ∈ lw_all := lw_g (lw_at lw_m6 189 rfl) rfl
theorem q1481 : (Jvm.Cond.soleField "QueueDrive$Command" "line") ∈ lw_all := lw_g (lw_at lw_m6 190 rfl) rfl
theorem q1482 : (Jvm.Cond.laysFinal "QueueDrive$Command" "QueueDrive$Command" "id" "I") ∈ lw_all := lw_g (lw_at lw_m6 191 rfl) rfl
theorem q1483 : (Jvm.Cond.soleField "QueueDrive$Command" "id") ∈ lw_all := lw_g (lw_at lw_m6 192 rfl) rfl
theorem q1484 : (Jvm.Cond.laysFinal "QueueDrive$Command" "QueueDrive$Command" "op" "I") ∈ lw_all := lw_g (lw_at lw_m6 193 rfl) rfl
theorem q1485 : (Jvm.Cond.soleField "QueueDrive$Command" "op") ∈ lw_all := lw_g (lw_at lw_m6 194 rfl) rfl
theorem q1486 : (Jvm.Cond.laysFinal "QueueDrive$Command" "QueueDrive$Command" "block" "I") ∈ lw_all := lw_g (lw_at lw_m6 195 rfl) rfl
theorem q1487 : (Jvm.Cond.soleField "QueueDrive$Command" "block") ∈ lw_all := lw_g (lw_at lw_m6 196 rfl) rfl
theorem q1488 : (Jvm.Cond.laysFinal "QueueDrive$Command" "QueueDrive$Command" "value" "I") ∈ lw_all := lw_g (lw_at lw_m6 197 rfl) rfl
theorem q1489 : (Jvm.Cond.soleField "QueueDrive$Command" "value") ∈ lw_all := lw_g (lw_at lw_m6 198 rfl) rfl
theorem q1490 : (Jvm.Cond.laysFinal "QueueDrive$Command" "QueueDrive$Command" "isCalled" "Z") ∈ lw_all := lw_g (lw_at lw_m6 199 rfl) rfl
theorem q1491 : (Jvm.Cond.soleField "QueueDrive$Command" "isCalled") ∈ lw_all := lw_g (lw_at lw_m6 200 rfl) rfl
theorem q1492 : (Jvm.Cond.superclass "QueueDrive$Command" "java/lang/Object") ∈ lw_all := lw_g (lw_at lw_m6 201 rfl) rfl
theorem q1818 : (Jvm.Cond.instanceMethod ({ cls := "QueueDrive$Command", name := "calledBack", desc := "()LQueueDrive$Command;" } : Jvm.MethodName)) ∈ lw_all := lw_g (lw_at lw_m8 47 rfl) rfl
theorem q1819 : (Jvm.Cond.selects "QueueDrive$Command" ({ cls := "QueueDrive$Command", name := "calledBack", desc := "()LQueueDrive$Command;" } : Jvm.MethodName) ({ cls := "QueueDrive$Command", name := "calledBack", desc := "()LQueueDrive$Command;" } : Jvm.MethodName)) ∈ lw_all := lw_g (lw_at lw_m8 48 rfl) rfl
theorem q1820 : (Jvm.Cond.code ({ cls := "QueueDrive$Command", name := "calledBack", desc := "()LQueueDrive$Command;" } : Jvm.MethodName) prog_2_method_2_code (1 : Nat) (Option.some (Jvm.ClassFile.FieldType.object "QueueDrive$Command"))) ∈ lw_all := lw_g (lw_at lw_m8 49 rfl) rfl
theorem q1821 : (Jvm.Cond.classLink "QueueDrive$Command" (10 : Nat) "QueueDrive$Command") ∈ lw_all := lw_g (lw_at lw_m8 50 rfl) rfl
theorem q1822 : (Jvm.Cond.methodLink "QueueDrive$Command" (31 : Nat) ({ cls := "QueueDrive$Command", name := "<init>", desc := "(IIIIIZ)V" } : Jvm.MethodName)) ∈ lw_all := lw_g (lw_at lw_m8 51 rfl) rfl
theorem q1963 : (Jvm.Cond.instanceMethod ({ cls := "QueueDrive$Command", name := "isWrite", desc := "()Z" } : Jvm.MethodName)) ∈ lw_all := lw_g (lw_at lw_m8 192 rfl) rfl
theorem q1964 : (Jvm.Cond.selects "QueueDrive$Command" ({ cls := "QueueDrive$Command", name := "isWrite", desc := "()Z" } : Jvm.MethodName) ({ cls := "QueueDrive$Command", name := "isWrite", desc := "()Z" } : Jvm.MethodName)) ∈ lw_all := lw_g (lw_at lw_m8 193 rfl) rfl
theorem q1965 : (Jvm.Cond.code ({ cls := "QueueDrive$Command", name := "isWrite", desc := "()Z" } : Jvm.MethodName) prog_2_method_3_code (1 : Nat) (Option.some Jvm.ClassFile.FieldType.boolean)) ∈ lw_all := lw_g (lw_at lw_m8 194 rfl) rfl
theorem q2777 : (Jvm.Cond.castable "QueueDrive$Command" "java/lang/Object") ∈ lw_tbl := lw_at lw_m12 46 rfl
theorem in_X8 : ∀ w ∈ wsX80, w ∈ lw_all := lw_in wsX80 [1480, 1482, 1484, 1486, 1488, 1490] (by decide +kernel) (by decide +kernel)

/-! QueueDrive$Work -/
set_option maxRecDepth 100000
def RX9 : String := "QueueDrive$Work"
def TX9 : u_T := fun k => match k with
  | 0 => ("QueueDrive$Work", "first", "LQueueDrive$Command;", true)
  | 1 => ("QueueDrive$Work", "second", "LQueueDrive$Command;", true)
  | _ => ("QueueDrive$Work", "left", "I", true)
def tyX9 : Nat → FieldType := fun k => match k with
  | 0 => .object "QueueDrive$Command"
  | 1 => .object "QueueDrive$Command"
  | _ => .int
abbrev wsX90 : List Cond := u_ws RX9 TX9 3
theorem nmX9 : ∀ a, a < 3 → ∀ b, b < 3 → a ≠ b → (TX9 a).2.1 ≠ (TX9 b).2.1 := by decide +kernel
theorem tyX9_ok : ∀ k, k < 3 → parseFieldDescriptor (TX9 k).2.2.1 = some (tyX9 k) := by decide +kernel
abbrev cX9_shorter : ByteArray := prog_11_method_2_code
def yX9_shorter : MethodName := ⟨RX9, "shorter", "()LQueueDrive$Work;"⟩
def dkwX9_shorter_0 : List UInt8 := [187, 0, 8, 89, 42, 180, 0, 7, 42, 180, 0, 13, 42, 180, 0, 16, 4, 100, 183, 0, 20, 176]
abbrev dktX9_shorter_0 : List UInt8 := dkwX9_shorter_0 ++ []
theorem dksX9_shorter_0 : cX9_shorter.data.toList.drop 0 = dktX9_shorter_0 := by decide +kernel
theorem dX9_shorter_0 : decode cX9_shorter 0 = .ok (.new 8, 3) := dk_187 0 8 (dk_at dksX9_shorter_0 0 rfl rfl)
theorem dX9_shorter_3 : decode cX9_shorter 3 = .ok (.dup, 1) := dk_89 (dk_at dksX9_shorter_0 3 rfl rfl)
theorem dX9_shorter_4 : decode cX9_shorter 4 = .ok (.aload_n 0, 1) := dk_42 (dk_at dksX9_shorter_0 4 rfl rfl)
theorem dX9_shorter_5 : decode cX9_shorter 5 = .ok (.getfield 7, 3) := dk_180 0 7 (dk_at dksX9_shorter_0 5 rfl rfl)
theorem dX9_shorter_8 : decode cX9_shorter 8 = .ok (.aload_n 0, 1) := dk_42 (dk_at dksX9_shorter_0 8 rfl rfl)
theorem dX9_shorter_9 : decode cX9_shorter 9 = .ok (.getfield 13, 3) := dk_180 0 13 (dk_at dksX9_shorter_0 9 rfl rfl)
theorem dX9_shorter_12 : decode cX9_shorter 12 = .ok (.aload_n 0, 1) := dk_42 (dk_at dksX9_shorter_0 12 rfl rfl)
theorem dX9_shorter_13 : decode cX9_shorter 13 = .ok (.getfield 16, 3) := dk_180 0 16 (dk_at dksX9_shorter_0 13 rfl rfl)
theorem dX9_shorter_16 : decode cX9_shorter 16 = .ok (.iconst 1, 1) := dk_4 (dk_at dksX9_shorter_0 16 rfl rfl)
theorem dX9_shorter_17 : decode cX9_shorter 17 = .ok (.isub, 1) := dk_100 (dk_at dksX9_shorter_0 17 rfl rfl)
theorem dX9_shorter_18 : decode cX9_shorter 18 = .ok (.invokespecial 20, 3) := dk_183 0 20 (dk_at dksX9_shorter_0 18 rfl rfl)
theorem dX9_shorter_21 : decode cX9_shorter 21 = .ok (.areturn, 1) := dk_176 (dk_at dksX9_shorter_0 21 rfl rfl)
abbrev cX9_init : ByteArray := prog_11_method_1_code
def yX9_init : MethodName := ⟨RX9, "<init>", "(LQueueDrive$Command;LQueueDrive$Command;I)V"⟩
def dkwX9_init_0 : List UInt8 := [42, 183, 0, 1, 42, 43, 181, 0, 7, 42, 44, 181, 0, 13, 42, 29, 181, 0, 16, 177]
abbrev dktX9_init_0 : List UInt8 := dkwX9_init_0 ++ []
theorem dksX9_init_0 : cX9_init.data.toList.drop 0 = dktX9_init_0 := by decide +kernel
theorem dX9_init_0 : decode cX9_init 0 = .ok (.aload_n 0, 1) := dk_42 (dk_at dksX9_init_0 0 rfl rfl)
theorem dX9_init_1 : decode cX9_init 1 = .ok (.invokespecial 1, 3) := dk_183 0 1 (dk_at dksX9_init_0 1 rfl rfl)
theorem dX9_init_4 : decode cX9_init 4 = .ok (.aload_n 0, 1) := dk_42 (dk_at dksX9_init_0 4 rfl rfl)
theorem dX9_init_5 : decode cX9_init 5 = .ok (.aload_n 1, 1) := dk_43 (dk_at dksX9_init_0 5 rfl rfl)
theorem dX9_init_6 : decode cX9_init 6 = .ok (.putfield 7, 3) := dk_181 0 7 (dk_at dksX9_init_0 6 rfl rfl)
theorem dX9_init_9 : decode cX9_init 9 = .ok (.aload_n 0, 1) := dk_42 (dk_at dksX9_init_0 9 rfl rfl)
theorem dX9_init_10 : decode cX9_init 10 = .ok (.aload_n 2, 1) := dk_44 (dk_at dksX9_init_0 10 rfl rfl)
theorem dX9_init_11 : decode cX9_init 11 = .ok (.putfield 13, 3) := dk_181 0 13 (dk_at dksX9_init_0 11 rfl rfl)
theorem dX9_init_14 : decode cX9_init 14 = .ok (.aload_n 0, 1) := dk_42 (dk_at dksX9_init_0 14 rfl rfl)
theorem dX9_init_15 : decode cX9_init 15 = .ok (.iload_n 3, 1) := dk_29 (dk_at dksX9_init_0 15 rfl rfl)
theorem dX9_init_16 : decode cX9_init 16 = .ok (.putfield 16, 3) := dk_181 0 16 (dk_at dksX9_init_0 16 rfl rfl)
theorem dX9_init_19 : decode cX9_init 19 = .ok (.return_, 1) := dk_177 (dk_at dksX9_init_0 19 rfl rfl)
abbrev cX9_hasId : ByteArray := prog_11_method_3_code
def yX9_hasId : MethodName := ⟨RX9, "hasId", "(II)Z"⟩
def dkwX9_hasId_1 : List UInt8 := [180, 0, 13, 198, 0, 18, 42, 180, 0, 13, 180, 0, 28, 28, 160, 0, 7, 4, 167, 0, 4, 3, 172]
abbrev dktX9_hasId_1 : List UInt8 := dkwX9_hasId_1 ++ []
def dkwX9_hasId_0 : List UInt8 := [42, 180, 0, 7, 180, 0, 23, 27, 160, 0, 36, 42, 180, 0, 7, 180, 0, 28, 28, 159, 0, 21, 42]
abbrev dktX9_hasId_0 : List UInt8 := dkwX9_hasId_0 ++ dktX9_hasId_1
theorem dksX9_hasId_0 : cX9_hasId.data.toList.drop 0 = dktX9_hasId_0 := by decide +kernel
theorem dksX9_hasId_1 : cX9_hasId.data.toList.drop 23 = dktX9_hasId_1 := dk_seg dksX9_hasId_0 23 rfl rfl
theorem dX9_hasId_0 : decode cX9_hasId 0 = .ok (.aload_n 0, 1) := dk_42 (dk_at dksX9_hasId_0 0 rfl rfl)
theorem dX9_hasId_1 : decode cX9_hasId 1 = .ok (.getfield 7, 3) := dk_180 0 7 (dk_at dksX9_hasId_0 1 rfl rfl)
theorem dX9_hasId_4 : decode cX9_hasId 4 = .ok (.getfield 23, 3) := dk_180 0 23 (dk_at dksX9_hasId_0 4 rfl rfl)
theorem dX9_hasId_7 : decode cX9_hasId 7 = .ok (.iload_n 1, 1) := dk_27 (dk_at dksX9_hasId_0 7 rfl rfl)
theorem dX9_hasId_8 : decode cX9_hasId 8 = .ok (.if_icmp .ne 36, 3) := dk_160 0 36 (dk_at dksX9_hasId_0 8 rfl rfl)
theorem dX9_hasId_11 : decode cX9_hasId 11 = .ok (.aload_n 0, 1) := dk_42 (dk_at dksX9_hasId_0 11 rfl rfl)
theorem dX9_hasId_12 : decode cX9_hasId 12 = .ok (.getfield 7, 3) := dk_180 0 7 (dk_at dksX9_hasId_0 12 rfl rfl)
theorem dX9_hasId_15 : decode cX9_hasId 15 = .ok (.getfield 28, 3) := dk_180 0 28 (dk_at dksX9_hasId_0 15 rfl rfl)
theorem dX9_hasId_18 : decode cX9_hasId 18 = .ok (.iload_n 2, 1) := dk_28 (dk_at dksX9_hasId_0 18 rfl rfl)
theorem dX9_hasId_19 : decode cX9_hasId 19 = .ok (.if_icmp .eq 21, 3) := dk_159 0 21 (dk_at dksX9_hasId_0 19 rfl rfl)
theorem dX9_hasId_22 : decode cX9_hasId 22 = .ok (.aload_n 0, 1) := dk_42 (dk_at dksX9_hasId_0 22 rfl rfl)
theorem dX9_hasId_23 : decode cX9_hasId 23 = .ok (.getfield 13, 3) := dk_180 0 13 (dk_at dksX9_hasId_1 0 rfl rfl)
theorem dX9_hasId_26 : decode cX9_hasId 26 = .ok (.ifnull 18, 3) := dk_198 0 18 (dk_at dksX9_hasId_1 3 rfl rfl)
theorem dX9_hasId_29 : decode cX9_hasId 29 = .ok (.aload_n 0, 1) := dk_42 (dk_at dksX9_hasId_1 6 rfl rfl)
theorem dX9_hasId_30 : decode cX9_hasId 30 = .ok (.getfield 13, 3) := dk_180 0 13 (dk_at dksX9_hasId_1 7 rfl rfl)
theorem dX9_hasId_33 : decode cX9_hasId 33 = .ok (.getfield 28, 3) := dk_180 0 28 (dk_at dksX9_hasId_1 10 rfl rfl)
theorem dX9_hasId_36 : decode cX9_hasId 36 = .ok (.iload_n 2, 1) := dk_28 (dk_at dksX9_hasId_1 13 rfl rfl)
theorem dX9_hasId_37 : decode cX9_hasId 37 = .ok (.if_icmp .ne 7, 3) := dk_160 0 7 (dk_at dksX9_hasId_1 14 rfl rfl)
theorem dX9_hasId_40 : decode cX9_hasId 40 = .ok (.iconst 1, 1) := dk_4 (dk_at dksX9_hasId_1 17 rfl rfl)
theorem dX9_hasId_41 : decode cX9_hasId 41 = .ok (.goto 4, 3) := dk_167 0 4 (dk_at dksX9_hasId_1 18 rfl rfl)
theorem dX9_hasId_44 : decode cX9_hasId 44 = .ok (.iconst 0, 1) := dk_3 (dk_at dksX9_hasId_1 21 rfl rfl)
theorem dX9_hasId_45 : decode cX9_hasId 45 = .ok (.ireturn, 1) := dk_172 (dk_at dksX9_hasId_1 22 rfl rfl)
theorem q130 : (Jvm.Cond.initialized "QueueDrive$Work") ∈ lw_all := lw_g (lw_at lw_m1 39 rfl) rfl
theorem q1215 : (Jvm.Cond.selects "QueueDrive$Work" ({ cls := "java/lang/Object", name := "getClass", desc := "()Ljava/lang/Class;" } : Jvm.MethodName) ({ cls := "java/lang/Object", name := "getClass", desc := "()Ljava/lang/Class;" } : Jvm.MethodName)) ∈ lw_all := lw_g (lw_at lw_m5 164 rfl) rfl
theorem q1460 : (Jvm.Cond.fieldLink "QueueDrive$Work" (23 : Nat) "QueueDrive$Command" "line" "I") ∈ lw_all := lw_g (lw_at lw_m6 169 rfl) rfl
theorem q1464 : (Jvm.Cond.fieldLink "QueueDrive$Work" (28 : Nat) "QueueDrive$Command" "id" "I") ∈ lw_all := lw_g (lw_at lw_m6 173 rfl) rfl
theorem q1534 : (Jvm.Cond.instanceMethod ({ cls := "QueueDrive$Work", name := "shorter", desc := "()LQueueDrive$Work;" } : Jvm.MethodName)) ∈ lw_all := lw_g (lw_at lw_m7 3 rfl) rfl
theorem q1535 : (Jvm.Cond.selects "QueueDrive$Work" ({ cls := "QueueDrive$Work", name := "shorter", desc := "()LQueueDrive$Work;" } : Jvm.MethodName) ({ cls := "QueueDrive$Work", name := "shorter", desc := "()LQueueDrive$Work;" } : Jvm.MethodName)) ∈ lw_all := lw_g (lw_at lw_m7 4 rfl) rfl
theorem q1536 : (Jvm.Cond.code ({ cls := "QueueDrive$Work", name := "shorter", desc := "()LQueueDrive$Work;" } : Jvm.MethodName) prog_11_method_2_code (1 : Nat) (Option.some (Jvm.ClassFile.FieldType.object "QueueDrive$Work"))) ∈ lw_all := lw_g (lw_at lw_m7 5 rfl) rfl
theorem q1537 : (Jvm.Cond.classLink "QueueDrive$Work" (8 : Nat) "QueueDrive$Work") ∈ lw_all := lw_g (lw_at lw_m7 6 rfl) rfl
theorem q1538 : (Jvm.Cond.instantiable "QueueDrive$Work" (3 : Nat)) ∈ lw_all := lw_g (lw_at lw_m7 7 rfl) rfl
theorem q1539 : (Jvm.Cond.methodLink "QueueDrive$Work" (20 : Nat) ({ cls := "QueueDrive$Work", name := "<init>", desc := "(LQueueDrive$Command;LQueueDrive$Command;I)V" } : Jvm.MethodName)) ∈ lw_all := lw_g (lw_at lw_m7 8 rfl) rfl
theorem q1540 : (Jvm.Cond.instanceMethod ({ cls := "QueueDrive$Work", name := "<init>", desc := "(LQueueDrive$Command;LQueueDrive$Command;I)V" } : Jvm.MethodName)) ∈ lw_all := lw_g (lw_at lw_m7 9 rfl) rfl
theorem q1541 : (Jvm.Cond.code ({ cls := "QueueDrive$Work", name := "<init>", desc := "(LQueueDrive$Command;LQueueDrive$Command;I)V" } : Jvm.MethodName) prog_11_method_1_code (4 : Nat) (Option.none : Option Jvm.ClassFile.FieldType)) ∈ lw_all := lw_g (lw_at lw_m7 10 rfl) rfl
theorem q1542 : (Jvm.Cond.methodLink "QueueDrive$Work" (1 : Nat) ({ cls := "java/lang/Object", name := "<init>", desc := "()V" } : Jvm.MethodName)) ∈ lw_all := lw_g (lw_at lw_m7 11 rfl) rfl
theorem q1543 : (Jvm.Cond.fieldLink "QueueDrive$Work" (7 : Nat) "QueueDrive$Work" "first" "LQueueDrive$Command;") ∈ lw_all := lw_g (lw_at lw_m7 12 rfl) rfl
theorem q1546 : (Jvm.Cond.fieldLink "QueueDrive$Work" (13 : Nat) "QueueDrive$Work" "second" "LQueueDrive$Command;") ∈ lw_all := lw_g (lw_at lw_m7 15 rfl) rfl
theorem q1549 : (Jvm.Cond.fieldLink "QueueDrive$Work" (16 : Nat) "QueueDrive$Work" "left" "I") ∈ lw_all := lw_g (lw_at lw_m7 18 rfl) rfl
theorem q1552 : (Jvm.Cond.laysFinal "QueueDrive$Work" "QueueDrive$Work" "first" "LQueueDrive$Command;") ∈ lw_all := lw_g (lw_at lw_m7 21 rfl) rfl
theorem q1553 : (Jvm.Cond.soleField "QueueDrive$Work" "first") ∈ lw_all := lw_g (lw_at lw_m7 22 rfl) rfl
theorem q1554 : (Jvm.Cond.laysFinal "QueueDrive$Work" "QueueDrive$Work" "second" "LQueueDrive$Command;") ∈ lw_all := lw_g (lw_at lw_m7 23 rfl) rfl
theorem q1555 : (Jvm.Cond.soleField "QueueDrive$Work" "second") ∈ lw_all := lw_g (lw_at lw_m7 24 rfl) rfl
theorem q1556 : (Jvm.Cond.laysFinal "QueueDrive$Work" "QueueDrive$Work" "left" "I") ∈ lw_all := lw_g (lw_at lw_m7 25 rfl) rfl
theorem q1557 : (Jvm.Cond.soleField "QueueDrive$Work" "left") ∈ lw_all := lw_g (lw_at lw_m7 26 rfl) rfl
theorem q1558 : (Jvm.Cond.superclass "QueueDrive$Work" "java/lang/Object") ∈ lw_all := lw_g (lw_at lw_m7 27 rfl) rfl
theorem q1809 : (Jvm.Cond.instanceMethod ({ cls := "QueueDrive$Work", name := "hasId", desc := "(II)Z" } : Jvm.MethodName)) ∈ lw_all := lw_g (lw_at lw_m8 38 rfl) rfl
theorem q1810 : (Jvm.Cond.selects "QueueDrive$Work" ({ cls := "QueueDrive$Work", name := "hasId", desc := "(II)Z" } : Jvm.MethodName) ({ cls := "QueueDrive$Work", name := "hasId", desc := "(II)Z" } : Jvm.MethodName)) ∈ lw_all := lw_g (lw_at lw_m8 39 rfl) rfl
theorem q1811 : (Jvm.Cond.code ({ cls := "QueueDrive$Work", name := "hasId", desc := "(II)Z" } : Jvm.MethodName) prog_11_method_3_code (3 : Nat) (Option.some Jvm.ClassFile.FieldType.boolean)) ∈ lw_all := lw_g (lw_at lw_m8 40 rfl) rfl
theorem q2794 : (Jvm.Cond.castable "QueueDrive$Work" "java/lang/Object") ∈ lw_tbl := lw_at lw_m12 63 rfl
theorem in_X9 : ∀ w ∈ wsX90, w ∈ lw_all := lw_in wsX90 [1552, 1554, 1556] (by decide +kernel) (by decide +kernel)
