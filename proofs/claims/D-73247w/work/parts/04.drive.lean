/-! QueueDriveLaw -/
set_option maxRecDepth 100000
def RX0 : String := "QueueDriveLaw"
abbrev cX0_queue : ByteArray := method_3_code
def yX0_queue : MethodName := ⟨RX0, "queue", "(LQueueDrive;II[J)I"⟩
def dkwX0_queue_0 : List UInt8 := [45, 3, 42, 27, 28, 182, 0, 7, 133, 80, 167, 0, 7, 58, 4, 4, 172, 3, 172]
abbrev dktX0_queue_0 : List UInt8 := dkwX0_queue_0 ++ []
theorem dksX0_queue_0 : cX0_queue.data.toList.drop 0 = dktX0_queue_0 := by decide +kernel
theorem dX0_queue_0 : decode cX0_queue 0 = .ok (.aload_n 3, 1) := dk_45 (dk_at dksX0_queue_0 0 rfl rfl)
theorem dX0_queue_1 : decode cX0_queue 1 = .ok (.iconst 0, 1) := dk_3 (dk_at dksX0_queue_0 1 rfl rfl)
theorem dX0_queue_2 : decode cX0_queue 2 = .ok (.aload_n 0, 1) := dk_42 (dk_at dksX0_queue_0 2 rfl rfl)
theorem dX0_queue_3 : decode cX0_queue 3 = .ok (.iload_n 1, 1) := dk_27 (dk_at dksX0_queue_0 3 rfl rfl)
theorem dX0_queue_4 : decode cX0_queue 4 = .ok (.iload_n 2, 1) := dk_28 (dk_at dksX0_queue_0 4 rfl rfl)
theorem dX0_queue_5 : decode cX0_queue 5 = .ok (.invokevirtual 7, 3) := dk_182 0 7 (dk_at dksX0_queue_0 5 rfl rfl)
theorem dX0_queue_8 : decode cX0_queue 8 = .ok (.i2l, 1) := dk_133 (dk_at dksX0_queue_0 8 rfl rfl)
theorem dX0_queue_9 : decode cX0_queue 9 = .ok (.lastore, 1) := dk_80 (dk_at dksX0_queue_0 9 rfl rfl)
theorem dX0_queue_10 : decode cX0_queue 10 = .ok (.goto 7, 3) := dk_167 0 7 (dk_at dksX0_queue_0 10 rfl rfl)
theorem dX0_queue_13 : decode cX0_queue 13 = .ok (.astore 4, 2) := dk_58 4 (dk_at dksX0_queue_0 13 rfl rfl)
theorem dX0_queue_15 : decode cX0_queue 15 = .ok (.iconst 1, 1) := dk_4 (dk_at dksX0_queue_0 15 rfl rfl)
theorem dX0_queue_16 : decode cX0_queue 16 = .ok (.ireturn, 1) := dk_172 (dk_at dksX0_queue_0 16 rfl rfl)
theorem dX0_queue_17 : decode cX0_queue 17 = .ok (.iconst 0, 1) := dk_3 (dk_at dksX0_queue_0 17 rfl rfl)
theorem dX0_queue_18 : decode cX0_queue 18 = .ok (.ireturn, 1) := dk_172 (dk_at dksX0_queue_0 18 rfl rfl)
abbrev cX0_row : ByteArray := method_4_code
def yX0_row : MethodName := ⟨RX0, "row", "(LQueueDrive;I[J)I"⟩
def dkwX0_row_0 : List UInt8 := [44, 3, 42, 27, 182, 0, 15, 80, 167, 0, 6, 78, 4, 172, 3, 172]
abbrev dktX0_row_0 : List UInt8 := dkwX0_row_0 ++ []
theorem dksX0_row_0 : cX0_row.data.toList.drop 0 = dktX0_row_0 := by decide +kernel
theorem dX0_row_0 : decode cX0_row 0 = .ok (.aload_n 2, 1) := dk_44 (dk_at dksX0_row_0 0 rfl rfl)
theorem dX0_row_1 : decode cX0_row 1 = .ok (.iconst 0, 1) := dk_3 (dk_at dksX0_row_0 1 rfl rfl)
theorem dX0_row_2 : decode cX0_row 2 = .ok (.aload_n 0, 1) := dk_42 (dk_at dksX0_row_0 2 rfl rfl)
theorem dX0_row_3 : decode cX0_row 3 = .ok (.iload_n 1, 1) := dk_27 (dk_at dksX0_row_0 3 rfl rfl)
theorem dX0_row_4 : decode cX0_row 4 = .ok (.invokevirtual 15, 3) := dk_182 0 15 (dk_at dksX0_row_0 4 rfl rfl)
theorem dX0_row_7 : decode cX0_row 7 = .ok (.lastore, 1) := dk_80 (dk_at dksX0_row_0 7 rfl rfl)
theorem dX0_row_8 : decode cX0_row 8 = .ok (.goto 6, 3) := dk_167 0 6 (dk_at dksX0_row_0 8 rfl rfl)
theorem dX0_row_11 : decode cX0_row 11 = .ok (.astore_n 3, 1) := dk_78 (dk_at dksX0_row_0 11 rfl rfl)
theorem dX0_row_12 : decode cX0_row 12 = .ok (.iconst 1, 1) := dk_4 (dk_at dksX0_row_0 12 rfl rfl)
theorem dX0_row_13 : decode cX0_row 13 = .ok (.ireturn, 1) := dk_172 (dk_at dksX0_row_0 13 rfl rfl)
theorem dX0_row_14 : decode cX0_row 14 = .ok (.iconst 0, 1) := dk_3 (dk_at dksX0_row_0 14 rfl rfl)
theorem dX0_row_15 : decode cX0_row 15 = .ok (.ireturn, 1) := dk_172 (dk_at dksX0_row_0 15 rfl rfl)
theorem q91 : (Jvm.Cond.initialized "QueueDriveLaw") ∈ lw_all := lw_g (lw_at lw_m1 0 rfl) rfl
theorem q136 : (Jvm.Cond.classLink "QueueDriveLaw" (8 : Nat) "QueueDrive") ∈ lw_all := lw_g (lw_at lw_m1 45 rfl) rfl
theorem q138 : (Jvm.Cond.methodLink "QueueDriveLaw" (19 : Nat) ({ cls := "QueueDrive", name := "<init>", desc := "()V" } : Jvm.MethodName)) ∈ lw_all := lw_g (lw_at lw_m1 47 rfl) rfl
theorem q768 : (Jvm.Cond.methodLink "QueueDriveLaw" (23 : Nat) ({ cls := "QueueDrive", name := "sign", desc := "(I)I" } : Jvm.MethodName)) ∈ lw_all := lw_g (lw_at lw_m3 197 rfl) rfl
theorem q772 : (Jvm.Cond.methodLink "QueueDriveLaw" (28 : Nat) ({ cls := "QueueDrive", name := "end", desc := "(I)Z" } : Jvm.MethodName)) ∈ lw_all := lw_g (lw_at lw_m3 201 rfl) rfl
theorem q779 : (Jvm.Cond.methodLink "QueueDriveLaw" (33 : Nat) ({ cls := "QueueDrive", name := "queues", desc := "()I" } : Jvm.MethodName)) ∈ lw_all := lw_g (lw_at lw_m3 208 rfl) rfl
theorem q938 : (Jvm.Cond.methodLink "QueueDriveLaw" (38 : Nat) ({ cls := "QueueDrive", name := "rule", desc := "()I" } : Jvm.MethodName)) ∈ lw_all := lw_g (lw_at lw_m4 127 rfl) rfl
theorem q1022 : (Jvm.Cond.methodLink "QueueDriveLaw" (51 : Nat) ({ cls := "QueueDrive", name := "sheet", desc := "(IIII)I" } : Jvm.MethodName)) ∈ lw_all := lw_g (lw_at lw_m4 211 rfl) rfl
theorem q1043 : (Jvm.Cond.methodLink "QueueDriveLaw" (56 : Nat) ({ cls := "QueueDrive", name := "puts", desc := "(IIII)I" } : Jvm.MethodName)) ∈ lw_all := lw_g (lw_at lw_m4 232 rfl) rfl
theorem q1494 : (Jvm.Cond.methodLink "QueueDriveLaw" (60 : Nat) ({ cls := "QueueDrive", name := "ring", desc := "(I)I" } : Jvm.MethodName)) ∈ lw_all := lw_g (lw_at lw_m6 203 rfl) rfl
theorem q1511 : (Jvm.Cond.methodLink "QueueDriveLaw" (64 : Nat) ({ cls := "QueueDrive", name := "ticks", desc := "(I)I" } : Jvm.MethodName)) ∈ lw_all := lw_g (lw_at lw_m6 220 rfl) rfl
theorem q1765 : (Jvm.Cond.methodLink "QueueDriveLaw" (68 : Nat) ({ cls := "QueueDrive", name := "takes", desc := "(I)I" } : Jvm.MethodName)) ∈ lw_all := lw_g (lw_at lw_m7 234 rfl) rfl
theorem q1789 : (Jvm.Cond.methodLink "QueueDriveLaw" (72 : Nat) ({ cls := "QueueDrive", name := "calls", desc := "(II)I" } : Jvm.MethodName)) ∈ lw_all := lw_g (lw_at lw_m8 18 rfl) rfl
theorem q1828 : (Jvm.Cond.methodLink "QueueDriveLaw" (76 : Nat) ({ cls := "QueueDrive", name := "resets", desc := "()I" } : Jvm.MethodName)) ∈ lw_all := lw_g (lw_at lw_m8 57 rfl) rfl
theorem q1854 : (Jvm.Cond.methodLink "QueueDriveLaw" (80 : Nat) ({ cls := "QueueDrive", name := "weighs", desc := "(II)I" } : Jvm.MethodName)) ∈ lw_all := lw_g (lw_at lw_m8 83 rfl) rfl
theorem q1858 : (Jvm.Cond.methodLink "QueueDriveLaw" (84 : Nat) ({ cls := "QueueDrive", name := "depth", desc := "(I)I" } : Jvm.MethodName)) ∈ lw_all := lw_g (lw_at lw_m8 87 rfl) rfl
theorem q1862 : (Jvm.Cond.methodLink "QueueDriveLaw" (88 : Nat) ({ cls := "QueueDrive", name := "day", desc := "()I" } : Jvm.MethodName)) ∈ lw_all := lw_g (lw_at lw_m8 91 rfl) rfl
theorem q1933 : (Jvm.Cond.methodLink "QueueDriveLaw" (92 : Nat) ({ cls := "QueueDrive", name := "undo", desc := "()I" } : Jvm.MethodName)) ∈ lw_all := lw_g (lw_at lw_m8 162 rfl) rfl
theorem q1937 : (Jvm.Cond.methodLink "QueueDriveLaw" (96 : Nat) ({ cls := "QueueDrive", name := "waiting", desc := "(I)I" } : Jvm.MethodName)) ∈ lw_all := lw_g (lw_at lw_m8 166 rfl) rfl
theorem q1941 : (Jvm.Cond.methodLink "QueueDriveLaw" (100 : Nat) ({ cls := "QueueDrive", name := "running", desc := "()I" } : Jvm.MethodName)) ∈ lw_all := lw_g (lw_at lw_m8 170 rfl) rfl
theorem q1945 : (Jvm.Cond.methodLink "QueueDriveLaw" (104 : Nat) ({ cls := "QueueDrive", name := "outbox", desc := "()I" } : Jvm.MethodName)) ∈ lw_all := lw_g (lw_at lw_m8 174 rfl) rfl
theorem q1949 : (Jvm.Cond.methodLink "QueueDriveLaw" (108 : Nat) ({ cls := "QueueDrive", name := "phases", desc := "(I)I" } : Jvm.MethodName)) ∈ lw_all := lw_g (lw_at lw_m8 178 rfl) rfl
theorem q1954 : (Jvm.Cond.methodLink "QueueDriveLaw" (112 : Nat) ({ cls := "QueueDrive", name := "room", desc := "(I)I" } : Jvm.MethodName)) ∈ lw_all := lw_g (lw_at lw_m8 183 rfl) rfl
theorem q1958 : (Jvm.Cond.methodLink "QueueDriveLaw" (116 : Nat) ({ cls := "QueueDrive", name := "block", desc := "(I)I" } : Jvm.MethodName)) ∈ lw_all := lw_g (lw_at lw_m8 187 rfl) rfl
theorem q1966 : (Jvm.Cond.methodLink "QueueDriveLaw" (120 : Nat) ({ cls := "QueueDrive", name := "next", desc := "()I" } : Jvm.MethodName)) ∈ lw_all := lw_g (lw_at lw_m8 195 rfl) rfl
theorem q1972 : (Jvm.Cond.methodLink "QueueDriveLaw" (124 : Nat) ({ cls := "QueueDrive", name := "deals", desc := "(I)I" } : Jvm.MethodName)) ∈ lw_all := lw_g (lw_at lw_m8 201 rfl) rfl
theorem q1976 : (Jvm.Cond.methodLink "QueueDriveLaw" (128 : Nat) ({ cls := "QueueDrive", name := "when", desc := "(II)I" } : Jvm.MethodName)) ∈ lw_all := lw_g (lw_at lw_m8 205 rfl) rfl
theorem q1988 : (Jvm.Cond.methodLink "QueueDriveLaw" (132 : Nat) ({ cls := "QueueDrive", name := "drains", desc := "()I" } : Jvm.MethodName)) ∈ lw_all := lw_g (lw_at lw_m8 217 rfl) rfl
theorem q2006 : (Jvm.Cond.methodLink "QueueDriveLaw" (136 : Nat) ({ cls := "QueueDrive", name := "would", desc := "(I)I" } : Jvm.MethodName)) ∈ lw_all := lw_g (lw_at lw_m8 235 rfl) rfl
theorem q2010 : (Jvm.Cond.methodLink "QueueDriveLaw" (140 : Nat) ({ cls := "QueueDrive", name := "needs", desc := "(I)I" } : Jvm.MethodName)) ∈ lw_all := lw_g (lw_at lw_m8 239 rfl) rfl
theorem q2014 : (Jvm.Cond.methodLink "QueueDriveLaw" (144 : Nat) ({ cls := "QueueDrive", name := "bells", desc := "()I" } : Jvm.MethodName)) ∈ lw_all := lw_g (lw_at lw_m9 3 rfl) rfl
theorem q2018 : (Jvm.Cond.methodLink "QueueDriveLaw" (148 : Nat) ({ cls := "QueueDrive", name := "recall", desc := "(II)I" } : Jvm.MethodName)) ∈ lw_all := lw_g (lw_at lw_m9 7 rfl) rfl
theorem q2022 : (Jvm.Cond.methodLink "QueueDriveLaw" (152 : Nat) ({ cls := "QueueDrive", name := "served", desc := "()I" } : Jvm.MethodName)) ∈ lw_all := lw_g (lw_at lw_m9 11 rfl) rfl
theorem q2026 : (Jvm.Cond.methodLink "QueueDriveLaw" (156 : Nat) ({ cls := "QueueDrive", name := "heard", desc := "(II)I" } : Jvm.MethodName)) ∈ lw_all := lw_g (lw_at lw_m9 15 rfl) rfl
theorem q2033 : (Jvm.Cond.methodLink "QueueDriveLaw" (160 : Nat) ({ cls := "QueueDrive", name := "denies", desc := "()I" } : Jvm.MethodName)) ∈ lw_all := lw_g (lw_at lw_m9 22 rfl) rfl
theorem q2037 : (Jvm.Cond.methodLink "QueueDriveLaw" (164 : Nat) ({ cls := "QueueDrive", name := "fits", desc := "()I" } : Jvm.MethodName)) ∈ lw_all := lw_g (lw_at lw_m9 26 rfl) rfl
theorem q2056 : (Jvm.Cond.methodLink "QueueDriveLaw" (168 : Nat) ({ cls := "QueueDrive", name := "asks", desc := "()I" } : Jvm.MethodName)) ∈ lw_all := lw_g (lw_at lw_m9 45 rfl) rfl
theorem q2061 : (Jvm.Cond.methodLink "QueueDriveLaw" (172 : Nat) ({ cls := "QueueDrive", name := "laps", desc := "(III)I" } : Jvm.MethodName)) ∈ lw_all := lw_g (lw_at lw_m9 50 rfl) rfl
theorem q2067 : (Jvm.Cond.methodLink "QueueDriveLaw" (177 : Nat) ({ cls := "QueueDrive", name := "law", desc := "()I" } : Jvm.MethodName)) ∈ lw_all := lw_g (lw_at lw_m9 56 rfl) rfl
theorem q2075 : (Jvm.Cond.methodLink "QueueDriveLaw" (181 : Nat) ({ cls := "QueueDrive", name := "years", desc := "(II)I" } : Jvm.MethodName)) ∈ lw_all := lw_g (lw_at lw_m9 64 rfl) rfl
theorem q2092 : (Jvm.Cond.methodLink "QueueDriveLaw" (185 : Nat) ({ cls := "QueueDrive", name := "keep", desc := "(I)Z" } : Jvm.MethodName)) ∈ lw_all := lw_g (lw_at lw_m9 81 rfl) rfl
theorem q2096 : (Jvm.Cond.methodLink "QueueDriveLaw" (189 : Nat) ({ cls := "QueueDrive", name := "again", desc := "(I)Z" } : Jvm.MethodName)) ∈ lw_all := lw_g (lw_at lw_m9 85 rfl) rfl
theorem q2100 : (Jvm.Cond.methodLink "QueueDriveLaw" (193 : Nat) ({ cls := "QueueDrive", name := "count", desc := "(I)I" } : Jvm.MethodName)) ∈ lw_all := lw_g (lw_at lw_m9 89 rfl) rfl
theorem q2104 : (Jvm.Cond.methodLink "QueueDriveLaw" (42 : Nat) ({ cls := "QueueDriveLaw", name := "queue", desc := "(LQueueDrive;II[J)I" } : Jvm.MethodName)) ∈ lw_all := lw_g (lw_at lw_m9 93 rfl) rfl
theorem q2105 : (Jvm.Cond.static ({ cls := "QueueDriveLaw", name := "queue", desc := "(LQueueDrive;II[J)I" } : Jvm.MethodName)) ∈ lw_all := lw_g (lw_at lw_m9 94 rfl) rfl
theorem q2106 : (Jvm.Cond.codeWith ({ cls := "QueueDriveLaw", name := "queue", desc := "(LQueueDrive;II[J)I" } : Jvm.MethodName) method_3_code (5 : Nat) (Option.some Jvm.ClassFile.FieldType.int) [((0 : Nat), (10 : Nat), (13 : Nat), (13 : Nat))]) ∈ lw_all := lw_g (lw_at lw_m9 95 rfl) rfl
theorem q2107 : (Jvm.Cond.classLink "QueueDriveLaw" (13 : Nat) "java/util/NoSuchElementException") ∈ lw_all := lw_g (lw_at lw_m9 96 rfl) rfl
theorem q2108 : (Jvm.Cond.methodLink "QueueDriveLaw" (7 : Nat) ({ cls := "QueueDrive", name := "queue", desc := "(II)I" } : Jvm.MethodName)) ∈ lw_all := lw_g (lw_at lw_m9 97 rfl) rfl
theorem q2114 : (Jvm.Cond.methodLink "QueueDriveLaw" (197 : Nat) ({ cls := "QueueDriveLaw", name := "row", desc := "(LQueueDrive;I[J)I" } : Jvm.MethodName)) ∈ lw_all := lw_g (lw_at lw_m9 103 rfl) rfl
theorem q2115 : (Jvm.Cond.static ({ cls := "QueueDriveLaw", name := "row", desc := "(LQueueDrive;I[J)I" } : Jvm.MethodName)) ∈ lw_all := lw_g (lw_at lw_m9 104 rfl) rfl
theorem q2116 : (Jvm.Cond.codeWith ({ cls := "QueueDriveLaw", name := "row", desc := "(LQueueDrive;I[J)I" } : Jvm.MethodName) method_4_code (4 : Nat) (Option.some Jvm.ClassFile.FieldType.int) [((0 : Nat), (8 : Nat), (11 : Nat), (13 : Nat))]) ∈ lw_all := lw_g (lw_at lw_m9 105 rfl) rfl
theorem q2117 : (Jvm.Cond.methodLink "QueueDriveLaw" (15 : Nat) ({ cls := "QueueDrive", name := "row", desc := "(I)J" } : Jvm.MethodName)) ∈ lw_all := lw_g (lw_at lw_m9 106 rfl) rfl
theorem q2121 : (Jvm.Cond.methodLink "QueueDriveLaw" (48 : Nat) ({ cls := "QueueDriveModel", name := "thrown", desc := "()I" } : Jvm.MethodName)) ∈ lw_all := lw_g (lw_at lw_m9 110 rfl) rfl
theorem q2125 : (Jvm.Cond.methodLink "QueueDriveLaw" (27 : Nat) ({ cls := "QueueDriveModel", name := "sign", desc := "(I)I" } : Jvm.MethodName)) ∈ lw_all := lw_g (lw_at lw_m9 114 rfl) rfl
theorem q2129 : (Jvm.Cond.methodLink "QueueDriveLaw" (32 : Nat) ({ cls := "QueueDriveModel", name := "end", desc := "(I)Z" } : Jvm.MethodName)) ∈ lw_all := lw_g (lw_at lw_m9 118 rfl) rfl
theorem q2136 : (Jvm.Cond.methodLink "QueueDriveLaw" (41 : Nat) ({ cls := "QueueDriveModel", name := "rule", desc := "()I" } : Jvm.MethodName)) ∈ lw_all := lw_g (lw_at lw_m9 125 rfl) rfl
theorem q2216 : (Jvm.Cond.classLink "QueueDriveLaw" (20 : Nat) "QueueDriveModel") ∈ lw_all := lw_g (lw_at lw_m9 205 rfl) rfl
theorem q2217 : (Jvm.Cond.methodLink "QueueDriveLaw" (22 : Nat) ({ cls := "QueueDriveModel", name := "<init>", desc := "()V" } : Jvm.MethodName)) ∈ lw_all := lw_g (lw_at lw_m9 206 rfl) rfl
theorem q2357 : (Jvm.Cond.methodLink "QueueDriveLaw" (37 : Nat) ({ cls := "QueueDriveModel", name := "queues", desc := "()I" } : Jvm.MethodName)) ∈ lw_all := lw_g (lw_at lw_m10 106 rfl) rfl
theorem q2366 : (Jvm.Cond.methodLink "QueueDriveLaw" (47 : Nat) ({ cls := "QueueDriveModel", name := "queue", desc := "(II)I" } : Jvm.MethodName)) ∈ lw_all := lw_g (lw_at lw_m10 115 rfl) rfl
theorem q2382 : (Jvm.Cond.methodLink "QueueDriveLaw" (55 : Nat) ({ cls := "QueueDriveModel", name := "sheet", desc := "(IIII)I" } : Jvm.MethodName)) ∈ lw_all := lw_g (lw_at lw_m10 131 rfl) rfl
theorem q2391 : (Jvm.Cond.methodLink "QueueDriveLaw" (95 : Nat) ({ cls := "QueueDriveModel", name := "undo", desc := "()I" } : Jvm.MethodName)) ∈ lw_all := lw_g (lw_at lw_m10 140 rfl) rfl
theorem q2395 : (Jvm.Cond.methodLink "QueueDriveLaw" (59 : Nat) ({ cls := "QueueDriveModel", name := "puts", desc := "(IIII)I" } : Jvm.MethodName)) ∈ lw_all := lw_g (lw_at lw_m10 144 rfl) rfl
theorem q2454 : (Jvm.Cond.methodLink "QueueDriveLaw" (63 : Nat) ({ cls := "QueueDriveModel", name := "ring", desc := "(I)I" } : Jvm.MethodName)) ∈ lw_all := lw_g (lw_at lw_m10 203 rfl) rfl
theorem q2462 : (Jvm.Cond.methodLink "QueueDriveLaw" (67 : Nat) ({ cls := "QueueDriveModel", name := "ticks", desc := "(I)I" } : Jvm.MethodName)) ∈ lw_all := lw_g (lw_at lw_m10 211 rfl) rfl
theorem q2540 : (Jvm.Cond.methodLink "QueueDriveLaw" (71 : Nat) ({ cls := "QueueDriveModel", name := "takes", desc := "(I)I" } : Jvm.MethodName)) ∈ lw_all := lw_g (lw_at lw_m11 49 rfl) rfl
theorem q2548 : (Jvm.Cond.methodLink "QueueDriveLaw" (75 : Nat) ({ cls := "QueueDriveModel", name := "calls", desc := "(II)I" } : Jvm.MethodName)) ∈ lw_all := lw_g (lw_at lw_m11 57 rfl) rfl
theorem q2561 : (Jvm.Cond.methodLink "QueueDriveLaw" (79 : Nat) ({ cls := "QueueDriveModel", name := "resets", desc := "()I" } : Jvm.MethodName)) ∈ lw_all := lw_g (lw_at lw_m11 70 rfl) rfl
theorem q2569 : (Jvm.Cond.methodLink "QueueDriveLaw" (83 : Nat) ({ cls := "QueueDriveModel", name := "weighs", desc := "(II)I" } : Jvm.MethodName)) ∈ lw_all := lw_g (lw_at lw_m11 78 rfl) rfl
theorem q2576 : (Jvm.Cond.methodLink "QueueDriveLaw" (87 : Nat) ({ cls := "QueueDriveModel", name := "depth", desc := "(I)I" } : Jvm.MethodName)) ∈ lw_all := lw_g (lw_at lw_m11 85 rfl) rfl
theorem q2583 : (Jvm.Cond.methodLink "QueueDriveLaw" (91 : Nat) ({ cls := "QueueDriveModel", name := "day", desc := "()I" } : Jvm.MethodName)) ∈ lw_all := lw_g (lw_at lw_m11 92 rfl) rfl
theorem q2600 : (Jvm.Cond.methodLink "QueueDriveLaw" (99 : Nat) ({ cls := "QueueDriveModel", name := "waiting", desc := "(I)I" } : Jvm.MethodName)) ∈ lw_all := lw_g (lw_at lw_m11 109 rfl) rfl
theorem q2604 : (Jvm.Cond.methodLink "QueueDriveLaw" (103 : Nat) ({ cls := "QueueDriveModel", name := "running", desc := "()I" } : Jvm.MethodName)) ∈ lw_all := lw_g (lw_at lw_m11 113 rfl) rfl
theorem q2608 : (Jvm.Cond.methodLink "QueueDriveLaw" (107 : Nat) ({ cls := "QueueDriveModel", name := "outbox", desc := "()I" } : Jvm.MethodName)) ∈ lw_all := lw_g (lw_at lw_m11 117 rfl) rfl
theorem q2612 : (Jvm.Cond.methodLink "QueueDriveLaw" (111 : Nat) ({ cls := "QueueDriveModel", name := "phases", desc := "(I)I" } : Jvm.MethodName)) ∈ lw_all := lw_g (lw_at lw_m11 121 rfl) rfl
theorem q2620 : (Jvm.Cond.methodLink "QueueDriveLaw" (115 : Nat) ({ cls := "QueueDriveModel", name := "room", desc := "(I)I" } : Jvm.MethodName)) ∈ lw_all := lw_g (lw_at lw_m11 129 rfl) rfl
theorem q2624 : (Jvm.Cond.methodLink "QueueDriveLaw" (119 : Nat) ({ cls := "QueueDriveModel", name := "block", desc := "(I)I" } : Jvm.MethodName)) ∈ lw_all := lw_g (lw_at lw_m11 133 rfl) rfl
theorem q2631 : (Jvm.Cond.methodLink "QueueDriveLaw" (123 : Nat) ({ cls := "QueueDriveModel", name := "next", desc := "()I" } : Jvm.MethodName)) ∈ lw_all := lw_g (lw_at lw_m11 140 rfl) rfl
theorem q2639 : (Jvm.Cond.methodLink "QueueDriveLaw" (127 : Nat) ({ cls := "QueueDriveModel", name := "deals", desc := "(I)I" } : Jvm.MethodName)) ∈ lw_all := lw_g (lw_at lw_m11 148 rfl) rfl
theorem q2643 : (Jvm.Cond.methodLink "QueueDriveLaw" (131 : Nat) ({ cls := "QueueDriveModel", name := "when", desc := "(II)I" } : Jvm.MethodName)) ∈ lw_all := lw_g (lw_at lw_m11 152 rfl) rfl
theorem q2647 : (Jvm.Cond.methodLink "QueueDriveLaw" (135 : Nat) ({ cls := "QueueDriveModel", name := "drains", desc := "()I" } : Jvm.MethodName)) ∈ lw_all := lw_g (lw_at lw_m11 156 rfl) rfl
theorem q2663 : (Jvm.Cond.methodLink "QueueDriveLaw" (139 : Nat) ({ cls := "QueueDriveModel", name := "would", desc := "(I)I" } : Jvm.MethodName)) ∈ lw_all := lw_g (lw_at lw_m11 172 rfl) rfl
theorem q2667 : (Jvm.Cond.methodLink "QueueDriveLaw" (143 : Nat) ({ cls := "QueueDriveModel", name := "needs", desc := "(I)I" } : Jvm.MethodName)) ∈ lw_all := lw_g (lw_at lw_m11 176 rfl) rfl
theorem q2671 : (Jvm.Cond.methodLink "QueueDriveLaw" (147 : Nat) ({ cls := "QueueDriveModel", name := "bells", desc := "()I" } : Jvm.MethodName)) ∈ lw_all := lw_g (lw_at lw_m11 180 rfl) rfl
theorem q2675 : (Jvm.Cond.methodLink "QueueDriveLaw" (151 : Nat) ({ cls := "QueueDriveModel", name := "recall", desc := "(II)I" } : Jvm.MethodName)) ∈ lw_all := lw_g (lw_at lw_m11 184 rfl) rfl
theorem q2679 : (Jvm.Cond.methodLink "QueueDriveLaw" (155 : Nat) ({ cls := "QueueDriveModel", name := "served", desc := "()I" } : Jvm.MethodName)) ∈ lw_all := lw_g (lw_at lw_m11 188 rfl) rfl
theorem q2683 : (Jvm.Cond.methodLink "QueueDriveLaw" (159 : Nat) ({ cls := "QueueDriveModel", name := "heard", desc := "(II)I" } : Jvm.MethodName)) ∈ lw_all := lw_g (lw_at lw_m11 192 rfl) rfl
theorem q2690 : (Jvm.Cond.methodLink "QueueDriveLaw" (163 : Nat) ({ cls := "QueueDriveModel", name := "denies", desc := "()I" } : Jvm.MethodName)) ∈ lw_all := lw_g (lw_at lw_m11 199 rfl) rfl
theorem q2694 : (Jvm.Cond.methodLink "QueueDriveLaw" (167 : Nat) ({ cls := "QueueDriveModel", name := "fits", desc := "()I" } : Jvm.MethodName)) ∈ lw_all := lw_g (lw_at lw_m11 203 rfl) rfl
theorem q2710 : (Jvm.Cond.methodLink "QueueDriveLaw" (171 : Nat) ({ cls := "QueueDriveModel", name := "asks", desc := "()I" } : Jvm.MethodName)) ∈ lw_all := lw_g (lw_at lw_m11 219 rfl) rfl
theorem q2719 : (Jvm.Cond.methodLink "QueueDriveLaw" (176 : Nat) ({ cls := "QueueDriveModel", name := "laps", desc := "(III)I" } : Jvm.MethodName)) ∈ lw_all := lw_g (lw_at lw_m11 228 rfl) rfl
theorem q2725 : (Jvm.Cond.methodLink "QueueDriveLaw" (180 : Nat) ({ cls := "QueueDriveModel", name := "law", desc := "()I" } : Jvm.MethodName)) ∈ lw_all := lw_g (lw_at lw_m11 234 rfl) rfl
theorem q2733 : (Jvm.Cond.methodLink "QueueDriveLaw" (184 : Nat) ({ cls := "QueueDriveModel", name := "years", desc := "(II)I" } : Jvm.MethodName)) ∈ lw_all := lw_g (lw_at lw_m12 2 rfl) rfl
theorem q2746 : (Jvm.Cond.methodLink "QueueDriveLaw" (188 : Nat) ({ cls := "QueueDriveModel", name := "keep", desc := "(I)Z" } : Jvm.MethodName)) ∈ lw_all := lw_g (lw_at lw_m12 15 rfl) rfl
theorem q2750 : (Jvm.Cond.methodLink "QueueDriveLaw" (192 : Nat) ({ cls := "QueueDriveModel", name := "again", desc := "(I)Z" } : Jvm.MethodName)) ∈ lw_all := lw_g (lw_at lw_m12 19 rfl) rfl
theorem q2754 : (Jvm.Cond.methodLink "QueueDriveLaw" (196 : Nat) ({ cls := "QueueDriveModel", name := "count", desc := "(I)I" } : Jvm.MethodName)) ∈ lw_all := lw_g (lw_at lw_m12 23 rfl) rfl
theorem q2758 : (Jvm.Cond.methodLink "QueueDriveLaw" (200 : Nat) ({ cls := "QueueDriveModel", name := "row", desc := "(I)J" } : Jvm.MethodName)) ∈ lw_all := lw_g (lw_at lw_m12 27 rfl) rfl

/-! QueueDrive -/
set_option maxRecDepth 100000
def RX1 : String := "QueueDrive"
def TX1 : u_T := fun k => match k with
  | 0 => ("QueueDrive", "now", "LQueueDrive$Drive;", true)
  | 1 => ("QueueDrive", "aside", "LQueueDrive$Drive;", true)
  | 2 => ("QueueDrive", "tried", "LQueueDrive$Drive;", true)
  | 3 => ("QueueDrive", "ahead", "[LQueueDrive$Drive;", true)
  | 4 => ("QueueDrive", "undoMany", "I", false)
  | 5 => ("QueueDrive", "came", "I", false)
  | 6 => ("QueueDrive", "text", "[B", true)
  | 7 => ("QueueDrive", "typed", "I", false)
  | 8 => ("QueueDrive", "row", "[J", true)
  | 9 => ("QueueDrive", "rowMany", "I", false)
  | 10 => ("QueueDrive", "rule", "LQueueDrive$Rule;", false)
  | 11 => ("QueueDrive", "found", "I", false)
  | 12 => ("QueueDrive", "foundLeft", "I", false)
  | 13 => ("QueueDrive", "takenMany", "I", false)
  | 14 => ("QueueDrive", "heardOf", "[I", true)
  | 15 => ("QueueDrive", "heardAs", "[I", true)
  | 16 => ("QueueDrive", "heardMany", "I", false)
  | 17 => ("QueueDrive", "thought", "[LQueueDrive$Command;", true)
  | 18 => ("QueueDrive", "isRun", "[Z", true)
  | 19 => ("QueueDrive", "drawn", "I", false)
  | 20 => ("QueueDrive", "pages", "[LQueueDrive$Drive;", true)
  | _ => ("QueueDrive", "since", "[I", true)
def tyX1 : Nat → FieldType := fun k => match k with
  | 0 => .object "QueueDrive$Drive"
  | 1 => .object "QueueDrive$Drive"
  | 2 => .object "QueueDrive$Drive"
  | 3 => .array (.object "QueueDrive$Drive")
  | 4 => .int
  | 5 => .int
  | 6 => .array .byte
  | 7 => .int
  | 8 => .array .long
  | 9 => .int
  | 10 => .object "QueueDrive$Rule"
  | 11 => .int
  | 12 => .int
  | 13 => .int
  | 14 => .array .int
  | 15 => .array .int
  | 16 => .int
  | 17 => .array (.object "QueueDrive$Command")
  | 18 => .array .boolean
  | 19 => .int
  | 20 => .array (.object "QueueDrive$Drive")
  | _ => .array .int
abbrev wsX10 : List Cond := u_ws RX1 TX1 22
set_option maxRecDepth 100000 in
theorem nmX1 : ∀ a, a < 22 → ∀ b, b < 22 → a ≠ b → (TX1 a).2.1 ≠ (TX1 b).2.1 := by decide +kernel
set_option maxRecDepth 100000 in
theorem tyX1_ok : ∀ k, k < 22 → parseFieldDescriptor (TX1 k).2.2.1 = some (tyX1 k) := by decide +kernel
abbrev cX1_init : ByteArray := prog_1_method_3_code
def yX1_init : MethodName := ⟨RX1, "<init>", "()V"⟩
def dkwX1_init_5 : List UInt8 := [180, 0, 22, 27, 187, 0, 7, 89, 183, 0, 9, 83, 132, 1, 1, 167, 255, 234, 177]
abbrev dktX1_init_5 : List UInt8 := dkwX1_init_5 ++ []
def dkwX1_init_4 : List UInt8 := [42, 5, 189, 0, 7, 181, 0, 51, 42, 5, 188, 10, 181, 0, 54, 3, 60, 27, 16, 8, 162, 0, 22, 42]
abbrev dktX1_init_4 : List UInt8 := dkwX1_init_4 ++ dktX1_init_5
def dkwX1_init_3 : List UInt8 := [16, 12, 188, 10, 181, 0, 38, 42, 16, 80, 189, 0, 41, 181, 0, 43, 42, 16, 80, 188, 4, 181, 0, 47]
abbrev dktX1_init_3 : List UInt8 := dkwX1_init_3 ++ dktX1_init_4
def dkwX1_init_2 : List UInt8 := [16, 80, 188, 8, 181, 0, 26, 42, 16, 16, 188, 11, 181, 0, 30, 42, 16, 12, 188, 10, 181, 0, 34, 42]
abbrev dktX1_init_2 : List UInt8 := dkwX1_init_2 ++ dktX1_init_3
def dkwX1_init_1 : List UInt8 := [181, 0, 16, 42, 187, 0, 7, 89, 183, 0, 9, 181, 0, 19, 42, 16, 8, 189, 0, 7, 181, 0, 22, 42]
abbrev dktX1_init_1 : List UInt8 := dkwX1_init_1 ++ dktX1_init_2
def dkwX1_init_0 : List UInt8 := [42, 183, 0, 1, 42, 187, 0, 7, 89, 183, 0, 9, 181, 0, 10, 42, 187, 0, 7, 89, 183, 0, 9]
abbrev dktX1_init_0 : List UInt8 := dkwX1_init_0 ++ dktX1_init_1
theorem dksX1_init_0 : cX1_init.data.toList.drop 0 = dktX1_init_0 := by decide +kernel
theorem dksX1_init_1 : cX1_init.data.toList.drop 23 = dktX1_init_1 := dk_seg dksX1_init_0 23 rfl rfl
theorem dksX1_init_2 : cX1_init.data.toList.drop 47 = dktX1_init_2 := dk_seg dksX1_init_1 24 rfl rfl
theorem dksX1_init_3 : cX1_init.data.toList.drop 71 = dktX1_init_3 := dk_seg dksX1_init_2 24 rfl rfl
theorem dksX1_init_4 : cX1_init.data.toList.drop 95 = dktX1_init_4 := dk_seg dksX1_init_3 24 rfl rfl
theorem dksX1_init_5 : cX1_init.data.toList.drop 119 = dktX1_init_5 := dk_seg dksX1_init_4 24 rfl rfl
theorem dX1_init_0 : decode cX1_init 0 = .ok (.aload_n 0, 1) := dk_42 (dk_at dksX1_init_0 0 rfl rfl)
theorem dX1_init_1 : decode cX1_init 1 = .ok (.invokespecial 1, 3) := dk_183 0 1 (dk_at dksX1_init_0 1 rfl rfl)
theorem dX1_init_4 : decode cX1_init 4 = .ok (.aload_n 0, 1) := dk_42 (dk_at dksX1_init_0 4 rfl rfl)
theorem dX1_init_5 : decode cX1_init 5 = .ok (.new 7, 3) := dk_187 0 7 (dk_at dksX1_init_0 5 rfl rfl)
theorem dX1_init_8 : decode cX1_init 8 = .ok (.dup, 1) := dk_89 (dk_at dksX1_init_0 8 rfl rfl)
theorem dX1_init_9 : decode cX1_init 9 = .ok (.invokespecial 9, 3) := dk_183 0 9 (dk_at dksX1_init_0 9 rfl rfl)
theorem dX1_init_12 : decode cX1_init 12 = .ok (.putfield 10, 3) := dk_181 0 10 (dk_at dksX1_init_0 12 rfl rfl)
theorem dX1_init_15 : decode cX1_init 15 = .ok (.aload_n 0, 1) := dk_42 (dk_at dksX1_init_0 15 rfl rfl)
theorem dX1_init_16 : decode cX1_init 16 = .ok (.new 7, 3) := dk_187 0 7 (dk_at dksX1_init_0 16 rfl rfl)
theorem dX1_init_19 : decode cX1_init 19 = .ok (.dup, 1) := dk_89 (dk_at dksX1_init_0 19 rfl rfl)
theorem dX1_init_20 : decode cX1_init 20 = .ok (.invokespecial 9, 3) := dk_183 0 9 (dk_at dksX1_init_0 20 rfl rfl)
theorem dX1_init_23 : decode cX1_init 23 = .ok (.putfield 16, 3) := dk_181 0 16 (dk_at dksX1_init_1 0 rfl rfl)
theorem dX1_init_26 : decode cX1_init 26 = .ok (.aload_n 0, 1) := dk_42 (dk_at dksX1_init_1 3 rfl rfl)
theorem dX1_init_27 : decode cX1_init 27 = .ok (.new 7, 3) := dk_187 0 7 (dk_at dksX1_init_1 4 rfl rfl)
theorem dX1_init_30 : decode cX1_init 30 = .ok (.dup, 1) := dk_89 (dk_at dksX1_init_1 7 rfl rfl)
theorem dX1_init_31 : decode cX1_init 31 = .ok (.invokespecial 9, 3) := dk_183 0 9 (dk_at dksX1_init_1 8 rfl rfl)
theorem dX1_init_34 : decode cX1_init 34 = .ok (.putfield 19, 3) := dk_181 0 19 (dk_at dksX1_init_1 11 rfl rfl)
theorem dX1_init_37 : decode cX1_init 37 = .ok (.aload_n 0, 1) := dk_42 (dk_at dksX1_init_1 14 rfl rfl)
theorem dX1_init_38 : decode cX1_init 38 = .ok (.bipush 8, 2) := dk_16 8 (dk_at dksX1_init_1 15 rfl rfl)
theorem dX1_init_40 : decode cX1_init 40 = .ok (.anewarray 7, 3) := dk_189 0 7 (dk_at dksX1_init_1 17 rfl rfl)
theorem dX1_init_43 : decode cX1_init 43 = .ok (.putfield 22, 3) := dk_181 0 22 (dk_at dksX1_init_1 20 rfl rfl)
theorem dX1_init_46 : decode cX1_init 46 = .ok (.aload_n 0, 1) := dk_42 (dk_at dksX1_init_1 23 rfl rfl)
theorem dX1_init_47 : decode cX1_init 47 = .ok (.bipush 80, 2) := dk_16 80 (dk_at dksX1_init_2 0 rfl rfl)
theorem dX1_init_49 : decode cX1_init 49 = .ok (.newarray .byte, 2) := dk_188_8 (dk_at dksX1_init_2 2 rfl rfl)
theorem dX1_init_51 : decode cX1_init 51 = .ok (.putfield 26, 3) := dk_181 0 26 (dk_at dksX1_init_2 4 rfl rfl)
theorem dX1_init_54 : decode cX1_init 54 = .ok (.aload_n 0, 1) := dk_42 (dk_at dksX1_init_2 7 rfl rfl)
theorem dX1_init_55 : decode cX1_init 55 = .ok (.bipush 16, 2) := dk_16 16 (dk_at dksX1_init_2 8 rfl rfl)
theorem dX1_init_57 : decode cX1_init 57 = .ok (.newarray .long, 2) := dk_188_11 (dk_at dksX1_init_2 10 rfl rfl)
theorem dX1_init_59 : decode cX1_init 59 = .ok (.putfield 30, 3) := dk_181 0 30 (dk_at dksX1_init_2 12 rfl rfl)
theorem dX1_init_62 : decode cX1_init 62 = .ok (.aload_n 0, 1) := dk_42 (dk_at dksX1_init_2 15 rfl rfl)
theorem dX1_init_63 : decode cX1_init 63 = .ok (.bipush 12, 2) := dk_16 12 (dk_at dksX1_init_2 16 rfl rfl)
theorem dX1_init_65 : decode cX1_init 65 = .ok (.newarray .int, 2) := dk_188_10 (dk_at dksX1_init_2 18 rfl rfl)
theorem dX1_init_67 : decode cX1_init 67 = .ok (.putfield 34, 3) := dk_181 0 34 (dk_at dksX1_init_2 20 rfl rfl)
theorem dX1_init_70 : decode cX1_init 70 = .ok (.aload_n 0, 1) := dk_42 (dk_at dksX1_init_2 23 rfl rfl)
theorem dX1_init_71 : decode cX1_init 71 = .ok (.bipush 12, 2) := dk_16 12 (dk_at dksX1_init_3 0 rfl rfl)
theorem dX1_init_73 : decode cX1_init 73 = .ok (.newarray .int, 2) := dk_188_10 (dk_at dksX1_init_3 2 rfl rfl)
theorem dX1_init_75 : decode cX1_init 75 = .ok (.putfield 38, 3) := dk_181 0 38 (dk_at dksX1_init_3 4 rfl rfl)
theorem dX1_init_78 : decode cX1_init 78 = .ok (.aload_n 0, 1) := dk_42 (dk_at dksX1_init_3 7 rfl rfl)
theorem dX1_init_79 : decode cX1_init 79 = .ok (.bipush 80, 2) := dk_16 80 (dk_at dksX1_init_3 8 rfl rfl)
theorem dX1_init_81 : decode cX1_init 81 = .ok (.anewarray 41, 3) := dk_189 0 41 (dk_at dksX1_init_3 10 rfl rfl)
theorem dX1_init_84 : decode cX1_init 84 = .ok (.putfield 43, 3) := dk_181 0 43 (dk_at dksX1_init_3 13 rfl rfl)
theorem dX1_init_87 : decode cX1_init 87 = .ok (.aload_n 0, 1) := dk_42 (dk_at dksX1_init_3 16 rfl rfl)
theorem dX1_init_88 : decode cX1_init 88 = .ok (.bipush 80, 2) := dk_16 80 (dk_at dksX1_init_3 17 rfl rfl)
theorem dX1_init_90 : decode cX1_init 90 = .ok (.newarray .boolean, 2) := dk_188_4 (dk_at dksX1_init_3 19 rfl rfl)
theorem dX1_init_92 : decode cX1_init 92 = .ok (.putfield 47, 3) := dk_181 0 47 (dk_at dksX1_init_3 21 rfl rfl)
theorem dX1_init_95 : decode cX1_init 95 = .ok (.aload_n 0, 1) := dk_42 (dk_at dksX1_init_4 0 rfl rfl)
theorem dX1_init_96 : decode cX1_init 96 = .ok (.iconst 2, 1) := dk_5 (dk_at dksX1_init_4 1 rfl rfl)
theorem dX1_init_97 : decode cX1_init 97 = .ok (.anewarray 7, 3) := dk_189 0 7 (dk_at dksX1_init_4 2 rfl rfl)
theorem dX1_init_100 : decode cX1_init 100 = .ok (.putfield 51, 3) := dk_181 0 51 (dk_at dksX1_init_4 5 rfl rfl)
theorem dX1_init_103 : decode cX1_init 103 = .ok (.aload_n 0, 1) := dk_42 (dk_at dksX1_init_4 8 rfl rfl)
theorem dX1_init_104 : decode cX1_init 104 = .ok (.iconst 2, 1) := dk_5 (dk_at dksX1_init_4 9 rfl rfl)
theorem dX1_init_105 : decode cX1_init 105 = .ok (.newarray .int, 2) := dk_188_10 (dk_at dksX1_init_4 10 rfl rfl)
theorem dX1_init_107 : decode cX1_init 107 = .ok (.putfield 54, 3) := dk_181 0 54 (dk_at dksX1_init_4 12 rfl rfl)
theorem dX1_init_110 : decode cX1_init 110 = .ok (.iconst 0, 1) := dk_3 (dk_at dksX1_init_4 15 rfl rfl)
theorem dX1_init_111 : decode cX1_init 111 = .ok (.istore_n 1, 1) := dk_60 (dk_at dksX1_init_4 16 rfl rfl)
theorem dX1_init_112 : decode cX1_init 112 = .ok (.iload_n 1, 1) := dk_27 (dk_at dksX1_init_4 17 rfl rfl)
theorem dX1_init_113 : decode cX1_init 113 = .ok (.bipush 8, 2) := dk_16 8 (dk_at dksX1_init_4 18 rfl rfl)
theorem dX1_init_115 : decode cX1_init 115 = .ok (.if_icmp .ge 22, 3) := dk_162 0 22 (dk_at dksX1_init_4 20 rfl rfl)
theorem dX1_init_118 : decode cX1_init 118 = .ok (.aload_n 0, 1) := dk_42 (dk_at dksX1_init_4 23 rfl rfl)
theorem dX1_init_119 : decode cX1_init 119 = .ok (.getfield 22, 3) := dk_180 0 22 (dk_at dksX1_init_5 0 rfl rfl)
theorem dX1_init_122 : decode cX1_init 122 = .ok (.iload_n 1, 1) := dk_27 (dk_at dksX1_init_5 3 rfl rfl)
theorem dX1_init_123 : decode cX1_init 123 = .ok (.new 7, 3) := dk_187 0 7 (dk_at dksX1_init_5 4 rfl rfl)
theorem dX1_init_126 : decode cX1_init 126 = .ok (.dup, 1) := dk_89 (dk_at dksX1_init_5 7 rfl rfl)
theorem dX1_init_127 : decode cX1_init 127 = .ok (.invokespecial 9, 3) := dk_183 0 9 (dk_at dksX1_init_5 8 rfl rfl)
theorem dX1_init_130 : decode cX1_init 130 = .ok (.aastore, 1) := dk_83 (dk_at dksX1_init_5 11 rfl rfl)
theorem dX1_init_131 : decode cX1_init 131 = .ok (.iinc 1 1, 3) := dk_132 1 1 (dk_at dksX1_init_5 12 rfl rfl)
theorem dX1_init_134 : decode cX1_init 134 = .ok (.goto (-22), 3) := dk_167 255 234 (dk_at dksX1_init_5 15 rfl rfl)
theorem dX1_init_137 : decode cX1_init 137 = .ok (.return_, 1) := dk_177 (dk_at dksX1_init_5 18 rfl rfl)
abbrev cX1_sign : ByteArray := prog_1_method_7_code
def yX1_sign : MethodName := ⟨RX1, "sign", "(I)I"⟩
def dkwX1_sign_2 : List UInt8 := [167, 255, 226, 42, 180, 0, 70, 172]
abbrev dktX1_sign_2 : List UInt8 := dkwX1_sign_2 ++ []
def dkwX1_sign_1 : List UInt8 := [42, 180, 0, 70, 27, 28, 122, 145, 84, 42, 89, 180, 0, 70, 4, 96, 181, 0, 70, 132, 2, 248]
abbrev dktX1_sign_1 : List UInt8 := dkwX1_sign_1 ++ dktX1_sign_2
def dkwX1_sign_0 : List UInt8 := [42, 180, 0, 70, 7, 96, 16, 80, 164, 0, 5, 2, 172, 16, 24, 61, 28, 155, 0, 32, 42, 180, 0, 26]
abbrev dktX1_sign_0 : List UInt8 := dkwX1_sign_0 ++ dktX1_sign_1
theorem dksX1_sign_0 : cX1_sign.data.toList.drop 0 = dktX1_sign_0 := by decide +kernel
theorem dksX1_sign_1 : cX1_sign.data.toList.drop 24 = dktX1_sign_1 := dk_seg dksX1_sign_0 24 rfl rfl
theorem dksX1_sign_2 : cX1_sign.data.toList.drop 46 = dktX1_sign_2 := dk_seg dksX1_sign_1 22 rfl rfl
theorem dX1_sign_0 : decode cX1_sign 0 = .ok (.aload_n 0, 1) := dk_42 (dk_at dksX1_sign_0 0 rfl rfl)
theorem dX1_sign_1 : decode cX1_sign 1 = .ok (.getfield 70, 3) := dk_180 0 70 (dk_at dksX1_sign_0 1 rfl rfl)
theorem dX1_sign_4 : decode cX1_sign 4 = .ok (.iconst 4, 1) := dk_7 (dk_at dksX1_sign_0 4 rfl rfl)
theorem dX1_sign_5 : decode cX1_sign 5 = .ok (.iadd, 1) := dk_96 (dk_at dksX1_sign_0 5 rfl rfl)
theorem dX1_sign_6 : decode cX1_sign 6 = .ok (.bipush 80, 2) := dk_16 80 (dk_at dksX1_sign_0 6 rfl rfl)
theorem dX1_sign_8 : decode cX1_sign 8 = .ok (.if_icmp .le 5, 3) := dk_164 0 5 (dk_at dksX1_sign_0 8 rfl rfl)
theorem dX1_sign_11 : decode cX1_sign 11 = .ok (.iconst (-1), 1) := dk_2 (dk_at dksX1_sign_0 11 rfl rfl)
theorem dX1_sign_12 : decode cX1_sign 12 = .ok (.ireturn, 1) := dk_172 (dk_at dksX1_sign_0 12 rfl rfl)
theorem dX1_sign_13 : decode cX1_sign 13 = .ok (.bipush 24, 2) := dk_16 24 (dk_at dksX1_sign_0 13 rfl rfl)
theorem dX1_sign_15 : decode cX1_sign 15 = .ok (.istore_n 2, 1) := dk_61 (dk_at dksX1_sign_0 15 rfl rfl)
theorem dX1_sign_16 : decode cX1_sign 16 = .ok (.iload_n 2, 1) := dk_28 (dk_at dksX1_sign_0 16 rfl rfl)
theorem dX1_sign_17 : decode cX1_sign 17 = .ok (.ifCond .lt 32, 3) := dk_155 0 32 (dk_at dksX1_sign_0 17 rfl rfl)
theorem dX1_sign_20 : decode cX1_sign 20 = .ok (.aload_n 0, 1) := dk_42 (dk_at dksX1_sign_0 20 rfl rfl)
theorem dX1_sign_21 : decode cX1_sign 21 = .ok (.getfield 26, 3) := dk_180 0 26 (dk_at dksX1_sign_0 21 rfl rfl)
theorem dX1_sign_24 : decode cX1_sign 24 = .ok (.aload_n 0, 1) := dk_42 (dk_at dksX1_sign_1 0 rfl rfl)
theorem dX1_sign_25 : decode cX1_sign 25 = .ok (.getfield 70, 3) := dk_180 0 70 (dk_at dksX1_sign_1 1 rfl rfl)
theorem dX1_sign_28 : decode cX1_sign 28 = .ok (.iload_n 1, 1) := dk_27 (dk_at dksX1_sign_1 4 rfl rfl)
theorem dX1_sign_29 : decode cX1_sign 29 = .ok (.iload_n 2, 1) := dk_28 (dk_at dksX1_sign_1 5 rfl rfl)
theorem dX1_sign_30 : decode cX1_sign 30 = .ok (.ishr, 1) := dk_122 (dk_at dksX1_sign_1 6 rfl rfl)
theorem dX1_sign_31 : decode cX1_sign 31 = .ok (.i2b, 1) := dk_145 (dk_at dksX1_sign_1 7 rfl rfl)
theorem dX1_sign_32 : decode cX1_sign 32 = .ok (.bastore, 1) := dk_84 (dk_at dksX1_sign_1 8 rfl rfl)
theorem dX1_sign_33 : decode cX1_sign 33 = .ok (.aload_n 0, 1) := dk_42 (dk_at dksX1_sign_1 9 rfl rfl)
theorem dX1_sign_34 : decode cX1_sign 34 = .ok (.dup, 1) := dk_89 (dk_at dksX1_sign_1 10 rfl rfl)
theorem dX1_sign_35 : decode cX1_sign 35 = .ok (.getfield 70, 3) := dk_180 0 70 (dk_at dksX1_sign_1 11 rfl rfl)
theorem dX1_sign_38 : decode cX1_sign 38 = .ok (.iconst 1, 1) := dk_4 (dk_at dksX1_sign_1 14 rfl rfl)
theorem dX1_sign_39 : decode cX1_sign 39 = .ok (.iadd, 1) := dk_96 (dk_at dksX1_sign_1 15 rfl rfl)
theorem dX1_sign_40 : decode cX1_sign 40 = .ok (.putfield 70, 3) := dk_181 0 70 (dk_at dksX1_sign_1 16 rfl rfl)
theorem dX1_sign_43 : decode cX1_sign 43 = .ok (.iinc 2 (-8), 3) := dk_132 2 248 (dk_at dksX1_sign_1 19 rfl rfl)
theorem dX1_sign_46 : decode cX1_sign 46 = .ok (.goto (-30), 3) := dk_167 255 226 (dk_at dksX1_sign_2 0 rfl rfl)
theorem dX1_sign_49 : decode cX1_sign 49 = .ok (.aload_n 0, 1) := dk_42 (dk_at dksX1_sign_2 3 rfl rfl)
theorem dX1_sign_50 : decode cX1_sign 50 = .ok (.getfield 70, 3) := dk_180 0 70 (dk_at dksX1_sign_2 4 rfl rfl)
theorem dX1_sign_53 : decode cX1_sign 53 = .ok (.ireturn, 1) := dk_172 (dk_at dksX1_sign_2 7 rfl rfl)
abbrev cX1_end : ByteArray := prog_1_method_8_code
def yX1_end : MethodName := ⟨RX1, "end", "(I)Z"⟩
def dkwX1_end_0 : List UInt8 := [27, 133, 9, 42, 180, 0, 70, 133, 184, 0, 64, 154, 0, 5, 3, 172, 42, 27, 181, 0, 70, 4, 172]
abbrev dktX1_end_0 : List UInt8 := dkwX1_end_0 ++ []
theorem dksX1_end_0 : cX1_end.data.toList.drop 0 = dktX1_end_0 := by decide +kernel
theorem dX1_end_0 : decode cX1_end 0 = .ok (.iload_n 1, 1) := dk_27 (dk_at dksX1_end_0 0 rfl rfl)
theorem dX1_end_1 : decode cX1_end 1 = .ok (.i2l, 1) := dk_133 (dk_at dksX1_end_0 1 rfl rfl)
theorem dX1_end_2 : decode cX1_end 2 = .ok (.lconst 0, 1) := dk_9 (dk_at dksX1_end_0 2 rfl rfl)
theorem dX1_end_3 : decode cX1_end 3 = .ok (.aload_n 0, 1) := dk_42 (dk_at dksX1_end_0 3 rfl rfl)
theorem dX1_end_4 : decode cX1_end 4 = .ok (.getfield 70, 3) := dk_180 0 70 (dk_at dksX1_end_0 4 rfl rfl)
theorem dX1_end_7 : decode cX1_end 7 = .ok (.i2l, 1) := dk_133 (dk_at dksX1_end_0 7 rfl rfl)
theorem dX1_end_8 : decode cX1_end 8 = .ok (.invokestatic 64, 3) := dk_184 0 64 (dk_at dksX1_end_0 8 rfl rfl)
theorem dX1_end_11 : decode cX1_end 11 = .ok (.ifCond .ne 5, 3) := dk_154 0 5 (dk_at dksX1_end_0 11 rfl rfl)
theorem dX1_end_14 : decode cX1_end 14 = .ok (.iconst 0, 1) := dk_3 (dk_at dksX1_end_0 14 rfl rfl)
theorem dX1_end_15 : decode cX1_end 15 = .ok (.ireturn, 1) := dk_172 (dk_at dksX1_end_0 15 rfl rfl)
theorem dX1_end_16 : decode cX1_end 16 = .ok (.aload_n 0, 1) := dk_42 (dk_at dksX1_end_0 16 rfl rfl)
theorem dX1_end_17 : decode cX1_end 17 = .ok (.iload_n 1, 1) := dk_27 (dk_at dksX1_end_0 17 rfl rfl)
theorem dX1_end_18 : decode cX1_end 18 = .ok (.putfield 70, 3) := dk_181 0 70 (dk_at dksX1_end_0 18 rfl rfl)
theorem dX1_end_21 : decode cX1_end 21 = .ok (.iconst 1, 1) := dk_4 (dk_at dksX1_end_0 21 rfl rfl)
theorem dX1_end_22 : decode cX1_end 22 = .ok (.ireturn, 1) := dk_172 (dk_at dksX1_end_0 22 rfl rfl)
abbrev cX1_in : ByteArray := prog_1_method_1_code
def yX1_in : MethodName := ⟨RX1, "in", "(JJJ)Z"⟩
def dkwX1_in_0 : List UInt8 := [30, 32, 148, 155, 0, 14, 30, 22, 4, 148, 157, 0, 7, 4, 167, 0, 4, 3, 172]
abbrev dktX1_in_0 : List UInt8 := dkwX1_in_0 ++ []
theorem dksX1_in_0 : cX1_in.data.toList.drop 0 = dktX1_in_0 := by decide +kernel
theorem dX1_in_0 : decode cX1_in 0 = .ok (.lload_n 0, 1) := dk_30 (dk_at dksX1_in_0 0 rfl rfl)
theorem dX1_in_1 : decode cX1_in 1 = .ok (.lload_n 2, 1) := dk_32 (dk_at dksX1_in_0 1 rfl rfl)
theorem dX1_in_2 : decode cX1_in 2 = .ok (.lcmp, 1) := dk_148 (dk_at dksX1_in_0 2 rfl rfl)
theorem dX1_in_3 : decode cX1_in 3 = .ok (.ifCond .lt 14, 3) := dk_155 0 14 (dk_at dksX1_in_0 3 rfl rfl)
theorem dX1_in_6 : decode cX1_in 6 = .ok (.lload_n 0, 1) := dk_30 (dk_at dksX1_in_0 6 rfl rfl)
theorem dX1_in_7 : decode cX1_in 7 = .ok (.lload 4, 2) := dk_22 4 (dk_at dksX1_in_0 7 rfl rfl)
theorem dX1_in_9 : decode cX1_in 9 = .ok (.lcmp, 1) := dk_148 (dk_at dksX1_in_0 9 rfl rfl)
theorem dX1_in_10 : decode cX1_in 10 = .ok (.ifCond .gt 7, 3) := dk_157 0 7 (dk_at dksX1_in_0 10 rfl rfl)
theorem dX1_in_13 : decode cX1_in 13 = .ok (.iconst 1, 1) := dk_4 (dk_at dksX1_in_0 13 rfl rfl)
theorem dX1_in_14 : decode cX1_in 14 = .ok (.goto 4, 3) := dk_167 0 4 (dk_at dksX1_in_0 14 rfl rfl)
theorem dX1_in_17 : decode cX1_in 17 = .ok (.iconst 0, 1) := dk_3 (dk_at dksX1_in_0 17 rfl rfl)
theorem dX1_in_18 : decode cX1_in 18 = .ok (.ireturn, 1) := dk_172 (dk_at dksX1_in_0 18 rfl rfl)
abbrev cX1_queues : ByteArray := prog_1_method_9_code
def yX1_queues : MethodName := ⟨RX1, "queues", "()I"⟩
def dkwX1_queues_8 : List UInt8 := [181, 0, 138, 42, 180, 0, 10, 180, 0, 61, 4, 100, 172]
abbrev dktX1_queues_8 : List UInt8 := dkwX1_queues_8 ++ []
def dkwX1_queues_7 : List UInt8 := [180, 0, 10, 89, 180, 0, 61, 4, 96, 181, 0, 61, 42, 3, 181, 0, 135, 42, 89, 180, 0, 138, 4, 96]
abbrev dktX1_queues_7 : List UInt8 := dkwX1_queues_7 ++ dktX1_queues_8
def dkwX1_queues_6 : List UInt8 := [181, 0, 122, 25, 6, 29, 181, 0, 125, 25, 6, 21, 4, 181, 0, 128, 25, 6, 21, 5, 181, 0, 131, 42]
abbrev dktX1_queues_6 : List UInt8 := dkwX1_queues_6 ++ dktX1_queues_7
def dkwX1_queues_5 : List UInt8 := [180, 0, 10, 180, 0, 113, 42, 180, 0, 10, 180, 0, 61, 50, 58, 6, 25, 6, 182, 0, 117, 25, 6, 28]
abbrev dktX1_queues_5 : List UInt8 := dkwX1_queues_5 ++ dktX1_queues_6
def dkwX1_queues_4 : List UInt8 := [25, 6, 180, 0, 112, 100, 172, 42, 180, 0, 10, 180, 0, 61, 8, 160, 0, 6, 16, 156, 172, 42]
abbrev dktX1_queues_4 : List UInt8 := dkwX1_queues_4 ++ dktX1_queues_5
def dkwX1_queues_3 : List UInt8 := [4, 96, 181, 0, 100, 43, 16, 115, 182, 0, 103, 54, 5, 43, 182, 0, 107, 167, 0, 13, 58, 6, 2]
abbrev dktX1_queues_3 : List UInt8 := dkwX1_queues_3 ++ dktX1_queues_4
def dkwX1_queues_2 : List UInt8 := [182, 0, 90, 54, 4, 43, 21, 4, 155, 0, 7, 4, 167, 0, 4, 3, 182, 0, 96, 43, 89, 180, 0, 100]
abbrev dktX1_queues_2 : List UInt8 := dkwX1_queues_2 ++ dktX1_queues_3
def dkwX1_queues_1 : List UInt8 := [182, 0, 80, 5, 96, 62, 43, 182, 0, 84, 2, 160, 0, 7, 2, 167, 0, 12, 18, 88, 43, 182, 0, 84]
abbrev dktX1_queues_1 : List UInt8 := dkwX1_queues_1 ++ dktX1_queues_2
def dkwX1_queues_0 : List UInt8 := [42, 16, 80, 182, 0, 76, 76, 43, 16, 50, 16, 7, 182, 0, 80, 5, 96, 61, 43, 16, 50, 16, 7]
abbrev dktX1_queues_0 : List UInt8 := dkwX1_queues_0 ++ dktX1_queues_1
theorem dksX1_queues_0 : cX1_queues.data.toList.drop 0 = dktX1_queues_0 := by decide +kernel
theorem dksX1_queues_1 : cX1_queues.data.toList.drop 23 = dktX1_queues_1 := dk_seg dksX1_queues_0 23 rfl rfl
theorem dksX1_queues_2 : cX1_queues.data.toList.drop 47 = dktX1_queues_2 := dk_seg dksX1_queues_1 24 rfl rfl
theorem dksX1_queues_3 : cX1_queues.data.toList.drop 71 = dktX1_queues_3 := dk_seg dksX1_queues_2 24 rfl rfl
theorem dksX1_queues_4 : cX1_queues.data.toList.drop 94 = dktX1_queues_4 := dk_seg dksX1_queues_3 23 rfl rfl
theorem dksX1_queues_5 : cX1_queues.data.toList.drop 116 = dktX1_queues_5 := dk_seg dksX1_queues_4 22 rfl rfl
theorem dksX1_queues_6 : cX1_queues.data.toList.drop 140 = dktX1_queues_6 := dk_seg dksX1_queues_5 24 rfl rfl
theorem dksX1_queues_7 : cX1_queues.data.toList.drop 164 = dktX1_queues_7 := dk_seg dksX1_queues_6 24 rfl rfl
theorem dksX1_queues_8 : cX1_queues.data.toList.drop 188 = dktX1_queues_8 := dk_seg dksX1_queues_7 24 rfl rfl
theorem dX1_queues_0 : decode cX1_queues 0 = .ok (.aload_n 0, 1) := dk_42 (dk_at dksX1_queues_0 0 rfl rfl)
theorem dX1_queues_1 : decode cX1_queues 1 = .ok (.bipush 80, 2) := dk_16 80 (dk_at dksX1_queues_0 1 rfl rfl)
theorem dX1_queues_3 : decode cX1_queues 3 = .ok (.invokevirtual 76, 3) := dk_182 0 76 (dk_at dksX1_queues_0 3 rfl rfl)
theorem dX1_queues_6 : decode cX1_queues 6 = .ok (.astore_n 1, 1) := dk_76 (dk_at dksX1_queues_0 6 rfl rfl)
theorem dX1_queues_7 : decode cX1_queues 7 = .ok (.aload_n 1, 1) := dk_43 (dk_at dksX1_queues_0 7 rfl rfl)
theorem dX1_queues_8 : decode cX1_queues 8 = .ok (.bipush 50, 2) := dk_16 50 (dk_at dksX1_queues_0 8 rfl rfl)
theorem dX1_queues_10 : decode cX1_queues 10 = .ok (.bipush 7, 2) := dk_16 7 (dk_at dksX1_queues_0 10 rfl rfl)
theorem dX1_queues_12 : decode cX1_queues 12 = .ok (.invokevirtual 80, 3) := dk_182 0 80 (dk_at dksX1_queues_0 12 rfl rfl)
theorem dX1_queues_15 : decode cX1_queues 15 = .ok (.iconst 2, 1) := dk_5 (dk_at dksX1_queues_0 15 rfl rfl)
theorem dX1_queues_16 : decode cX1_queues 16 = .ok (.iadd, 1) := dk_96 (dk_at dksX1_queues_0 16 rfl rfl)
theorem dX1_queues_17 : decode cX1_queues 17 = .ok (.istore_n 2, 1) := dk_61 (dk_at dksX1_queues_0 17 rfl rfl)
theorem dX1_queues_18 : decode cX1_queues 18 = .ok (.aload_n 1, 1) := dk_43 (dk_at dksX1_queues_0 18 rfl rfl)
theorem dX1_queues_19 : decode cX1_queues 19 = .ok (.bipush 50, 2) := dk_16 50 (dk_at dksX1_queues_0 19 rfl rfl)
theorem dX1_queues_21 : decode cX1_queues 21 = .ok (.bipush 7, 2) := dk_16 7 (dk_at dksX1_queues_0 21 rfl rfl)
theorem dX1_queues_23 : decode cX1_queues 23 = .ok (.invokevirtual 80, 3) := dk_182 0 80 (dk_at dksX1_queues_1 0 rfl rfl)
theorem dX1_queues_26 : decode cX1_queues 26 = .ok (.iconst 2, 1) := dk_5 (dk_at dksX1_queues_1 3 rfl rfl)
theorem dX1_queues_27 : decode cX1_queues 27 = .ok (.iadd, 1) := dk_96 (dk_at dksX1_queues_1 4 rfl rfl)
theorem dX1_queues_28 : decode cX1_queues 28 = .ok (.istore_n 3, 1) := dk_62 (dk_at dksX1_queues_1 5 rfl rfl)
theorem dX1_queues_29 : decode cX1_queues 29 = .ok (.aload_n 1, 1) := dk_43 (dk_at dksX1_queues_1 6 rfl rfl)
theorem dX1_queues_30 : decode cX1_queues 30 = .ok (.invokevirtual 84, 3) := dk_182 0 84 (dk_at dksX1_queues_1 7 rfl rfl)
theorem dX1_queues_33 : decode cX1_queues 33 = .ok (.iconst (-1), 1) := dk_2 (dk_at dksX1_queues_1 10 rfl rfl)
theorem dX1_queues_34 : decode cX1_queues 34 = .ok (.if_icmp .ne 7, 3) := dk_160 0 7 (dk_at dksX1_queues_1 11 rfl rfl)
theorem dX1_queues_37 : decode cX1_queues 37 = .ok (.iconst (-1), 1) := dk_2 (dk_at dksX1_queues_1 14 rfl rfl)
theorem dX1_queues_38 : decode cX1_queues 38 = .ok (.goto 12, 3) := dk_167 0 12 (dk_at dksX1_queues_1 15 rfl rfl)
theorem dX1_queues_41 : decode cX1_queues 41 = .ok (.ldc 88, 2) := dk_18 88 (dk_at dksX1_queues_1 18 rfl rfl)
theorem dX1_queues_43 : decode cX1_queues 43 = .ok (.aload_n 1, 1) := dk_43 (dk_at dksX1_queues_1 20 rfl rfl)
theorem dX1_queues_44 : decode cX1_queues 44 = .ok (.invokevirtual 84, 3) := dk_182 0 84 (dk_at dksX1_queues_1 21 rfl rfl)
theorem dX1_queues_47 : decode cX1_queues 47 = .ok (.invokevirtual 90, 3) := dk_182 0 90 (dk_at dksX1_queues_2 0 rfl rfl)
theorem dX1_queues_50 : decode cX1_queues 50 = .ok (.istore 4, 2) := dk_54 4 (dk_at dksX1_queues_2 3 rfl rfl)
theorem dX1_queues_52 : decode cX1_queues 52 = .ok (.aload_n 1, 1) := dk_43 (dk_at dksX1_queues_2 5 rfl rfl)
theorem dX1_queues_53 : decode cX1_queues 53 = .ok (.iload 4, 2) := dk_21 4 (dk_at dksX1_queues_2 6 rfl rfl)
theorem dX1_queues_55 : decode cX1_queues 55 = .ok (.ifCond .lt 7, 3) := dk_155 0 7 (dk_at dksX1_queues_2 8 rfl rfl)
theorem dX1_queues_58 : decode cX1_queues 58 = .ok (.iconst 1, 1) := dk_4 (dk_at dksX1_queues_2 11 rfl rfl)
theorem dX1_queues_59 : decode cX1_queues 59 = .ok (.goto 4, 3) := dk_167 0 4 (dk_at dksX1_queues_2 12 rfl rfl)
theorem dX1_queues_62 : decode cX1_queues 62 = .ok (.iconst 0, 1) := dk_3 (dk_at dksX1_queues_2 15 rfl rfl)
theorem dX1_queues_63 : decode cX1_queues 63 = .ok (.invokevirtual 96, 3) := dk_182 0 96 (dk_at dksX1_queues_2 16 rfl rfl)
theorem dX1_queues_66 : decode cX1_queues 66 = .ok (.aload_n 1, 1) := dk_43 (dk_at dksX1_queues_2 19 rfl rfl)
theorem dX1_queues_67 : decode cX1_queues 67 = .ok (.dup, 1) := dk_89 (dk_at dksX1_queues_2 20 rfl rfl)
theorem dX1_queues_68 : decode cX1_queues 68 = .ok (.getfield 100, 3) := dk_180 0 100 (dk_at dksX1_queues_2 21 rfl rfl)
theorem dX1_queues_71 : decode cX1_queues 71 = .ok (.iconst 1, 1) := dk_4 (dk_at dksX1_queues_3 0 rfl rfl)
theorem dX1_queues_72 : decode cX1_queues 72 = .ok (.iadd, 1) := dk_96 (dk_at dksX1_queues_3 1 rfl rfl)
theorem dX1_queues_73 : decode cX1_queues 73 = .ok (.putfield 100, 3) := dk_181 0 100 (dk_at dksX1_queues_3 2 rfl rfl)
theorem dX1_queues_76 : decode cX1_queues 76 = .ok (.aload_n 1, 1) := dk_43 (dk_at dksX1_queues_3 5 rfl rfl)
theorem dX1_queues_77 : decode cX1_queues 77 = .ok (.bipush 115, 2) := dk_16 115 (dk_at dksX1_queues_3 6 rfl rfl)
theorem dX1_queues_79 : decode cX1_queues 79 = .ok (.invokevirtual 103, 3) := dk_182 0 103 (dk_at dksX1_queues_3 8 rfl rfl)
theorem dX1_queues_82 : decode cX1_queues 82 = .ok (.istore 5, 2) := dk_54 5 (dk_at dksX1_queues_3 11 rfl rfl)
theorem dX1_queues_84 : decode cX1_queues 84 = .ok (.aload_n 1, 1) := dk_43 (dk_at dksX1_queues_3 13 rfl rfl)
theorem dX1_queues_85 : decode cX1_queues 85 = .ok (.invokevirtual 107, 3) := dk_182 0 107 (dk_at dksX1_queues_3 14 rfl rfl)
theorem dX1_queues_88 : decode cX1_queues 88 = .ok (.goto 13, 3) := dk_167 0 13 (dk_at dksX1_queues_3 17 rfl rfl)
theorem dX1_queues_91 : decode cX1_queues 91 = .ok (.astore 6, 2) := dk_58 6 (dk_at dksX1_queues_3 20 rfl rfl)
theorem dX1_queues_93 : decode cX1_queues 93 = .ok (.iconst (-1), 1) := dk_2 (dk_at dksX1_queues_3 22 rfl rfl)
theorem dX1_queues_94 : decode cX1_queues 94 = .ok (.aload 6, 2) := dk_25 6 (dk_at dksX1_queues_4 0 rfl rfl)
theorem dX1_queues_96 : decode cX1_queues 96 = .ok (.getfield 112, 3) := dk_180 0 112 (dk_at dksX1_queues_4 2 rfl rfl)
theorem dX1_queues_99 : decode cX1_queues 99 = .ok (.isub, 1) := dk_100 (dk_at dksX1_queues_4 5 rfl rfl)
theorem dX1_queues_100 : decode cX1_queues 100 = .ok (.ireturn, 1) := dk_172 (dk_at dksX1_queues_4 6 rfl rfl)
theorem dX1_queues_101 : decode cX1_queues 101 = .ok (.aload_n 0, 1) := dk_42 (dk_at dksX1_queues_4 7 rfl rfl)
theorem dX1_queues_102 : decode cX1_queues 102 = .ok (.getfield 10, 3) := dk_180 0 10 (dk_at dksX1_queues_4 8 rfl rfl)
theorem dX1_queues_105 : decode cX1_queues 105 = .ok (.getfield 61, 3) := dk_180 0 61 (dk_at dksX1_queues_4 11 rfl rfl)
theorem dX1_queues_108 : decode cX1_queues 108 = .ok (.iconst 5, 1) := dk_8 (dk_at dksX1_queues_4 14 rfl rfl)
theorem dX1_queues_109 : decode cX1_queues 109 = .ok (.if_icmp .ne 6, 3) := dk_160 0 6 (dk_at dksX1_queues_4 15 rfl rfl)
theorem dX1_queues_112 : decode cX1_queues 112 = .ok (.bipush (-100), 2) := dk_16 156 (dk_at dksX1_queues_4 18 rfl rfl)
theorem dX1_queues_114 : decode cX1_queues 114 = .ok (.ireturn, 1) := dk_172 (dk_at dksX1_queues_4 20 rfl rfl)
theorem dX1_queues_115 : decode cX1_queues 115 = .ok (.aload_n 0, 1) := dk_42 (dk_at dksX1_queues_4 21 rfl rfl)
theorem dX1_queues_116 : decode cX1_queues 116 = .ok (.getfield 10, 3) := dk_180 0 10 (dk_at dksX1_queues_5 0 rfl rfl)
theorem dX1_queues_119 : decode cX1_queues 119 = .ok (.getfield 113, 3) := dk_180 0 113 (dk_at dksX1_queues_5 3 rfl rfl)
theorem dX1_queues_122 : decode cX1_queues 122 = .ok (.aload_n 0, 1) := dk_42 (dk_at dksX1_queues_5 6 rfl rfl)
theorem dX1_queues_123 : decode cX1_queues 123 = .ok (.getfield 10, 3) := dk_180 0 10 (dk_at dksX1_queues_5 7 rfl rfl)
theorem dX1_queues_126 : decode cX1_queues 126 = .ok (.getfield 61, 3) := dk_180 0 61 (dk_at dksX1_queues_5 10 rfl rfl)
theorem dX1_queues_129 : decode cX1_queues 129 = .ok (.aaload, 1) := dk_50 (dk_at dksX1_queues_5 13 rfl rfl)
theorem dX1_queues_130 : decode cX1_queues 130 = .ok (.astore 6, 2) := dk_58 6 (dk_at dksX1_queues_5 14 rfl rfl)
theorem dX1_queues_132 : decode cX1_queues 132 = .ok (.aload 6, 2) := dk_25 6 (dk_at dksX1_queues_5 16 rfl rfl)
theorem dX1_queues_134 : decode cX1_queues 134 = .ok (.invokevirtual 117, 3) := dk_182 0 117 (dk_at dksX1_queues_5 18 rfl rfl)
theorem dX1_queues_137 : decode cX1_queues 137 = .ok (.aload 6, 2) := dk_25 6 (dk_at dksX1_queues_5 21 rfl rfl)
theorem dX1_queues_139 : decode cX1_queues 139 = .ok (.iload_n 2, 1) := dk_28 (dk_at dksX1_queues_5 23 rfl rfl)
theorem dX1_queues_140 : decode cX1_queues 140 = .ok (.putfield 122, 3) := dk_181 0 122 (dk_at dksX1_queues_6 0 rfl rfl)
theorem dX1_queues_143 : decode cX1_queues 143 = .ok (.aload 6, 2) := dk_25 6 (dk_at dksX1_queues_6 3 rfl rfl)
theorem dX1_queues_145 : decode cX1_queues 145 = .ok (.iload_n 3, 1) := dk_29 (dk_at dksX1_queues_6 5 rfl rfl)
theorem dX1_queues_146 : decode cX1_queues 146 = .ok (.putfield 125, 3) := dk_181 0 125 (dk_at dksX1_queues_6 6 rfl rfl)
theorem dX1_queues_149 : decode cX1_queues 149 = .ok (.aload 6, 2) := dk_25 6 (dk_at dksX1_queues_6 9 rfl rfl)
theorem dX1_queues_151 : decode cX1_queues 151 = .ok (.iload 4, 2) := dk_21 4 (dk_at dksX1_queues_6 11 rfl rfl)
theorem dX1_queues_153 : decode cX1_queues 153 = .ok (.putfield 128, 3) := dk_181 0 128 (dk_at dksX1_queues_6 13 rfl rfl)
theorem dX1_queues_156 : decode cX1_queues 156 = .ok (.aload 6, 2) := dk_25 6 (dk_at dksX1_queues_6 16 rfl rfl)
theorem dX1_queues_158 : decode cX1_queues 158 = .ok (.iload 5, 2) := dk_21 5 (dk_at dksX1_queues_6 18 rfl rfl)
theorem dX1_queues_160 : decode cX1_queues 160 = .ok (.putfield 131, 3) := dk_181 0 131 (dk_at dksX1_queues_6 20 rfl rfl)
theorem dX1_queues_163 : decode cX1_queues 163 = .ok (.aload_n 0, 1) := dk_42 (dk_at dksX1_queues_6 23 rfl rfl)
theorem dX1_queues_164 : decode cX1_queues 164 = .ok (.getfield 10, 3) := dk_180 0 10 (dk_at dksX1_queues_7 0 rfl rfl)
theorem dX1_queues_167 : decode cX1_queues 167 = .ok (.dup, 1) := dk_89 (dk_at dksX1_queues_7 3 rfl rfl)
theorem dX1_queues_168 : decode cX1_queues 168 = .ok (.getfield 61, 3) := dk_180 0 61 (dk_at dksX1_queues_7 4 rfl rfl)
theorem dX1_queues_171 : decode cX1_queues 171 = .ok (.iconst 1, 1) := dk_4 (dk_at dksX1_queues_7 7 rfl rfl)
theorem dX1_queues_172 : decode cX1_queues 172 = .ok (.iadd, 1) := dk_96 (dk_at dksX1_queues_7 8 rfl rfl)
theorem dX1_queues_173 : decode cX1_queues 173 = .ok (.putfield 61, 3) := dk_181 0 61 (dk_at dksX1_queues_7 9 rfl rfl)
theorem dX1_queues_176 : decode cX1_queues 176 = .ok (.aload_n 0, 1) := dk_42 (dk_at dksX1_queues_7 12 rfl rfl)
theorem dX1_queues_177 : decode cX1_queues 177 = .ok (.iconst 0, 1) := dk_3 (dk_at dksX1_queues_7 13 rfl rfl)
theorem dX1_queues_178 : decode cX1_queues 178 = .ok (.putfield 135, 3) := dk_181 0 135 (dk_at dksX1_queues_7 14 rfl rfl)
theorem dX1_queues_181 : decode cX1_queues 181 = .ok (.aload_n 0, 1) := dk_42 (dk_at dksX1_queues_7 17 rfl rfl)
theorem dX1_queues_182 : decode cX1_queues 182 = .ok (.dup, 1) := dk_89 (dk_at dksX1_queues_7 18 rfl rfl)
theorem dX1_queues_183 : decode cX1_queues 183 = .ok (.getfield 138, 3) := dk_180 0 138 (dk_at dksX1_queues_7 19 rfl rfl)
theorem dX1_queues_186 : decode cX1_queues 186 = .ok (.iconst 1, 1) := dk_4 (dk_at dksX1_queues_7 22 rfl rfl)
theorem dX1_queues_187 : decode cX1_queues 187 = .ok (.iadd, 1) := dk_96 (dk_at dksX1_queues_7 23 rfl rfl)
theorem dX1_queues_188 : decode cX1_queues 188 = .ok (.putfield 138, 3) := dk_181 0 138 (dk_at dksX1_queues_8 0 rfl rfl)
theorem dX1_queues_191 : decode cX1_queues 191 = .ok (.aload_n 0, 1) := dk_42 (dk_at dksX1_queues_8 3 rfl rfl)
theorem dX1_queues_192 : decode cX1_queues 192 = .ok (.getfield 10, 3) := dk_180 0 10 (dk_at dksX1_queues_8 4 rfl rfl)
theorem dX1_queues_195 : decode cX1_queues 195 = .ok (.getfield 61, 3) := dk_180 0 61 (dk_at dksX1_queues_8 7 rfl rfl)
theorem dX1_queues_198 : decode cX1_queues 198 = .ok (.iconst 1, 1) := dk_4 (dk_at dksX1_queues_8 10 rfl rfl)
theorem dX1_queues_199 : decode cX1_queues 199 = .ok (.isub, 1) := dk_100 (dk_at dksX1_queues_8 11 rfl rfl)
theorem dX1_queues_200 : decode cX1_queues 200 = .ok (.ireturn, 1) := dk_172 (dk_at dksX1_queues_8 12 rfl rfl)
abbrev cX1_words : ByteArray := prog_1_method_6_code
def yX1_words : MethodName := ⟨RX1, "words", "(I)LQueueDrive$Words;"⟩
def dkwX1_words_0 : List UInt8 := [187, 0, 68, 89, 42, 180, 0, 26, 42, 180, 0, 70, 27, 183, 0, 73, 77, 42, 3, 181, 0, 70, 44, 176]
abbrev dktX1_words_0 : List UInt8 := dkwX1_words_0 ++ []
theorem dksX1_words_0 : cX1_words.data.toList.drop 0 = dktX1_words_0 := by decide +kernel
theorem dX1_words_0 : decode cX1_words 0 = .ok (.new 68, 3) := dk_187 0 68 (dk_at dksX1_words_0 0 rfl rfl)
theorem dX1_words_3 : decode cX1_words 3 = .ok (.dup, 1) := dk_89 (dk_at dksX1_words_0 3 rfl rfl)
theorem dX1_words_4 : decode cX1_words 4 = .ok (.aload_n 0, 1) := dk_42 (dk_at dksX1_words_0 4 rfl rfl)
theorem dX1_words_5 : decode cX1_words 5 = .ok (.getfield 26, 3) := dk_180 0 26 (dk_at dksX1_words_0 5 rfl rfl)
theorem dX1_words_8 : decode cX1_words 8 = .ok (.aload_n 0, 1) := dk_42 (dk_at dksX1_words_0 8 rfl rfl)
theorem dX1_words_9 : decode cX1_words 9 = .ok (.getfield 70, 3) := dk_180 0 70 (dk_at dksX1_words_0 9 rfl rfl)
theorem dX1_words_12 : decode cX1_words 12 = .ok (.iload_n 1, 1) := dk_27 (dk_at dksX1_words_0 12 rfl rfl)
theorem dX1_words_13 : decode cX1_words 13 = .ok (.invokespecial 73, 3) := dk_183 0 73 (dk_at dksX1_words_0 13 rfl rfl)
theorem dX1_words_16 : decode cX1_words 16 = .ok (.astore_n 2, 1) := dk_77 (dk_at dksX1_words_0 16 rfl rfl)
theorem dX1_words_17 : decode cX1_words 17 = .ok (.aload_n 0, 1) := dk_42 (dk_at dksX1_words_0 17 rfl rfl)
theorem dX1_words_18 : decode cX1_words 18 = .ok (.iconst 0, 1) := dk_3 (dk_at dksX1_words_0 18 rfl rfl)
theorem dX1_words_19 : decode cX1_words 19 = .ok (.putfield 70, 3) := dk_181 0 70 (dk_at dksX1_words_0 19 rfl rfl)
theorem dX1_words_22 : decode cX1_words 22 = .ok (.aload_n 2, 1) := dk_44 (dk_at dksX1_words_0 22 rfl rfl)
theorem dX1_words_23 : decode cX1_words 23 = .ok (.areturn, 1) := dk_176 (dk_at dksX1_words_0 23 rfl rfl)
abbrev cX1_rule : ByteArray := prog_1_method_10_code
def yX1_rule : MethodName := ⟨RX1, "rule", "()I"⟩
def dkwX1_rule_2 : List UInt8 := [181, 0, 146, 3, 172, 78, 2, 45, 180, 0, 112, 100, 172]
abbrev dktX1_rule_2 : List UInt8 := dkwX1_rule_2 ++ []
def dkwX1_rule_1 : List UInt8 := [154, 0, 10, 42, 1, 181, 0, 146, 3, 172, 42, 187, 0, 150, 89, 43, 28, 183, 0, 152, 182, 0, 155]
abbrev dktX1_rule_1 : List UInt8 := dkwX1_rule_1 ++ dktX1_rule_2
def dkwX1_rule_0 : List UInt8 := [42, 180, 0, 26, 182, 0, 141, 192, 0, 142, 76, 42, 180, 0, 70, 61, 42, 3, 181, 0, 70, 28]
abbrev dktX1_rule_0 : List UInt8 := dkwX1_rule_0 ++ dktX1_rule_1
theorem dksX1_rule_0 : cX1_rule.data.toList.drop 0 = dktX1_rule_0 := by decide +kernel
theorem dksX1_rule_1 : cX1_rule.data.toList.drop 22 = dktX1_rule_1 := dk_seg dksX1_rule_0 22 rfl rfl
theorem dksX1_rule_2 : cX1_rule.data.toList.drop 45 = dktX1_rule_2 := dk_seg dksX1_rule_1 23 rfl rfl
theorem dX1_rule_0 : decode cX1_rule 0 = .ok (.aload_n 0, 1) := dk_42 (dk_at dksX1_rule_0 0 rfl rfl)
theorem dX1_rule_1 : decode cX1_rule 1 = .ok (.getfield 26, 3) := dk_180 0 26 (dk_at dksX1_rule_0 1 rfl rfl)
theorem dX1_rule_4 : decode cX1_rule 4 = .ok (.invokevirtual 141, 3) := dk_182 0 141 (dk_at dksX1_rule_0 4 rfl rfl)
theorem dX1_rule_7 : decode cX1_rule 7 = .ok (.checkcast 142, 3) := dk_192 0 142 (dk_at dksX1_rule_0 7 rfl rfl)
theorem dX1_rule_10 : decode cX1_rule 10 = .ok (.astore_n 1, 1) := dk_76 (dk_at dksX1_rule_0 10 rfl rfl)
theorem dX1_rule_11 : decode cX1_rule 11 = .ok (.aload_n 0, 1) := dk_42 (dk_at dksX1_rule_0 11 rfl rfl)
theorem dX1_rule_12 : decode cX1_rule 12 = .ok (.getfield 70, 3) := dk_180 0 70 (dk_at dksX1_rule_0 12 rfl rfl)
theorem dX1_rule_15 : decode cX1_rule 15 = .ok (.istore_n 2, 1) := dk_61 (dk_at dksX1_rule_0 15 rfl rfl)
theorem dX1_rule_16 : decode cX1_rule 16 = .ok (.aload_n 0, 1) := dk_42 (dk_at dksX1_rule_0 16 rfl rfl)
theorem dX1_rule_17 : decode cX1_rule 17 = .ok (.iconst 0, 1) := dk_3 (dk_at dksX1_rule_0 17 rfl rfl)
theorem dX1_rule_18 : decode cX1_rule 18 = .ok (.putfield 70, 3) := dk_181 0 70 (dk_at dksX1_rule_0 18 rfl rfl)
theorem dX1_rule_21 : decode cX1_rule 21 = .ok (.iload_n 2, 1) := dk_28 (dk_at dksX1_rule_0 21 rfl rfl)
theorem dX1_rule_22 : decode cX1_rule 22 = .ok (.ifCond .ne 10, 3) := dk_154 0 10 (dk_at dksX1_rule_1 0 rfl rfl)
theorem dX1_rule_25 : decode cX1_rule 25 = .ok (.aload_n 0, 1) := dk_42 (dk_at dksX1_rule_1 3 rfl rfl)
theorem dX1_rule_26 : decode cX1_rule 26 = .ok (.aconst_null, 1) := dk_1 (dk_at dksX1_rule_1 4 rfl rfl)
theorem dX1_rule_27 : decode cX1_rule 27 = .ok (.putfield 146, 3) := dk_181 0 146 (dk_at dksX1_rule_1 5 rfl rfl)
theorem dX1_rule_30 : decode cX1_rule 30 = .ok (.iconst 0, 1) := dk_3 (dk_at dksX1_rule_1 8 rfl rfl)
theorem dX1_rule_31 : decode cX1_rule 31 = .ok (.ireturn, 1) := dk_172 (dk_at dksX1_rule_1 9 rfl rfl)
theorem dX1_rule_32 : decode cX1_rule 32 = .ok (.aload_n 0, 1) := dk_42 (dk_at dksX1_rule_1 10 rfl rfl)
theorem dX1_rule_33 : decode cX1_rule 33 = .ok (.new 150, 3) := dk_187 0 150 (dk_at dksX1_rule_1 11 rfl rfl)
theorem dX1_rule_36 : decode cX1_rule 36 = .ok (.dup, 1) := dk_89 (dk_at dksX1_rule_1 14 rfl rfl)
theorem dX1_rule_37 : decode cX1_rule 37 = .ok (.aload_n 1, 1) := dk_43 (dk_at dksX1_rule_1 15 rfl rfl)
theorem dX1_rule_38 : decode cX1_rule 38 = .ok (.iload_n 2, 1) := dk_28 (dk_at dksX1_rule_1 16 rfl rfl)
theorem dX1_rule_39 : decode cX1_rule 39 = .ok (.invokespecial 152, 3) := dk_183 0 152 (dk_at dksX1_rule_1 17 rfl rfl)
theorem dX1_rule_42 : decode cX1_rule 42 = .ok (.invokevirtual 155, 3) := dk_182 0 155 (dk_at dksX1_rule_1 20 rfl rfl)
theorem dX1_rule_45 : decode cX1_rule 45 = .ok (.putfield 146, 3) := dk_181 0 146 (dk_at dksX1_rule_2 0 rfl rfl)
theorem dX1_rule_48 : decode cX1_rule 48 = .ok (.iconst 0, 1) := dk_3 (dk_at dksX1_rule_2 3 rfl rfl)
theorem dX1_rule_49 : decode cX1_rule 49 = .ok (.ireturn, 1) := dk_172 (dk_at dksX1_rule_2 4 rfl rfl)
theorem dX1_rule_50 : decode cX1_rule 50 = .ok (.astore_n 3, 1) := dk_78 (dk_at dksX1_rule_2 5 rfl rfl)
theorem dX1_rule_51 : decode cX1_rule 51 = .ok (.iconst (-1), 1) := dk_2 (dk_at dksX1_rule_2 6 rfl rfl)
theorem dX1_rule_52 : decode cX1_rule 52 = .ok (.aload_n 3, 1) := dk_45 (dk_at dksX1_rule_2 7 rfl rfl)
theorem dX1_rule_53 : decode cX1_rule 53 = .ok (.getfield 112, 3) := dk_180 0 112 (dk_at dksX1_rule_2 8 rfl rfl)
theorem dX1_rule_56 : decode cX1_rule 56 = .ok (.isub, 1) := dk_100 (dk_at dksX1_rule_2 11 rfl rfl)
theorem dX1_rule_57 : decode cX1_rule 57 = .ok (.ireturn, 1) := dk_172 (dk_at dksX1_rule_2 12 rfl rfl)
abbrev cX1_sheet : ByteArray := prog_1_method_14_code
def yX1_sheet : MethodName := ⟨RX1, "sheet", "(IIII)I"⟩
def dkwX1_sheet_5 : List UInt8 := [182, 0, 220, 172]
abbrev dktX1_sheet_5 : List UInt8 := dkwX1_sheet_5 ++ []
def dkwX1_sheet_4 : List UInt8 := [184, 0, 217, 79, 132, 6, 1, 167, 255, 205, 25, 5, 199, 0, 8, 16, 253, 167, 0, 10, 42, 180, 0, 10]
abbrev dktX1_sheet_4 : List UInt8 := dkwX1_sheet_4 ++ dktX1_sheet_5
def dkwX1_sheet_3 : List UInt8 := [21, 6, 28, 161, 0, 7, 3, 167, 0, 19, 3, 16, 99, 25, 5, 21, 6, 184, 0, 207, 184, 0, 211]
abbrev dktX1_sheet_3 : List UInt8 := dkwX1_sheet_3 ++ dktX1_sheet_4
def dkwX1_sheet_2 : List UInt8 := [54, 6, 21, 6, 16, 10, 162, 0, 50, 42, 180, 0, 10, 180, 0, 204, 21, 6, 25, 5, 198, 0, 9]
abbrev dktX1_sheet_2 : List UInt8 := dkwX1_sheet_2 ++ dktX1_sheet_3
def dkwX1_sheet_1 : List UInt8 := [6, 162, 0, 21, 27, 28, 29, 21, 4, 184, 0, 198, 58, 5, 167, 0, 8, 58, 6, 16, 254, 172, 3]
abbrev dktX1_sheet_1 : List UInt8 := dkwX1_sheet_1 ++ dktX1_sheet_2
def dkwX1_sheet_0 : List UInt8 := [27, 133, 9, 20, 0, 196, 184, 0, 64, 153, 0, 9, 28, 16, 10, 164, 0, 5, 2, 172, 1, 58, 5, 27]
abbrev dktX1_sheet_0 : List UInt8 := dkwX1_sheet_0 ++ dktX1_sheet_1
theorem dksX1_sheet_0 : cX1_sheet.data.toList.drop 0 = dktX1_sheet_0 := by decide +kernel
theorem dksX1_sheet_1 : cX1_sheet.data.toList.drop 24 = dktX1_sheet_1 := dk_seg dksX1_sheet_0 24 rfl rfl
theorem dksX1_sheet_2 : cX1_sheet.data.toList.drop 47 = dktX1_sheet_2 := dk_seg dksX1_sheet_1 23 rfl rfl
theorem dksX1_sheet_3 : cX1_sheet.data.toList.drop 70 = dktX1_sheet_3 := dk_seg dksX1_sheet_2 23 rfl rfl
theorem dksX1_sheet_4 : cX1_sheet.data.toList.drop 93 = dktX1_sheet_4 := dk_seg dksX1_sheet_3 23 rfl rfl
theorem dksX1_sheet_5 : cX1_sheet.data.toList.drop 117 = dktX1_sheet_5 := dk_seg dksX1_sheet_4 24 rfl rfl
theorem dX1_sheet_0 : decode cX1_sheet 0 = .ok (.iload_n 1, 1) := dk_27 (dk_at dksX1_sheet_0 0 rfl rfl)
theorem dX1_sheet_1 : decode cX1_sheet 1 = .ok (.i2l, 1) := dk_133 (dk_at dksX1_sheet_0 1 rfl rfl)
theorem dX1_sheet_2 : decode cX1_sheet 2 = .ok (.lconst 0, 1) := dk_9 (dk_at dksX1_sheet_0 2 rfl rfl)
theorem dX1_sheet_3 : decode cX1_sheet 3 = .ok (.ldc2_w 196, 3) := dk_20 0 196 (dk_at dksX1_sheet_0 3 rfl rfl)
theorem dX1_sheet_6 : decode cX1_sheet 6 = .ok (.invokestatic 64, 3) := dk_184 0 64 (dk_at dksX1_sheet_0 6 rfl rfl)
theorem dX1_sheet_9 : decode cX1_sheet 9 = .ok (.ifCond .eq 9, 3) := dk_153 0 9 (dk_at dksX1_sheet_0 9 rfl rfl)
theorem dX1_sheet_12 : decode cX1_sheet 12 = .ok (.iload_n 2, 1) := dk_28 (dk_at dksX1_sheet_0 12 rfl rfl)
theorem dX1_sheet_13 : decode cX1_sheet 13 = .ok (.bipush 10, 2) := dk_16 10 (dk_at dksX1_sheet_0 13 rfl rfl)
theorem dX1_sheet_15 : decode cX1_sheet 15 = .ok (.if_icmp .le 5, 3) := dk_164 0 5 (dk_at dksX1_sheet_0 15 rfl rfl)
theorem dX1_sheet_18 : decode cX1_sheet 18 = .ok (.iconst (-1), 1) := dk_2 (dk_at dksX1_sheet_0 18 rfl rfl)
theorem dX1_sheet_19 : decode cX1_sheet 19 = .ok (.ireturn, 1) := dk_172 (dk_at dksX1_sheet_0 19 rfl rfl)
theorem dX1_sheet_20 : decode cX1_sheet 20 = .ok (.aconst_null, 1) := dk_1 (dk_at dksX1_sheet_0 20 rfl rfl)
theorem dX1_sheet_21 : decode cX1_sheet 21 = .ok (.astore 5, 2) := dk_58 5 (dk_at dksX1_sheet_0 21 rfl rfl)
theorem dX1_sheet_23 : decode cX1_sheet 23 = .ok (.iload_n 1, 1) := dk_27 (dk_at dksX1_sheet_0 23 rfl rfl)
theorem dX1_sheet_24 : decode cX1_sheet 24 = .ok (.iconst 3, 1) := dk_6 (dk_at dksX1_sheet_1 0 rfl rfl)
theorem dX1_sheet_25 : decode cX1_sheet 25 = .ok (.if_icmp .ge 21, 3) := dk_162 0 21 (dk_at dksX1_sheet_1 1 rfl rfl)
theorem dX1_sheet_28 : decode cX1_sheet 28 = .ok (.iload_n 1, 1) := dk_27 (dk_at dksX1_sheet_1 4 rfl rfl)
theorem dX1_sheet_29 : decode cX1_sheet 29 = .ok (.iload_n 2, 1) := dk_28 (dk_at dksX1_sheet_1 5 rfl rfl)
theorem dX1_sheet_30 : decode cX1_sheet 30 = .ok (.iload_n 3, 1) := dk_29 (dk_at dksX1_sheet_1 6 rfl rfl)
theorem dX1_sheet_31 : decode cX1_sheet 31 = .ok (.iload 4, 2) := dk_21 4 (dk_at dksX1_sheet_1 7 rfl rfl)
theorem dX1_sheet_33 : decode cX1_sheet 33 = .ok (.invokestatic 198, 3) := dk_184 0 198 (dk_at dksX1_sheet_1 9 rfl rfl)
theorem dX1_sheet_36 : decode cX1_sheet 36 = .ok (.astore 5, 2) := dk_58 5 (dk_at dksX1_sheet_1 12 rfl rfl)
theorem dX1_sheet_38 : decode cX1_sheet 38 = .ok (.goto 8, 3) := dk_167 0 8 (dk_at dksX1_sheet_1 14 rfl rfl)
theorem dX1_sheet_41 : decode cX1_sheet 41 = .ok (.astore 6, 2) := dk_58 6 (dk_at dksX1_sheet_1 17 rfl rfl)
theorem dX1_sheet_43 : decode cX1_sheet 43 = .ok (.bipush (-2), 2) := dk_16 254 (dk_at dksX1_sheet_1 19 rfl rfl)
theorem dX1_sheet_45 : decode cX1_sheet 45 = .ok (.ireturn, 1) := dk_172 (dk_at dksX1_sheet_1 21 rfl rfl)
theorem dX1_sheet_46 : decode cX1_sheet 46 = .ok (.iconst 0, 1) := dk_3 (dk_at dksX1_sheet_1 22 rfl rfl)
theorem dX1_sheet_47 : decode cX1_sheet 47 = .ok (.istore 6, 2) := dk_54 6 (dk_at dksX1_sheet_2 0 rfl rfl)
theorem dX1_sheet_49 : decode cX1_sheet 49 = .ok (.iload 6, 2) := dk_21 6 (dk_at dksX1_sheet_2 2 rfl rfl)
theorem dX1_sheet_51 : decode cX1_sheet 51 = .ok (.bipush 10, 2) := dk_16 10 (dk_at dksX1_sheet_2 4 rfl rfl)
theorem dX1_sheet_53 : decode cX1_sheet 53 = .ok (.if_icmp .ge 50, 3) := dk_162 0 50 (dk_at dksX1_sheet_2 6 rfl rfl)
theorem dX1_sheet_56 : decode cX1_sheet 56 = .ok (.aload_n 0, 1) := dk_42 (dk_at dksX1_sheet_2 9 rfl rfl)
theorem dX1_sheet_57 : decode cX1_sheet 57 = .ok (.getfield 10, 3) := dk_180 0 10 (dk_at dksX1_sheet_2 10 rfl rfl)
theorem dX1_sheet_60 : decode cX1_sheet 60 = .ok (.getfield 204, 3) := dk_180 0 204 (dk_at dksX1_sheet_2 13 rfl rfl)
theorem dX1_sheet_63 : decode cX1_sheet 63 = .ok (.iload 6, 2) := dk_21 6 (dk_at dksX1_sheet_2 16 rfl rfl)
theorem dX1_sheet_65 : decode cX1_sheet 65 = .ok (.aload 5, 2) := dk_25 5 (dk_at dksX1_sheet_2 18 rfl rfl)
theorem dX1_sheet_67 : decode cX1_sheet 67 = .ok (.ifnull 9, 3) := dk_198 0 9 (dk_at dksX1_sheet_2 20 rfl rfl)
theorem dX1_sheet_70 : decode cX1_sheet 70 = .ok (.iload 6, 2) := dk_21 6 (dk_at dksX1_sheet_3 0 rfl rfl)
theorem dX1_sheet_72 : decode cX1_sheet 72 = .ok (.iload_n 2, 1) := dk_28 (dk_at dksX1_sheet_3 2 rfl rfl)
theorem dX1_sheet_73 : decode cX1_sheet 73 = .ok (.if_icmp .lt 7, 3) := dk_161 0 7 (dk_at dksX1_sheet_3 3 rfl rfl)
theorem dX1_sheet_76 : decode cX1_sheet 76 = .ok (.iconst 0, 1) := dk_3 (dk_at dksX1_sheet_3 6 rfl rfl)
theorem dX1_sheet_77 : decode cX1_sheet 77 = .ok (.goto 19, 3) := dk_167 0 19 (dk_at dksX1_sheet_3 7 rfl rfl)
theorem dX1_sheet_80 : decode cX1_sheet 80 = .ok (.iconst 0, 1) := dk_3 (dk_at dksX1_sheet_3 10 rfl rfl)
theorem dX1_sheet_81 : decode cX1_sheet 81 = .ok (.bipush 99, 2) := dk_16 99 (dk_at dksX1_sheet_3 11 rfl rfl)
theorem dX1_sheet_83 : decode cX1_sheet 83 = .ok (.aload 5, 2) := dk_25 5 (dk_at dksX1_sheet_3 13 rfl rfl)
theorem dX1_sheet_85 : decode cX1_sheet 85 = .ok (.iload 6, 2) := dk_21 6 (dk_at dksX1_sheet_3 15 rfl rfl)
theorem dX1_sheet_87 : decode cX1_sheet 87 = .ok (.invokestatic 207, 3) := dk_184 0 207 (dk_at dksX1_sheet_3 17 rfl rfl)
theorem dX1_sheet_90 : decode cX1_sheet 90 = .ok (.invokestatic 211, 3) := dk_184 0 211 (dk_at dksX1_sheet_3 20 rfl rfl)
theorem dX1_sheet_93 : decode cX1_sheet 93 = .ok (.invokestatic 217, 3) := dk_184 0 217 (dk_at dksX1_sheet_4 0 rfl rfl)
theorem dX1_sheet_96 : decode cX1_sheet 96 = .ok (.iastore, 1) := dk_79 (dk_at dksX1_sheet_4 3 rfl rfl)
theorem dX1_sheet_97 : decode cX1_sheet 97 = .ok (.iinc 6 1, 3) := dk_132 6 1 (dk_at dksX1_sheet_4 4 rfl rfl)
theorem dX1_sheet_100 : decode cX1_sheet 100 = .ok (.goto (-51), 3) := dk_167 255 205 (dk_at dksX1_sheet_4 7 rfl rfl)
theorem dX1_sheet_103 : decode cX1_sheet 103 = .ok (.aload 5, 2) := dk_25 5 (dk_at dksX1_sheet_4 10 rfl rfl)
theorem dX1_sheet_105 : decode cX1_sheet 105 = .ok (.ifnonnull 8, 3) := dk_199 0 8 (dk_at dksX1_sheet_4 12 rfl rfl)
theorem dX1_sheet_108 : decode cX1_sheet 108 = .ok (.bipush (-3), 2) := dk_16 253 (dk_at dksX1_sheet_4 15 rfl rfl)
theorem dX1_sheet_110 : decode cX1_sheet 110 = .ok (.goto 10, 3) := dk_167 0 10 (dk_at dksX1_sheet_4 17 rfl rfl)
theorem dX1_sheet_113 : decode cX1_sheet 113 = .ok (.aload_n 0, 1) := dk_42 (dk_at dksX1_sheet_4 20 rfl rfl)
theorem dX1_sheet_114 : decode cX1_sheet 114 = .ok (.getfield 10, 3) := dk_180 0 10 (dk_at dksX1_sheet_4 21 rfl rfl)
theorem dX1_sheet_117 : decode cX1_sheet 117 = .ok (.invokevirtual 220, 3) := dk_182 0 220 (dk_at dksX1_sheet_5 0 rfl rfl)
theorem dX1_sheet_120 : decode cX1_sheet 120 = .ok (.ireturn, 1) := dk_172 (dk_at dksX1_sheet_5 3 rfl rfl)
abbrev cX1_rowOf : ByteArray := prog_1_method_12_code
def yX1_rowOf : MethodName := ⟨RX1, "rowOf", "(IIII)Ljava/lang/Object;"⟩
def dkwX1_rowOf_5 : List UInt8 := [167, 255, 234, 25, 5, 176]
abbrev dktX1_rowOf_5 : List UInt8 := dkwX1_rowOf_5 ++ []
def dkwX1_rowOf_4 : List UInt8 := [21, 6, 27, 162, 0, 22, 25, 5, 21, 6, 21, 4, 79, 132, 6, 1, 21, 4, 29, 96, 54, 4]
abbrev dktX1_rowOf_4 : List UInt8 := dkwX1_rowOf_4 ++ dktX1_rowOf_5
def dkwX1_rowOf_3 : List UInt8 := [86, 132, 6, 1, 21, 4, 29, 96, 54, 4, 167, 255, 233, 25, 5, 176, 27, 188, 10, 58, 5, 3, 54, 6]
abbrev dktX1_rowOf_3 : List UInt8 := dkwX1_rowOf_3 ++ dktX1_rowOf_4
def dkwX1_rowOf_2 : List UInt8 := [160, 0, 40, 27, 188, 9, 58, 5, 3, 54, 6, 21, 6, 27, 162, 0, 23, 25, 5, 21, 6, 21, 4, 147]
abbrev dktX1_rowOf_2 : List UInt8 := dkwX1_rowOf_2 ++ dktX1_rowOf_3
def dkwX1_rowOf_1 : List UInt8 := [21, 6, 21, 4, 145, 84, 132, 6, 1, 21, 4, 29, 96, 54, 4, 167, 255, 233, 25, 5, 176, 26, 4]
abbrev dktX1_rowOf_1 : List UInt8 := dkwX1_rowOf_1 ++ dktX1_rowOf_2
def dkwX1_rowOf_0 : List UInt8 := [28, 54, 4, 26, 154, 0, 40, 27, 188, 8, 58, 5, 3, 54, 6, 21, 6, 27, 162, 0, 23, 25, 5]
abbrev dktX1_rowOf_0 : List UInt8 := dkwX1_rowOf_0 ++ dktX1_rowOf_1
theorem dksX1_rowOf_0 : cX1_rowOf.data.toList.drop 0 = dktX1_rowOf_0 := by decide +kernel
theorem dksX1_rowOf_1 : cX1_rowOf.data.toList.drop 23 = dktX1_rowOf_1 := dk_seg dksX1_rowOf_0 23 rfl rfl
theorem dksX1_rowOf_2 : cX1_rowOf.data.toList.drop 46 = dktX1_rowOf_2 := dk_seg dksX1_rowOf_1 23 rfl rfl
theorem dksX1_rowOf_3 : cX1_rowOf.data.toList.drop 70 = dktX1_rowOf_3 := dk_seg dksX1_rowOf_2 24 rfl rfl
theorem dksX1_rowOf_4 : cX1_rowOf.data.toList.drop 94 = dktX1_rowOf_4 := dk_seg dksX1_rowOf_3 24 rfl rfl
theorem dksX1_rowOf_5 : cX1_rowOf.data.toList.drop 116 = dktX1_rowOf_5 := dk_seg dksX1_rowOf_4 22 rfl rfl
theorem dX1_rowOf_0 : decode cX1_rowOf 0 = .ok (.iload_n 2, 1) := dk_28 (dk_at dksX1_rowOf_0 0 rfl rfl)
theorem dX1_rowOf_1 : decode cX1_rowOf 1 = .ok (.istore 4, 2) := dk_54 4 (dk_at dksX1_rowOf_0 1 rfl rfl)
theorem dX1_rowOf_3 : decode cX1_rowOf 3 = .ok (.iload_n 0, 1) := dk_26 (dk_at dksX1_rowOf_0 3 rfl rfl)
theorem dX1_rowOf_4 : decode cX1_rowOf 4 = .ok (.ifCond .ne 40, 3) := dk_154 0 40 (dk_at dksX1_rowOf_0 4 rfl rfl)
theorem dX1_rowOf_7 : decode cX1_rowOf 7 = .ok (.iload_n 1, 1) := dk_27 (dk_at dksX1_rowOf_0 7 rfl rfl)
theorem dX1_rowOf_8 : decode cX1_rowOf 8 = .ok (.newarray .byte, 2) := dk_188_8 (dk_at dksX1_rowOf_0 8 rfl rfl)
theorem dX1_rowOf_10 : decode cX1_rowOf 10 = .ok (.astore 5, 2) := dk_58 5 (dk_at dksX1_rowOf_0 10 rfl rfl)
theorem dX1_rowOf_12 : decode cX1_rowOf 12 = .ok (.iconst 0, 1) := dk_3 (dk_at dksX1_rowOf_0 12 rfl rfl)
theorem dX1_rowOf_13 : decode cX1_rowOf 13 = .ok (.istore 6, 2) := dk_54 6 (dk_at dksX1_rowOf_0 13 rfl rfl)
theorem dX1_rowOf_15 : decode cX1_rowOf 15 = .ok (.iload 6, 2) := dk_21 6 (dk_at dksX1_rowOf_0 15 rfl rfl)
theorem dX1_rowOf_17 : decode cX1_rowOf 17 = .ok (.iload_n 1, 1) := dk_27 (dk_at dksX1_rowOf_0 17 rfl rfl)
theorem dX1_rowOf_18 : decode cX1_rowOf 18 = .ok (.if_icmp .ge 23, 3) := dk_162 0 23 (dk_at dksX1_rowOf_0 18 rfl rfl)
theorem dX1_rowOf_21 : decode cX1_rowOf 21 = .ok (.aload 5, 2) := dk_25 5 (dk_at dksX1_rowOf_0 21 rfl rfl)
theorem dX1_rowOf_23 : decode cX1_rowOf 23 = .ok (.iload 6, 2) := dk_21 6 (dk_at dksX1_rowOf_1 0 rfl rfl)
theorem dX1_rowOf_25 : decode cX1_rowOf 25 = .ok (.iload 4, 2) := dk_21 4 (dk_at dksX1_rowOf_1 2 rfl rfl)
theorem dX1_rowOf_27 : decode cX1_rowOf 27 = .ok (.i2b, 1) := dk_145 (dk_at dksX1_rowOf_1 4 rfl rfl)
theorem dX1_rowOf_28 : decode cX1_rowOf 28 = .ok (.bastore, 1) := dk_84 (dk_at dksX1_rowOf_1 5 rfl rfl)
theorem dX1_rowOf_29 : decode cX1_rowOf 29 = .ok (.iinc 6 1, 3) := dk_132 6 1 (dk_at dksX1_rowOf_1 6 rfl rfl)
theorem dX1_rowOf_32 : decode cX1_rowOf 32 = .ok (.iload 4, 2) := dk_21 4 (dk_at dksX1_rowOf_1 9 rfl rfl)
theorem dX1_rowOf_34 : decode cX1_rowOf 34 = .ok (.iload_n 3, 1) := dk_29 (dk_at dksX1_rowOf_1 11 rfl rfl)
theorem dX1_rowOf_35 : decode cX1_rowOf 35 = .ok (.iadd, 1) := dk_96 (dk_at dksX1_rowOf_1 12 rfl rfl)
theorem dX1_rowOf_36 : decode cX1_rowOf 36 = .ok (.istore 4, 2) := dk_54 4 (dk_at dksX1_rowOf_1 13 rfl rfl)
theorem dX1_rowOf_38 : decode cX1_rowOf 38 = .ok (.goto (-23), 3) := dk_167 255 233 (dk_at dksX1_rowOf_1 15 rfl rfl)
theorem dX1_rowOf_41 : decode cX1_rowOf 41 = .ok (.aload 5, 2) := dk_25 5 (dk_at dksX1_rowOf_1 18 rfl rfl)
theorem dX1_rowOf_43 : decode cX1_rowOf 43 = .ok (.areturn, 1) := dk_176 (dk_at dksX1_rowOf_1 20 rfl rfl)
theorem dX1_rowOf_44 : decode cX1_rowOf 44 = .ok (.iload_n 0, 1) := dk_26 (dk_at dksX1_rowOf_1 21 rfl rfl)
theorem dX1_rowOf_45 : decode cX1_rowOf 45 = .ok (.iconst 1, 1) := dk_4 (dk_at dksX1_rowOf_1 22 rfl rfl)
theorem dX1_rowOf_46 : decode cX1_rowOf 46 = .ok (.if_icmp .ne 40, 3) := dk_160 0 40 (dk_at dksX1_rowOf_2 0 rfl rfl)
theorem dX1_rowOf_49 : decode cX1_rowOf 49 = .ok (.iload_n 1, 1) := dk_27 (dk_at dksX1_rowOf_2 3 rfl rfl)
theorem dX1_rowOf_50 : decode cX1_rowOf 50 = .ok (.newarray .short, 2) := dk_188_9 (dk_at dksX1_rowOf_2 4 rfl rfl)
theorem dX1_rowOf_52 : decode cX1_rowOf 52 = .ok (.astore 5, 2) := dk_58 5 (dk_at dksX1_rowOf_2 6 rfl rfl)
theorem dX1_rowOf_54 : decode cX1_rowOf 54 = .ok (.iconst 0, 1) := dk_3 (dk_at dksX1_rowOf_2 8 rfl rfl)
theorem dX1_rowOf_55 : decode cX1_rowOf 55 = .ok (.istore 6, 2) := dk_54 6 (dk_at dksX1_rowOf_2 9 rfl rfl)
theorem dX1_rowOf_57 : decode cX1_rowOf 57 = .ok (.iload 6, 2) := dk_21 6 (dk_at dksX1_rowOf_2 11 rfl rfl)
theorem dX1_rowOf_59 : decode cX1_rowOf 59 = .ok (.iload_n 1, 1) := dk_27 (dk_at dksX1_rowOf_2 13 rfl rfl)
theorem dX1_rowOf_60 : decode cX1_rowOf 60 = .ok (.if_icmp .ge 23, 3) := dk_162 0 23 (dk_at dksX1_rowOf_2 14 rfl rfl)
theorem dX1_rowOf_63 : decode cX1_rowOf 63 = .ok (.aload 5, 2) := dk_25 5 (dk_at dksX1_rowOf_2 17 rfl rfl)
theorem dX1_rowOf_65 : decode cX1_rowOf 65 = .ok (.iload 6, 2) := dk_21 6 (dk_at dksX1_rowOf_2 19 rfl rfl)
theorem dX1_rowOf_67 : decode cX1_rowOf 67 = .ok (.iload 4, 2) := dk_21 4 (dk_at dksX1_rowOf_2 21 rfl rfl)
theorem dX1_rowOf_69 : decode cX1_rowOf 69 = .ok (.i2s, 1) := dk_147 (dk_at dksX1_rowOf_2 23 rfl rfl)
theorem dX1_rowOf_70 : decode cX1_rowOf 70 = .ok (.sastore, 1) := dk_86 (dk_at dksX1_rowOf_3 0 rfl rfl)
theorem dX1_rowOf_71 : decode cX1_rowOf 71 = .ok (.iinc 6 1, 3) := dk_132 6 1 (dk_at dksX1_rowOf_3 1 rfl rfl)
theorem dX1_rowOf_74 : decode cX1_rowOf 74 = .ok (.iload 4, 2) := dk_21 4 (dk_at dksX1_rowOf_3 4 rfl rfl)
theorem dX1_rowOf_76 : decode cX1_rowOf 76 = .ok (.iload_n 3, 1) := dk_29 (dk_at dksX1_rowOf_3 6 rfl rfl)
theorem dX1_rowOf_77 : decode cX1_rowOf 77 = .ok (.iadd, 1) := dk_96 (dk_at dksX1_rowOf_3 7 rfl rfl)
theorem dX1_rowOf_78 : decode cX1_rowOf 78 = .ok (.istore 4, 2) := dk_54 4 (dk_at dksX1_rowOf_3 8 rfl rfl)
theorem dX1_rowOf_80 : decode cX1_rowOf 80 = .ok (.goto (-23), 3) := dk_167 255 233 (dk_at dksX1_rowOf_3 10 rfl rfl)
theorem dX1_rowOf_83 : decode cX1_rowOf 83 = .ok (.aload 5, 2) := dk_25 5 (dk_at dksX1_rowOf_3 13 rfl rfl)
theorem dX1_rowOf_85 : decode cX1_rowOf 85 = .ok (.areturn, 1) := dk_176 (dk_at dksX1_rowOf_3 15 rfl rfl)
theorem dX1_rowOf_86 : decode cX1_rowOf 86 = .ok (.iload_n 1, 1) := dk_27 (dk_at dksX1_rowOf_3 16 rfl rfl)
theorem dX1_rowOf_87 : decode cX1_rowOf 87 = .ok (.newarray .int, 2) := dk_188_10 (dk_at dksX1_rowOf_3 17 rfl rfl)
theorem dX1_rowOf_89 : decode cX1_rowOf 89 = .ok (.astore 5, 2) := dk_58 5 (dk_at dksX1_rowOf_3 19 rfl rfl)
theorem dX1_rowOf_91 : decode cX1_rowOf 91 = .ok (.iconst 0, 1) := dk_3 (dk_at dksX1_rowOf_3 21 rfl rfl)
theorem dX1_rowOf_92 : decode cX1_rowOf 92 = .ok (.istore 6, 2) := dk_54 6 (dk_at dksX1_rowOf_3 22 rfl rfl)
theorem dX1_rowOf_94 : decode cX1_rowOf 94 = .ok (.iload 6, 2) := dk_21 6 (dk_at dksX1_rowOf_4 0 rfl rfl)
theorem dX1_rowOf_96 : decode cX1_rowOf 96 = .ok (.iload_n 1, 1) := dk_27 (dk_at dksX1_rowOf_4 2 rfl rfl)
theorem dX1_rowOf_97 : decode cX1_rowOf 97 = .ok (.if_icmp .ge 22, 3) := dk_162 0 22 (dk_at dksX1_rowOf_4 3 rfl rfl)
theorem dX1_rowOf_100 : decode cX1_rowOf 100 = .ok (.aload 5, 2) := dk_25 5 (dk_at dksX1_rowOf_4 6 rfl rfl)
theorem dX1_rowOf_102 : decode cX1_rowOf 102 = .ok (.iload 6, 2) := dk_21 6 (dk_at dksX1_rowOf_4 8 rfl rfl)
theorem dX1_rowOf_104 : decode cX1_rowOf 104 = .ok (.iload 4, 2) := dk_21 4 (dk_at dksX1_rowOf_4 10 rfl rfl)
theorem dX1_rowOf_106 : decode cX1_rowOf 106 = .ok (.iastore, 1) := dk_79 (dk_at dksX1_rowOf_4 12 rfl rfl)
theorem dX1_rowOf_107 : decode cX1_rowOf 107 = .ok (.iinc 6 1, 3) := dk_132 6 1 (dk_at dksX1_rowOf_4 13 rfl rfl)
theorem dX1_rowOf_110 : decode cX1_rowOf 110 = .ok (.iload 4, 2) := dk_21 4 (dk_at dksX1_rowOf_4 16 rfl rfl)
theorem dX1_rowOf_112 : decode cX1_rowOf 112 = .ok (.iload_n 3, 1) := dk_29 (dk_at dksX1_rowOf_4 18 rfl rfl)
theorem dX1_rowOf_113 : decode cX1_rowOf 113 = .ok (.iadd, 1) := dk_96 (dk_at dksX1_rowOf_4 19 rfl rfl)
theorem dX1_rowOf_114 : decode cX1_rowOf 114 = .ok (.istore 4, 2) := dk_54 4 (dk_at dksX1_rowOf_4 20 rfl rfl)
theorem dX1_rowOf_116 : decode cX1_rowOf 116 = .ok (.goto (-22), 3) := dk_167 255 234 (dk_at dksX1_rowOf_5 0 rfl rfl)
theorem dX1_rowOf_119 : decode cX1_rowOf 119 = .ok (.aload 5, 2) := dk_25 5 (dk_at dksX1_rowOf_5 3 rfl rfl)
theorem dX1_rowOf_121 : decode cX1_rowOf 121 = .ok (.areturn, 1) := dk_176 (dk_at dksX1_rowOf_5 5 rfl rfl)
abbrev cX1_entry : ByteArray := prog_1_method_13_code
def yX1_entry : MethodName := ⟨RX1, "entry", "(Ljava/lang/Object;I)I"⟩
def dkwX1_entry_1 : List UInt8 := [192, 0, 193, 27, 53, 167, 0, 9, 42, 192, 0, 195, 27, 46, 172]
abbrev dktX1_entry_1 : List UInt8 := dkwX1_entry_1 ++ []
def dkwX1_entry_0 : List UInt8 := [42, 193, 0, 142, 153, 0, 10, 42, 192, 0, 142, 27, 51, 172, 42, 193, 0, 193, 153, 0, 12, 42]
abbrev dktX1_entry_0 : List UInt8 := dkwX1_entry_0 ++ dktX1_entry_1
theorem dksX1_entry_0 : cX1_entry.data.toList.drop 0 = dktX1_entry_0 := by decide +kernel
theorem dksX1_entry_1 : cX1_entry.data.toList.drop 22 = dktX1_entry_1 := dk_seg dksX1_entry_0 22 rfl rfl
theorem dX1_entry_0 : decode cX1_entry 0 = .ok (.aload_n 0, 1) := dk_42 (dk_at dksX1_entry_0 0 rfl rfl)
theorem dX1_entry_1 : decode cX1_entry 1 = .ok (.instanceof 142, 3) := dk_193 0 142 (dk_at dksX1_entry_0 1 rfl rfl)
theorem dX1_entry_4 : decode cX1_entry 4 = .ok (.ifCond .eq 10, 3) := dk_153 0 10 (dk_at dksX1_entry_0 4 rfl rfl)
theorem dX1_entry_7 : decode cX1_entry 7 = .ok (.aload_n 0, 1) := dk_42 (dk_at dksX1_entry_0 7 rfl rfl)
theorem dX1_entry_8 : decode cX1_entry 8 = .ok (.checkcast 142, 3) := dk_192 0 142 (dk_at dksX1_entry_0 8 rfl rfl)
theorem dX1_entry_11 : decode cX1_entry 11 = .ok (.iload_n 1, 1) := dk_27 (dk_at dksX1_entry_0 11 rfl rfl)
theorem dX1_entry_12 : decode cX1_entry 12 = .ok (.baload, 1) := dk_51 (dk_at dksX1_entry_0 12 rfl rfl)
theorem dX1_entry_13 : decode cX1_entry 13 = .ok (.ireturn, 1) := dk_172 (dk_at dksX1_entry_0 13 rfl rfl)
theorem dX1_entry_14 : decode cX1_entry 14 = .ok (.aload_n 0, 1) := dk_42 (dk_at dksX1_entry_0 14 rfl rfl)
theorem dX1_entry_15 : decode cX1_entry 15 = .ok (.instanceof 193, 3) := dk_193 0 193 (dk_at dksX1_entry_0 15 rfl rfl)
theorem dX1_entry_18 : decode cX1_entry 18 = .ok (.ifCond .eq 12, 3) := dk_153 0 12 (dk_at dksX1_entry_0 18 rfl rfl)
theorem dX1_entry_21 : decode cX1_entry 21 = .ok (.aload_n 0, 1) := dk_42 (dk_at dksX1_entry_0 21 rfl rfl)
theorem dX1_entry_22 : decode cX1_entry 22 = .ok (.checkcast 193, 3) := dk_192 0 193 (dk_at dksX1_entry_1 0 rfl rfl)
theorem dX1_entry_25 : decode cX1_entry 25 = .ok (.iload_n 1, 1) := dk_27 (dk_at dksX1_entry_1 3 rfl rfl)
theorem dX1_entry_26 : decode cX1_entry 26 = .ok (.saload, 1) := dk_53 (dk_at dksX1_entry_1 4 rfl rfl)
theorem dX1_entry_27 : decode cX1_entry 27 = .ok (.goto 9, 3) := dk_167 0 9 (dk_at dksX1_entry_1 5 rfl rfl)
theorem dX1_entry_30 : decode cX1_entry 30 = .ok (.aload_n 0, 1) := dk_42 (dk_at dksX1_entry_1 8 rfl rfl)
theorem dX1_entry_31 : decode cX1_entry 31 = .ok (.checkcast 195, 3) := dk_192 0 195 (dk_at dksX1_entry_1 9 rfl rfl)
theorem dX1_entry_34 : decode cX1_entry 34 = .ok (.iload_n 1, 1) := dk_27 (dk_at dksX1_entry_1 12 rfl rfl)
theorem dX1_entry_35 : decode cX1_entry 35 = .ok (.iaload, 1) := dk_46 (dk_at dksX1_entry_1 13 rfl rfl)
theorem dX1_entry_36 : decode cX1_entry 36 = .ok (.ireturn, 1) := dk_172 (dk_at dksX1_entry_1 14 rfl rfl)
abbrev cX1_puts : ByteArray := prog_1_method_18_code
def yX1_puts : MethodName := ⟨RX1, "puts", "(IIII)I"⟩
def dkwX1_puts_1 : List UInt8 := [180, 0, 10, 182, 1, 19, 42, 180, 0, 10, 27, 28, 29, 21, 4, 184, 1, 22, 172]
abbrev dktX1_puts_1 : List UInt8 := dkwX1_puts_1 ++ []
def dkwX1_puts_0 : List UInt8 := [42, 180, 0, 10, 27, 28, 29, 21, 4, 184, 1, 15, 54, 5, 21, 5, 156, 0, 6, 21, 5, 172, 42, 42]
abbrev dktX1_puts_0 : List UInt8 := dkwX1_puts_0 ++ dktX1_puts_1
theorem dksX1_puts_0 : cX1_puts.data.toList.drop 0 = dktX1_puts_0 := by decide +kernel
theorem dksX1_puts_1 : cX1_puts.data.toList.drop 24 = dktX1_puts_1 := dk_seg dksX1_puts_0 24 rfl rfl
theorem dX1_puts_0 : decode cX1_puts 0 = .ok (.aload_n 0, 1) := dk_42 (dk_at dksX1_puts_0 0 rfl rfl)
theorem dX1_puts_1 : decode cX1_puts 1 = .ok (.getfield 10, 3) := dk_180 0 10 (dk_at dksX1_puts_0 1 rfl rfl)
theorem dX1_puts_4 : decode cX1_puts 4 = .ok (.iload_n 1, 1) := dk_27 (dk_at dksX1_puts_0 4 rfl rfl)
theorem dX1_puts_5 : decode cX1_puts 5 = .ok (.iload_n 2, 1) := dk_28 (dk_at dksX1_puts_0 5 rfl rfl)
theorem dX1_puts_6 : decode cX1_puts 6 = .ok (.iload_n 3, 1) := dk_29 (dk_at dksX1_puts_0 6 rfl rfl)
theorem dX1_puts_7 : decode cX1_puts 7 = .ok (.iload 4, 2) := dk_21 4 (dk_at dksX1_puts_0 7 rfl rfl)
theorem dX1_puts_9 : decode cX1_puts 9 = .ok (.invokestatic 271, 3) := dk_184 1 15 (dk_at dksX1_puts_0 9 rfl rfl)
theorem dX1_puts_12 : decode cX1_puts 12 = .ok (.istore 5, 2) := dk_54 5 (dk_at dksX1_puts_0 12 rfl rfl)
theorem dX1_puts_14 : decode cX1_puts 14 = .ok (.iload 5, 2) := dk_21 5 (dk_at dksX1_puts_0 14 rfl rfl)
theorem dX1_puts_16 : decode cX1_puts 16 = .ok (.ifCond .ge 6, 3) := dk_156 0 6 (dk_at dksX1_puts_0 16 rfl rfl)
theorem dX1_puts_19 : decode cX1_puts 19 = .ok (.iload 5, 2) := dk_21 5 (dk_at dksX1_puts_0 19 rfl rfl)
theorem dX1_puts_21 : decode cX1_puts 21 = .ok (.ireturn, 1) := dk_172 (dk_at dksX1_puts_0 21 rfl rfl)
theorem dX1_puts_22 : decode cX1_puts 22 = .ok (.aload_n 0, 1) := dk_42 (dk_at dksX1_puts_0 22 rfl rfl)
theorem dX1_puts_23 : decode cX1_puts 23 = .ok (.aload_n 0, 1) := dk_42 (dk_at dksX1_puts_0 23 rfl rfl)
theorem dX1_puts_24 : decode cX1_puts 24 = .ok (.getfield 10, 3) := dk_180 0 10 (dk_at dksX1_puts_1 0 rfl rfl)
theorem dX1_puts_27 : decode cX1_puts 27 = .ok (.invokevirtual 275, 3) := dk_182 1 19 (dk_at dksX1_puts_1 3 rfl rfl)
theorem dX1_puts_30 : decode cX1_puts 30 = .ok (.aload_n 0, 1) := dk_42 (dk_at dksX1_puts_1 6 rfl rfl)
theorem dX1_puts_31 : decode cX1_puts 31 = .ok (.getfield 10, 3) := dk_180 0 10 (dk_at dksX1_puts_1 7 rfl rfl)
theorem dX1_puts_34 : decode cX1_puts 34 = .ok (.iload_n 1, 1) := dk_27 (dk_at dksX1_puts_1 10 rfl rfl)
theorem dX1_puts_35 : decode cX1_puts 35 = .ok (.iload_n 2, 1) := dk_28 (dk_at dksX1_puts_1 11 rfl rfl)
theorem dX1_puts_36 : decode cX1_puts 36 = .ok (.iload_n 3, 1) := dk_29 (dk_at dksX1_puts_1 12 rfl rfl)
theorem dX1_puts_37 : decode cX1_puts 37 = .ok (.iload 4, 2) := dk_21 4 (dk_at dksX1_puts_1 13 rfl rfl)
theorem dX1_puts_39 : decode cX1_puts 39 = .ok (.invokestatic 278, 3) := dk_184 1 22 (dk_at dksX1_puts_1 15 rfl rfl)
theorem dX1_puts_42 : decode cX1_puts 42 = .ok (.ireturn, 1) := dk_172 (dk_at dksX1_puts_1 18 rfl rfl)
abbrev cX1_refusesPut : ByteArray := prog_1_method_16_code
def yX1_refusesPut : MethodName := ⟨RX1, "refusesPut", "(LQueueDrive$Drive;IIII)I"⟩
def dkwX1_refusesPut_3 : List UInt8 := [16, 254, 172, 42, 180, 0, 113, 27, 50, 182, 0, 242, 154, 0, 8, 16, 253, 167, 0, 4, 3, 172]
abbrev dktX1_refusesPut_3 : List UInt8 := dkwX1_refusesPut_3 ++ []
def dkwX1_refusesPut_2 : List UInt8 := [20, 0, 237, 184, 0, 64, 154, 0, 5, 2, 172, 42, 180, 0, 113, 27, 50, 182, 0, 239, 154, 0, 6]
abbrev dktX1_refusesPut_2 : List UInt8 := dkwX1_refusesPut_2 ++ dktX1_refusesPut_3
def dkwX1_refusesPut_1 : List UInt8 := [184, 0, 64, 153, 0, 28, 29, 133, 9, 20, 0, 235, 184, 0, 64, 153, 0, 16, 21, 4, 133, 9]
abbrev dktX1_refusesPut_1 : List UInt8 := dkwX1_refusesPut_1 ++ dktX1_refusesPut_2
def dkwX1_refusesPut_0 : List UInt8 := [27, 133, 9, 42, 180, 0, 61, 4, 100, 133, 184, 0, 64, 153, 0, 40, 28, 133, 9, 20, 0, 233]
abbrev dktX1_refusesPut_0 : List UInt8 := dkwX1_refusesPut_0 ++ dktX1_refusesPut_1
theorem dksX1_refusesPut_0 : cX1_refusesPut.data.toList.drop 0 = dktX1_refusesPut_0 := by decide +kernel
theorem dksX1_refusesPut_1 : cX1_refusesPut.data.toList.drop 22 = dktX1_refusesPut_1 := dk_seg dksX1_refusesPut_0 22 rfl rfl
theorem dksX1_refusesPut_2 : cX1_refusesPut.data.toList.drop 44 = dktX1_refusesPut_2 := dk_seg dksX1_refusesPut_1 22 rfl rfl
theorem dksX1_refusesPut_3 : cX1_refusesPut.data.toList.drop 67 = dktX1_refusesPut_3 := dk_seg dksX1_refusesPut_2 23 rfl rfl
theorem dX1_refusesPut_0 : decode cX1_refusesPut 0 = .ok (.iload_n 1, 1) := dk_27 (dk_at dksX1_refusesPut_0 0 rfl rfl)
theorem dX1_refusesPut_1 : decode cX1_refusesPut 1 = .ok (.i2l, 1) := dk_133 (dk_at dksX1_refusesPut_0 1 rfl rfl)
theorem dX1_refusesPut_2 : decode cX1_refusesPut 2 = .ok (.lconst 0, 1) := dk_9 (dk_at dksX1_refusesPut_0 2 rfl rfl)
theorem dX1_refusesPut_3 : decode cX1_refusesPut 3 = .ok (.aload_n 0, 1) := dk_42 (dk_at dksX1_refusesPut_0 3 rfl rfl)
theorem dX1_refusesPut_4 : decode cX1_refusesPut 4 = .ok (.getfield 61, 3) := dk_180 0 61 (dk_at dksX1_refusesPut_0 4 rfl rfl)
theorem dX1_refusesPut_7 : decode cX1_refusesPut 7 = .ok (.iconst 1, 1) := dk_4 (dk_at dksX1_refusesPut_0 7 rfl rfl)
theorem dX1_refusesPut_8 : decode cX1_refusesPut 8 = .ok (.isub, 1) := dk_100 (dk_at dksX1_refusesPut_0 8 rfl rfl)
theorem dX1_refusesPut_9 : decode cX1_refusesPut 9 = .ok (.i2l, 1) := dk_133 (dk_at dksX1_refusesPut_0 9 rfl rfl)
theorem dX1_refusesPut_10 : decode cX1_refusesPut 10 = .ok (.invokestatic 64, 3) := dk_184 0 64 (dk_at dksX1_refusesPut_0 10 rfl rfl)
theorem dX1_refusesPut_13 : decode cX1_refusesPut 13 = .ok (.ifCond .eq 40, 3) := dk_153 0 40 (dk_at dksX1_refusesPut_0 13 rfl rfl)
theorem dX1_refusesPut_16 : decode cX1_refusesPut 16 = .ok (.iload_n 2, 1) := dk_28 (dk_at dksX1_refusesPut_0 16 rfl rfl)
theorem dX1_refusesPut_17 : decode cX1_refusesPut 17 = .ok (.i2l, 1) := dk_133 (dk_at dksX1_refusesPut_0 17 rfl rfl)
theorem dX1_refusesPut_18 : decode cX1_refusesPut 18 = .ok (.lconst 0, 1) := dk_9 (dk_at dksX1_refusesPut_0 18 rfl rfl)
theorem dX1_refusesPut_19 : decode cX1_refusesPut 19 = .ok (.ldc2_w 233, 3) := dk_20 0 233 (dk_at dksX1_refusesPut_0 19 rfl rfl)
theorem dX1_refusesPut_22 : decode cX1_refusesPut 22 = .ok (.invokestatic 64, 3) := dk_184 0 64 (dk_at dksX1_refusesPut_1 0 rfl rfl)
theorem dX1_refusesPut_25 : decode cX1_refusesPut 25 = .ok (.ifCond .eq 28, 3) := dk_153 0 28 (dk_at dksX1_refusesPut_1 3 rfl rfl)
theorem dX1_refusesPut_28 : decode cX1_refusesPut 28 = .ok (.iload_n 3, 1) := dk_29 (dk_at dksX1_refusesPut_1 6 rfl rfl)
theorem dX1_refusesPut_29 : decode cX1_refusesPut 29 = .ok (.i2l, 1) := dk_133 (dk_at dksX1_refusesPut_1 7 rfl rfl)
theorem dX1_refusesPut_30 : decode cX1_refusesPut 30 = .ok (.lconst 0, 1) := dk_9 (dk_at dksX1_refusesPut_1 8 rfl rfl)
theorem dX1_refusesPut_31 : decode cX1_refusesPut 31 = .ok (.ldc2_w 235, 3) := dk_20 0 235 (dk_at dksX1_refusesPut_1 9 rfl rfl)
theorem dX1_refusesPut_34 : decode cX1_refusesPut 34 = .ok (.invokestatic 64, 3) := dk_184 0 64 (dk_at dksX1_refusesPut_1 12 rfl rfl)
theorem dX1_refusesPut_37 : decode cX1_refusesPut 37 = .ok (.ifCond .eq 16, 3) := dk_153 0 16 (dk_at dksX1_refusesPut_1 15 rfl rfl)
theorem dX1_refusesPut_40 : decode cX1_refusesPut 40 = .ok (.iload 4, 2) := dk_21 4 (dk_at dksX1_refusesPut_1 18 rfl rfl)
theorem dX1_refusesPut_42 : decode cX1_refusesPut 42 = .ok (.i2l, 1) := dk_133 (dk_at dksX1_refusesPut_1 20 rfl rfl)
theorem dX1_refusesPut_43 : decode cX1_refusesPut 43 = .ok (.lconst 0, 1) := dk_9 (dk_at dksX1_refusesPut_1 21 rfl rfl)
theorem dX1_refusesPut_44 : decode cX1_refusesPut 44 = .ok (.ldc2_w 237, 3) := dk_20 0 237 (dk_at dksX1_refusesPut_2 0 rfl rfl)
theorem dX1_refusesPut_47 : decode cX1_refusesPut 47 = .ok (.invokestatic 64, 3) := dk_184 0 64 (dk_at dksX1_refusesPut_2 3 rfl rfl)
theorem dX1_refusesPut_50 : decode cX1_refusesPut 50 = .ok (.ifCond .ne 5, 3) := dk_154 0 5 (dk_at dksX1_refusesPut_2 6 rfl rfl)
theorem dX1_refusesPut_53 : decode cX1_refusesPut 53 = .ok (.iconst (-1), 1) := dk_2 (dk_at dksX1_refusesPut_2 9 rfl rfl)
theorem dX1_refusesPut_54 : decode cX1_refusesPut 54 = .ok (.ireturn, 1) := dk_172 (dk_at dksX1_refusesPut_2 10 rfl rfl)
theorem dX1_refusesPut_55 : decode cX1_refusesPut 55 = .ok (.aload_n 0, 1) := dk_42 (dk_at dksX1_refusesPut_2 11 rfl rfl)
theorem dX1_refusesPut_56 : decode cX1_refusesPut 56 = .ok (.getfield 113, 3) := dk_180 0 113 (dk_at dksX1_refusesPut_2 12 rfl rfl)
theorem dX1_refusesPut_59 : decode cX1_refusesPut 59 = .ok (.iload_n 1, 1) := dk_27 (dk_at dksX1_refusesPut_2 15 rfl rfl)
theorem dX1_refusesPut_60 : decode cX1_refusesPut 60 = .ok (.aaload, 1) := dk_50 (dk_at dksX1_refusesPut_2 16 rfl rfl)
theorem dX1_refusesPut_61 : decode cX1_refusesPut 61 = .ok (.invokevirtual 239, 3) := dk_182 0 239 (dk_at dksX1_refusesPut_2 17 rfl rfl)
theorem dX1_refusesPut_64 : decode cX1_refusesPut 64 = .ok (.ifCond .ne 6, 3) := dk_154 0 6 (dk_at dksX1_refusesPut_2 20 rfl rfl)
theorem dX1_refusesPut_67 : decode cX1_refusesPut 67 = .ok (.bipush (-2), 2) := dk_16 254 (dk_at dksX1_refusesPut_3 0 rfl rfl)
theorem dX1_refusesPut_69 : decode cX1_refusesPut 69 = .ok (.ireturn, 1) := dk_172 (dk_at dksX1_refusesPut_3 2 rfl rfl)
theorem dX1_refusesPut_70 : decode cX1_refusesPut 70 = .ok (.aload_n 0, 1) := dk_42 (dk_at dksX1_refusesPut_3 3 rfl rfl)
theorem dX1_refusesPut_71 : decode cX1_refusesPut 71 = .ok (.getfield 113, 3) := dk_180 0 113 (dk_at dksX1_refusesPut_3 4 rfl rfl)
theorem dX1_refusesPut_74 : decode cX1_refusesPut 74 = .ok (.iload_n 1, 1) := dk_27 (dk_at dksX1_refusesPut_3 7 rfl rfl)
theorem dX1_refusesPut_75 : decode cX1_refusesPut 75 = .ok (.aaload, 1) := dk_50 (dk_at dksX1_refusesPut_3 8 rfl rfl)
theorem dX1_refusesPut_76 : decode cX1_refusesPut 76 = .ok (.invokevirtual 242, 3) := dk_182 0 242 (dk_at dksX1_refusesPut_3 9 rfl rfl)
theorem dX1_refusesPut_79 : decode cX1_refusesPut 79 = .ok (.ifCond .ne 8, 3) := dk_154 0 8 (dk_at dksX1_refusesPut_3 12 rfl rfl)
theorem dX1_refusesPut_82 : decode cX1_refusesPut 82 = .ok (.bipush (-3), 2) := dk_16 253 (dk_at dksX1_refusesPut_3 15 rfl rfl)
theorem dX1_refusesPut_84 : decode cX1_refusesPut 84 = .ok (.goto 4, 3) := dk_167 0 4 (dk_at dksX1_refusesPut_3 17 rfl rfl)
theorem dX1_refusesPut_87 : decode cX1_refusesPut 87 = .ok (.iconst 0, 1) := dk_3 (dk_at dksX1_refusesPut_3 20 rfl rfl)
theorem dX1_refusesPut_88 : decode cX1_refusesPut 88 = .ok (.ireturn, 1) := dk_172 (dk_at dksX1_refusesPut_3 21 rfl rfl)
abbrev cX1_remember : ByteArray := prog_1_method_15_code
def yX1_remember : MethodName := ⟨RX1, "remember", "(LQueueDrive$Drive;)V"⟩
def dkwX1_remember_3 : List UInt8 := [181, 0, 135, 177]
abbrev dktX1_remember_3 : List UInt8 := dkwX1_remember_3 ++ []
def dkwX1_remember_2 : List UInt8 := [181, 0, 135, 42, 180, 0, 22, 42, 180, 0, 135, 50, 43, 182, 0, 229, 42, 89, 180, 0, 135, 4, 96]
abbrev dktX1_remember_2 : List UInt8 := dkwX1_remember_2 ++ dktX1_remember_3
def dkwX1_remember_1 : List UInt8 := [180, 0, 22, 3, 16, 7, 184, 0, 223, 42, 180, 0, 22, 16, 7, 44, 83, 42, 89, 180, 0, 135, 4, 100]
abbrev dktX1_remember_1 : List UInt8 := dkwX1_remember_1 ++ dktX1_remember_2
def dkwX1_remember_0 : List UInt8 := [42, 180, 0, 135, 16, 8, 160, 0, 43, 42, 180, 0, 22, 3, 50, 77, 42, 180, 0, 22, 4, 42]
abbrev dktX1_remember_0 : List UInt8 := dkwX1_remember_0 ++ dktX1_remember_1
theorem dksX1_remember_0 : cX1_remember.data.toList.drop 0 = dktX1_remember_0 := by decide +kernel
theorem dksX1_remember_1 : cX1_remember.data.toList.drop 22 = dktX1_remember_1 := dk_seg dksX1_remember_0 22 rfl rfl
theorem dksX1_remember_2 : cX1_remember.data.toList.drop 46 = dktX1_remember_2 := dk_seg dksX1_remember_1 24 rfl rfl
theorem dksX1_remember_3 : cX1_remember.data.toList.drop 69 = dktX1_remember_3 := dk_seg dksX1_remember_2 23 rfl rfl
theorem dX1_remember_0 : decode cX1_remember 0 = .ok (.aload_n 0, 1) := dk_42 (dk_at dksX1_remember_0 0 rfl rfl)
theorem dX1_remember_1 : decode cX1_remember 1 = .ok (.getfield 135, 3) := dk_180 0 135 (dk_at dksX1_remember_0 1 rfl rfl)
theorem dX1_remember_4 : decode cX1_remember 4 = .ok (.bipush 8, 2) := dk_16 8 (dk_at dksX1_remember_0 4 rfl rfl)
theorem dX1_remember_6 : decode cX1_remember 6 = .ok (.if_icmp .ne 43, 3) := dk_160 0 43 (dk_at dksX1_remember_0 6 rfl rfl)
theorem dX1_remember_9 : decode cX1_remember 9 = .ok (.aload_n 0, 1) := dk_42 (dk_at dksX1_remember_0 9 rfl rfl)
theorem dX1_remember_10 : decode cX1_remember 10 = .ok (.getfield 22, 3) := dk_180 0 22 (dk_at dksX1_remember_0 10 rfl rfl)
theorem dX1_remember_13 : decode cX1_remember 13 = .ok (.iconst 0, 1) := dk_3 (dk_at dksX1_remember_0 13 rfl rfl)
theorem dX1_remember_14 : decode cX1_remember 14 = .ok (.aaload, 1) := dk_50 (dk_at dksX1_remember_0 14 rfl rfl)
theorem dX1_remember_15 : decode cX1_remember 15 = .ok (.astore_n 2, 1) := dk_77 (dk_at dksX1_remember_0 15 rfl rfl)
theorem dX1_remember_16 : decode cX1_remember 16 = .ok (.aload_n 0, 1) := dk_42 (dk_at dksX1_remember_0 16 rfl rfl)
theorem dX1_remember_17 : decode cX1_remember 17 = .ok (.getfield 22, 3) := dk_180 0 22 (dk_at dksX1_remember_0 17 rfl rfl)
theorem dX1_remember_20 : decode cX1_remember 20 = .ok (.iconst 1, 1) := dk_4 (dk_at dksX1_remember_0 20 rfl rfl)
theorem dX1_remember_21 : decode cX1_remember 21 = .ok (.aload_n 0, 1) := dk_42 (dk_at dksX1_remember_0 21 rfl rfl)
theorem dX1_remember_22 : decode cX1_remember 22 = .ok (.getfield 22, 3) := dk_180 0 22 (dk_at dksX1_remember_1 0 rfl rfl)
theorem dX1_remember_25 : decode cX1_remember 25 = .ok (.iconst 0, 1) := dk_3 (dk_at dksX1_remember_1 3 rfl rfl)
theorem dX1_remember_26 : decode cX1_remember 26 = .ok (.bipush 7, 2) := dk_16 7 (dk_at dksX1_remember_1 4 rfl rfl)
theorem dX1_remember_28 : decode cX1_remember 28 = .ok (.invokestatic 223, 3) := dk_184 0 223 (dk_at dksX1_remember_1 6 rfl rfl)
theorem dX1_remember_31 : decode cX1_remember 31 = .ok (.aload_n 0, 1) := dk_42 (dk_at dksX1_remember_1 9 rfl rfl)
theorem dX1_remember_32 : decode cX1_remember 32 = .ok (.getfield 22, 3) := dk_180 0 22 (dk_at dksX1_remember_1 10 rfl rfl)
theorem dX1_remember_35 : decode cX1_remember 35 = .ok (.bipush 7, 2) := dk_16 7 (dk_at dksX1_remember_1 13 rfl rfl)
theorem dX1_remember_37 : decode cX1_remember 37 = .ok (.aload_n 2, 1) := dk_44 (dk_at dksX1_remember_1 15 rfl rfl)
theorem dX1_remember_38 : decode cX1_remember 38 = .ok (.aastore, 1) := dk_83 (dk_at dksX1_remember_1 16 rfl rfl)
theorem dX1_remember_39 : decode cX1_remember 39 = .ok (.aload_n 0, 1) := dk_42 (dk_at dksX1_remember_1 17 rfl rfl)
theorem dX1_remember_40 : decode cX1_remember 40 = .ok (.dup, 1) := dk_89 (dk_at dksX1_remember_1 18 rfl rfl)
theorem dX1_remember_41 : decode cX1_remember 41 = .ok (.getfield 135, 3) := dk_180 0 135 (dk_at dksX1_remember_1 19 rfl rfl)
theorem dX1_remember_44 : decode cX1_remember 44 = .ok (.iconst 1, 1) := dk_4 (dk_at dksX1_remember_1 22 rfl rfl)
theorem dX1_remember_45 : decode cX1_remember 45 = .ok (.isub, 1) := dk_100 (dk_at dksX1_remember_1 23 rfl rfl)
theorem dX1_remember_46 : decode cX1_remember 46 = .ok (.putfield 135, 3) := dk_181 0 135 (dk_at dksX1_remember_2 0 rfl rfl)
theorem dX1_remember_49 : decode cX1_remember 49 = .ok (.aload_n 0, 1) := dk_42 (dk_at dksX1_remember_2 3 rfl rfl)
theorem dX1_remember_50 : decode cX1_remember 50 = .ok (.getfield 22, 3) := dk_180 0 22 (dk_at dksX1_remember_2 4 rfl rfl)
theorem dX1_remember_53 : decode cX1_remember 53 = .ok (.aload_n 0, 1) := dk_42 (dk_at dksX1_remember_2 7 rfl rfl)
theorem dX1_remember_54 : decode cX1_remember 54 = .ok (.getfield 135, 3) := dk_180 0 135 (dk_at dksX1_remember_2 8 rfl rfl)
theorem dX1_remember_57 : decode cX1_remember 57 = .ok (.aaload, 1) := dk_50 (dk_at dksX1_remember_2 11 rfl rfl)
theorem dX1_remember_58 : decode cX1_remember 58 = .ok (.aload_n 1, 1) := dk_43 (dk_at dksX1_remember_2 12 rfl rfl)
theorem dX1_remember_59 : decode cX1_remember 59 = .ok (.invokevirtual 229, 3) := dk_182 0 229 (dk_at dksX1_remember_2 13 rfl rfl)
theorem dX1_remember_62 : decode cX1_remember 62 = .ok (.aload_n 0, 1) := dk_42 (dk_at dksX1_remember_2 16 rfl rfl)
theorem dX1_remember_63 : decode cX1_remember 63 = .ok (.dup, 1) := dk_89 (dk_at dksX1_remember_2 17 rfl rfl)
theorem dX1_remember_64 : decode cX1_remember 64 = .ok (.getfield 135, 3) := dk_180 0 135 (dk_at dksX1_remember_2 18 rfl rfl)
theorem dX1_remember_67 : decode cX1_remember 67 = .ok (.iconst 1, 1) := dk_4 (dk_at dksX1_remember_2 21 rfl rfl)
theorem dX1_remember_68 : decode cX1_remember 68 = .ok (.iadd, 1) := dk_96 (dk_at dksX1_remember_2 22 rfl rfl)
theorem dX1_remember_69 : decode cX1_remember 69 = .ok (.putfield 135, 3) := dk_181 0 135 (dk_at dksX1_remember_3 0 rfl rfl)
theorem dX1_remember_72 : decode cX1_remember 72 = .ok (.return_, 1) := dk_177 (dk_at dksX1_remember_3 3 rfl rfl)
abbrev cX1_goPut : ByteArray := prog_1_method_17_code
def yX1_goPut : MethodName := ⟨RX1, "goPut", "(LQueueDrive$Drive;IIII)I"⟩
def dkwX1_goPut_2 : List UInt8 := [183, 1, 6, 182, 1, 9, 25, 5, 89, 180, 0, 166, 4, 96, 181, 0, 166, 21, 6, 172]
abbrev dktX1_goPut_2 : List UInt8 := dkwX1_goPut_2 ++ []
def dkwX1_goPut_1 : List UInt8 := [21, 6, 182, 0, 254, 25, 5, 180, 1, 2, 187, 0, 41, 89, 27, 21, 6, 28, 29, 21, 4, 3]
abbrev dktX1_goPut_1 : List UInt8 := dkwX1_goPut_1 ++ dktX1_goPut_2
def dkwX1_goPut_0 : List UInt8 := [42, 180, 0, 113, 27, 50, 58, 5, 25, 5, 180, 0, 245, 3, 182, 0, 249, 54, 6, 25, 5, 180, 0, 245]
abbrev dktX1_goPut_0 : List UInt8 := dkwX1_goPut_0 ++ dktX1_goPut_1
theorem dksX1_goPut_0 : cX1_goPut.data.toList.drop 0 = dktX1_goPut_0 := by decide +kernel
theorem dksX1_goPut_1 : cX1_goPut.data.toList.drop 24 = dktX1_goPut_1 := dk_seg dksX1_goPut_0 24 rfl rfl
theorem dksX1_goPut_2 : cX1_goPut.data.toList.drop 46 = dktX1_goPut_2 := dk_seg dksX1_goPut_1 22 rfl rfl
theorem dX1_goPut_0 : decode cX1_goPut 0 = .ok (.aload_n 0, 1) := dk_42 (dk_at dksX1_goPut_0 0 rfl rfl)
theorem dX1_goPut_1 : decode cX1_goPut 1 = .ok (.getfield 113, 3) := dk_180 0 113 (dk_at dksX1_goPut_0 1 rfl rfl)
theorem dX1_goPut_4 : decode cX1_goPut 4 = .ok (.iload_n 1, 1) := dk_27 (dk_at dksX1_goPut_0 4 rfl rfl)
theorem dX1_goPut_5 : decode cX1_goPut 5 = .ok (.aaload, 1) := dk_50 (dk_at dksX1_goPut_0 5 rfl rfl)
theorem dX1_goPut_6 : decode cX1_goPut 6 = .ok (.astore 5, 2) := dk_58 5 (dk_at dksX1_goPut_0 6 rfl rfl)
theorem dX1_goPut_8 : decode cX1_goPut 8 = .ok (.aload 5, 2) := dk_25 5 (dk_at dksX1_goPut_0 8 rfl rfl)
theorem dX1_goPut_10 : decode cX1_goPut 10 = .ok (.getfield 245, 3) := dk_180 0 245 (dk_at dksX1_goPut_0 10 rfl rfl)
theorem dX1_goPut_13 : decode cX1_goPut 13 = .ok (.iconst 0, 1) := dk_3 (dk_at dksX1_goPut_0 13 rfl rfl)
theorem dX1_goPut_14 : decode cX1_goPut 14 = .ok (.invokevirtual 249, 3) := dk_182 0 249 (dk_at dksX1_goPut_0 14 rfl rfl)
theorem dX1_goPut_17 : decode cX1_goPut 17 = .ok (.istore 6, 2) := dk_54 6 (dk_at dksX1_goPut_0 17 rfl rfl)
theorem dX1_goPut_19 : decode cX1_goPut 19 = .ok (.aload 5, 2) := dk_25 5 (dk_at dksX1_goPut_0 19 rfl rfl)
theorem dX1_goPut_21 : decode cX1_goPut 21 = .ok (.getfield 245, 3) := dk_180 0 245 (dk_at dksX1_goPut_0 21 rfl rfl)
theorem dX1_goPut_24 : decode cX1_goPut 24 = .ok (.iload 6, 2) := dk_21 6 (dk_at dksX1_goPut_1 0 rfl rfl)
theorem dX1_goPut_26 : decode cX1_goPut 26 = .ok (.invokevirtual 254, 3) := dk_182 0 254 (dk_at dksX1_goPut_1 2 rfl rfl)
theorem dX1_goPut_29 : decode cX1_goPut 29 = .ok (.aload 5, 2) := dk_25 5 (dk_at dksX1_goPut_1 5 rfl rfl)
theorem dX1_goPut_31 : decode cX1_goPut 31 = .ok (.getfield 258, 3) := dk_180 1 2 (dk_at dksX1_goPut_1 7 rfl rfl)
theorem dX1_goPut_34 : decode cX1_goPut 34 = .ok (.new 41, 3) := dk_187 0 41 (dk_at dksX1_goPut_1 10 rfl rfl)
theorem dX1_goPut_37 : decode cX1_goPut 37 = .ok (.dup, 1) := dk_89 (dk_at dksX1_goPut_1 13 rfl rfl)
theorem dX1_goPut_38 : decode cX1_goPut 38 = .ok (.iload_n 1, 1) := dk_27 (dk_at dksX1_goPut_1 14 rfl rfl)
theorem dX1_goPut_39 : decode cX1_goPut 39 = .ok (.iload 6, 2) := dk_21 6 (dk_at dksX1_goPut_1 15 rfl rfl)
theorem dX1_goPut_41 : decode cX1_goPut 41 = .ok (.iload_n 2, 1) := dk_28 (dk_at dksX1_goPut_1 17 rfl rfl)
theorem dX1_goPut_42 : decode cX1_goPut 42 = .ok (.iload_n 3, 1) := dk_29 (dk_at dksX1_goPut_1 18 rfl rfl)
theorem dX1_goPut_43 : decode cX1_goPut 43 = .ok (.iload 4, 2) := dk_21 4 (dk_at dksX1_goPut_1 19 rfl rfl)
theorem dX1_goPut_45 : decode cX1_goPut 45 = .ok (.iconst 0, 1) := dk_3 (dk_at dksX1_goPut_1 21 rfl rfl)
theorem dX1_goPut_46 : decode cX1_goPut 46 = .ok (.invokespecial 262, 3) := dk_183 1 6 (dk_at dksX1_goPut_2 0 rfl rfl)
theorem dX1_goPut_49 : decode cX1_goPut 49 = .ok (.invokevirtual 265, 3) := dk_182 1 9 (dk_at dksX1_goPut_2 3 rfl rfl)
theorem dX1_goPut_52 : decode cX1_goPut 52 = .ok (.aload 5, 2) := dk_25 5 (dk_at dksX1_goPut_2 6 rfl rfl)
theorem dX1_goPut_54 : decode cX1_goPut 54 = .ok (.dup, 1) := dk_89 (dk_at dksX1_goPut_2 8 rfl rfl)
theorem dX1_goPut_55 : decode cX1_goPut 55 = .ok (.getfield 166, 3) := dk_180 0 166 (dk_at dksX1_goPut_2 9 rfl rfl)
theorem dX1_goPut_58 : decode cX1_goPut 58 = .ok (.iconst 1, 1) := dk_4 (dk_at dksX1_goPut_2 12 rfl rfl)
theorem dX1_goPut_59 : decode cX1_goPut 59 = .ok (.iadd, 1) := dk_96 (dk_at dksX1_goPut_2 13 rfl rfl)
theorem dX1_goPut_60 : decode cX1_goPut 60 = .ok (.putfield 166, 3) := dk_181 0 166 (dk_at dksX1_goPut_2 14 rfl rfl)
theorem dX1_goPut_63 : decode cX1_goPut 63 = .ok (.iload 6, 2) := dk_21 6 (dk_at dksX1_goPut_2 17 rfl rfl)
theorem dX1_goPut_65 : decode cX1_goPut 65 = .ok (.ireturn, 1) := dk_172 (dk_at dksX1_goPut_2 19 rfl rfl)
abbrev cX1_ring : ByteArray := prog_1_method_19_code
def yX1_ring : MethodName := ⟨RX1, "ring", "(I)I"⟩
def dkwX1_ring_2 : List UInt8 := [180, 0, 113, 27, 50, 182, 1, 28, 172]
abbrev dktX1_ring_2 : List UInt8 := dkwX1_ring_2 ++ []
def dkwX1_ring_1 : List UInt8 := [160, 0, 6, 16, 254, 172, 42, 42, 180, 0, 10, 182, 1, 19, 42, 180, 0, 10, 42, 180, 0, 10]
abbrev dktX1_ring_1 : List UInt8 := dkwX1_ring_1 ++ dktX1_ring_2
def dkwX1_ring_0 : List UInt8 := [42, 27, 182, 0, 159, 154, 0, 5, 2, 172, 42, 180, 0, 10, 180, 0, 113, 27, 50, 182, 1, 25, 16, 254]
abbrev dktX1_ring_0 : List UInt8 := dkwX1_ring_0 ++ dktX1_ring_1
theorem dksX1_ring_0 : cX1_ring.data.toList.drop 0 = dktX1_ring_0 := by decide +kernel
theorem dksX1_ring_1 : cX1_ring.data.toList.drop 24 = dktX1_ring_1 := dk_seg dksX1_ring_0 24 rfl rfl
theorem dksX1_ring_2 : cX1_ring.data.toList.drop 46 = dktX1_ring_2 := dk_seg dksX1_ring_1 22 rfl rfl
theorem dX1_ring_0 : decode cX1_ring 0 = .ok (.aload_n 0, 1) := dk_42 (dk_at dksX1_ring_0 0 rfl rfl)
theorem dX1_ring_1 : decode cX1_ring 1 = .ok (.iload_n 1, 1) := dk_27 (dk_at dksX1_ring_0 1 rfl rfl)
theorem dX1_ring_2 : decode cX1_ring 2 = .ok (.invokevirtual 159, 3) := dk_182 0 159 (dk_at dksX1_ring_0 2 rfl rfl)
theorem dX1_ring_5 : decode cX1_ring 5 = .ok (.ifCond .ne 5, 3) := dk_154 0 5 (dk_at dksX1_ring_0 5 rfl rfl)
theorem dX1_ring_8 : decode cX1_ring 8 = .ok (.iconst (-1), 1) := dk_2 (dk_at dksX1_ring_0 8 rfl rfl)
theorem dX1_ring_9 : decode cX1_ring 9 = .ok (.ireturn, 1) := dk_172 (dk_at dksX1_ring_0 9 rfl rfl)
theorem dX1_ring_10 : decode cX1_ring 10 = .ok (.aload_n 0, 1) := dk_42 (dk_at dksX1_ring_0 10 rfl rfl)
theorem dX1_ring_11 : decode cX1_ring 11 = .ok (.getfield 10, 3) := dk_180 0 10 (dk_at dksX1_ring_0 11 rfl rfl)
theorem dX1_ring_14 : decode cX1_ring 14 = .ok (.getfield 113, 3) := dk_180 0 113 (dk_at dksX1_ring_0 14 rfl rfl)
theorem dX1_ring_17 : decode cX1_ring 17 = .ok (.iload_n 1, 1) := dk_27 (dk_at dksX1_ring_0 17 rfl rfl)
theorem dX1_ring_18 : decode cX1_ring 18 = .ok (.aaload, 1) := dk_50 (dk_at dksX1_ring_0 18 rfl rfl)
theorem dX1_ring_19 : decode cX1_ring 19 = .ok (.invokevirtual 281, 3) := dk_182 1 25 (dk_at dksX1_ring_0 19 rfl rfl)
theorem dX1_ring_22 : decode cX1_ring 22 = .ok (.bipush (-2), 2) := dk_16 254 (dk_at dksX1_ring_0 22 rfl rfl)
theorem dX1_ring_24 : decode cX1_ring 24 = .ok (.if_icmp .ne 6, 3) := dk_160 0 6 (dk_at dksX1_ring_1 0 rfl rfl)
theorem dX1_ring_27 : decode cX1_ring 27 = .ok (.bipush (-2), 2) := dk_16 254 (dk_at dksX1_ring_1 3 rfl rfl)
theorem dX1_ring_29 : decode cX1_ring 29 = .ok (.ireturn, 1) := dk_172 (dk_at dksX1_ring_1 5 rfl rfl)
theorem dX1_ring_30 : decode cX1_ring 30 = .ok (.aload_n 0, 1) := dk_42 (dk_at dksX1_ring_1 6 rfl rfl)
theorem dX1_ring_31 : decode cX1_ring 31 = .ok (.aload_n 0, 1) := dk_42 (dk_at dksX1_ring_1 7 rfl rfl)
theorem dX1_ring_32 : decode cX1_ring 32 = .ok (.getfield 10, 3) := dk_180 0 10 (dk_at dksX1_ring_1 8 rfl rfl)
theorem dX1_ring_35 : decode cX1_ring 35 = .ok (.invokevirtual 275, 3) := dk_182 1 19 (dk_at dksX1_ring_1 11 rfl rfl)
theorem dX1_ring_38 : decode cX1_ring 38 = .ok (.aload_n 0, 1) := dk_42 (dk_at dksX1_ring_1 14 rfl rfl)
theorem dX1_ring_39 : decode cX1_ring 39 = .ok (.getfield 10, 3) := dk_180 0 10 (dk_at dksX1_ring_1 15 rfl rfl)
theorem dX1_ring_42 : decode cX1_ring 42 = .ok (.aload_n 0, 1) := dk_42 (dk_at dksX1_ring_1 18 rfl rfl)
theorem dX1_ring_43 : decode cX1_ring 43 = .ok (.getfield 10, 3) := dk_180 0 10 (dk_at dksX1_ring_1 19 rfl rfl)
theorem dX1_ring_46 : decode cX1_ring 46 = .ok (.getfield 113, 3) := dk_180 0 113 (dk_at dksX1_ring_2 0 rfl rfl)
theorem dX1_ring_49 : decode cX1_ring 49 = .ok (.iload_n 1, 1) := dk_27 (dk_at dksX1_ring_2 3 rfl rfl)
theorem dX1_ring_50 : decode cX1_ring 50 = .ok (.aaload, 1) := dk_50 (dk_at dksX1_ring_2 4 rfl rfl)
theorem dX1_ring_51 : decode cX1_ring 51 = .ok (.invokevirtual 284, 3) := dk_182 1 28 (dk_at dksX1_ring_2 5 rfl rfl)
theorem dX1_ring_54 : decode cX1_ring 54 = .ok (.ireturn, 1) := dk_172 (dk_at dksX1_ring_2 8 rfl rfl)
abbrev cX1_isQueue : ByteArray := prog_1_method_5_code
def yX1_isQueue : MethodName := ⟨RX1, "isQueue", "(I)Z"⟩
def dkwX1_isQueue_0 : List UInt8 := [27, 133, 9, 42, 180, 0, 10, 180, 0, 61, 4, 100, 133, 184, 0, 64, 172]
abbrev dktX1_isQueue_0 : List UInt8 := dkwX1_isQueue_0 ++ []
theorem dksX1_isQueue_0 : cX1_isQueue.data.toList.drop 0 = dktX1_isQueue_0 := by decide +kernel
theorem dX1_isQueue_0 : decode cX1_isQueue 0 = .ok (.iload_n 1, 1) := dk_27 (dk_at dksX1_isQueue_0 0 rfl rfl)
theorem dX1_isQueue_1 : decode cX1_isQueue 1 = .ok (.i2l, 1) := dk_133 (dk_at dksX1_isQueue_0 1 rfl rfl)
theorem dX1_isQueue_2 : decode cX1_isQueue 2 = .ok (.lconst 0, 1) := dk_9 (dk_at dksX1_isQueue_0 2 rfl rfl)
theorem dX1_isQueue_3 : decode cX1_isQueue 3 = .ok (.aload_n 0, 1) := dk_42 (dk_at dksX1_isQueue_0 3 rfl rfl)
theorem dX1_isQueue_4 : decode cX1_isQueue 4 = .ok (.getfield 10, 3) := dk_180 0 10 (dk_at dksX1_isQueue_0 4 rfl rfl)
theorem dX1_isQueue_7 : decode cX1_isQueue 7 = .ok (.getfield 61, 3) := dk_180 0 61 (dk_at dksX1_isQueue_0 7 rfl rfl)
theorem dX1_isQueue_10 : decode cX1_isQueue 10 = .ok (.iconst 1, 1) := dk_4 (dk_at dksX1_isQueue_0 10 rfl rfl)
theorem dX1_isQueue_11 : decode cX1_isQueue 11 = .ok (.isub, 1) := dk_100 (dk_at dksX1_isQueue_0 11 rfl rfl)
theorem dX1_isQueue_12 : decode cX1_isQueue 12 = .ok (.i2l, 1) := dk_133 (dk_at dksX1_isQueue_0 12 rfl rfl)
theorem dX1_isQueue_13 : decode cX1_isQueue 13 = .ok (.invokestatic 64, 3) := dk_184 0 64 (dk_at dksX1_isQueue_0 13 rfl rfl)
theorem dX1_isQueue_16 : decode cX1_isQueue 16 = .ok (.ireturn, 1) := dk_172 (dk_at dksX1_isQueue_0 16 rfl rfl)
abbrev cX1_ticks : ByteArray := prog_1_method_20_code
def yX1_ticks : MethodName := ⟨RX1, "ticks", "(I)I"⟩
def dkwX1_ticks_4 : List UInt8 := [180, 0, 10, 180, 1, 34, 133, 182, 1, 54, 42, 28, 133, 182, 1, 54, 42, 180, 0, 10, 180, 1, 37, 172]
abbrev dktX1_ticks_4 : List UInt8 := dkwX1_ticks_4 ++ []
def dkwX1_ticks_3 : List UInt8 := [153, 0, 7, 4, 167, 0, 4, 3, 96, 61, 132, 3, 1, 167, 255, 216, 42, 3, 181, 0, 57, 42, 42]
abbrev dktX1_ticks_3 : List UInt8 := dkwX1_ticks_3 ++ dktX1_ticks_4
def dkwX1_ticks_2 : List UInt8 := [42, 180, 0, 10, 42, 180, 0, 146, 182, 1, 40, 28, 42, 180, 0, 10, 180, 1, 44, 182, 1, 48]
abbrev dktX1_ticks_2 : List UInt8 := dkwX1_ticks_2 ++ dktX1_ticks_3
def dkwX1_ticks_1 : List UInt8 := [180, 0, 10, 3, 181, 1, 34, 42, 180, 0, 10, 3, 181, 1, 37, 3, 61, 3, 62, 29, 27, 162, 0, 41]
abbrev dktX1_ticks_1 : List UInt8 := dkwX1_ticks_1 ++ dktX1_ticks_2
def dkwX1_ticks_0 : List UInt8 := [27, 133, 9, 20, 1, 32, 184, 0, 64, 154, 0, 5, 2, 172, 42, 42, 180, 0, 10, 182, 1, 19, 42]
abbrev dktX1_ticks_0 : List UInt8 := dkwX1_ticks_0 ++ dktX1_ticks_1
theorem dksX1_ticks_0 : cX1_ticks.data.toList.drop 0 = dktX1_ticks_0 := by decide +kernel
theorem dksX1_ticks_1 : cX1_ticks.data.toList.drop 23 = dktX1_ticks_1 := dk_seg dksX1_ticks_0 23 rfl rfl
theorem dksX1_ticks_2 : cX1_ticks.data.toList.drop 47 = dktX1_ticks_2 := dk_seg dksX1_ticks_1 24 rfl rfl
theorem dksX1_ticks_3 : cX1_ticks.data.toList.drop 69 = dktX1_ticks_3 := dk_seg dksX1_ticks_2 22 rfl rfl
theorem dksX1_ticks_4 : cX1_ticks.data.toList.drop 92 = dktX1_ticks_4 := dk_seg dksX1_ticks_3 23 rfl rfl
theorem dX1_ticks_0 : decode cX1_ticks 0 = .ok (.iload_n 1, 1) := dk_27 (dk_at dksX1_ticks_0 0 rfl rfl)
theorem dX1_ticks_1 : decode cX1_ticks 1 = .ok (.i2l, 1) := dk_133 (dk_at dksX1_ticks_0 1 rfl rfl)
theorem dX1_ticks_2 : decode cX1_ticks 2 = .ok (.lconst 0, 1) := dk_9 (dk_at dksX1_ticks_0 2 rfl rfl)
theorem dX1_ticks_3 : decode cX1_ticks 3 = .ok (.ldc2_w 288, 3) := dk_20 1 32 (dk_at dksX1_ticks_0 3 rfl rfl)
theorem dX1_ticks_6 : decode cX1_ticks 6 = .ok (.invokestatic 64, 3) := dk_184 0 64 (dk_at dksX1_ticks_0 6 rfl rfl)
theorem dX1_ticks_9 : decode cX1_ticks 9 = .ok (.ifCond .ne 5, 3) := dk_154 0 5 (dk_at dksX1_ticks_0 9 rfl rfl)
theorem dX1_ticks_12 : decode cX1_ticks 12 = .ok (.iconst (-1), 1) := dk_2 (dk_at dksX1_ticks_0 12 rfl rfl)
theorem dX1_ticks_13 : decode cX1_ticks 13 = .ok (.ireturn, 1) := dk_172 (dk_at dksX1_ticks_0 13 rfl rfl)
theorem dX1_ticks_14 : decode cX1_ticks 14 = .ok (.aload_n 0, 1) := dk_42 (dk_at dksX1_ticks_0 14 rfl rfl)
theorem dX1_ticks_15 : decode cX1_ticks 15 = .ok (.aload_n 0, 1) := dk_42 (dk_at dksX1_ticks_0 15 rfl rfl)
theorem dX1_ticks_16 : decode cX1_ticks 16 = .ok (.getfield 10, 3) := dk_180 0 10 (dk_at dksX1_ticks_0 16 rfl rfl)
theorem dX1_ticks_19 : decode cX1_ticks 19 = .ok (.invokevirtual 275, 3) := dk_182 1 19 (dk_at dksX1_ticks_0 19 rfl rfl)
theorem dX1_ticks_22 : decode cX1_ticks 22 = .ok (.aload_n 0, 1) := dk_42 (dk_at dksX1_ticks_0 22 rfl rfl)
theorem dX1_ticks_23 : decode cX1_ticks 23 = .ok (.getfield 10, 3) := dk_180 0 10 (dk_at dksX1_ticks_1 0 rfl rfl)
theorem dX1_ticks_26 : decode cX1_ticks 26 = .ok (.iconst 0, 1) := dk_3 (dk_at dksX1_ticks_1 3 rfl rfl)
theorem dX1_ticks_27 : decode cX1_ticks 27 = .ok (.putfield 290, 3) := dk_181 1 34 (dk_at dksX1_ticks_1 4 rfl rfl)
theorem dX1_ticks_30 : decode cX1_ticks 30 = .ok (.aload_n 0, 1) := dk_42 (dk_at dksX1_ticks_1 7 rfl rfl)
theorem dX1_ticks_31 : decode cX1_ticks 31 = .ok (.getfield 10, 3) := dk_180 0 10 (dk_at dksX1_ticks_1 8 rfl rfl)
theorem dX1_ticks_34 : decode cX1_ticks 34 = .ok (.iconst 0, 1) := dk_3 (dk_at dksX1_ticks_1 11 rfl rfl)
theorem dX1_ticks_35 : decode cX1_ticks 35 = .ok (.putfield 293, 3) := dk_181 1 37 (dk_at dksX1_ticks_1 12 rfl rfl)
theorem dX1_ticks_38 : decode cX1_ticks 38 = .ok (.iconst 0, 1) := dk_3 (dk_at dksX1_ticks_1 15 rfl rfl)
theorem dX1_ticks_39 : decode cX1_ticks 39 = .ok (.istore_n 2, 1) := dk_61 (dk_at dksX1_ticks_1 16 rfl rfl)
theorem dX1_ticks_40 : decode cX1_ticks 40 = .ok (.iconst 0, 1) := dk_3 (dk_at dksX1_ticks_1 17 rfl rfl)
theorem dX1_ticks_41 : decode cX1_ticks 41 = .ok (.istore_n 3, 1) := dk_62 (dk_at dksX1_ticks_1 18 rfl rfl)
theorem dX1_ticks_42 : decode cX1_ticks 42 = .ok (.iload_n 3, 1) := dk_29 (dk_at dksX1_ticks_1 19 rfl rfl)
theorem dX1_ticks_43 : decode cX1_ticks 43 = .ok (.iload_n 1, 1) := dk_27 (dk_at dksX1_ticks_1 20 rfl rfl)
theorem dX1_ticks_44 : decode cX1_ticks 44 = .ok (.if_icmp .ge 41, 3) := dk_162 0 41 (dk_at dksX1_ticks_1 21 rfl rfl)
theorem dX1_ticks_47 : decode cX1_ticks 47 = .ok (.aload_n 0, 1) := dk_42 (dk_at dksX1_ticks_2 0 rfl rfl)
theorem dX1_ticks_48 : decode cX1_ticks 48 = .ok (.getfield 10, 3) := dk_180 0 10 (dk_at dksX1_ticks_2 1 rfl rfl)
theorem dX1_ticks_51 : decode cX1_ticks 51 = .ok (.aload_n 0, 1) := dk_42 (dk_at dksX1_ticks_2 4 rfl rfl)
theorem dX1_ticks_52 : decode cX1_ticks 52 = .ok (.getfield 146, 3) := dk_180 0 146 (dk_at dksX1_ticks_2 5 rfl rfl)
theorem dX1_ticks_55 : decode cX1_ticks 55 = .ok (.invokevirtual 296, 3) := dk_182 1 40 (dk_at dksX1_ticks_2 8 rfl rfl)
theorem dX1_ticks_58 : decode cX1_ticks 58 = .ok (.iload_n 2, 1) := dk_28 (dk_at dksX1_ticks_2 11 rfl rfl)
theorem dX1_ticks_59 : decode cX1_ticks 59 = .ok (.aload_n 0, 1) := dk_42 (dk_at dksX1_ticks_2 12 rfl rfl)
theorem dX1_ticks_60 : decode cX1_ticks 60 = .ok (.getfield 10, 3) := dk_180 0 10 (dk_at dksX1_ticks_2 13 rfl rfl)
theorem dX1_ticks_63 : decode cX1_ticks 63 = .ok (.getfield 300, 3) := dk_180 1 44 (dk_at dksX1_ticks_2 16 rfl rfl)
theorem dX1_ticks_66 : decode cX1_ticks 66 = .ok (.invokevirtual 304, 3) := dk_182 1 48 (dk_at dksX1_ticks_2 19 rfl rfl)
theorem dX1_ticks_69 : decode cX1_ticks 69 = .ok (.ifCond .eq 7, 3) := dk_153 0 7 (dk_at dksX1_ticks_3 0 rfl rfl)
theorem dX1_ticks_72 : decode cX1_ticks 72 = .ok (.iconst 1, 1) := dk_4 (dk_at dksX1_ticks_3 3 rfl rfl)
theorem dX1_ticks_73 : decode cX1_ticks 73 = .ok (.goto 4, 3) := dk_167 0 4 (dk_at dksX1_ticks_3 4 rfl rfl)
theorem dX1_ticks_76 : decode cX1_ticks 76 = .ok (.iconst 0, 1) := dk_3 (dk_at dksX1_ticks_3 7 rfl rfl)
theorem dX1_ticks_77 : decode cX1_ticks 77 = .ok (.iadd, 1) := dk_96 (dk_at dksX1_ticks_3 8 rfl rfl)
theorem dX1_ticks_78 : decode cX1_ticks 78 = .ok (.istore_n 2, 1) := dk_61 (dk_at dksX1_ticks_3 9 rfl rfl)
theorem dX1_ticks_79 : decode cX1_ticks 79 = .ok (.iinc 3 1, 3) := dk_132 3 1 (dk_at dksX1_ticks_3 10 rfl rfl)
theorem dX1_ticks_82 : decode cX1_ticks 82 = .ok (.goto (-40), 3) := dk_167 255 216 (dk_at dksX1_ticks_3 13 rfl rfl)
theorem dX1_ticks_85 : decode cX1_ticks 85 = .ok (.aload_n 0, 1) := dk_42 (dk_at dksX1_ticks_3 16 rfl rfl)
theorem dX1_ticks_86 : decode cX1_ticks 86 = .ok (.iconst 0, 1) := dk_3 (dk_at dksX1_ticks_3 17 rfl rfl)
theorem dX1_ticks_87 : decode cX1_ticks 87 = .ok (.putfield 57, 3) := dk_181 0 57 (dk_at dksX1_ticks_3 18 rfl rfl)
theorem dX1_ticks_90 : decode cX1_ticks 90 = .ok (.aload_n 0, 1) := dk_42 (dk_at dksX1_ticks_3 21 rfl rfl)
theorem dX1_ticks_91 : decode cX1_ticks 91 = .ok (.aload_n 0, 1) := dk_42 (dk_at dksX1_ticks_3 22 rfl rfl)
theorem dX1_ticks_92 : decode cX1_ticks 92 = .ok (.getfield 10, 3) := dk_180 0 10 (dk_at dksX1_ticks_4 0 rfl rfl)
theorem dX1_ticks_95 : decode cX1_ticks 95 = .ok (.getfield 290, 3) := dk_180 1 34 (dk_at dksX1_ticks_4 3 rfl rfl)
theorem dX1_ticks_98 : decode cX1_ticks 98 = .ok (.i2l, 1) := dk_133 (dk_at dksX1_ticks_4 6 rfl rfl)
theorem dX1_ticks_99 : decode cX1_ticks 99 = .ok (.invokevirtual 310, 3) := dk_182 1 54 (dk_at dksX1_ticks_4 7 rfl rfl)
theorem dX1_ticks_102 : decode cX1_ticks 102 = .ok (.aload_n 0, 1) := dk_42 (dk_at dksX1_ticks_4 10 rfl rfl)
theorem dX1_ticks_103 : decode cX1_ticks 103 = .ok (.iload_n 2, 1) := dk_28 (dk_at dksX1_ticks_4 11 rfl rfl)
theorem dX1_ticks_104 : decode cX1_ticks 104 = .ok (.i2l, 1) := dk_133 (dk_at dksX1_ticks_4 12 rfl rfl)
theorem dX1_ticks_105 : decode cX1_ticks 105 = .ok (.invokevirtual 310, 3) := dk_182 1 54 (dk_at dksX1_ticks_4 13 rfl rfl)
theorem dX1_ticks_108 : decode cX1_ticks 108 = .ok (.aload_n 0, 1) := dk_42 (dk_at dksX1_ticks_4 16 rfl rfl)
theorem dX1_ticks_109 : decode cX1_ticks 109 = .ok (.getfield 10, 3) := dk_180 0 10 (dk_at dksX1_ticks_4 17 rfl rfl)
theorem dX1_ticks_112 : decode cX1_ticks 112 = .ok (.getfield 293, 3) := dk_180 1 37 (dk_at dksX1_ticks_4 20 rfl rfl)
theorem dX1_ticks_115 : decode cX1_ticks 115 = .ok (.ireturn, 1) := dk_172 (dk_at dksX1_ticks_4 23 rfl rfl)
abbrev cX1_tell : ByteArray := prog_1_method_4_code
def yX1_tell : MethodName := ⟨RX1, "tell", "(J)V"⟩
def dkwX1_tell_0 : List UInt8 := [42, 180, 0, 30, 42, 180, 0, 57, 31, 80, 42, 89, 180, 0, 57, 4, 96, 181, 0, 57, 177]
abbrev dktX1_tell_0 : List UInt8 := dkwX1_tell_0 ++ []
theorem dksX1_tell_0 : cX1_tell.data.toList.drop 0 = dktX1_tell_0 := by decide +kernel
theorem dX1_tell_0 : decode cX1_tell 0 = .ok (.aload_n 0, 1) := dk_42 (dk_at dksX1_tell_0 0 rfl rfl)
theorem dX1_tell_1 : decode cX1_tell 1 = .ok (.getfield 30, 3) := dk_180 0 30 (dk_at dksX1_tell_0 1 rfl rfl)
theorem dX1_tell_4 : decode cX1_tell 4 = .ok (.aload_n 0, 1) := dk_42 (dk_at dksX1_tell_0 4 rfl rfl)
theorem dX1_tell_5 : decode cX1_tell 5 = .ok (.getfield 57, 3) := dk_180 0 57 (dk_at dksX1_tell_0 5 rfl rfl)
theorem dX1_tell_8 : decode cX1_tell 8 = .ok (.lload_n 1, 1) := dk_31 (dk_at dksX1_tell_0 8 rfl rfl)
theorem dX1_tell_9 : decode cX1_tell 9 = .ok (.lastore, 1) := dk_80 (dk_at dksX1_tell_0 9 rfl rfl)
theorem dX1_tell_10 : decode cX1_tell 10 = .ok (.aload_n 0, 1) := dk_42 (dk_at dksX1_tell_0 10 rfl rfl)
theorem dX1_tell_11 : decode cX1_tell 11 = .ok (.dup, 1) := dk_89 (dk_at dksX1_tell_0 11 rfl rfl)
theorem dX1_tell_12 : decode cX1_tell 12 = .ok (.getfield 57, 3) := dk_180 0 57 (dk_at dksX1_tell_0 12 rfl rfl)
theorem dX1_tell_15 : decode cX1_tell 15 = .ok (.iconst 1, 1) := dk_4 (dk_at dksX1_tell_0 15 rfl rfl)
theorem dX1_tell_16 : decode cX1_tell 16 = .ok (.iadd, 1) := dk_96 (dk_at dksX1_tell_0 16 rfl rfl)
theorem dX1_tell_17 : decode cX1_tell 17 = .ok (.putfield 57, 3) := dk_181 0 57 (dk_at dksX1_tell_0 17 rfl rfl)
theorem dX1_tell_20 : decode cX1_tell 20 = .ok (.return_, 1) := dk_177 (dk_at dksX1_tell_0 20 rfl rfl)
abbrev cX1_takes : ByteArray := prog_1_method_22_code
def yX1_takes : MethodName := ⟨RX1, "takes", "(I)I"⟩
def dkwX1_takes_3 : List UInt8 := [182, 1, 54, 16, 10, 45, 180, 1, 69, 180, 1, 86, 104, 45, 180, 1, 69, 180, 1, 89, 96, 172]
abbrev dktX1_takes_3 : List UInt8 := dkwX1_takes_3 ++ []
def dkwX1_takes_2 : List UInt8 := [180, 1, 75, 133, 182, 1, 54, 42, 45, 180, 1, 80, 133, 182, 1, 54, 42, 45, 180, 1, 83, 133]
abbrev dktX1_takes_2 : List UInt8 := dkwX1_takes_2 ++ dktX1_takes_3
def dkwX1_takes_1 : List UInt8 := [180, 0, 10, 180, 0, 113, 27, 50, 182, 1, 65, 78, 42, 3, 181, 0, 57, 42, 45, 180, 1, 69]
abbrev dktX1_takes_1 : List UInt8 := dkwX1_takes_1 ++ dktX1_takes_2
def dkwX1_takes_0 : List UInt8 := [42, 180, 0, 10, 27, 184, 1, 61, 61, 28, 156, 0, 5, 28, 172, 42, 42, 180, 0, 10, 182, 1, 19, 42]
abbrev dktX1_takes_0 : List UInt8 := dkwX1_takes_0 ++ dktX1_takes_1
theorem dksX1_takes_0 : cX1_takes.data.toList.drop 0 = dktX1_takes_0 := by decide +kernel
theorem dksX1_takes_1 : cX1_takes.data.toList.drop 24 = dktX1_takes_1 := dk_seg dksX1_takes_0 24 rfl rfl
theorem dksX1_takes_2 : cX1_takes.data.toList.drop 46 = dktX1_takes_2 := dk_seg dksX1_takes_1 22 rfl rfl
theorem dksX1_takes_3 : cX1_takes.data.toList.drop 68 = dktX1_takes_3 := dk_seg dksX1_takes_2 22 rfl rfl
theorem dX1_takes_0 : decode cX1_takes 0 = .ok (.aload_n 0, 1) := dk_42 (dk_at dksX1_takes_0 0 rfl rfl)
theorem dX1_takes_1 : decode cX1_takes 1 = .ok (.getfield 10, 3) := dk_180 0 10 (dk_at dksX1_takes_0 1 rfl rfl)
theorem dX1_takes_4 : decode cX1_takes 4 = .ok (.iload_n 1, 1) := dk_27 (dk_at dksX1_takes_0 4 rfl rfl)
theorem dX1_takes_5 : decode cX1_takes 5 = .ok (.invokestatic 317, 3) := dk_184 1 61 (dk_at dksX1_takes_0 5 rfl rfl)
theorem dX1_takes_8 : decode cX1_takes 8 = .ok (.istore_n 2, 1) := dk_61 (dk_at dksX1_takes_0 8 rfl rfl)
theorem dX1_takes_9 : decode cX1_takes 9 = .ok (.iload_n 2, 1) := dk_28 (dk_at dksX1_takes_0 9 rfl rfl)
theorem dX1_takes_10 : decode cX1_takes 10 = .ok (.ifCond .ge 5, 3) := dk_156 0 5 (dk_at dksX1_takes_0 10 rfl rfl)
theorem dX1_takes_13 : decode cX1_takes 13 = .ok (.iload_n 2, 1) := dk_28 (dk_at dksX1_takes_0 13 rfl rfl)
theorem dX1_takes_14 : decode cX1_takes 14 = .ok (.ireturn, 1) := dk_172 (dk_at dksX1_takes_0 14 rfl rfl)
theorem dX1_takes_15 : decode cX1_takes 15 = .ok (.aload_n 0, 1) := dk_42 (dk_at dksX1_takes_0 15 rfl rfl)
theorem dX1_takes_16 : decode cX1_takes 16 = .ok (.aload_n 0, 1) := dk_42 (dk_at dksX1_takes_0 16 rfl rfl)
theorem dX1_takes_17 : decode cX1_takes 17 = .ok (.getfield 10, 3) := dk_180 0 10 (dk_at dksX1_takes_0 17 rfl rfl)
theorem dX1_takes_20 : decode cX1_takes 20 = .ok (.invokevirtual 275, 3) := dk_182 1 19 (dk_at dksX1_takes_0 20 rfl rfl)
theorem dX1_takes_23 : decode cX1_takes 23 = .ok (.aload_n 0, 1) := dk_42 (dk_at dksX1_takes_0 23 rfl rfl)
theorem dX1_takes_24 : decode cX1_takes 24 = .ok (.getfield 10, 3) := dk_180 0 10 (dk_at dksX1_takes_1 0 rfl rfl)
theorem dX1_takes_27 : decode cX1_takes 27 = .ok (.getfield 113, 3) := dk_180 0 113 (dk_at dksX1_takes_1 3 rfl rfl)
theorem dX1_takes_30 : decode cX1_takes 30 = .ok (.iload_n 1, 1) := dk_27 (dk_at dksX1_takes_1 6 rfl rfl)
theorem dX1_takes_31 : decode cX1_takes 31 = .ok (.aaload, 1) := dk_50 (dk_at dksX1_takes_1 7 rfl rfl)
theorem dX1_takes_32 : decode cX1_takes 32 = .ok (.invokevirtual 321, 3) := dk_182 1 65 (dk_at dksX1_takes_1 8 rfl rfl)
theorem dX1_takes_35 : decode cX1_takes 35 = .ok (.astore_n 3, 1) := dk_78 (dk_at dksX1_takes_1 11 rfl rfl)
theorem dX1_takes_36 : decode cX1_takes 36 = .ok (.aload_n 0, 1) := dk_42 (dk_at dksX1_takes_1 12 rfl rfl)
theorem dX1_takes_37 : decode cX1_takes 37 = .ok (.iconst 0, 1) := dk_3 (dk_at dksX1_takes_1 13 rfl rfl)
theorem dX1_takes_38 : decode cX1_takes 38 = .ok (.putfield 57, 3) := dk_181 0 57 (dk_at dksX1_takes_1 14 rfl rfl)
theorem dX1_takes_41 : decode cX1_takes 41 = .ok (.aload_n 0, 1) := dk_42 (dk_at dksX1_takes_1 17 rfl rfl)
theorem dX1_takes_42 : decode cX1_takes 42 = .ok (.aload_n 3, 1) := dk_45 (dk_at dksX1_takes_1 18 rfl rfl)
theorem dX1_takes_43 : decode cX1_takes 43 = .ok (.getfield 325, 3) := dk_180 1 69 (dk_at dksX1_takes_1 19 rfl rfl)
theorem dX1_takes_46 : decode cX1_takes 46 = .ok (.getfield 331, 3) := dk_180 1 75 (dk_at dksX1_takes_2 0 rfl rfl)
theorem dX1_takes_49 : decode cX1_takes 49 = .ok (.i2l, 1) := dk_133 (dk_at dksX1_takes_2 3 rfl rfl)
theorem dX1_takes_50 : decode cX1_takes 50 = .ok (.invokevirtual 310, 3) := dk_182 1 54 (dk_at dksX1_takes_2 4 rfl rfl)
theorem dX1_takes_53 : decode cX1_takes 53 = .ok (.aload_n 0, 1) := dk_42 (dk_at dksX1_takes_2 7 rfl rfl)
theorem dX1_takes_54 : decode cX1_takes 54 = .ok (.aload_n 3, 1) := dk_45 (dk_at dksX1_takes_2 8 rfl rfl)
theorem dX1_takes_55 : decode cX1_takes 55 = .ok (.getfield 336, 3) := dk_180 1 80 (dk_at dksX1_takes_2 9 rfl rfl)
theorem dX1_takes_58 : decode cX1_takes 58 = .ok (.i2l, 1) := dk_133 (dk_at dksX1_takes_2 12 rfl rfl)
theorem dX1_takes_59 : decode cX1_takes 59 = .ok (.invokevirtual 310, 3) := dk_182 1 54 (dk_at dksX1_takes_2 13 rfl rfl)
theorem dX1_takes_62 : decode cX1_takes 62 = .ok (.aload_n 0, 1) := dk_42 (dk_at dksX1_takes_2 16 rfl rfl)
theorem dX1_takes_63 : decode cX1_takes 63 = .ok (.aload_n 3, 1) := dk_45 (dk_at dksX1_takes_2 17 rfl rfl)
theorem dX1_takes_64 : decode cX1_takes 64 = .ok (.getfield 339, 3) := dk_180 1 83 (dk_at dksX1_takes_2 18 rfl rfl)
theorem dX1_takes_67 : decode cX1_takes 67 = .ok (.i2l, 1) := dk_133 (dk_at dksX1_takes_2 21 rfl rfl)
theorem dX1_takes_68 : decode cX1_takes 68 = .ok (.invokevirtual 310, 3) := dk_182 1 54 (dk_at dksX1_takes_3 0 rfl rfl)
theorem dX1_takes_71 : decode cX1_takes 71 = .ok (.bipush 10, 2) := dk_16 10 (dk_at dksX1_takes_3 3 rfl rfl)
theorem dX1_takes_73 : decode cX1_takes 73 = .ok (.aload_n 3, 1) := dk_45 (dk_at dksX1_takes_3 5 rfl rfl)
theorem dX1_takes_74 : decode cX1_takes 74 = .ok (.getfield 325, 3) := dk_180 1 69 (dk_at dksX1_takes_3 6 rfl rfl)
theorem dX1_takes_77 : decode cX1_takes 77 = .ok (.getfield 342, 3) := dk_180 1 86 (dk_at dksX1_takes_3 9 rfl rfl)
theorem dX1_takes_80 : decode cX1_takes 80 = .ok (.imul, 1) := dk_104 (dk_at dksX1_takes_3 12 rfl rfl)
theorem dX1_takes_81 : decode cX1_takes 81 = .ok (.aload_n 3, 1) := dk_45 (dk_at dksX1_takes_3 13 rfl rfl)
theorem dX1_takes_82 : decode cX1_takes 82 = .ok (.getfield 325, 3) := dk_180 1 69 (dk_at dksX1_takes_3 14 rfl rfl)
theorem dX1_takes_85 : decode cX1_takes 85 = .ok (.getfield 345, 3) := dk_180 1 89 (dk_at dksX1_takes_3 17 rfl rfl)
theorem dX1_takes_88 : decode cX1_takes 88 = .ok (.iadd, 1) := dk_96 (dk_at dksX1_takes_3 20 rfl rfl)
theorem dX1_takes_89 : decode cX1_takes 89 = .ok (.ireturn, 1) := dk_172 (dk_at dksX1_takes_3 21 rfl rfl)
abbrev cX1_refusesTaking : ByteArray := prog_1_method_21_code
def yX1_refusesTaking : MethodName := ⟨RX1, "refusesTaking", "(LQueueDrive$Drive;I)I"⟩
def dkwX1_refusesTaking_1 : List UInt8 := [180, 1, 58, 182, 1, 60, 153, 0, 8, 16, 254, 167, 0, 4, 3, 172]
abbrev dktX1_refusesTaking_1 : List UInt8 := dkwX1_refusesTaking_1 ++ []
def dkwX1_refusesTaking_0 : List UInt8 := [27, 133, 9, 42, 180, 0, 61, 4, 100, 133, 184, 0, 64, 154, 0, 5, 2, 172, 42, 180, 0, 113, 27, 50]
abbrev dktX1_refusesTaking_0 : List UInt8 := dkwX1_refusesTaking_0 ++ dktX1_refusesTaking_1
theorem dksX1_refusesTaking_0 : cX1_refusesTaking.data.toList.drop 0 = dktX1_refusesTaking_0 := by decide +kernel
theorem dksX1_refusesTaking_1 : cX1_refusesTaking.data.toList.drop 24 = dktX1_refusesTaking_1 := dk_seg dksX1_refusesTaking_0 24 rfl rfl
theorem dX1_refusesTaking_0 : decode cX1_refusesTaking 0 = .ok (.iload_n 1, 1) := dk_27 (dk_at dksX1_refusesTaking_0 0 rfl rfl)
theorem dX1_refusesTaking_1 : decode cX1_refusesTaking 1 = .ok (.i2l, 1) := dk_133 (dk_at dksX1_refusesTaking_0 1 rfl rfl)
theorem dX1_refusesTaking_2 : decode cX1_refusesTaking 2 = .ok (.lconst 0, 1) := dk_9 (dk_at dksX1_refusesTaking_0 2 rfl rfl)
theorem dX1_refusesTaking_3 : decode cX1_refusesTaking 3 = .ok (.aload_n 0, 1) := dk_42 (dk_at dksX1_refusesTaking_0 3 rfl rfl)
theorem dX1_refusesTaking_4 : decode cX1_refusesTaking 4 = .ok (.getfield 61, 3) := dk_180 0 61 (dk_at dksX1_refusesTaking_0 4 rfl rfl)
theorem dX1_refusesTaking_7 : decode cX1_refusesTaking 7 = .ok (.iconst 1, 1) := dk_4 (dk_at dksX1_refusesTaking_0 7 rfl rfl)
theorem dX1_refusesTaking_8 : decode cX1_refusesTaking 8 = .ok (.isub, 1) := dk_100 (dk_at dksX1_refusesTaking_0 8 rfl rfl)
theorem dX1_refusesTaking_9 : decode cX1_refusesTaking 9 = .ok (.i2l, 1) := dk_133 (dk_at dksX1_refusesTaking_0 9 rfl rfl)
theorem dX1_refusesTaking_10 : decode cX1_refusesTaking 10 = .ok (.invokestatic 64, 3) := dk_184 0 64 (dk_at dksX1_refusesTaking_0 10 rfl rfl)
theorem dX1_refusesTaking_13 : decode cX1_refusesTaking 13 = .ok (.ifCond .ne 5, 3) := dk_154 0 5 (dk_at dksX1_refusesTaking_0 13 rfl rfl)
theorem dX1_refusesTaking_16 : decode cX1_refusesTaking 16 = .ok (.iconst (-1), 1) := dk_2 (dk_at dksX1_refusesTaking_0 16 rfl rfl)
theorem dX1_refusesTaking_17 : decode cX1_refusesTaking 17 = .ok (.ireturn, 1) := dk_172 (dk_at dksX1_refusesTaking_0 17 rfl rfl)
theorem dX1_refusesTaking_18 : decode cX1_refusesTaking 18 = .ok (.aload_n 0, 1) := dk_42 (dk_at dksX1_refusesTaking_0 18 rfl rfl)
theorem dX1_refusesTaking_19 : decode cX1_refusesTaking 19 = .ok (.getfield 113, 3) := dk_180 0 113 (dk_at dksX1_refusesTaking_0 19 rfl rfl)
theorem dX1_refusesTaking_22 : decode cX1_refusesTaking 22 = .ok (.iload_n 1, 1) := dk_27 (dk_at dksX1_refusesTaking_0 22 rfl rfl)
theorem dX1_refusesTaking_23 : decode cX1_refusesTaking 23 = .ok (.aaload, 1) := dk_50 (dk_at dksX1_refusesTaking_0 23 rfl rfl)
theorem dX1_refusesTaking_24 : decode cX1_refusesTaking 24 = .ok (.getfield 314, 3) := dk_180 1 58 (dk_at dksX1_refusesTaking_1 0 rfl rfl)
theorem dX1_refusesTaking_27 : decode cX1_refusesTaking 27 = .ok (.invokevirtual 316, 3) := dk_182 1 60 (dk_at dksX1_refusesTaking_1 3 rfl rfl)
theorem dX1_refusesTaking_30 : decode cX1_refusesTaking 30 = .ok (.ifCond .eq 8, 3) := dk_153 0 8 (dk_at dksX1_refusesTaking_1 6 rfl rfl)
theorem dX1_refusesTaking_33 : decode cX1_refusesTaking 33 = .ok (.bipush (-2), 2) := dk_16 254 (dk_at dksX1_refusesTaking_1 9 rfl rfl)
theorem dX1_refusesTaking_35 : decode cX1_refusesTaking 35 = .ok (.goto 4, 3) := dk_167 0 4 (dk_at dksX1_refusesTaking_1 11 rfl rfl)
theorem dX1_refusesTaking_38 : decode cX1_refusesTaking 38 = .ok (.iconst 0, 1) := dk_3 (dk_at dksX1_refusesTaking_1 14 rfl rfl)
theorem dX1_refusesTaking_39 : decode cX1_refusesTaking 39 = .ok (.ireturn, 1) := dk_172 (dk_at dksX1_refusesTaking_1 15 rfl rfl)
abbrev cX1_calls : ByteArray := prog_1_method_26_code
def yX1_calls : MethodName := ⟨RX1, "calls", "(II)I"⟩
def dkwX1_calls_1 : List UInt8 := [182, 1, 19, 42, 180, 0, 10, 27, 28, 184, 1, 161, 29, 172]
abbrev dktX1_calls_1 : List UInt8 := dkwX1_calls_1 ++ []
def dkwX1_calls_0 : List UInt8 := [42, 42, 180, 0, 10, 27, 28, 182, 1, 157, 62, 29, 156, 0, 5, 29, 172, 42, 42, 180, 0, 10]
abbrev dktX1_calls_0 : List UInt8 := dkwX1_calls_0 ++ dktX1_calls_1
theorem dksX1_calls_0 : cX1_calls.data.toList.drop 0 = dktX1_calls_0 := by decide +kernel
theorem dksX1_calls_1 : cX1_calls.data.toList.drop 22 = dktX1_calls_1 := dk_seg dksX1_calls_0 22 rfl rfl
theorem dX1_calls_0 : decode cX1_calls 0 = .ok (.aload_n 0, 1) := dk_42 (dk_at dksX1_calls_0 0 rfl rfl)
theorem dX1_calls_1 : decode cX1_calls 1 = .ok (.aload_n 0, 1) := dk_42 (dk_at dksX1_calls_0 1 rfl rfl)
theorem dX1_calls_2 : decode cX1_calls 2 = .ok (.getfield 10, 3) := dk_180 0 10 (dk_at dksX1_calls_0 2 rfl rfl)
theorem dX1_calls_5 : decode cX1_calls 5 = .ok (.iload_n 1, 1) := dk_27 (dk_at dksX1_calls_0 5 rfl rfl)
theorem dX1_calls_6 : decode cX1_calls 6 = .ok (.iload_n 2, 1) := dk_28 (dk_at dksX1_calls_0 6 rfl rfl)
theorem dX1_calls_7 : decode cX1_calls 7 = .ok (.invokevirtual 413, 3) := dk_182 1 157 (dk_at dksX1_calls_0 7 rfl rfl)
theorem dX1_calls_10 : decode cX1_calls 10 = .ok (.istore_n 3, 1) := dk_62 (dk_at dksX1_calls_0 10 rfl rfl)
theorem dX1_calls_11 : decode cX1_calls 11 = .ok (.iload_n 3, 1) := dk_29 (dk_at dksX1_calls_0 11 rfl rfl)
theorem dX1_calls_12 : decode cX1_calls 12 = .ok (.ifCond .ge 5, 3) := dk_156 0 5 (dk_at dksX1_calls_0 12 rfl rfl)
theorem dX1_calls_15 : decode cX1_calls 15 = .ok (.iload_n 3, 1) := dk_29 (dk_at dksX1_calls_0 15 rfl rfl)
theorem dX1_calls_16 : decode cX1_calls 16 = .ok (.ireturn, 1) := dk_172 (dk_at dksX1_calls_0 16 rfl rfl)
theorem dX1_calls_17 : decode cX1_calls 17 = .ok (.aload_n 0, 1) := dk_42 (dk_at dksX1_calls_0 17 rfl rfl)
theorem dX1_calls_18 : decode cX1_calls 18 = .ok (.aload_n 0, 1) := dk_42 (dk_at dksX1_calls_0 18 rfl rfl)
theorem dX1_calls_19 : decode cX1_calls 19 = .ok (.getfield 10, 3) := dk_180 0 10 (dk_at dksX1_calls_0 19 rfl rfl)
theorem dX1_calls_22 : decode cX1_calls 22 = .ok (.invokevirtual 275, 3) := dk_182 1 19 (dk_at dksX1_calls_1 0 rfl rfl)
theorem dX1_calls_25 : decode cX1_calls 25 = .ok (.aload_n 0, 1) := dk_42 (dk_at dksX1_calls_1 3 rfl rfl)
theorem dX1_calls_26 : decode cX1_calls 26 = .ok (.getfield 10, 3) := dk_180 0 10 (dk_at dksX1_calls_1 4 rfl rfl)
theorem dX1_calls_29 : decode cX1_calls 29 = .ok (.iload_n 1, 1) := dk_27 (dk_at dksX1_calls_1 7 rfl rfl)
theorem dX1_calls_30 : decode cX1_calls 30 = .ok (.iload_n 2, 1) := dk_28 (dk_at dksX1_calls_1 8 rfl rfl)
theorem dX1_calls_31 : decode cX1_calls 31 = .ok (.invokestatic 417, 3) := dk_184 1 161 (dk_at dksX1_calls_1 9 rfl rfl)
theorem dX1_calls_34 : decode cX1_calls 34 = .ok (.iload_n 3, 1) := dk_29 (dk_at dksX1_calls_1 12 rfl rfl)
theorem dX1_calls_35 : decode cX1_calls 35 = .ok (.ireturn, 1) := dk_172 (dk_at dksX1_calls_1 13 rfl rfl)
abbrev cX1_recallOf : ByteArray := prog_1_method_24_code
def yX1_recallOf : MethodName := ⟨RX1, "recallOf", "(LQueueDrive$Drive;II)I"⟩
def dkwX1_recallOf_8 : List UInt8 := [160, 0, 8, 16, 252, 167, 0, 4, 4, 172, 16, 254, 172]
abbrev dktX1_recallOf_8 : List UInt8 := dkwX1_recallOf_8 ++ []
def dkwX1_recallOf_7 : List UInt8 := [182, 1, 123, 154, 0, 6, 167, 255, 214, 42, 25, 6, 180, 1, 127, 181, 1, 114, 25, 6, 180, 1, 127, 4]
abbrev dktX1_recallOf_7 : List UInt8 := dkwX1_recallOf_7 ++ dktX1_recallOf_8
def dkwX1_recallOf_6 : List UInt8 := [185, 1, 101, 1, 0, 192, 1, 121, 58, 6, 42, 89, 180, 1, 111, 4, 96, 181, 1, 111, 25, 6, 28, 29]
abbrev dktX1_recallOf_6 : List UInt8 := dkwX1_recallOf_6 ++ dktX1_recallOf_7
def dkwX1_recallOf_5 : List UInt8 := [172, 43, 180, 1, 44, 182, 1, 120, 58, 5, 25, 5, 185, 1, 96, 1, 0, 153, 0, 63, 25, 5]
abbrev dktX1_recallOf_5 : List UInt8 := dkwX1_recallOf_5 ++ dktX1_recallOf_6
def dkwX1_recallOf_4 : List UInt8 := [25, 6, 180, 1, 104, 29, 160, 0, 14, 25, 6, 180, 1, 117, 153, 0, 6, 16, 253, 172, 167, 255, 214, 3]
abbrev dktX1_recallOf_4 : List UInt8 := dkwX1_recallOf_4 ++ dktX1_recallOf_5
def dkwX1_recallOf_3 : List UInt8 := [58, 5, 25, 5, 185, 1, 96, 1, 0, 153, 0, 38, 25, 5, 185, 1, 101, 1, 0, 192, 0, 41, 58, 6]
abbrev dktX1_recallOf_3 : List UInt8 := dkwX1_recallOf_3 ++ dktX1_recallOf_4
def dkwX1_recallOf_2 : List UInt8 := [181, 1, 111, 42, 3, 181, 1, 114, 42, 180, 1, 111, 2, 159, 0, 60, 25, 4, 180, 1, 2, 182, 1, 92]
abbrev dktX1_recallOf_2 : List UInt8 := dkwX1_recallOf_2 ++ dktX1_recallOf_3
def dkwX1_recallOf_1 : List UInt8 := [184, 0, 64, 154, 0, 5, 2, 172, 43, 180, 0, 113, 28, 50, 58, 4, 42, 25, 4, 29, 184, 1, 107]
abbrev dktX1_recallOf_1 : List UInt8 := dkwX1_recallOf_1 ++ dktX1_recallOf_2
def dkwX1_recallOf_0 : List UInt8 := [28, 133, 9, 43, 180, 0, 61, 4, 100, 133, 184, 0, 64, 153, 0, 15, 29, 133, 9, 20, 1, 105]
abbrev dktX1_recallOf_0 : List UInt8 := dkwX1_recallOf_0 ++ dktX1_recallOf_1
theorem dksX1_recallOf_0 : cX1_recallOf.data.toList.drop 0 = dktX1_recallOf_0 := by decide +kernel
theorem dksX1_recallOf_1 : cX1_recallOf.data.toList.drop 22 = dktX1_recallOf_1 := dk_seg dksX1_recallOf_0 22 rfl rfl
theorem dksX1_recallOf_2 : cX1_recallOf.data.toList.drop 45 = dktX1_recallOf_2 := dk_seg dksX1_recallOf_1 23 rfl rfl
theorem dksX1_recallOf_3 : cX1_recallOf.data.toList.drop 69 = dktX1_recallOf_3 := dk_seg dksX1_recallOf_2 24 rfl rfl
theorem dksX1_recallOf_4 : cX1_recallOf.data.toList.drop 93 = dktX1_recallOf_4 := dk_seg dksX1_recallOf_3 24 rfl rfl
theorem dksX1_recallOf_5 : cX1_recallOf.data.toList.drop 117 = dktX1_recallOf_5 := dk_seg dksX1_recallOf_4 24 rfl rfl
theorem dksX1_recallOf_6 : cX1_recallOf.data.toList.drop 139 = dktX1_recallOf_6 := dk_seg dksX1_recallOf_5 22 rfl rfl
theorem dksX1_recallOf_7 : cX1_recallOf.data.toList.drop 163 = dktX1_recallOf_7 := dk_seg dksX1_recallOf_6 24 rfl rfl
theorem dksX1_recallOf_8 : cX1_recallOf.data.toList.drop 187 = dktX1_recallOf_8 := dk_seg dksX1_recallOf_7 24 rfl rfl
theorem dX1_recallOf_0 : decode cX1_recallOf 0 = .ok (.iload_n 2, 1) := dk_28 (dk_at dksX1_recallOf_0 0 rfl rfl)
theorem dX1_recallOf_1 : decode cX1_recallOf 1 = .ok (.i2l, 1) := dk_133 (dk_at dksX1_recallOf_0 1 rfl rfl)
theorem dX1_recallOf_2 : decode cX1_recallOf 2 = .ok (.lconst 0, 1) := dk_9 (dk_at dksX1_recallOf_0 2 rfl rfl)
theorem dX1_recallOf_3 : decode cX1_recallOf 3 = .ok (.aload_n 1, 1) := dk_43 (dk_at dksX1_recallOf_0 3 rfl rfl)
theorem dX1_recallOf_4 : decode cX1_recallOf 4 = .ok (.getfield 61, 3) := dk_180 0 61 (dk_at dksX1_recallOf_0 4 rfl rfl)
theorem dX1_recallOf_7 : decode cX1_recallOf 7 = .ok (.iconst 1, 1) := dk_4 (dk_at dksX1_recallOf_0 7 rfl rfl)
theorem dX1_recallOf_8 : decode cX1_recallOf 8 = .ok (.isub, 1) := dk_100 (dk_at dksX1_recallOf_0 8 rfl rfl)
theorem dX1_recallOf_9 : decode cX1_recallOf 9 = .ok (.i2l, 1) := dk_133 (dk_at dksX1_recallOf_0 9 rfl rfl)
theorem dX1_recallOf_10 : decode cX1_recallOf 10 = .ok (.invokestatic 64, 3) := dk_184 0 64 (dk_at dksX1_recallOf_0 10 rfl rfl)
theorem dX1_recallOf_13 : decode cX1_recallOf 13 = .ok (.ifCond .eq 15, 3) := dk_153 0 15 (dk_at dksX1_recallOf_0 13 rfl rfl)
theorem dX1_recallOf_16 : decode cX1_recallOf 16 = .ok (.iload_n 3, 1) := dk_29 (dk_at dksX1_recallOf_0 16 rfl rfl)
theorem dX1_recallOf_17 : decode cX1_recallOf 17 = .ok (.i2l, 1) := dk_133 (dk_at dksX1_recallOf_0 17 rfl rfl)
theorem dX1_recallOf_18 : decode cX1_recallOf 18 = .ok (.lconst 0, 1) := dk_9 (dk_at dksX1_recallOf_0 18 rfl rfl)
theorem dX1_recallOf_19 : decode cX1_recallOf 19 = .ok (.ldc2_w 361, 3) := dk_20 1 105 (dk_at dksX1_recallOf_0 19 rfl rfl)
theorem dX1_recallOf_22 : decode cX1_recallOf 22 = .ok (.invokestatic 64, 3) := dk_184 0 64 (dk_at dksX1_recallOf_1 0 rfl rfl)
theorem dX1_recallOf_25 : decode cX1_recallOf 25 = .ok (.ifCond .ne 5, 3) := dk_154 0 5 (dk_at dksX1_recallOf_1 3 rfl rfl)
theorem dX1_recallOf_28 : decode cX1_recallOf 28 = .ok (.iconst (-1), 1) := dk_2 (dk_at dksX1_recallOf_1 6 rfl rfl)
theorem dX1_recallOf_29 : decode cX1_recallOf 29 = .ok (.ireturn, 1) := dk_172 (dk_at dksX1_recallOf_1 7 rfl rfl)
theorem dX1_recallOf_30 : decode cX1_recallOf 30 = .ok (.aload_n 1, 1) := dk_43 (dk_at dksX1_recallOf_1 8 rfl rfl)
theorem dX1_recallOf_31 : decode cX1_recallOf 31 = .ok (.getfield 113, 3) := dk_180 0 113 (dk_at dksX1_recallOf_1 9 rfl rfl)
theorem dX1_recallOf_34 : decode cX1_recallOf 34 = .ok (.iload_n 2, 1) := dk_28 (dk_at dksX1_recallOf_1 12 rfl rfl)
theorem dX1_recallOf_35 : decode cX1_recallOf 35 = .ok (.aaload, 1) := dk_50 (dk_at dksX1_recallOf_1 13 rfl rfl)
theorem dX1_recallOf_36 : decode cX1_recallOf 36 = .ok (.astore 4, 2) := dk_58 4 (dk_at dksX1_recallOf_1 14 rfl rfl)
theorem dX1_recallOf_38 : decode cX1_recallOf 38 = .ok (.aload_n 0, 1) := dk_42 (dk_at dksX1_recallOf_1 16 rfl rfl)
theorem dX1_recallOf_39 : decode cX1_recallOf 39 = .ok (.aload 4, 2) := dk_25 4 (dk_at dksX1_recallOf_1 17 rfl rfl)
theorem dX1_recallOf_41 : decode cX1_recallOf 41 = .ok (.iload_n 3, 1) := dk_29 (dk_at dksX1_recallOf_1 19 rfl rfl)
theorem dX1_recallOf_42 : decode cX1_recallOf 42 = .ok (.invokestatic 363, 3) := dk_184 1 107 (dk_at dksX1_recallOf_1 20 rfl rfl)
theorem dX1_recallOf_45 : decode cX1_recallOf 45 = .ok (.putfield 367, 3) := dk_181 1 111 (dk_at dksX1_recallOf_2 0 rfl rfl)
theorem dX1_recallOf_48 : decode cX1_recallOf 48 = .ok (.aload_n 0, 1) := dk_42 (dk_at dksX1_recallOf_2 3 rfl rfl)
theorem dX1_recallOf_49 : decode cX1_recallOf 49 = .ok (.iconst 0, 1) := dk_3 (dk_at dksX1_recallOf_2 4 rfl rfl)
theorem dX1_recallOf_50 : decode cX1_recallOf 50 = .ok (.putfield 370, 3) := dk_181 1 114 (dk_at dksX1_recallOf_2 5 rfl rfl)
theorem dX1_recallOf_53 : decode cX1_recallOf 53 = .ok (.aload_n 0, 1) := dk_42 (dk_at dksX1_recallOf_2 8 rfl rfl)
theorem dX1_recallOf_54 : decode cX1_recallOf 54 = .ok (.getfield 367, 3) := dk_180 1 111 (dk_at dksX1_recallOf_2 9 rfl rfl)
theorem dX1_recallOf_57 : decode cX1_recallOf 57 = .ok (.iconst (-1), 1) := dk_2 (dk_at dksX1_recallOf_2 12 rfl rfl)
theorem dX1_recallOf_58 : decode cX1_recallOf 58 = .ok (.if_icmp .eq 60, 3) := dk_159 0 60 (dk_at dksX1_recallOf_2 13 rfl rfl)
theorem dX1_recallOf_61 : decode cX1_recallOf 61 = .ok (.aload 4, 2) := dk_25 4 (dk_at dksX1_recallOf_2 16 rfl rfl)
theorem dX1_recallOf_63 : decode cX1_recallOf 63 = .ok (.getfield 258, 3) := dk_180 1 2 (dk_at dksX1_recallOf_2 18 rfl rfl)
theorem dX1_recallOf_66 : decode cX1_recallOf 66 = .ok (.invokevirtual 348, 3) := dk_182 1 92 (dk_at dksX1_recallOf_2 21 rfl rfl)
theorem dX1_recallOf_69 : decode cX1_recallOf 69 = .ok (.astore 5, 2) := dk_58 5 (dk_at dksX1_recallOf_3 0 rfl rfl)
theorem dX1_recallOf_71 : decode cX1_recallOf 71 = .ok (.aload 5, 2) := dk_25 5 (dk_at dksX1_recallOf_3 2 rfl rfl)
theorem dX1_recallOf_73 : decode cX1_recallOf 73 = .ok (.invokeinterface 352 1, 5) := by decide +kernel
theorem dX1_recallOf_78 : decode cX1_recallOf 78 = .ok (.ifCond .eq 38, 3) := dk_153 0 38 (dk_at dksX1_recallOf_3 9 rfl rfl)
theorem dX1_recallOf_81 : decode cX1_recallOf 81 = .ok (.aload 5, 2) := dk_25 5 (dk_at dksX1_recallOf_3 12 rfl rfl)
theorem dX1_recallOf_83 : decode cX1_recallOf 83 = .ok (.invokeinterface 357 1, 5) := by decide +kernel
theorem dX1_recallOf_88 : decode cX1_recallOf 88 = .ok (.checkcast 41, 3) := dk_192 0 41 (dk_at dksX1_recallOf_3 19 rfl rfl)
theorem dX1_recallOf_91 : decode cX1_recallOf 91 = .ok (.astore 6, 2) := dk_58 6 (dk_at dksX1_recallOf_3 22 rfl rfl)
theorem dX1_recallOf_93 : decode cX1_recallOf 93 = .ok (.aload 6, 2) := dk_25 6 (dk_at dksX1_recallOf_4 0 rfl rfl)
theorem dX1_recallOf_95 : decode cX1_recallOf 95 = .ok (.getfield 360, 3) := dk_180 1 104 (dk_at dksX1_recallOf_4 2 rfl rfl)
theorem dX1_recallOf_98 : decode cX1_recallOf 98 = .ok (.iload_n 3, 1) := dk_29 (dk_at dksX1_recallOf_4 5 rfl rfl)
theorem dX1_recallOf_99 : decode cX1_recallOf 99 = .ok (.if_icmp .ne 14, 3) := dk_160 0 14 (dk_at dksX1_recallOf_4 6 rfl rfl)
theorem dX1_recallOf_102 : decode cX1_recallOf 102 = .ok (.aload 6, 2) := dk_25 6 (dk_at dksX1_recallOf_4 9 rfl rfl)
theorem dX1_recallOf_104 : decode cX1_recallOf 104 = .ok (.getfield 373, 3) := dk_180 1 117 (dk_at dksX1_recallOf_4 11 rfl rfl)
theorem dX1_recallOf_107 : decode cX1_recallOf 107 = .ok (.ifCond .eq 6, 3) := dk_153 0 6 (dk_at dksX1_recallOf_4 14 rfl rfl)
theorem dX1_recallOf_110 : decode cX1_recallOf 110 = .ok (.bipush (-3), 2) := dk_16 253 (dk_at dksX1_recallOf_4 17 rfl rfl)
theorem dX1_recallOf_112 : decode cX1_recallOf 112 = .ok (.ireturn, 1) := dk_172 (dk_at dksX1_recallOf_4 19 rfl rfl)
theorem dX1_recallOf_113 : decode cX1_recallOf 113 = .ok (.goto (-42), 3) := dk_167 255 214 (dk_at dksX1_recallOf_4 20 rfl rfl)
theorem dX1_recallOf_116 : decode cX1_recallOf 116 = .ok (.iconst 0, 1) := dk_3 (dk_at dksX1_recallOf_4 23 rfl rfl)
theorem dX1_recallOf_117 : decode cX1_recallOf 117 = .ok (.ireturn, 1) := dk_172 (dk_at dksX1_recallOf_5 0 rfl rfl)
theorem dX1_recallOf_118 : decode cX1_recallOf 118 = .ok (.aload_n 1, 1) := dk_43 (dk_at dksX1_recallOf_5 1 rfl rfl)
theorem dX1_recallOf_119 : decode cX1_recallOf 119 = .ok (.getfield 300, 3) := dk_180 1 44 (dk_at dksX1_recallOf_5 2 rfl rfl)
theorem dX1_recallOf_122 : decode cX1_recallOf 122 = .ok (.invokevirtual 376, 3) := dk_182 1 120 (dk_at dksX1_recallOf_5 5 rfl rfl)
theorem dX1_recallOf_125 : decode cX1_recallOf 125 = .ok (.astore 5, 2) := dk_58 5 (dk_at dksX1_recallOf_5 8 rfl rfl)
theorem dX1_recallOf_127 : decode cX1_recallOf 127 = .ok (.aload 5, 2) := dk_25 5 (dk_at dksX1_recallOf_5 10 rfl rfl)
theorem dX1_recallOf_129 : decode cX1_recallOf 129 = .ok (.invokeinterface 352 1, 5) := by decide +kernel
theorem dX1_recallOf_134 : decode cX1_recallOf 134 = .ok (.ifCond .eq 63, 3) := dk_153 0 63 (dk_at dksX1_recallOf_5 17 rfl rfl)
theorem dX1_recallOf_137 : decode cX1_recallOf 137 = .ok (.aload 5, 2) := dk_25 5 (dk_at dksX1_recallOf_5 20 rfl rfl)
theorem dX1_recallOf_139 : decode cX1_recallOf 139 = .ok (.invokeinterface 357 1, 5) := by decide +kernel
theorem dX1_recallOf_144 : decode cX1_recallOf 144 = .ok (.checkcast 377, 3) := dk_192 1 121 (dk_at dksX1_recallOf_6 5 rfl rfl)
theorem dX1_recallOf_147 : decode cX1_recallOf 147 = .ok (.astore 6, 2) := dk_58 6 (dk_at dksX1_recallOf_6 8 rfl rfl)
theorem dX1_recallOf_149 : decode cX1_recallOf 149 = .ok (.aload_n 0, 1) := dk_42 (dk_at dksX1_recallOf_6 10 rfl rfl)
theorem dX1_recallOf_150 : decode cX1_recallOf 150 = .ok (.dup, 1) := dk_89 (dk_at dksX1_recallOf_6 11 rfl rfl)
theorem dX1_recallOf_151 : decode cX1_recallOf 151 = .ok (.getfield 367, 3) := dk_180 1 111 (dk_at dksX1_recallOf_6 12 rfl rfl)
theorem dX1_recallOf_154 : decode cX1_recallOf 154 = .ok (.iconst 1, 1) := dk_4 (dk_at dksX1_recallOf_6 15 rfl rfl)
theorem dX1_recallOf_155 : decode cX1_recallOf 155 = .ok (.iadd, 1) := dk_96 (dk_at dksX1_recallOf_6 16 rfl rfl)
theorem dX1_recallOf_156 : decode cX1_recallOf 156 = .ok (.putfield 367, 3) := dk_181 1 111 (dk_at dksX1_recallOf_6 17 rfl rfl)
theorem dX1_recallOf_159 : decode cX1_recallOf 159 = .ok (.aload 6, 2) := dk_25 6 (dk_at dksX1_recallOf_6 20 rfl rfl)
theorem dX1_recallOf_161 : decode cX1_recallOf 161 = .ok (.iload_n 2, 1) := dk_28 (dk_at dksX1_recallOf_6 22 rfl rfl)
theorem dX1_recallOf_162 : decode cX1_recallOf 162 = .ok (.iload_n 3, 1) := dk_29 (dk_at dksX1_recallOf_6 23 rfl rfl)
theorem dX1_recallOf_163 : decode cX1_recallOf 163 = .ok (.invokevirtual 379, 3) := dk_182 1 123 (dk_at dksX1_recallOf_7 0 rfl rfl)
theorem dX1_recallOf_166 : decode cX1_recallOf 166 = .ok (.ifCond .ne 6, 3) := dk_154 0 6 (dk_at dksX1_recallOf_7 3 rfl rfl)
theorem dX1_recallOf_169 : decode cX1_recallOf 169 = .ok (.goto (-42), 3) := dk_167 255 214 (dk_at dksX1_recallOf_7 6 rfl rfl)
theorem dX1_recallOf_172 : decode cX1_recallOf 172 = .ok (.aload_n 0, 1) := dk_42 (dk_at dksX1_recallOf_7 9 rfl rfl)
theorem dX1_recallOf_173 : decode cX1_recallOf 173 = .ok (.aload 6, 2) := dk_25 6 (dk_at dksX1_recallOf_7 10 rfl rfl)
theorem dX1_recallOf_175 : decode cX1_recallOf 175 = .ok (.getfield 383, 3) := dk_180 1 127 (dk_at dksX1_recallOf_7 12 rfl rfl)
theorem dX1_recallOf_178 : decode cX1_recallOf 178 = .ok (.putfield 370, 3) := dk_181 1 114 (dk_at dksX1_recallOf_7 15 rfl rfl)
theorem dX1_recallOf_181 : decode cX1_recallOf 181 = .ok (.aload 6, 2) := dk_25 6 (dk_at dksX1_recallOf_7 18 rfl rfl)
theorem dX1_recallOf_183 : decode cX1_recallOf 183 = .ok (.getfield 383, 3) := dk_180 1 127 (dk_at dksX1_recallOf_7 20 rfl rfl)
theorem dX1_recallOf_186 : decode cX1_recallOf 186 = .ok (.iconst 1, 1) := dk_4 (dk_at dksX1_recallOf_7 23 rfl rfl)
theorem dX1_recallOf_187 : decode cX1_recallOf 187 = .ok (.if_icmp .ne 8, 3) := dk_160 0 8 (dk_at dksX1_recallOf_8 0 rfl rfl)
theorem dX1_recallOf_190 : decode cX1_recallOf 190 = .ok (.bipush (-4), 2) := dk_16 252 (dk_at dksX1_recallOf_8 3 rfl rfl)
theorem dX1_recallOf_192 : decode cX1_recallOf 192 = .ok (.goto 4, 3) := dk_167 0 4 (dk_at dksX1_recallOf_8 5 rfl rfl)
theorem dX1_recallOf_195 : decode cX1_recallOf 195 = .ok (.iconst 1, 1) := dk_4 (dk_at dksX1_recallOf_8 8 rfl rfl)
theorem dX1_recallOf_196 : decode cX1_recallOf 196 = .ok (.ireturn, 1) := dk_172 (dk_at dksX1_recallOf_8 9 rfl rfl)
theorem dX1_recallOf_197 : decode cX1_recallOf 197 = .ok (.bipush (-2), 2) := dk_16 254 (dk_at dksX1_recallOf_8 10 rfl rfl)
theorem dX1_recallOf_199 : decode cX1_recallOf 199 = .ok (.ireturn, 1) := dk_172 (dk_at dksX1_recallOf_8 12 rfl rfl)
abbrev cX1_placeOf : ByteArray := prog_1_method_23_code
def yX1_placeOf : MethodName := ⟨RX1, "placeOf", "(LQueueDrive$Line;I)I"⟩
def dkwX1_placeOf_2 : List UInt8 := [167, 255, 222, 2, 172]
abbrev dktX1_placeOf_2 : List UInt8 := dkwX1_placeOf_2 ++ []
def dkwX1_placeOf_1 : List UInt8 := [185, 1, 101, 1, 0, 192, 0, 41, 58, 4, 25, 4, 180, 1, 104, 27, 160, 0, 5, 28, 172, 132, 2, 1]
abbrev dktX1_placeOf_1 : List UInt8 := dkwX1_placeOf_1 ++ dktX1_placeOf_2
def dkwX1_placeOf_0 : List UInt8 := [3, 61, 42, 180, 1, 2, 182, 1, 92, 78, 45, 185, 1, 96, 1, 0, 153, 0, 31, 45]
abbrev dktX1_placeOf_0 : List UInt8 := dkwX1_placeOf_0 ++ dktX1_placeOf_1
theorem dksX1_placeOf_0 : cX1_placeOf.data.toList.drop 0 = dktX1_placeOf_0 := by decide +kernel
theorem dksX1_placeOf_1 : cX1_placeOf.data.toList.drop 20 = dktX1_placeOf_1 := dk_seg dksX1_placeOf_0 20 rfl rfl
theorem dksX1_placeOf_2 : cX1_placeOf.data.toList.drop 44 = dktX1_placeOf_2 := dk_seg dksX1_placeOf_1 24 rfl rfl
theorem dX1_placeOf_0 : decode cX1_placeOf 0 = .ok (.iconst 0, 1) := dk_3 (dk_at dksX1_placeOf_0 0 rfl rfl)
theorem dX1_placeOf_1 : decode cX1_placeOf 1 = .ok (.istore_n 2, 1) := dk_61 (dk_at dksX1_placeOf_0 1 rfl rfl)
theorem dX1_placeOf_2 : decode cX1_placeOf 2 = .ok (.aload_n 0, 1) := dk_42 (dk_at dksX1_placeOf_0 2 rfl rfl)
theorem dX1_placeOf_3 : decode cX1_placeOf 3 = .ok (.getfield 258, 3) := dk_180 1 2 (dk_at dksX1_placeOf_0 3 rfl rfl)
theorem dX1_placeOf_6 : decode cX1_placeOf 6 = .ok (.invokevirtual 348, 3) := dk_182 1 92 (dk_at dksX1_placeOf_0 6 rfl rfl)
theorem dX1_placeOf_9 : decode cX1_placeOf 9 = .ok (.astore_n 3, 1) := dk_78 (dk_at dksX1_placeOf_0 9 rfl rfl)
theorem dX1_placeOf_10 : decode cX1_placeOf 10 = .ok (.aload_n 3, 1) := dk_45 (dk_at dksX1_placeOf_0 10 rfl rfl)
theorem dX1_placeOf_11 : decode cX1_placeOf 11 = .ok (.invokeinterface 352 1, 5) := by decide +kernel
theorem dX1_placeOf_16 : decode cX1_placeOf 16 = .ok (.ifCond .eq 31, 3) := dk_153 0 31 (dk_at dksX1_placeOf_0 16 rfl rfl)
theorem dX1_placeOf_19 : decode cX1_placeOf 19 = .ok (.aload_n 3, 1) := dk_45 (dk_at dksX1_placeOf_0 19 rfl rfl)
theorem dX1_placeOf_20 : decode cX1_placeOf 20 = .ok (.invokeinterface 357 1, 5) := by decide +kernel
theorem dX1_placeOf_25 : decode cX1_placeOf 25 = .ok (.checkcast 41, 3) := dk_192 0 41 (dk_at dksX1_placeOf_1 5 rfl rfl)
theorem dX1_placeOf_28 : decode cX1_placeOf 28 = .ok (.astore 4, 2) := dk_58 4 (dk_at dksX1_placeOf_1 8 rfl rfl)
theorem dX1_placeOf_30 : decode cX1_placeOf 30 = .ok (.aload 4, 2) := dk_25 4 (dk_at dksX1_placeOf_1 10 rfl rfl)
theorem dX1_placeOf_32 : decode cX1_placeOf 32 = .ok (.getfield 360, 3) := dk_180 1 104 (dk_at dksX1_placeOf_1 12 rfl rfl)
theorem dX1_placeOf_35 : decode cX1_placeOf 35 = .ok (.iload_n 1, 1) := dk_27 (dk_at dksX1_placeOf_1 15 rfl rfl)
theorem dX1_placeOf_36 : decode cX1_placeOf 36 = .ok (.if_icmp .ne 5, 3) := dk_160 0 5 (dk_at dksX1_placeOf_1 16 rfl rfl)
theorem dX1_placeOf_39 : decode cX1_placeOf 39 = .ok (.iload_n 2, 1) := dk_28 (dk_at dksX1_placeOf_1 19 rfl rfl)
theorem dX1_placeOf_40 : decode cX1_placeOf 40 = .ok (.ireturn, 1) := dk_172 (dk_at dksX1_placeOf_1 20 rfl rfl)
theorem dX1_placeOf_41 : decode cX1_placeOf 41 = .ok (.iinc 2 1, 3) := dk_132 2 1 (dk_at dksX1_placeOf_1 21 rfl rfl)
theorem dX1_placeOf_44 : decode cX1_placeOf 44 = .ok (.goto (-34), 3) := dk_167 255 222 (dk_at dksX1_placeOf_2 0 rfl rfl)
theorem dX1_placeOf_47 : decode cX1_placeOf 47 = .ok (.iconst (-1), 1) := dk_2 (dk_at dksX1_placeOf_2 3 rfl rfl)
theorem dX1_placeOf_48 : decode cX1_placeOf 48 = .ok (.ireturn, 1) := dk_172 (dk_at dksX1_placeOf_2 4 rfl rfl)
abbrev cX1_goCall : ByteArray := prog_1_method_25_code
def yX1_goCall : MethodName := ⟨RX1, "goCall", "(LQueueDrive$Drive;II)V"⟩
def dkwX1_goCall_7 : List UInt8 := [167, 255, 164, 177]
abbrev dktX1_goCall_7 : List UInt8 := dkwX1_goCall_7 ++ []
def dkwX1_goCall_6 : List UInt8 := [198, 0, 24, 42, 180, 1, 143, 187, 1, 76, 89, 25, 6, 180, 1, 154, 4, 3, 183, 1, 150, 182, 1, 153]
abbrev dktX1_goCall_6 : List UInt8 := dkwX1_goCall_6 ++ dktX1_goCall_7
def dkwX1_goCall_5 : List UInt8 := [187, 1, 76, 89, 25, 6, 180, 1, 146, 4, 3, 183, 1, 150, 182, 1, 153, 25, 6, 180, 1, 154]
abbrev dktX1_goCall_5 : List UInt8 := dkwX1_goCall_5 ++ dktX1_goCall_6
def dkwX1_goCall_4 : List UInt8 := [25, 6, 27, 28, 182, 1, 123, 154, 0, 6, 167, 255, 224, 25, 5, 185, 1, 140, 1, 0, 42, 180, 1, 143]
abbrev dktX1_goCall_4 : List UInt8 := dkwX1_goCall_4 ++ dktX1_goCall_5
def dkwX1_goCall_3 : List UInt8 := [58, 5, 25, 5, 185, 1, 96, 1, 0, 153, 0, 88, 25, 5, 185, 1, 101, 1, 0, 192, 1, 121, 58, 6]
abbrev dktX1_goCall_3 : List UInt8 := dkwX1_goCall_3 ++ dktX1_goCall_4
def dkwX1_goCall_2 : List UInt8 := [182, 1, 136, 167, 0, 5, 25, 6, 182, 1, 9, 132, 5, 1, 167, 255, 214, 42, 180, 1, 44, 182, 1, 120]
abbrev dktX1_goCall_2 : List UInt8 := dkwX1_goCall_2 ++ dktX1_goCall_3
def dkwX1_goCall_1 : List UInt8 := [162, 0, 41, 45, 182, 1, 133, 192, 0, 41, 58, 6, 45, 25, 6, 180, 1, 104, 28, 160, 0, 11, 25, 6]
abbrev dktX1_goCall_1 : List UInt8 := dkwX1_goCall_1 ++ dktX1_goCall_2
def dkwX1_goCall_0 : List UInt8 := [42, 180, 0, 113, 27, 50, 180, 1, 2, 78, 45, 182, 1, 130, 54, 4, 3, 54, 5, 21, 5, 21, 4]
abbrev dktX1_goCall_0 : List UInt8 := dkwX1_goCall_0 ++ dktX1_goCall_1
theorem dksX1_goCall_0 : cX1_goCall.data.toList.drop 0 = dktX1_goCall_0 := by decide +kernel
theorem dksX1_goCall_1 : cX1_goCall.data.toList.drop 23 = dktX1_goCall_1 := dk_seg dksX1_goCall_0 23 rfl rfl
theorem dksX1_goCall_2 : cX1_goCall.data.toList.drop 47 = dktX1_goCall_2 := dk_seg dksX1_goCall_1 24 rfl rfl
theorem dksX1_goCall_3 : cX1_goCall.data.toList.drop 71 = dktX1_goCall_3 := dk_seg dksX1_goCall_2 24 rfl rfl
theorem dksX1_goCall_4 : cX1_goCall.data.toList.drop 95 = dktX1_goCall_4 := dk_seg dksX1_goCall_3 24 rfl rfl
theorem dksX1_goCall_5 : cX1_goCall.data.toList.drop 119 = dktX1_goCall_5 := dk_seg dksX1_goCall_4 24 rfl rfl
theorem dksX1_goCall_6 : cX1_goCall.data.toList.drop 141 = dktX1_goCall_6 := dk_seg dksX1_goCall_5 22 rfl rfl
theorem dksX1_goCall_7 : cX1_goCall.data.toList.drop 165 = dktX1_goCall_7 := dk_seg dksX1_goCall_6 24 rfl rfl
theorem dX1_goCall_0 : decode cX1_goCall 0 = .ok (.aload_n 0, 1) := dk_42 (dk_at dksX1_goCall_0 0 rfl rfl)
theorem dX1_goCall_1 : decode cX1_goCall 1 = .ok (.getfield 113, 3) := dk_180 0 113 (dk_at dksX1_goCall_0 1 rfl rfl)
theorem dX1_goCall_4 : decode cX1_goCall 4 = .ok (.iload_n 1, 1) := dk_27 (dk_at dksX1_goCall_0 4 rfl rfl)
theorem dX1_goCall_5 : decode cX1_goCall 5 = .ok (.aaload, 1) := dk_50 (dk_at dksX1_goCall_0 5 rfl rfl)
theorem dX1_goCall_6 : decode cX1_goCall 6 = .ok (.getfield 258, 3) := dk_180 1 2 (dk_at dksX1_goCall_0 6 rfl rfl)
theorem dX1_goCall_9 : decode cX1_goCall 9 = .ok (.astore_n 3, 1) := dk_78 (dk_at dksX1_goCall_0 9 rfl rfl)
theorem dX1_goCall_10 : decode cX1_goCall 10 = .ok (.aload_n 3, 1) := dk_45 (dk_at dksX1_goCall_0 10 rfl rfl)
theorem dX1_goCall_11 : decode cX1_goCall 11 = .ok (.invokevirtual 386, 3) := dk_182 1 130 (dk_at dksX1_goCall_0 11 rfl rfl)
theorem dX1_goCall_14 : decode cX1_goCall 14 = .ok (.istore 4, 2) := dk_54 4 (dk_at dksX1_goCall_0 14 rfl rfl)
theorem dX1_goCall_16 : decode cX1_goCall 16 = .ok (.iconst 0, 1) := dk_3 (dk_at dksX1_goCall_0 16 rfl rfl)
theorem dX1_goCall_17 : decode cX1_goCall 17 = .ok (.istore 5, 2) := dk_54 5 (dk_at dksX1_goCall_0 17 rfl rfl)
theorem dX1_goCall_19 : decode cX1_goCall 19 = .ok (.iload 5, 2) := dk_21 5 (dk_at dksX1_goCall_0 19 rfl rfl)
theorem dX1_goCall_21 : decode cX1_goCall 21 = .ok (.iload 4, 2) := dk_21 4 (dk_at dksX1_goCall_0 21 rfl rfl)
theorem dX1_goCall_23 : decode cX1_goCall 23 = .ok (.if_icmp .ge 41, 3) := dk_162 0 41 (dk_at dksX1_goCall_1 0 rfl rfl)
theorem dX1_goCall_26 : decode cX1_goCall 26 = .ok (.aload_n 3, 1) := dk_45 (dk_at dksX1_goCall_1 3 rfl rfl)
theorem dX1_goCall_27 : decode cX1_goCall 27 = .ok (.invokevirtual 389, 3) := dk_182 1 133 (dk_at dksX1_goCall_1 4 rfl rfl)
theorem dX1_goCall_30 : decode cX1_goCall 30 = .ok (.checkcast 41, 3) := dk_192 0 41 (dk_at dksX1_goCall_1 7 rfl rfl)
theorem dX1_goCall_33 : decode cX1_goCall 33 = .ok (.astore 6, 2) := dk_58 6 (dk_at dksX1_goCall_1 10 rfl rfl)
theorem dX1_goCall_35 : decode cX1_goCall 35 = .ok (.aload_n 3, 1) := dk_45 (dk_at dksX1_goCall_1 12 rfl rfl)
theorem dX1_goCall_36 : decode cX1_goCall 36 = .ok (.aload 6, 2) := dk_25 6 (dk_at dksX1_goCall_1 13 rfl rfl)
theorem dX1_goCall_38 : decode cX1_goCall 38 = .ok (.getfield 360, 3) := dk_180 1 104 (dk_at dksX1_goCall_1 15 rfl rfl)
theorem dX1_goCall_41 : decode cX1_goCall 41 = .ok (.iload_n 2, 1) := dk_28 (dk_at dksX1_goCall_1 18 rfl rfl)
theorem dX1_goCall_42 : decode cX1_goCall 42 = .ok (.if_icmp .ne 11, 3) := dk_160 0 11 (dk_at dksX1_goCall_1 19 rfl rfl)
theorem dX1_goCall_45 : decode cX1_goCall 45 = .ok (.aload 6, 2) := dk_25 6 (dk_at dksX1_goCall_1 22 rfl rfl)
theorem dX1_goCall_47 : decode cX1_goCall 47 = .ok (.invokevirtual 392, 3) := dk_182 1 136 (dk_at dksX1_goCall_2 0 rfl rfl)
theorem dX1_goCall_50 : decode cX1_goCall 50 = .ok (.goto 5, 3) := dk_167 0 5 (dk_at dksX1_goCall_2 3 rfl rfl)
theorem dX1_goCall_53 : decode cX1_goCall 53 = .ok (.aload 6, 2) := dk_25 6 (dk_at dksX1_goCall_2 6 rfl rfl)
theorem dX1_goCall_55 : decode cX1_goCall 55 = .ok (.invokevirtual 265, 3) := dk_182 1 9 (dk_at dksX1_goCall_2 8 rfl rfl)
theorem dX1_goCall_58 : decode cX1_goCall 58 = .ok (.iinc 5 1, 3) := dk_132 5 1 (dk_at dksX1_goCall_2 11 rfl rfl)
theorem dX1_goCall_61 : decode cX1_goCall 61 = .ok (.goto (-42), 3) := dk_167 255 214 (dk_at dksX1_goCall_2 14 rfl rfl)
theorem dX1_goCall_64 : decode cX1_goCall 64 = .ok (.aload_n 0, 1) := dk_42 (dk_at dksX1_goCall_2 17 rfl rfl)
theorem dX1_goCall_65 : decode cX1_goCall 65 = .ok (.getfield 300, 3) := dk_180 1 44 (dk_at dksX1_goCall_2 18 rfl rfl)
theorem dX1_goCall_68 : decode cX1_goCall 68 = .ok (.invokevirtual 376, 3) := dk_182 1 120 (dk_at dksX1_goCall_2 21 rfl rfl)
theorem dX1_goCall_71 : decode cX1_goCall 71 = .ok (.astore 5, 2) := dk_58 5 (dk_at dksX1_goCall_3 0 rfl rfl)
theorem dX1_goCall_73 : decode cX1_goCall 73 = .ok (.aload 5, 2) := dk_25 5 (dk_at dksX1_goCall_3 2 rfl rfl)
theorem dX1_goCall_75 : decode cX1_goCall 75 = .ok (.invokeinterface 352 1, 5) := by decide +kernel
theorem dX1_goCall_80 : decode cX1_goCall 80 = .ok (.ifCond .eq 88, 3) := dk_153 0 88 (dk_at dksX1_goCall_3 9 rfl rfl)
theorem dX1_goCall_83 : decode cX1_goCall 83 = .ok (.aload 5, 2) := dk_25 5 (dk_at dksX1_goCall_3 12 rfl rfl)
theorem dX1_goCall_85 : decode cX1_goCall 85 = .ok (.invokeinterface 357 1, 5) := by decide +kernel
theorem dX1_goCall_90 : decode cX1_goCall 90 = .ok (.checkcast 377, 3) := dk_192 1 121 (dk_at dksX1_goCall_3 19 rfl rfl)
theorem dX1_goCall_93 : decode cX1_goCall 93 = .ok (.astore 6, 2) := dk_58 6 (dk_at dksX1_goCall_3 22 rfl rfl)
theorem dX1_goCall_95 : decode cX1_goCall 95 = .ok (.aload 6, 2) := dk_25 6 (dk_at dksX1_goCall_4 0 rfl rfl)
theorem dX1_goCall_97 : decode cX1_goCall 97 = .ok (.iload_n 1, 1) := dk_27 (dk_at dksX1_goCall_4 2 rfl rfl)
theorem dX1_goCall_98 : decode cX1_goCall 98 = .ok (.iload_n 2, 1) := dk_28 (dk_at dksX1_goCall_4 3 rfl rfl)
theorem dX1_goCall_99 : decode cX1_goCall 99 = .ok (.invokevirtual 379, 3) := dk_182 1 123 (dk_at dksX1_goCall_4 4 rfl rfl)
theorem dX1_goCall_102 : decode cX1_goCall 102 = .ok (.ifCond .ne 6, 3) := dk_154 0 6 (dk_at dksX1_goCall_4 7 rfl rfl)
theorem dX1_goCall_105 : decode cX1_goCall 105 = .ok (.goto (-32), 3) := dk_167 255 224 (dk_at dksX1_goCall_4 10 rfl rfl)
theorem dX1_goCall_108 : decode cX1_goCall 108 = .ok (.aload 5, 2) := dk_25 5 (dk_at dksX1_goCall_4 13 rfl rfl)
theorem dX1_goCall_110 : decode cX1_goCall 110 = .ok (.invokeinterface 396 1, 5) := by decide +kernel
theorem dX1_goCall_115 : decode cX1_goCall 115 = .ok (.aload_n 0, 1) := dk_42 (dk_at dksX1_goCall_4 20 rfl rfl)
theorem dX1_goCall_116 : decode cX1_goCall 116 = .ok (.getfield 399, 3) := dk_180 1 143 (dk_at dksX1_goCall_4 21 rfl rfl)
theorem dX1_goCall_119 : decode cX1_goCall 119 = .ok (.new 332, 3) := dk_187 1 76 (dk_at dksX1_goCall_5 0 rfl rfl)
theorem dX1_goCall_122 : decode cX1_goCall 122 = .ok (.dup, 1) := dk_89 (dk_at dksX1_goCall_5 3 rfl rfl)
theorem dX1_goCall_123 : decode cX1_goCall 123 = .ok (.aload 6, 2) := dk_25 6 (dk_at dksX1_goCall_5 4 rfl rfl)
theorem dX1_goCall_125 : decode cX1_goCall 125 = .ok (.getfield 402, 3) := dk_180 1 146 (dk_at dksX1_goCall_5 6 rfl rfl)
theorem dX1_goCall_128 : decode cX1_goCall 128 = .ok (.iconst 1, 1) := dk_4 (dk_at dksX1_goCall_5 9 rfl rfl)
theorem dX1_goCall_129 : decode cX1_goCall 129 = .ok (.iconst 0, 1) := dk_3 (dk_at dksX1_goCall_5 10 rfl rfl)
theorem dX1_goCall_130 : decode cX1_goCall 130 = .ok (.invokespecial 406, 3) := dk_183 1 150 (dk_at dksX1_goCall_5 11 rfl rfl)
theorem dX1_goCall_133 : decode cX1_goCall 133 = .ok (.invokevirtual 409, 3) := dk_182 1 153 (dk_at dksX1_goCall_5 14 rfl rfl)
theorem dX1_goCall_136 : decode cX1_goCall 136 = .ok (.aload 6, 2) := dk_25 6 (dk_at dksX1_goCall_5 17 rfl rfl)
theorem dX1_goCall_138 : decode cX1_goCall 138 = .ok (.getfield 410, 3) := dk_180 1 154 (dk_at dksX1_goCall_5 19 rfl rfl)
theorem dX1_goCall_141 : decode cX1_goCall 141 = .ok (.ifnull 24, 3) := dk_198 0 24 (dk_at dksX1_goCall_6 0 rfl rfl)
theorem dX1_goCall_144 : decode cX1_goCall 144 = .ok (.aload_n 0, 1) := dk_42 (dk_at dksX1_goCall_6 3 rfl rfl)
theorem dX1_goCall_145 : decode cX1_goCall 145 = .ok (.getfield 399, 3) := dk_180 1 143 (dk_at dksX1_goCall_6 4 rfl rfl)
theorem dX1_goCall_148 : decode cX1_goCall 148 = .ok (.new 332, 3) := dk_187 1 76 (dk_at dksX1_goCall_6 7 rfl rfl)
theorem dX1_goCall_151 : decode cX1_goCall 151 = .ok (.dup, 1) := dk_89 (dk_at dksX1_goCall_6 10 rfl rfl)
theorem dX1_goCall_152 : decode cX1_goCall 152 = .ok (.aload 6, 2) := dk_25 6 (dk_at dksX1_goCall_6 11 rfl rfl)
theorem dX1_goCall_154 : decode cX1_goCall 154 = .ok (.getfield 410, 3) := dk_180 1 154 (dk_at dksX1_goCall_6 13 rfl rfl)
theorem dX1_goCall_157 : decode cX1_goCall 157 = .ok (.iconst 1, 1) := dk_4 (dk_at dksX1_goCall_6 16 rfl rfl)
theorem dX1_goCall_158 : decode cX1_goCall 158 = .ok (.iconst 0, 1) := dk_3 (dk_at dksX1_goCall_6 17 rfl rfl)
theorem dX1_goCall_159 : decode cX1_goCall 159 = .ok (.invokespecial 406, 3) := dk_183 1 150 (dk_at dksX1_goCall_6 18 rfl rfl)
theorem dX1_goCall_162 : decode cX1_goCall 162 = .ok (.invokevirtual 409, 3) := dk_182 1 153 (dk_at dksX1_goCall_6 21 rfl rfl)
theorem dX1_goCall_165 : decode cX1_goCall 165 = .ok (.goto (-92), 3) := dk_167 255 164 (dk_at dksX1_goCall_7 0 rfl rfl)
theorem dX1_goCall_168 : decode cX1_goCall 168 = .ok (.return_, 1) := dk_177 (dk_at dksX1_goCall_7 3 rfl rfl)
abbrev cX1_resets : ByteArray := prog_1_method_27_code
def yX1_resets : MethodName := ⟨RX1, "resets", "()I"⟩
def dkwX1_resets_3 : List UInt8 := [182, 1, 54, 27, 28, 96, 29, 96, 172]
abbrev dktX1_resets_3 : List UInt8 := dkwX1_resets_3 ++ []
def dkwX1_resets_2 : List UInt8 := [182, 1, 175, 42, 3, 181, 0, 57, 42, 27, 133, 182, 1, 54, 42, 28, 133, 182, 1, 54, 42, 29, 133]
abbrev dktX1_resets_2 : List UInt8 := dkwX1_resets_2 ++ dktX1_resets_3
def dkwX1_resets_1 : List UInt8 := [42, 180, 0, 10, 180, 1, 143, 182, 1, 171, 42, 180, 0, 10, 182, 1, 172, 96, 62, 42, 180, 0, 10]
abbrev dktX1_resets_1 : List UInt8 := dkwX1_resets_1 ++ dktX1_resets_2
def dkwX1_resets_0 : List UInt8 := [42, 42, 180, 0, 10, 182, 1, 19, 42, 180, 0, 10, 182, 1, 165, 60, 42, 180, 0, 10, 182, 1, 168, 61]
abbrev dktX1_resets_0 : List UInt8 := dkwX1_resets_0 ++ dktX1_resets_1
theorem dksX1_resets_0 : cX1_resets.data.toList.drop 0 = dktX1_resets_0 := by decide +kernel
theorem dksX1_resets_1 : cX1_resets.data.toList.drop 24 = dktX1_resets_1 := dk_seg dksX1_resets_0 24 rfl rfl
theorem dksX1_resets_2 : cX1_resets.data.toList.drop 47 = dktX1_resets_2 := dk_seg dksX1_resets_1 23 rfl rfl
theorem dksX1_resets_3 : cX1_resets.data.toList.drop 70 = dktX1_resets_3 := dk_seg dksX1_resets_2 23 rfl rfl
theorem dX1_resets_0 : decode cX1_resets 0 = .ok (.aload_n 0, 1) := dk_42 (dk_at dksX1_resets_0 0 rfl rfl)
theorem dX1_resets_1 : decode cX1_resets 1 = .ok (.aload_n 0, 1) := dk_42 (dk_at dksX1_resets_0 1 rfl rfl)
theorem dX1_resets_2 : decode cX1_resets 2 = .ok (.getfield 10, 3) := dk_180 0 10 (dk_at dksX1_resets_0 2 rfl rfl)
theorem dX1_resets_5 : decode cX1_resets 5 = .ok (.invokevirtual 275, 3) := dk_182 1 19 (dk_at dksX1_resets_0 5 rfl rfl)
theorem dX1_resets_8 : decode cX1_resets 8 = .ok (.aload_n 0, 1) := dk_42 (dk_at dksX1_resets_0 8 rfl rfl)
theorem dX1_resets_9 : decode cX1_resets 9 = .ok (.getfield 10, 3) := dk_180 0 10 (dk_at dksX1_resets_0 9 rfl rfl)
theorem dX1_resets_12 : decode cX1_resets 12 = .ok (.invokevirtual 421, 3) := dk_182 1 165 (dk_at dksX1_resets_0 12 rfl rfl)
theorem dX1_resets_15 : decode cX1_resets 15 = .ok (.istore_n 1, 1) := dk_60 (dk_at dksX1_resets_0 15 rfl rfl)
theorem dX1_resets_16 : decode cX1_resets 16 = .ok (.aload_n 0, 1) := dk_42 (dk_at dksX1_resets_0 16 rfl rfl)
theorem dX1_resets_17 : decode cX1_resets 17 = .ok (.getfield 10, 3) := dk_180 0 10 (dk_at dksX1_resets_0 17 rfl rfl)
theorem dX1_resets_20 : decode cX1_resets 20 = .ok (.invokevirtual 424, 3) := dk_182 1 168 (dk_at dksX1_resets_0 20 rfl rfl)
theorem dX1_resets_23 : decode cX1_resets 23 = .ok (.istore_n 2, 1) := dk_61 (dk_at dksX1_resets_0 23 rfl rfl)
theorem dX1_resets_24 : decode cX1_resets 24 = .ok (.aload_n 0, 1) := dk_42 (dk_at dksX1_resets_1 0 rfl rfl)
theorem dX1_resets_25 : decode cX1_resets 25 = .ok (.getfield 10, 3) := dk_180 0 10 (dk_at dksX1_resets_1 1 rfl rfl)
theorem dX1_resets_28 : decode cX1_resets 28 = .ok (.getfield 399, 3) := dk_180 1 143 (dk_at dksX1_resets_1 4 rfl rfl)
theorem dX1_resets_31 : decode cX1_resets 31 = .ok (.invokevirtual 427, 3) := dk_182 1 171 (dk_at dksX1_resets_1 7 rfl rfl)
theorem dX1_resets_34 : decode cX1_resets 34 = .ok (.aload_n 0, 1) := dk_42 (dk_at dksX1_resets_1 10 rfl rfl)
theorem dX1_resets_35 : decode cX1_resets 35 = .ok (.getfield 10, 3) := dk_180 0 10 (dk_at dksX1_resets_1 11 rfl rfl)
theorem dX1_resets_38 : decode cX1_resets 38 = .ok (.invokevirtual 428, 3) := dk_182 1 172 (dk_at dksX1_resets_1 14 rfl rfl)
theorem dX1_resets_41 : decode cX1_resets 41 = .ok (.iadd, 1) := dk_96 (dk_at dksX1_resets_1 17 rfl rfl)
theorem dX1_resets_42 : decode cX1_resets 42 = .ok (.istore_n 3, 1) := dk_62 (dk_at dksX1_resets_1 18 rfl rfl)
theorem dX1_resets_43 : decode cX1_resets 43 = .ok (.aload_n 0, 1) := dk_42 (dk_at dksX1_resets_1 19 rfl rfl)
theorem dX1_resets_44 : decode cX1_resets 44 = .ok (.getfield 10, 3) := dk_180 0 10 (dk_at dksX1_resets_1 20 rfl rfl)
theorem dX1_resets_47 : decode cX1_resets 47 = .ok (.invokevirtual 431, 3) := dk_182 1 175 (dk_at dksX1_resets_2 0 rfl rfl)
theorem dX1_resets_50 : decode cX1_resets 50 = .ok (.aload_n 0, 1) := dk_42 (dk_at dksX1_resets_2 3 rfl rfl)
theorem dX1_resets_51 : decode cX1_resets 51 = .ok (.iconst 0, 1) := dk_3 (dk_at dksX1_resets_2 4 rfl rfl)
theorem dX1_resets_52 : decode cX1_resets 52 = .ok (.putfield 57, 3) := dk_181 0 57 (dk_at dksX1_resets_2 5 rfl rfl)
theorem dX1_resets_55 : decode cX1_resets 55 = .ok (.aload_n 0, 1) := dk_42 (dk_at dksX1_resets_2 8 rfl rfl)
theorem dX1_resets_56 : decode cX1_resets 56 = .ok (.iload_n 1, 1) := dk_27 (dk_at dksX1_resets_2 9 rfl rfl)
theorem dX1_resets_57 : decode cX1_resets 57 = .ok (.i2l, 1) := dk_133 (dk_at dksX1_resets_2 10 rfl rfl)
theorem dX1_resets_58 : decode cX1_resets 58 = .ok (.invokevirtual 310, 3) := dk_182 1 54 (dk_at dksX1_resets_2 11 rfl rfl)
theorem dX1_resets_61 : decode cX1_resets 61 = .ok (.aload_n 0, 1) := dk_42 (dk_at dksX1_resets_2 14 rfl rfl)
theorem dX1_resets_62 : decode cX1_resets 62 = .ok (.iload_n 2, 1) := dk_28 (dk_at dksX1_resets_2 15 rfl rfl)
theorem dX1_resets_63 : decode cX1_resets 63 = .ok (.i2l, 1) := dk_133 (dk_at dksX1_resets_2 16 rfl rfl)
theorem dX1_resets_64 : decode cX1_resets 64 = .ok (.invokevirtual 310, 3) := dk_182 1 54 (dk_at dksX1_resets_2 17 rfl rfl)
theorem dX1_resets_67 : decode cX1_resets 67 = .ok (.aload_n 0, 1) := dk_42 (dk_at dksX1_resets_2 20 rfl rfl)
theorem dX1_resets_68 : decode cX1_resets 68 = .ok (.iload_n 3, 1) := dk_29 (dk_at dksX1_resets_2 21 rfl rfl)
theorem dX1_resets_69 : decode cX1_resets 69 = .ok (.i2l, 1) := dk_133 (dk_at dksX1_resets_2 22 rfl rfl)
theorem dX1_resets_70 : decode cX1_resets 70 = .ok (.invokevirtual 310, 3) := dk_182 1 54 (dk_at dksX1_resets_3 0 rfl rfl)
theorem dX1_resets_73 : decode cX1_resets 73 = .ok (.iload_n 1, 1) := dk_27 (dk_at dksX1_resets_3 3 rfl rfl)
theorem dX1_resets_74 : decode cX1_resets 74 = .ok (.iload_n 2, 1) := dk_28 (dk_at dksX1_resets_3 4 rfl rfl)
theorem dX1_resets_75 : decode cX1_resets 75 = .ok (.iadd, 1) := dk_96 (dk_at dksX1_resets_3 5 rfl rfl)
theorem dX1_resets_76 : decode cX1_resets 76 = .ok (.iload_n 3, 1) := dk_29 (dk_at dksX1_resets_3 6 rfl rfl)
theorem dX1_resets_77 : decode cX1_resets 77 = .ok (.iadd, 1) := dk_96 (dk_at dksX1_resets_3 7 rfl rfl)
theorem dX1_resets_78 : decode cX1_resets 78 = .ok (.ireturn, 1) := dk_172 (dk_at dksX1_resets_3 8 rfl rfl)
abbrev cX1_weighs : ByteArray := prog_1_method_28_code
def yX1_weighs : MethodName := ⟨RX1, "weighs", "(II)I"⟩
def dkwX1_weighs_3 : List UInt8 := [28, 79, 16, 10, 29, 96, 172]
abbrev dktX1_weighs_3 : List UInt8 := dkwX1_weighs_3 ++ []
def dkwX1_weighs_2 : List UInt8 := [180, 0, 10, 182, 1, 19, 42, 180, 0, 10, 180, 1, 176, 27, 28, 79, 42, 180, 0, 10, 180, 1, 179, 27]
abbrev dktX1_weighs_2 : List UInt8 := dkwX1_weighs_2 ++ dktX1_weighs_3
def dkwX1_weighs_1 : List UInt8 := [2, 172, 42, 180, 0, 10, 180, 1, 176, 27, 46, 62, 29, 28, 160, 0, 6, 16, 254, 172, 42, 42]
abbrev dktX1_weighs_1 : List UInt8 := dkwX1_weighs_1 ++ dktX1_weighs_2
def dkwX1_weighs_0 : List UInt8 := [27, 133, 10, 20, 0, 196, 184, 0, 64, 153, 0, 15, 28, 133, 10, 20, 0, 235, 184, 0, 64, 154, 0, 5]
abbrev dktX1_weighs_0 : List UInt8 := dkwX1_weighs_0 ++ dktX1_weighs_1
theorem dksX1_weighs_0 : cX1_weighs.data.toList.drop 0 = dktX1_weighs_0 := by decide +kernel
theorem dksX1_weighs_1 : cX1_weighs.data.toList.drop 24 = dktX1_weighs_1 := dk_seg dksX1_weighs_0 24 rfl rfl
theorem dksX1_weighs_2 : cX1_weighs.data.toList.drop 46 = dktX1_weighs_2 := dk_seg dksX1_weighs_1 22 rfl rfl
theorem dksX1_weighs_3 : cX1_weighs.data.toList.drop 70 = dktX1_weighs_3 := dk_seg dksX1_weighs_2 24 rfl rfl
theorem dX1_weighs_0 : decode cX1_weighs 0 = .ok (.iload_n 1, 1) := dk_27 (dk_at dksX1_weighs_0 0 rfl rfl)
theorem dX1_weighs_1 : decode cX1_weighs 1 = .ok (.i2l, 1) := dk_133 (dk_at dksX1_weighs_0 1 rfl rfl)
theorem dX1_weighs_2 : decode cX1_weighs 2 = .ok (.lconst 1, 1) := dk_10 (dk_at dksX1_weighs_0 2 rfl rfl)
theorem dX1_weighs_3 : decode cX1_weighs 3 = .ok (.ldc2_w 196, 3) := dk_20 0 196 (dk_at dksX1_weighs_0 3 rfl rfl)
theorem dX1_weighs_6 : decode cX1_weighs 6 = .ok (.invokestatic 64, 3) := dk_184 0 64 (dk_at dksX1_weighs_0 6 rfl rfl)
theorem dX1_weighs_9 : decode cX1_weighs 9 = .ok (.ifCond .eq 15, 3) := dk_153 0 15 (dk_at dksX1_weighs_0 9 rfl rfl)
theorem dX1_weighs_12 : decode cX1_weighs 12 = .ok (.iload_n 2, 1) := dk_28 (dk_at dksX1_weighs_0 12 rfl rfl)
theorem dX1_weighs_13 : decode cX1_weighs 13 = .ok (.i2l, 1) := dk_133 (dk_at dksX1_weighs_0 13 rfl rfl)
theorem dX1_weighs_14 : decode cX1_weighs 14 = .ok (.lconst 1, 1) := dk_10 (dk_at dksX1_weighs_0 14 rfl rfl)
theorem dX1_weighs_15 : decode cX1_weighs 15 = .ok (.ldc2_w 235, 3) := dk_20 0 235 (dk_at dksX1_weighs_0 15 rfl rfl)
theorem dX1_weighs_18 : decode cX1_weighs 18 = .ok (.invokestatic 64, 3) := dk_184 0 64 (dk_at dksX1_weighs_0 18 rfl rfl)
theorem dX1_weighs_21 : decode cX1_weighs 21 = .ok (.ifCond .ne 5, 3) := dk_154 0 5 (dk_at dksX1_weighs_0 21 rfl rfl)
theorem dX1_weighs_24 : decode cX1_weighs 24 = .ok (.iconst (-1), 1) := dk_2 (dk_at dksX1_weighs_1 0 rfl rfl)
theorem dX1_weighs_25 : decode cX1_weighs 25 = .ok (.ireturn, 1) := dk_172 (dk_at dksX1_weighs_1 1 rfl rfl)
theorem dX1_weighs_26 : decode cX1_weighs 26 = .ok (.aload_n 0, 1) := dk_42 (dk_at dksX1_weighs_1 2 rfl rfl)
theorem dX1_weighs_27 : decode cX1_weighs 27 = .ok (.getfield 10, 3) := dk_180 0 10 (dk_at dksX1_weighs_1 3 rfl rfl)
theorem dX1_weighs_30 : decode cX1_weighs 30 = .ok (.getfield 432, 3) := dk_180 1 176 (dk_at dksX1_weighs_1 6 rfl rfl)
theorem dX1_weighs_33 : decode cX1_weighs 33 = .ok (.iload_n 1, 1) := dk_27 (dk_at dksX1_weighs_1 9 rfl rfl)
theorem dX1_weighs_34 : decode cX1_weighs 34 = .ok (.iaload, 1) := dk_46 (dk_at dksX1_weighs_1 10 rfl rfl)
theorem dX1_weighs_35 : decode cX1_weighs 35 = .ok (.istore_n 3, 1) := dk_62 (dk_at dksX1_weighs_1 11 rfl rfl)
theorem dX1_weighs_36 : decode cX1_weighs 36 = .ok (.iload_n 3, 1) := dk_29 (dk_at dksX1_weighs_1 12 rfl rfl)
theorem dX1_weighs_37 : decode cX1_weighs 37 = .ok (.iload_n 2, 1) := dk_28 (dk_at dksX1_weighs_1 13 rfl rfl)
theorem dX1_weighs_38 : decode cX1_weighs 38 = .ok (.if_icmp .ne 6, 3) := dk_160 0 6 (dk_at dksX1_weighs_1 14 rfl rfl)
theorem dX1_weighs_41 : decode cX1_weighs 41 = .ok (.bipush (-2), 2) := dk_16 254 (dk_at dksX1_weighs_1 17 rfl rfl)
theorem dX1_weighs_43 : decode cX1_weighs 43 = .ok (.ireturn, 1) := dk_172 (dk_at dksX1_weighs_1 19 rfl rfl)
theorem dX1_weighs_44 : decode cX1_weighs 44 = .ok (.aload_n 0, 1) := dk_42 (dk_at dksX1_weighs_1 20 rfl rfl)
theorem dX1_weighs_45 : decode cX1_weighs 45 = .ok (.aload_n 0, 1) := dk_42 (dk_at dksX1_weighs_1 21 rfl rfl)
theorem dX1_weighs_46 : decode cX1_weighs 46 = .ok (.getfield 10, 3) := dk_180 0 10 (dk_at dksX1_weighs_2 0 rfl rfl)
theorem dX1_weighs_49 : decode cX1_weighs 49 = .ok (.invokevirtual 275, 3) := dk_182 1 19 (dk_at dksX1_weighs_2 3 rfl rfl)
theorem dX1_weighs_52 : decode cX1_weighs 52 = .ok (.aload_n 0, 1) := dk_42 (dk_at dksX1_weighs_2 6 rfl rfl)
theorem dX1_weighs_53 : decode cX1_weighs 53 = .ok (.getfield 10, 3) := dk_180 0 10 (dk_at dksX1_weighs_2 7 rfl rfl)
theorem dX1_weighs_56 : decode cX1_weighs 56 = .ok (.getfield 432, 3) := dk_180 1 176 (dk_at dksX1_weighs_2 10 rfl rfl)
theorem dX1_weighs_59 : decode cX1_weighs 59 = .ok (.iload_n 1, 1) := dk_27 (dk_at dksX1_weighs_2 13 rfl rfl)
theorem dX1_weighs_60 : decode cX1_weighs 60 = .ok (.iload_n 2, 1) := dk_28 (dk_at dksX1_weighs_2 14 rfl rfl)
theorem dX1_weighs_61 : decode cX1_weighs 61 = .ok (.iastore, 1) := dk_79 (dk_at dksX1_weighs_2 15 rfl rfl)
theorem dX1_weighs_62 : decode cX1_weighs 62 = .ok (.aload_n 0, 1) := dk_42 (dk_at dksX1_weighs_2 16 rfl rfl)
theorem dX1_weighs_63 : decode cX1_weighs 63 = .ok (.getfield 10, 3) := dk_180 0 10 (dk_at dksX1_weighs_2 17 rfl rfl)
theorem dX1_weighs_66 : decode cX1_weighs 66 = .ok (.getfield 435, 3) := dk_180 1 179 (dk_at dksX1_weighs_2 20 rfl rfl)
theorem dX1_weighs_69 : decode cX1_weighs 69 = .ok (.iload_n 1, 1) := dk_27 (dk_at dksX1_weighs_2 23 rfl rfl)
theorem dX1_weighs_70 : decode cX1_weighs 70 = .ok (.iload_n 2, 1) := dk_28 (dk_at dksX1_weighs_3 0 rfl rfl)
theorem dX1_weighs_71 : decode cX1_weighs 71 = .ok (.iastore, 1) := dk_79 (dk_at dksX1_weighs_3 1 rfl rfl)
theorem dX1_weighs_72 : decode cX1_weighs 72 = .ok (.bipush 10, 2) := dk_16 10 (dk_at dksX1_weighs_3 2 rfl rfl)
theorem dX1_weighs_74 : decode cX1_weighs 74 = .ok (.iload_n 3, 1) := dk_29 (dk_at dksX1_weighs_3 4 rfl rfl)
theorem dX1_weighs_75 : decode cX1_weighs 75 = .ok (.iadd, 1) := dk_96 (dk_at dksX1_weighs_3 5 rfl rfl)
theorem dX1_weighs_76 : decode cX1_weighs 76 = .ok (.ireturn, 1) := dk_172 (dk_at dksX1_weighs_3 6 rfl rfl)
abbrev cX1_depth : ByteArray := prog_1_method_29_code
def yX1_depth : MethodName := ⟨RX1, "depth", "(I)I"⟩
def dkwX1_depth_2 : List UInt8 := [28, 96, 172]
abbrev dktX1_depth_2 : List UInt8 := dkwX1_depth_2 ++ []
def dkwX1_depth_1 : List UInt8 := [160, 0, 6, 16, 254, 172, 42, 42, 180, 0, 10, 182, 1, 19, 42, 180, 0, 10, 27, 181, 1, 182, 16, 10]
abbrev dktX1_depth_1 : List UInt8 := dkwX1_depth_1 ++ dktX1_depth_2
def dkwX1_depth_0 : List UInt8 := [27, 133, 10, 20, 0, 233, 184, 0, 64, 154, 0, 5, 2, 172, 42, 180, 0, 10, 180, 1, 182, 61, 28, 27]
abbrev dktX1_depth_0 : List UInt8 := dkwX1_depth_0 ++ dktX1_depth_1
theorem dksX1_depth_0 : cX1_depth.data.toList.drop 0 = dktX1_depth_0 := by decide +kernel
theorem dksX1_depth_1 : cX1_depth.data.toList.drop 24 = dktX1_depth_1 := dk_seg dksX1_depth_0 24 rfl rfl
theorem dksX1_depth_2 : cX1_depth.data.toList.drop 48 = dktX1_depth_2 := dk_seg dksX1_depth_1 24 rfl rfl
theorem dX1_depth_0 : decode cX1_depth 0 = .ok (.iload_n 1, 1) := dk_27 (dk_at dksX1_depth_0 0 rfl rfl)
theorem dX1_depth_1 : decode cX1_depth 1 = .ok (.i2l, 1) := dk_133 (dk_at dksX1_depth_0 1 rfl rfl)
theorem dX1_depth_2 : decode cX1_depth 2 = .ok (.lconst 1, 1) := dk_10 (dk_at dksX1_depth_0 2 rfl rfl)
theorem dX1_depth_3 : decode cX1_depth 3 = .ok (.ldc2_w 233, 3) := dk_20 0 233 (dk_at dksX1_depth_0 3 rfl rfl)
theorem dX1_depth_6 : decode cX1_depth 6 = .ok (.invokestatic 64, 3) := dk_184 0 64 (dk_at dksX1_depth_0 6 rfl rfl)
theorem dX1_depth_9 : decode cX1_depth 9 = .ok (.ifCond .ne 5, 3) := dk_154 0 5 (dk_at dksX1_depth_0 9 rfl rfl)
theorem dX1_depth_12 : decode cX1_depth 12 = .ok (.iconst (-1), 1) := dk_2 (dk_at dksX1_depth_0 12 rfl rfl)
theorem dX1_depth_13 : decode cX1_depth 13 = .ok (.ireturn, 1) := dk_172 (dk_at dksX1_depth_0 13 rfl rfl)
theorem dX1_depth_14 : decode cX1_depth 14 = .ok (.aload_n 0, 1) := dk_42 (dk_at dksX1_depth_0 14 rfl rfl)
theorem dX1_depth_15 : decode cX1_depth 15 = .ok (.getfield 10, 3) := dk_180 0 10 (dk_at dksX1_depth_0 15 rfl rfl)
theorem dX1_depth_18 : decode cX1_depth 18 = .ok (.getfield 438, 3) := dk_180 1 182 (dk_at dksX1_depth_0 18 rfl rfl)
theorem dX1_depth_21 : decode cX1_depth 21 = .ok (.istore_n 2, 1) := dk_61 (dk_at dksX1_depth_0 21 rfl rfl)
theorem dX1_depth_22 : decode cX1_depth 22 = .ok (.iload_n 2, 1) := dk_28 (dk_at dksX1_depth_0 22 rfl rfl)
theorem dX1_depth_23 : decode cX1_depth 23 = .ok (.iload_n 1, 1) := dk_27 (dk_at dksX1_depth_0 23 rfl rfl)
theorem dX1_depth_24 : decode cX1_depth 24 = .ok (.if_icmp .ne 6, 3) := dk_160 0 6 (dk_at dksX1_depth_1 0 rfl rfl)
theorem dX1_depth_27 : decode cX1_depth 27 = .ok (.bipush (-2), 2) := dk_16 254 (dk_at dksX1_depth_1 3 rfl rfl)
theorem dX1_depth_29 : decode cX1_depth 29 = .ok (.ireturn, 1) := dk_172 (dk_at dksX1_depth_1 5 rfl rfl)
theorem dX1_depth_30 : decode cX1_depth 30 = .ok (.aload_n 0, 1) := dk_42 (dk_at dksX1_depth_1 6 rfl rfl)
theorem dX1_depth_31 : decode cX1_depth 31 = .ok (.aload_n 0, 1) := dk_42 (dk_at dksX1_depth_1 7 rfl rfl)
theorem dX1_depth_32 : decode cX1_depth 32 = .ok (.getfield 10, 3) := dk_180 0 10 (dk_at dksX1_depth_1 8 rfl rfl)
theorem dX1_depth_35 : decode cX1_depth 35 = .ok (.invokevirtual 275, 3) := dk_182 1 19 (dk_at dksX1_depth_1 11 rfl rfl)
theorem dX1_depth_38 : decode cX1_depth 38 = .ok (.aload_n 0, 1) := dk_42 (dk_at dksX1_depth_1 14 rfl rfl)
theorem dX1_depth_39 : decode cX1_depth 39 = .ok (.getfield 10, 3) := dk_180 0 10 (dk_at dksX1_depth_1 15 rfl rfl)
theorem dX1_depth_42 : decode cX1_depth 42 = .ok (.iload_n 1, 1) := dk_27 (dk_at dksX1_depth_1 18 rfl rfl)
theorem dX1_depth_43 : decode cX1_depth 43 = .ok (.putfield 438, 3) := dk_181 1 182 (dk_at dksX1_depth_1 19 rfl rfl)
theorem dX1_depth_46 : decode cX1_depth 46 = .ok (.bipush 10, 2) := dk_16 10 (dk_at dksX1_depth_1 22 rfl rfl)
theorem dX1_depth_48 : decode cX1_depth 48 = .ok (.iload_n 2, 1) := dk_28 (dk_at dksX1_depth_2 0 rfl rfl)
theorem dX1_depth_49 : decode cX1_depth 49 = .ok (.iadd, 1) := dk_96 (dk_at dksX1_depth_2 1 rfl rfl)
theorem dX1_depth_50 : decode cX1_depth 50 = .ok (.ireturn, 1) := dk_172 (dk_at dksX1_depth_2 2 rfl rfl)
abbrev cX1_day : ByteArray := prog_1_method_30_code
def yX1_day : MethodName := ⟨RX1, "day", "()I"⟩
def dkwX1_day_5 : List UInt8 := [133, 182, 1, 54, 28, 172]
abbrev dktX1_day_5 : List UInt8 := dkwX1_day_5 ++ []
def dkwX1_day_4 : List UInt8 := [28, 43, 180, 1, 190, 162, 0, 7, 10, 167, 0, 4, 9, 182, 1, 54, 42, 42, 180, 0, 10, 180, 1, 195]
abbrev dktX1_day_4 : List UInt8 := dkwX1_day_4 ++ dktX1_day_5
def dkwX1_day_3 : List UInt8 := [132, 2, 1, 167, 255, 236, 28, 158, 0, 11, 42, 42, 180, 0, 16, 182, 1, 19, 42, 3, 181, 0, 57, 42]
abbrev dktX1_day_3 : List UInt8 := dkwX1_day_3 ++ dktX1_day_4
def dkwX1_day_2 : List UInt8 := [182, 0, 229, 3, 61, 28, 43, 180, 1, 190, 162, 0, 18, 42, 43, 28, 182, 1, 191, 153, 0, 9]
abbrev dktX1_day_2 : List UInt8 := dkwX1_day_2 ++ dktX1_day_3
def dkwX1_day_1 : List UInt8 := [182, 1, 188, 167, 0, 11, 77, 2, 44, 180, 0, 112, 100, 172, 42, 180, 0, 16, 42, 180, 0, 10]
abbrev dktX1_day_1 : List UInt8 := dkwX1_day_1 ++ dktX1_day_2
def dkwX1_day_0 : List UInt8 := [187, 1, 185, 89, 42, 180, 0, 26, 42, 180, 0, 70, 183, 1, 187, 76, 42, 3, 181, 0, 70, 43]
abbrev dktX1_day_0 : List UInt8 := dkwX1_day_0 ++ dktX1_day_1
theorem dksX1_day_0 : cX1_day.data.toList.drop 0 = dktX1_day_0 := by decide +kernel
theorem dksX1_day_1 : cX1_day.data.toList.drop 22 = dktX1_day_1 := dk_seg dksX1_day_0 22 rfl rfl
theorem dksX1_day_2 : cX1_day.data.toList.drop 44 = dktX1_day_2 := dk_seg dksX1_day_1 22 rfl rfl
theorem dksX1_day_3 : cX1_day.data.toList.drop 66 = dktX1_day_3 := dk_seg dksX1_day_2 22 rfl rfl
theorem dksX1_day_4 : cX1_day.data.toList.drop 90 = dktX1_day_4 := dk_seg dksX1_day_3 24 rfl rfl
theorem dksX1_day_5 : cX1_day.data.toList.drop 114 = dktX1_day_5 := dk_seg dksX1_day_4 24 rfl rfl
theorem dX1_day_0 : decode cX1_day 0 = .ok (.new 441, 3) := dk_187 1 185 (dk_at dksX1_day_0 0 rfl rfl)
theorem dX1_day_3 : decode cX1_day 3 = .ok (.dup, 1) := dk_89 (dk_at dksX1_day_0 3 rfl rfl)
theorem dX1_day_4 : decode cX1_day 4 = .ok (.aload_n 0, 1) := dk_42 (dk_at dksX1_day_0 4 rfl rfl)
theorem dX1_day_5 : decode cX1_day 5 = .ok (.getfield 26, 3) := dk_180 0 26 (dk_at dksX1_day_0 5 rfl rfl)
theorem dX1_day_8 : decode cX1_day 8 = .ok (.aload_n 0, 1) := dk_42 (dk_at dksX1_day_0 8 rfl rfl)
theorem dX1_day_9 : decode cX1_day 9 = .ok (.getfield 70, 3) := dk_180 0 70 (dk_at dksX1_day_0 9 rfl rfl)
theorem dX1_day_12 : decode cX1_day 12 = .ok (.invokespecial 443, 3) := dk_183 1 187 (dk_at dksX1_day_0 12 rfl rfl)
theorem dX1_day_15 : decode cX1_day 15 = .ok (.astore_n 1, 1) := dk_76 (dk_at dksX1_day_0 15 rfl rfl)
theorem dX1_day_16 : decode cX1_day 16 = .ok (.aload_n 0, 1) := dk_42 (dk_at dksX1_day_0 16 rfl rfl)
theorem dX1_day_17 : decode cX1_day 17 = .ok (.iconst 0, 1) := dk_3 (dk_at dksX1_day_0 17 rfl rfl)
theorem dX1_day_18 : decode cX1_day 18 = .ok (.putfield 70, 3) := dk_181 0 70 (dk_at dksX1_day_0 18 rfl rfl)
theorem dX1_day_21 : decode cX1_day 21 = .ok (.aload_n 1, 1) := dk_43 (dk_at dksX1_day_0 21 rfl rfl)
theorem dX1_day_22 : decode cX1_day 22 = .ok (.invokevirtual 444, 3) := dk_182 1 188 (dk_at dksX1_day_1 0 rfl rfl)
theorem dX1_day_25 : decode cX1_day 25 = .ok (.goto 11, 3) := dk_167 0 11 (dk_at dksX1_day_1 3 rfl rfl)
theorem dX1_day_28 : decode cX1_day 28 = .ok (.astore_n 2, 1) := dk_77 (dk_at dksX1_day_1 6 rfl rfl)
theorem dX1_day_29 : decode cX1_day 29 = .ok (.iconst (-1), 1) := dk_2 (dk_at dksX1_day_1 7 rfl rfl)
theorem dX1_day_30 : decode cX1_day 30 = .ok (.aload_n 2, 1) := dk_44 (dk_at dksX1_day_1 8 rfl rfl)
theorem dX1_day_31 : decode cX1_day 31 = .ok (.getfield 112, 3) := dk_180 0 112 (dk_at dksX1_day_1 9 rfl rfl)
theorem dX1_day_34 : decode cX1_day 34 = .ok (.isub, 1) := dk_100 (dk_at dksX1_day_1 12 rfl rfl)
theorem dX1_day_35 : decode cX1_day 35 = .ok (.ireturn, 1) := dk_172 (dk_at dksX1_day_1 13 rfl rfl)
theorem dX1_day_36 : decode cX1_day 36 = .ok (.aload_n 0, 1) := dk_42 (dk_at dksX1_day_1 14 rfl rfl)
theorem dX1_day_37 : decode cX1_day 37 = .ok (.getfield 16, 3) := dk_180 0 16 (dk_at dksX1_day_1 15 rfl rfl)
theorem dX1_day_40 : decode cX1_day 40 = .ok (.aload_n 0, 1) := dk_42 (dk_at dksX1_day_1 18 rfl rfl)
theorem dX1_day_41 : decode cX1_day 41 = .ok (.getfield 10, 3) := dk_180 0 10 (dk_at dksX1_day_1 19 rfl rfl)
theorem dX1_day_44 : decode cX1_day 44 = .ok (.invokevirtual 229, 3) := dk_182 0 229 (dk_at dksX1_day_2 0 rfl rfl)
theorem dX1_day_47 : decode cX1_day 47 = .ok (.iconst 0, 1) := dk_3 (dk_at dksX1_day_2 3 rfl rfl)
theorem dX1_day_48 : decode cX1_day 48 = .ok (.istore_n 2, 1) := dk_61 (dk_at dksX1_day_2 4 rfl rfl)
theorem dX1_day_49 : decode cX1_day 49 = .ok (.iload_n 2, 1) := dk_28 (dk_at dksX1_day_2 5 rfl rfl)
theorem dX1_day_50 : decode cX1_day 50 = .ok (.aload_n 1, 1) := dk_43 (dk_at dksX1_day_2 6 rfl rfl)
theorem dX1_day_51 : decode cX1_day 51 = .ok (.getfield 446, 3) := dk_180 1 190 (dk_at dksX1_day_2 7 rfl rfl)
theorem dX1_day_54 : decode cX1_day 54 = .ok (.if_icmp .ge 18, 3) := dk_162 0 18 (dk_at dksX1_day_2 10 rfl rfl)
theorem dX1_day_57 : decode cX1_day 57 = .ok (.aload_n 0, 1) := dk_42 (dk_at dksX1_day_2 13 rfl rfl)
theorem dX1_day_58 : decode cX1_day 58 = .ok (.aload_n 1, 1) := dk_43 (dk_at dksX1_day_2 14 rfl rfl)
theorem dX1_day_59 : decode cX1_day 59 = .ok (.iload_n 2, 1) := dk_28 (dk_at dksX1_day_2 15 rfl rfl)
theorem dX1_day_60 : decode cX1_day 60 = .ok (.invokevirtual 447, 3) := dk_182 1 191 (dk_at dksX1_day_2 16 rfl rfl)
theorem dX1_day_63 : decode cX1_day 63 = .ok (.ifCond .eq 9, 3) := dk_153 0 9 (dk_at dksX1_day_2 19 rfl rfl)
theorem dX1_day_66 : decode cX1_day 66 = .ok (.iinc 2 1, 3) := dk_132 2 1 (dk_at dksX1_day_3 0 rfl rfl)
theorem dX1_day_69 : decode cX1_day 69 = .ok (.goto (-20), 3) := dk_167 255 236 (dk_at dksX1_day_3 3 rfl rfl)
theorem dX1_day_72 : decode cX1_day 72 = .ok (.iload_n 2, 1) := dk_28 (dk_at dksX1_day_3 6 rfl rfl)
theorem dX1_day_73 : decode cX1_day 73 = .ok (.ifCond .le 11, 3) := dk_158 0 11 (dk_at dksX1_day_3 7 rfl rfl)
theorem dX1_day_76 : decode cX1_day 76 = .ok (.aload_n 0, 1) := dk_42 (dk_at dksX1_day_3 10 rfl rfl)
theorem dX1_day_77 : decode cX1_day 77 = .ok (.aload_n 0, 1) := dk_42 (dk_at dksX1_day_3 11 rfl rfl)
theorem dX1_day_78 : decode cX1_day 78 = .ok (.getfield 16, 3) := dk_180 0 16 (dk_at dksX1_day_3 12 rfl rfl)
theorem dX1_day_81 : decode cX1_day 81 = .ok (.invokevirtual 275, 3) := dk_182 1 19 (dk_at dksX1_day_3 15 rfl rfl)
theorem dX1_day_84 : decode cX1_day 84 = .ok (.aload_n 0, 1) := dk_42 (dk_at dksX1_day_3 18 rfl rfl)
theorem dX1_day_85 : decode cX1_day 85 = .ok (.iconst 0, 1) := dk_3 (dk_at dksX1_day_3 19 rfl rfl)
theorem dX1_day_86 : decode cX1_day 86 = .ok (.putfield 57, 3) := dk_181 0 57 (dk_at dksX1_day_3 20 rfl rfl)
theorem dX1_day_89 : decode cX1_day 89 = .ok (.aload_n 0, 1) := dk_42 (dk_at dksX1_day_3 23 rfl rfl)
theorem dX1_day_90 : decode cX1_day 90 = .ok (.iload_n 2, 1) := dk_28 (dk_at dksX1_day_4 0 rfl rfl)
theorem dX1_day_91 : decode cX1_day 91 = .ok (.aload_n 1, 1) := dk_43 (dk_at dksX1_day_4 1 rfl rfl)
theorem dX1_day_92 : decode cX1_day 92 = .ok (.getfield 446, 3) := dk_180 1 190 (dk_at dksX1_day_4 2 rfl rfl)
theorem dX1_day_95 : decode cX1_day 95 = .ok (.if_icmp .ge 7, 3) := dk_162 0 7 (dk_at dksX1_day_4 5 rfl rfl)
theorem dX1_day_98 : decode cX1_day 98 = .ok (.lconst 1, 1) := dk_10 (dk_at dksX1_day_4 8 rfl rfl)
theorem dX1_day_99 : decode cX1_day 99 = .ok (.goto 4, 3) := dk_167 0 4 (dk_at dksX1_day_4 9 rfl rfl)
theorem dX1_day_102 : decode cX1_day 102 = .ok (.lconst 0, 1) := dk_9 (dk_at dksX1_day_4 12 rfl rfl)
theorem dX1_day_103 : decode cX1_day 103 = .ok (.invokevirtual 310, 3) := dk_182 1 54 (dk_at dksX1_day_4 13 rfl rfl)
theorem dX1_day_106 : decode cX1_day 106 = .ok (.aload_n 0, 1) := dk_42 (dk_at dksX1_day_4 16 rfl rfl)
theorem dX1_day_107 : decode cX1_day 107 = .ok (.aload_n 0, 1) := dk_42 (dk_at dksX1_day_4 17 rfl rfl)
theorem dX1_day_108 : decode cX1_day 108 = .ok (.getfield 10, 3) := dk_180 0 10 (dk_at dksX1_day_4 18 rfl rfl)
theorem dX1_day_111 : decode cX1_day 111 = .ok (.getfield 451, 3) := dk_180 1 195 (dk_at dksX1_day_4 21 rfl rfl)
theorem dX1_day_114 : decode cX1_day 114 = .ok (.i2l, 1) := dk_133 (dk_at dksX1_day_5 0 rfl rfl)
theorem dX1_day_115 : decode cX1_day 115 = .ok (.invokevirtual 310, 3) := dk_182 1 54 (dk_at dksX1_day_5 1 rfl rfl)
theorem dX1_day_118 : decode cX1_day 118 = .ok (.iload_n 2, 1) := dk_28 (dk_at dksX1_day_5 4 rfl rfl)
theorem dX1_day_119 : decode cX1_day 119 = .ok (.ireturn, 1) := dk_172 (dk_at dksX1_day_5 5 rfl rfl)
abbrev cX1_act : ByteArray := prog_1_method_31_code
def yX1_act : MethodName := ⟨RX1, "act", "(LQueueDrive$Order;I)Z"⟩
def dkwX1_act_10 : List UInt8 := [42, 180, 0, 10, 182, 1, 175, 4, 172]
abbrev dktX1_act_10 : List UInt8 := dkwX1_act_10 ++ []
def dkwX1_act_9 : List UInt8 := [182, 1, 157, 156, 0, 5, 3, 172, 42, 180, 0, 10, 29, 43, 180, 1, 211, 28, 46, 184, 1, 161, 4, 172]
abbrev dktX1_act_9 : List UInt8 := dkwX1_act_9 ++ dktX1_act_10
def dkwX1_act_8 : List UInt8 := [180, 0, 113, 29, 50, 182, 1, 65, 87, 4, 172, 42, 42, 180, 0, 10, 29, 43, 180, 1, 211, 28, 46]
abbrev dktX1_act_8 : List UInt8 := dkwX1_act_8 ++ dktX1_act_9
def dkwX1_act_7 : List UInt8 := [167, 255, 236, 4, 172, 42, 180, 0, 10, 29, 184, 1, 61, 156, 0, 5, 3, 172, 42, 180, 0, 10]
abbrev dktX1_act_7 : List UInt8 := dkwX1_act_7 ++ dktX1_act_8
def dkwX1_act_6 : List UInt8 := [3, 54, 4, 21, 4, 29, 162, 0, 20, 42, 180, 0, 10, 42, 180, 0, 146, 182, 1, 40, 132, 4, 1]
abbrev dktX1_act_6 : List UInt8 := dkwX1_act_6 ++ dktX1_act_7
def dkwX1_act_5 : List UInt8 := [180, 0, 10, 42, 180, 0, 10, 180, 0, 113, 29, 50, 182, 1, 28, 155, 0, 7, 4, 167, 0, 4, 3, 172]
abbrev dktX1_act_5 : List UInt8 := dkwX1_act_5 ++ dktX1_act_6
def dkwX1_act_4 : List UInt8 := [46, 43, 180, 1, 211, 28, 46, 184, 1, 22, 87, 4, 172, 42, 29, 182, 0, 159, 153, 0, 26, 42]
abbrev dktX1_act_4 : List UInt8 := dkwX1_act_4 ++ dktX1_act_5
def dkwX1_act_3 : List UInt8 := [184, 1, 15, 156, 0, 5, 3, 172, 42, 180, 0, 10, 29, 43, 180, 1, 205, 28, 46, 43, 180, 1, 208, 28]
abbrev dktX1_act_3 : List UInt8 := dkwX1_act_3 ++ dktX1_act_4
def dkwX1_act_2 : List UInt8 := [42, 180, 0, 10, 29, 43, 180, 1, 205, 28, 46, 43, 180, 1, 208, 28, 46, 43, 180, 1, 211, 28, 46]
abbrev dktX1_act_2 : List UInt8 := dkwX1_act_2 ++ dktX1_act_3
def dkwX1_act_1 : List UInt8 := [171, 0, 0, 0, 0, 0, 236, 0, 0, 0, 5, 0, 0, 0, 99, 0, 0, 0, 200, 0, 0, 0, 107, 0, 0, 0, 172, 0, 0, 0, 112, 0, 0, 0, 51, 0, 0, 0, 114, 0, 0, 0, 111, 0, 0, 0, 116, 0, 0, 0, 144]
abbrev dktX1_act_1 : List UInt8 := dkwX1_act_1 ++ dktX1_act_2
def dkwX1_act_0 : List UInt8 := [43, 180, 1, 198, 28, 46, 62, 43, 180, 1, 201, 28, 52]
abbrev dktX1_act_0 : List UInt8 := dkwX1_act_0 ++ dktX1_act_1
theorem dksX1_act_0 : cX1_act.data.toList.drop 0 = dktX1_act_0 := by decide +kernel
theorem dksX1_act_1 : cX1_act.data.toList.drop 13 = dktX1_act_1 := dk_seg dksX1_act_0 13 rfl rfl
theorem dksX1_act_2 : cX1_act.data.toList.drop 64 = dktX1_act_2 := dk_seg dksX1_act_1 51 rfl rfl
theorem dksX1_act_3 : cX1_act.data.toList.drop 87 = dktX1_act_3 := dk_seg dksX1_act_2 23 rfl rfl
theorem dksX1_act_4 : cX1_act.data.toList.drop 111 = dktX1_act_4 := dk_seg dksX1_act_3 24 rfl rfl
theorem dksX1_act_5 : cX1_act.data.toList.drop 133 = dktX1_act_5 := dk_seg dksX1_act_4 22 rfl rfl
theorem dksX1_act_6 : cX1_act.data.toList.drop 157 = dktX1_act_6 := dk_seg dksX1_act_5 24 rfl rfl
theorem dksX1_act_7 : cX1_act.data.toList.drop 180 = dktX1_act_7 := dk_seg dksX1_act_6 23 rfl rfl
theorem dksX1_act_8 : cX1_act.data.toList.drop 202 = dktX1_act_8 := dk_seg dksX1_act_7 22 rfl rfl
theorem dksX1_act_9 : cX1_act.data.toList.drop 225 = dktX1_act_9 := dk_seg dksX1_act_8 23 rfl rfl
theorem dksX1_act_10 : cX1_act.data.toList.drop 249 = dktX1_act_10 := dk_seg dksX1_act_9 24 rfl rfl
theorem dX1_act_0 : decode cX1_act 0 = .ok (.aload_n 1, 1) := dk_43 (dk_at dksX1_act_0 0 rfl rfl)
theorem dX1_act_1 : decode cX1_act 1 = .ok (.getfield 454, 3) := dk_180 1 198 (dk_at dksX1_act_0 1 rfl rfl)
theorem dX1_act_4 : decode cX1_act 4 = .ok (.iload_n 2, 1) := dk_28 (dk_at dksX1_act_0 4 rfl rfl)
theorem dX1_act_5 : decode cX1_act 5 = .ok (.iaload, 1) := dk_46 (dk_at dksX1_act_0 5 rfl rfl)
theorem dX1_act_6 : decode cX1_act 6 = .ok (.istore_n 3, 1) := dk_62 (dk_at dksX1_act_0 6 rfl rfl)
theorem dX1_act_7 : decode cX1_act 7 = .ok (.aload_n 1, 1) := dk_43 (dk_at dksX1_act_0 7 rfl rfl)
theorem dX1_act_8 : decode cX1_act 8 = .ok (.getfield 457, 3) := dk_180 1 201 (dk_at dksX1_act_0 8 rfl rfl)
theorem dX1_act_11 : decode cX1_act 11 = .ok (.iload_n 2, 1) := dk_28 (dk_at dksX1_act_0 11 rfl rfl)
theorem dX1_act_12 : decode cX1_act 12 = .ok (.caload, 1) := dk_52 (dk_at dksX1_act_0 12 rfl rfl)
theorem dX1_act_13 : decode cX1_act 13 = .ok (.lookupswitch 236 #[(99, 200), (107, 172), (112, 51), (114, 111), (116, 144)], 51) := by decide +kernel
theorem dX1_act_64 : decode cX1_act 64 = .ok (.aload_n 0, 1) := dk_42 (dk_at dksX1_act_2 0 rfl rfl)
theorem dX1_act_65 : decode cX1_act 65 = .ok (.getfield 10, 3) := dk_180 0 10 (dk_at dksX1_act_2 1 rfl rfl)
theorem dX1_act_68 : decode cX1_act 68 = .ok (.iload_n 3, 1) := dk_29 (dk_at dksX1_act_2 4 rfl rfl)
theorem dX1_act_69 : decode cX1_act 69 = .ok (.aload_n 1, 1) := dk_43 (dk_at dksX1_act_2 5 rfl rfl)
theorem dX1_act_70 : decode cX1_act 70 = .ok (.getfield 461, 3) := dk_180 1 205 (dk_at dksX1_act_2 6 rfl rfl)
theorem dX1_act_73 : decode cX1_act 73 = .ok (.iload_n 2, 1) := dk_28 (dk_at dksX1_act_2 9 rfl rfl)
theorem dX1_act_74 : decode cX1_act 74 = .ok (.iaload, 1) := dk_46 (dk_at dksX1_act_2 10 rfl rfl)
theorem dX1_act_75 : decode cX1_act 75 = .ok (.aload_n 1, 1) := dk_43 (dk_at dksX1_act_2 11 rfl rfl)
theorem dX1_act_76 : decode cX1_act 76 = .ok (.getfield 464, 3) := dk_180 1 208 (dk_at dksX1_act_2 12 rfl rfl)
theorem dX1_act_79 : decode cX1_act 79 = .ok (.iload_n 2, 1) := dk_28 (dk_at dksX1_act_2 15 rfl rfl)
theorem dX1_act_80 : decode cX1_act 80 = .ok (.iaload, 1) := dk_46 (dk_at dksX1_act_2 16 rfl rfl)
theorem dX1_act_81 : decode cX1_act 81 = .ok (.aload_n 1, 1) := dk_43 (dk_at dksX1_act_2 17 rfl rfl)
theorem dX1_act_82 : decode cX1_act 82 = .ok (.getfield 467, 3) := dk_180 1 211 (dk_at dksX1_act_2 18 rfl rfl)
theorem dX1_act_85 : decode cX1_act 85 = .ok (.iload_n 2, 1) := dk_28 (dk_at dksX1_act_2 21 rfl rfl)
theorem dX1_act_86 : decode cX1_act 86 = .ok (.iaload, 1) := dk_46 (dk_at dksX1_act_2 22 rfl rfl)
theorem dX1_act_87 : decode cX1_act 87 = .ok (.invokestatic 271, 3) := dk_184 1 15 (dk_at dksX1_act_3 0 rfl rfl)
theorem dX1_act_90 : decode cX1_act 90 = .ok (.ifCond .ge 5, 3) := dk_156 0 5 (dk_at dksX1_act_3 3 rfl rfl)
theorem dX1_act_93 : decode cX1_act 93 = .ok (.iconst 0, 1) := dk_3 (dk_at dksX1_act_3 6 rfl rfl)
theorem dX1_act_94 : decode cX1_act 94 = .ok (.ireturn, 1) := dk_172 (dk_at dksX1_act_3 7 rfl rfl)
theorem dX1_act_95 : decode cX1_act 95 = .ok (.aload_n 0, 1) := dk_42 (dk_at dksX1_act_3 8 rfl rfl)
theorem dX1_act_96 : decode cX1_act 96 = .ok (.getfield 10, 3) := dk_180 0 10 (dk_at dksX1_act_3 9 rfl rfl)
theorem dX1_act_99 : decode cX1_act 99 = .ok (.iload_n 3, 1) := dk_29 (dk_at dksX1_act_3 12 rfl rfl)
theorem dX1_act_100 : decode cX1_act 100 = .ok (.aload_n 1, 1) := dk_43 (dk_at dksX1_act_3 13 rfl rfl)
theorem dX1_act_101 : decode cX1_act 101 = .ok (.getfield 461, 3) := dk_180 1 205 (dk_at dksX1_act_3 14 rfl rfl)
theorem dX1_act_104 : decode cX1_act 104 = .ok (.iload_n 2, 1) := dk_28 (dk_at dksX1_act_3 17 rfl rfl)
theorem dX1_act_105 : decode cX1_act 105 = .ok (.iaload, 1) := dk_46 (dk_at dksX1_act_3 18 rfl rfl)
theorem dX1_act_106 : decode cX1_act 106 = .ok (.aload_n 1, 1) := dk_43 (dk_at dksX1_act_3 19 rfl rfl)
theorem dX1_act_107 : decode cX1_act 107 = .ok (.getfield 464, 3) := dk_180 1 208 (dk_at dksX1_act_3 20 rfl rfl)
theorem dX1_act_110 : decode cX1_act 110 = .ok (.iload_n 2, 1) := dk_28 (dk_at dksX1_act_3 23 rfl rfl)
theorem dX1_act_111 : decode cX1_act 111 = .ok (.iaload, 1) := dk_46 (dk_at dksX1_act_4 0 rfl rfl)
theorem dX1_act_112 : decode cX1_act 112 = .ok (.aload_n 1, 1) := dk_43 (dk_at dksX1_act_4 1 rfl rfl)
theorem dX1_act_113 : decode cX1_act 113 = .ok (.getfield 467, 3) := dk_180 1 211 (dk_at dksX1_act_4 2 rfl rfl)
theorem dX1_act_116 : decode cX1_act 116 = .ok (.iload_n 2, 1) := dk_28 (dk_at dksX1_act_4 5 rfl rfl)
theorem dX1_act_117 : decode cX1_act 117 = .ok (.iaload, 1) := dk_46 (dk_at dksX1_act_4 6 rfl rfl)
theorem dX1_act_118 : decode cX1_act 118 = .ok (.invokestatic 278, 3) := dk_184 1 22 (dk_at dksX1_act_4 7 rfl rfl)
theorem dX1_act_121 : decode cX1_act 121 = .ok (.pop, 1) := dk_87 (dk_at dksX1_act_4 10 rfl rfl)
theorem dX1_act_122 : decode cX1_act 122 = .ok (.iconst 1, 1) := dk_4 (dk_at dksX1_act_4 11 rfl rfl)
theorem dX1_act_123 : decode cX1_act 123 = .ok (.ireturn, 1) := dk_172 (dk_at dksX1_act_4 12 rfl rfl)
theorem dX1_act_124 : decode cX1_act 124 = .ok (.aload_n 0, 1) := dk_42 (dk_at dksX1_act_4 13 rfl rfl)
theorem dX1_act_125 : decode cX1_act 125 = .ok (.iload_n 3, 1) := dk_29 (dk_at dksX1_act_4 14 rfl rfl)
theorem dX1_act_126 : decode cX1_act 126 = .ok (.invokevirtual 159, 3) := dk_182 0 159 (dk_at dksX1_act_4 15 rfl rfl)
theorem dX1_act_129 : decode cX1_act 129 = .ok (.ifCond .eq 26, 3) := dk_153 0 26 (dk_at dksX1_act_4 18 rfl rfl)
theorem dX1_act_132 : decode cX1_act 132 = .ok (.aload_n 0, 1) := dk_42 (dk_at dksX1_act_4 21 rfl rfl)
theorem dX1_act_133 : decode cX1_act 133 = .ok (.getfield 10, 3) := dk_180 0 10 (dk_at dksX1_act_5 0 rfl rfl)
theorem dX1_act_136 : decode cX1_act 136 = .ok (.aload_n 0, 1) := dk_42 (dk_at dksX1_act_5 3 rfl rfl)
theorem dX1_act_137 : decode cX1_act 137 = .ok (.getfield 10, 3) := dk_180 0 10 (dk_at dksX1_act_5 4 rfl rfl)
theorem dX1_act_140 : decode cX1_act 140 = .ok (.getfield 113, 3) := dk_180 0 113 (dk_at dksX1_act_5 7 rfl rfl)
theorem dX1_act_143 : decode cX1_act 143 = .ok (.iload_n 3, 1) := dk_29 (dk_at dksX1_act_5 10 rfl rfl)
theorem dX1_act_144 : decode cX1_act 144 = .ok (.aaload, 1) := dk_50 (dk_at dksX1_act_5 11 rfl rfl)
theorem dX1_act_145 : decode cX1_act 145 = .ok (.invokevirtual 284, 3) := dk_182 1 28 (dk_at dksX1_act_5 12 rfl rfl)
theorem dX1_act_148 : decode cX1_act 148 = .ok (.ifCond .lt 7, 3) := dk_155 0 7 (dk_at dksX1_act_5 15 rfl rfl)
theorem dX1_act_151 : decode cX1_act 151 = .ok (.iconst 1, 1) := dk_4 (dk_at dksX1_act_5 18 rfl rfl)
theorem dX1_act_152 : decode cX1_act 152 = .ok (.goto 4, 3) := dk_167 0 4 (dk_at dksX1_act_5 19 rfl rfl)
theorem dX1_act_155 : decode cX1_act 155 = .ok (.iconst 0, 1) := dk_3 (dk_at dksX1_act_5 22 rfl rfl)
theorem dX1_act_156 : decode cX1_act 156 = .ok (.ireturn, 1) := dk_172 (dk_at dksX1_act_5 23 rfl rfl)
theorem dX1_act_157 : decode cX1_act 157 = .ok (.iconst 0, 1) := dk_3 (dk_at dksX1_act_6 0 rfl rfl)
theorem dX1_act_158 : decode cX1_act 158 = .ok (.istore 4, 2) := dk_54 4 (dk_at dksX1_act_6 1 rfl rfl)
theorem dX1_act_160 : decode cX1_act 160 = .ok (.iload 4, 2) := dk_21 4 (dk_at dksX1_act_6 3 rfl rfl)
theorem dX1_act_162 : decode cX1_act 162 = .ok (.iload_n 3, 1) := dk_29 (dk_at dksX1_act_6 5 rfl rfl)
theorem dX1_act_163 : decode cX1_act 163 = .ok (.if_icmp .ge 20, 3) := dk_162 0 20 (dk_at dksX1_act_6 6 rfl rfl)
theorem dX1_act_166 : decode cX1_act 166 = .ok (.aload_n 0, 1) := dk_42 (dk_at dksX1_act_6 9 rfl rfl)
theorem dX1_act_167 : decode cX1_act 167 = .ok (.getfield 10, 3) := dk_180 0 10 (dk_at dksX1_act_6 10 rfl rfl)
theorem dX1_act_170 : decode cX1_act 170 = .ok (.aload_n 0, 1) := dk_42 (dk_at dksX1_act_6 13 rfl rfl)
theorem dX1_act_171 : decode cX1_act 171 = .ok (.getfield 146, 3) := dk_180 0 146 (dk_at dksX1_act_6 14 rfl rfl)
theorem dX1_act_174 : decode cX1_act 174 = .ok (.invokevirtual 296, 3) := dk_182 1 40 (dk_at dksX1_act_6 17 rfl rfl)
theorem dX1_act_177 : decode cX1_act 177 = .ok (.iinc 4 1, 3) := dk_132 4 1 (dk_at dksX1_act_6 20 rfl rfl)
theorem dX1_act_180 : decode cX1_act 180 = .ok (.goto (-20), 3) := dk_167 255 236 (dk_at dksX1_act_7 0 rfl rfl)
theorem dX1_act_183 : decode cX1_act 183 = .ok (.iconst 1, 1) := dk_4 (dk_at dksX1_act_7 3 rfl rfl)
theorem dX1_act_184 : decode cX1_act 184 = .ok (.ireturn, 1) := dk_172 (dk_at dksX1_act_7 4 rfl rfl)
theorem dX1_act_185 : decode cX1_act 185 = .ok (.aload_n 0, 1) := dk_42 (dk_at dksX1_act_7 5 rfl rfl)
theorem dX1_act_186 : decode cX1_act 186 = .ok (.getfield 10, 3) := dk_180 0 10 (dk_at dksX1_act_7 6 rfl rfl)
theorem dX1_act_189 : decode cX1_act 189 = .ok (.iload_n 3, 1) := dk_29 (dk_at dksX1_act_7 9 rfl rfl)
theorem dX1_act_190 : decode cX1_act 190 = .ok (.invokestatic 317, 3) := dk_184 1 61 (dk_at dksX1_act_7 10 rfl rfl)
theorem dX1_act_193 : decode cX1_act 193 = .ok (.ifCond .ge 5, 3) := dk_156 0 5 (dk_at dksX1_act_7 13 rfl rfl)
theorem dX1_act_196 : decode cX1_act 196 = .ok (.iconst 0, 1) := dk_3 (dk_at dksX1_act_7 16 rfl rfl)
theorem dX1_act_197 : decode cX1_act 197 = .ok (.ireturn, 1) := dk_172 (dk_at dksX1_act_7 17 rfl rfl)
theorem dX1_act_198 : decode cX1_act 198 = .ok (.aload_n 0, 1) := dk_42 (dk_at dksX1_act_7 18 rfl rfl)
theorem dX1_act_199 : decode cX1_act 199 = .ok (.getfield 10, 3) := dk_180 0 10 (dk_at dksX1_act_7 19 rfl rfl)
theorem dX1_act_202 : decode cX1_act 202 = .ok (.getfield 113, 3) := dk_180 0 113 (dk_at dksX1_act_8 0 rfl rfl)
theorem dX1_act_205 : decode cX1_act 205 = .ok (.iload_n 3, 1) := dk_29 (dk_at dksX1_act_8 3 rfl rfl)
theorem dX1_act_206 : decode cX1_act 206 = .ok (.aaload, 1) := dk_50 (dk_at dksX1_act_8 4 rfl rfl)
theorem dX1_act_207 : decode cX1_act 207 = .ok (.invokevirtual 321, 3) := dk_182 1 65 (dk_at dksX1_act_8 5 rfl rfl)
theorem dX1_act_210 : decode cX1_act 210 = .ok (.pop, 1) := dk_87 (dk_at dksX1_act_8 8 rfl rfl)
theorem dX1_act_211 : decode cX1_act 211 = .ok (.iconst 1, 1) := dk_4 (dk_at dksX1_act_8 9 rfl rfl)
theorem dX1_act_212 : decode cX1_act 212 = .ok (.ireturn, 1) := dk_172 (dk_at dksX1_act_8 10 rfl rfl)
theorem dX1_act_213 : decode cX1_act 213 = .ok (.aload_n 0, 1) := dk_42 (dk_at dksX1_act_8 11 rfl rfl)
theorem dX1_act_214 : decode cX1_act 214 = .ok (.aload_n 0, 1) := dk_42 (dk_at dksX1_act_8 12 rfl rfl)
theorem dX1_act_215 : decode cX1_act 215 = .ok (.getfield 10, 3) := dk_180 0 10 (dk_at dksX1_act_8 13 rfl rfl)
theorem dX1_act_218 : decode cX1_act 218 = .ok (.iload_n 3, 1) := dk_29 (dk_at dksX1_act_8 16 rfl rfl)
theorem dX1_act_219 : decode cX1_act 219 = .ok (.aload_n 1, 1) := dk_43 (dk_at dksX1_act_8 17 rfl rfl)
theorem dX1_act_220 : decode cX1_act 220 = .ok (.getfield 467, 3) := dk_180 1 211 (dk_at dksX1_act_8 18 rfl rfl)
theorem dX1_act_223 : decode cX1_act 223 = .ok (.iload_n 2, 1) := dk_28 (dk_at dksX1_act_8 21 rfl rfl)
theorem dX1_act_224 : decode cX1_act 224 = .ok (.iaload, 1) := dk_46 (dk_at dksX1_act_8 22 rfl rfl)
theorem dX1_act_225 : decode cX1_act 225 = .ok (.invokevirtual 413, 3) := dk_182 1 157 (dk_at dksX1_act_9 0 rfl rfl)
theorem dX1_act_228 : decode cX1_act 228 = .ok (.ifCond .ge 5, 3) := dk_156 0 5 (dk_at dksX1_act_9 3 rfl rfl)
theorem dX1_act_231 : decode cX1_act 231 = .ok (.iconst 0, 1) := dk_3 (dk_at dksX1_act_9 6 rfl rfl)
theorem dX1_act_232 : decode cX1_act 232 = .ok (.ireturn, 1) := dk_172 (dk_at dksX1_act_9 7 rfl rfl)
theorem dX1_act_233 : decode cX1_act 233 = .ok (.aload_n 0, 1) := dk_42 (dk_at dksX1_act_9 8 rfl rfl)
theorem dX1_act_234 : decode cX1_act 234 = .ok (.getfield 10, 3) := dk_180 0 10 (dk_at dksX1_act_9 9 rfl rfl)
theorem dX1_act_237 : decode cX1_act 237 = .ok (.iload_n 3, 1) := dk_29 (dk_at dksX1_act_9 12 rfl rfl)
theorem dX1_act_238 : decode cX1_act 238 = .ok (.aload_n 1, 1) := dk_43 (dk_at dksX1_act_9 13 rfl rfl)
theorem dX1_act_239 : decode cX1_act 239 = .ok (.getfield 467, 3) := dk_180 1 211 (dk_at dksX1_act_9 14 rfl rfl)
theorem dX1_act_242 : decode cX1_act 242 = .ok (.iload_n 2, 1) := dk_28 (dk_at dksX1_act_9 17 rfl rfl)
theorem dX1_act_243 : decode cX1_act 243 = .ok (.iaload, 1) := dk_46 (dk_at dksX1_act_9 18 rfl rfl)
theorem dX1_act_244 : decode cX1_act 244 = .ok (.invokestatic 417, 3) := dk_184 1 161 (dk_at dksX1_act_9 19 rfl rfl)
theorem dX1_act_247 : decode cX1_act 247 = .ok (.iconst 1, 1) := dk_4 (dk_at dksX1_act_9 22 rfl rfl)
theorem dX1_act_248 : decode cX1_act 248 = .ok (.ireturn, 1) := dk_172 (dk_at dksX1_act_9 23 rfl rfl)
theorem dX1_act_249 : decode cX1_act 249 = .ok (.aload_n 0, 1) := dk_42 (dk_at dksX1_act_10 0 rfl rfl)
theorem dX1_act_250 : decode cX1_act 250 = .ok (.getfield 10, 3) := dk_180 0 10 (dk_at dksX1_act_10 1 rfl rfl)
theorem dX1_act_253 : decode cX1_act 253 = .ok (.invokevirtual 431, 3) := dk_182 1 175 (dk_at dksX1_act_10 4 rfl rfl)
theorem dX1_act_256 : decode cX1_act 256 = .ok (.iconst 1, 1) := dk_4 (dk_at dksX1_act_10 7 rfl rfl)
theorem dX1_act_257 : decode cX1_act 257 = .ok (.ireturn, 1) := dk_172 (dk_at dksX1_act_10 8 rfl rfl)
abbrev cX1_undo : ByteArray := prog_1_method_32_code
def yX1_undo : MethodName := ⟨RX1, "undo", "()I"⟩
def dkwX1_undo_1 : List UInt8 := [180, 0, 22, 42, 180, 0, 135, 50, 182, 0, 229, 42, 180, 0, 135, 172]
abbrev dktX1_undo_1 : List UInt8 := dkwX1_undo_1 ++ []
def dkwX1_undo_0 : List UInt8 := [42, 180, 0, 135, 154, 0, 5, 2, 172, 42, 89, 180, 0, 135, 4, 100, 181, 0, 135, 42, 180, 0, 10, 42]
abbrev dktX1_undo_0 : List UInt8 := dkwX1_undo_0 ++ dktX1_undo_1
theorem dksX1_undo_0 : cX1_undo.data.toList.drop 0 = dktX1_undo_0 := by decide +kernel
theorem dksX1_undo_1 : cX1_undo.data.toList.drop 24 = dktX1_undo_1 := dk_seg dksX1_undo_0 24 rfl rfl
theorem dX1_undo_0 : decode cX1_undo 0 = .ok (.aload_n 0, 1) := dk_42 (dk_at dksX1_undo_0 0 rfl rfl)
theorem dX1_undo_1 : decode cX1_undo 1 = .ok (.getfield 135, 3) := dk_180 0 135 (dk_at dksX1_undo_0 1 rfl rfl)
theorem dX1_undo_4 : decode cX1_undo 4 = .ok (.ifCond .ne 5, 3) := dk_154 0 5 (dk_at dksX1_undo_0 4 rfl rfl)
theorem dX1_undo_7 : decode cX1_undo 7 = .ok (.iconst (-1), 1) := dk_2 (dk_at dksX1_undo_0 7 rfl rfl)
theorem dX1_undo_8 : decode cX1_undo 8 = .ok (.ireturn, 1) := dk_172 (dk_at dksX1_undo_0 8 rfl rfl)
theorem dX1_undo_9 : decode cX1_undo 9 = .ok (.aload_n 0, 1) := dk_42 (dk_at dksX1_undo_0 9 rfl rfl)
theorem dX1_undo_10 : decode cX1_undo 10 = .ok (.dup, 1) := dk_89 (dk_at dksX1_undo_0 10 rfl rfl)
theorem dX1_undo_11 : decode cX1_undo 11 = .ok (.getfield 135, 3) := dk_180 0 135 (dk_at dksX1_undo_0 11 rfl rfl)
theorem dX1_undo_14 : decode cX1_undo 14 = .ok (.iconst 1, 1) := dk_4 (dk_at dksX1_undo_0 14 rfl rfl)
theorem dX1_undo_15 : decode cX1_undo 15 = .ok (.isub, 1) := dk_100 (dk_at dksX1_undo_0 15 rfl rfl)
theorem dX1_undo_16 : decode cX1_undo 16 = .ok (.putfield 135, 3) := dk_181 0 135 (dk_at dksX1_undo_0 16 rfl rfl)
theorem dX1_undo_19 : decode cX1_undo 19 = .ok (.aload_n 0, 1) := dk_42 (dk_at dksX1_undo_0 19 rfl rfl)
theorem dX1_undo_20 : decode cX1_undo 20 = .ok (.getfield 10, 3) := dk_180 0 10 (dk_at dksX1_undo_0 20 rfl rfl)
theorem dX1_undo_23 : decode cX1_undo 23 = .ok (.aload_n 0, 1) := dk_42 (dk_at dksX1_undo_0 23 rfl rfl)
theorem dX1_undo_24 : decode cX1_undo 24 = .ok (.getfield 22, 3) := dk_180 0 22 (dk_at dksX1_undo_1 0 rfl rfl)
theorem dX1_undo_27 : decode cX1_undo 27 = .ok (.aload_n 0, 1) := dk_42 (dk_at dksX1_undo_1 3 rfl rfl)
theorem dX1_undo_28 : decode cX1_undo 28 = .ok (.getfield 135, 3) := dk_180 0 135 (dk_at dksX1_undo_1 4 rfl rfl)
theorem dX1_undo_31 : decode cX1_undo 31 = .ok (.aaload, 1) := dk_50 (dk_at dksX1_undo_1 7 rfl rfl)
theorem dX1_undo_32 : decode cX1_undo 32 = .ok (.invokevirtual 229, 3) := dk_182 0 229 (dk_at dksX1_undo_1 8 rfl rfl)
theorem dX1_undo_35 : decode cX1_undo 35 = .ok (.aload_n 0, 1) := dk_42 (dk_at dksX1_undo_1 11 rfl rfl)
theorem dX1_undo_36 : decode cX1_undo 36 = .ok (.getfield 135, 3) := dk_180 0 135 (dk_at dksX1_undo_1 12 rfl rfl)
theorem dX1_undo_39 : decode cX1_undo 39 = .ok (.ireturn, 1) := dk_172 (dk_at dksX1_undo_1 15 rfl rfl)
abbrev cX1_waiting : ByteArray := prog_1_method_33_code
def yX1_waiting : MethodName := ⟨RX1, "waiting", "(I)I"⟩
def dkwX1_waiting_3 : List UInt8 := [42, 180, 0, 57, 172]
abbrev dktX1_waiting_3 : List UInt8 := dkwX1_waiting_3 ++ []
def dkwX1_waiting_2 : List UInt8 := [192, 0, 41, 78, 42, 16, 10, 45, 180, 1, 104, 104, 45, 180, 1, 214, 96, 133, 182, 1, 54, 167, 255, 220]
abbrev dktX1_waiting_2 : List UInt8 := dkwX1_waiting_2 ++ dktX1_waiting_3
def dkwX1_waiting_1 : List UInt8 := [180, 1, 2, 182, 1, 92, 77, 44, 185, 1, 96, 1, 0, 153, 0, 33, 44, 185, 1, 101, 1, 0]
abbrev dktX1_waiting_1 : List UInt8 := dkwX1_waiting_1 ++ dktX1_waiting_2
def dkwX1_waiting_0 : List UInt8 := [42, 27, 182, 0, 159, 154, 0, 5, 2, 172, 42, 3, 181, 0, 57, 42, 180, 0, 10, 180, 0, 113, 27, 50]
abbrev dktX1_waiting_0 : List UInt8 := dkwX1_waiting_0 ++ dktX1_waiting_1
theorem dksX1_waiting_0 : cX1_waiting.data.toList.drop 0 = dktX1_waiting_0 := by decide +kernel
theorem dksX1_waiting_1 : cX1_waiting.data.toList.drop 24 = dktX1_waiting_1 := dk_seg dksX1_waiting_0 24 rfl rfl
theorem dksX1_waiting_2 : cX1_waiting.data.toList.drop 46 = dktX1_waiting_2 := dk_seg dksX1_waiting_1 22 rfl rfl
theorem dksX1_waiting_3 : cX1_waiting.data.toList.drop 70 = dktX1_waiting_3 := dk_seg dksX1_waiting_2 24 rfl rfl
theorem dX1_waiting_0 : decode cX1_waiting 0 = .ok (.aload_n 0, 1) := dk_42 (dk_at dksX1_waiting_0 0 rfl rfl)
theorem dX1_waiting_1 : decode cX1_waiting 1 = .ok (.iload_n 1, 1) := dk_27 (dk_at dksX1_waiting_0 1 rfl rfl)
theorem dX1_waiting_2 : decode cX1_waiting 2 = .ok (.invokevirtual 159, 3) := dk_182 0 159 (dk_at dksX1_waiting_0 2 rfl rfl)
theorem dX1_waiting_5 : decode cX1_waiting 5 = .ok (.ifCond .ne 5, 3) := dk_154 0 5 (dk_at dksX1_waiting_0 5 rfl rfl)
theorem dX1_waiting_8 : decode cX1_waiting 8 = .ok (.iconst (-1), 1) := dk_2 (dk_at dksX1_waiting_0 8 rfl rfl)
theorem dX1_waiting_9 : decode cX1_waiting 9 = .ok (.ireturn, 1) := dk_172 (dk_at dksX1_waiting_0 9 rfl rfl)
theorem dX1_waiting_10 : decode cX1_waiting 10 = .ok (.aload_n 0, 1) := dk_42 (dk_at dksX1_waiting_0 10 rfl rfl)
theorem dX1_waiting_11 : decode cX1_waiting 11 = .ok (.iconst 0, 1) := dk_3 (dk_at dksX1_waiting_0 11 rfl rfl)
theorem dX1_waiting_12 : decode cX1_waiting 12 = .ok (.putfield 57, 3) := dk_181 0 57 (dk_at dksX1_waiting_0 12 rfl rfl)
theorem dX1_waiting_15 : decode cX1_waiting 15 = .ok (.aload_n 0, 1) := dk_42 (dk_at dksX1_waiting_0 15 rfl rfl)
theorem dX1_waiting_16 : decode cX1_waiting 16 = .ok (.getfield 10, 3) := dk_180 0 10 (dk_at dksX1_waiting_0 16 rfl rfl)
theorem dX1_waiting_19 : decode cX1_waiting 19 = .ok (.getfield 113, 3) := dk_180 0 113 (dk_at dksX1_waiting_0 19 rfl rfl)
theorem dX1_waiting_22 : decode cX1_waiting 22 = .ok (.iload_n 1, 1) := dk_27 (dk_at dksX1_waiting_0 22 rfl rfl)
theorem dX1_waiting_23 : decode cX1_waiting 23 = .ok (.aaload, 1) := dk_50 (dk_at dksX1_waiting_0 23 rfl rfl)
theorem dX1_waiting_24 : decode cX1_waiting 24 = .ok (.getfield 258, 3) := dk_180 1 2 (dk_at dksX1_waiting_1 0 rfl rfl)
theorem dX1_waiting_27 : decode cX1_waiting 27 = .ok (.invokevirtual 348, 3) := dk_182 1 92 (dk_at dksX1_waiting_1 3 rfl rfl)
theorem dX1_waiting_30 : decode cX1_waiting 30 = .ok (.astore_n 2, 1) := dk_77 (dk_at dksX1_waiting_1 6 rfl rfl)
theorem dX1_waiting_31 : decode cX1_waiting 31 = .ok (.aload_n 2, 1) := dk_44 (dk_at dksX1_waiting_1 7 rfl rfl)
theorem dX1_waiting_32 : decode cX1_waiting 32 = .ok (.invokeinterface 352 1, 5) := by decide +kernel
theorem dX1_waiting_37 : decode cX1_waiting 37 = .ok (.ifCond .eq 33, 3) := dk_153 0 33 (dk_at dksX1_waiting_1 13 rfl rfl)
theorem dX1_waiting_40 : decode cX1_waiting 40 = .ok (.aload_n 2, 1) := dk_44 (dk_at dksX1_waiting_1 16 rfl rfl)
theorem dX1_waiting_41 : decode cX1_waiting 41 = .ok (.invokeinterface 357 1, 5) := by decide +kernel
theorem dX1_waiting_46 : decode cX1_waiting 46 = .ok (.checkcast 41, 3) := dk_192 0 41 (dk_at dksX1_waiting_2 0 rfl rfl)
theorem dX1_waiting_49 : decode cX1_waiting 49 = .ok (.astore_n 3, 1) := dk_78 (dk_at dksX1_waiting_2 3 rfl rfl)
theorem dX1_waiting_50 : decode cX1_waiting 50 = .ok (.aload_n 0, 1) := dk_42 (dk_at dksX1_waiting_2 4 rfl rfl)
theorem dX1_waiting_51 : decode cX1_waiting 51 = .ok (.bipush 10, 2) := dk_16 10 (dk_at dksX1_waiting_2 5 rfl rfl)
theorem dX1_waiting_53 : decode cX1_waiting 53 = .ok (.aload_n 3, 1) := dk_45 (dk_at dksX1_waiting_2 7 rfl rfl)
theorem dX1_waiting_54 : decode cX1_waiting 54 = .ok (.getfield 360, 3) := dk_180 1 104 (dk_at dksX1_waiting_2 8 rfl rfl)
theorem dX1_waiting_57 : decode cX1_waiting 57 = .ok (.imul, 1) := dk_104 (dk_at dksX1_waiting_2 11 rfl rfl)
theorem dX1_waiting_58 : decode cX1_waiting 58 = .ok (.aload_n 3, 1) := dk_45 (dk_at dksX1_waiting_2 12 rfl rfl)
theorem dX1_waiting_59 : decode cX1_waiting 59 = .ok (.getfield 470, 3) := dk_180 1 214 (dk_at dksX1_waiting_2 13 rfl rfl)
theorem dX1_waiting_62 : decode cX1_waiting 62 = .ok (.iadd, 1) := dk_96 (dk_at dksX1_waiting_2 16 rfl rfl)
theorem dX1_waiting_63 : decode cX1_waiting 63 = .ok (.i2l, 1) := dk_133 (dk_at dksX1_waiting_2 17 rfl rfl)
theorem dX1_waiting_64 : decode cX1_waiting 64 = .ok (.invokevirtual 310, 3) := dk_182 1 54 (dk_at dksX1_waiting_2 18 rfl rfl)
theorem dX1_waiting_67 : decode cX1_waiting 67 = .ok (.goto (-36), 3) := dk_167 255 220 (dk_at dksX1_waiting_2 21 rfl rfl)
theorem dX1_waiting_70 : decode cX1_waiting 70 = .ok (.aload_n 0, 1) := dk_42 (dk_at dksX1_waiting_3 0 rfl rfl)
theorem dX1_waiting_71 : decode cX1_waiting 71 = .ok (.getfield 57, 3) := dk_180 0 57 (dk_at dksX1_waiting_3 1 rfl rfl)
theorem dX1_waiting_74 : decode cX1_waiting 74 = .ok (.ireturn, 1) := dk_172 (dk_at dksX1_waiting_3 4 rfl rfl)
abbrev cX1_running : ByteArray := prog_1_method_34_code
def yX1_running : MethodName := ⟨RX1, "running", "()I"⟩
def dkwX1_running_3 : List UInt8 := [42, 180, 0, 57, 172]
abbrev dktX1_running_3 : List UInt8 := dkwX1_running_3 ++ []
def dkwX1_running_2 : List UInt8 := [104, 16, 10, 44, 180, 1, 146, 180, 1, 104, 104, 96, 44, 180, 1, 127, 96, 133, 182, 1, 54, 167, 255, 205]
abbrev dktX1_running_2 : List UInt8 := dkwX1_running_2 ++ dktX1_running_3
def dkwX1_running_1 : List UInt8 := [153, 0, 48, 43, 185, 1, 101, 1, 0, 192, 1, 121, 77, 42, 17, 3, 232, 44, 180, 1, 146, 180, 1, 216]
abbrev dktX1_running_1 : List UInt8 := dkwX1_running_1 ++ dktX1_running_2
def dkwX1_running_0 : List UInt8 := [42, 3, 181, 0, 57, 42, 180, 0, 10, 180, 1, 44, 182, 1, 120, 76, 43, 185, 1, 96, 1, 0]
abbrev dktX1_running_0 : List UInt8 := dkwX1_running_0 ++ dktX1_running_1
theorem dksX1_running_0 : cX1_running.data.toList.drop 0 = dktX1_running_0 := by decide +kernel
theorem dksX1_running_1 : cX1_running.data.toList.drop 22 = dktX1_running_1 := dk_seg dksX1_running_0 22 rfl rfl
theorem dksX1_running_2 : cX1_running.data.toList.drop 46 = dktX1_running_2 := dk_seg dksX1_running_1 24 rfl rfl
theorem dksX1_running_3 : cX1_running.data.toList.drop 70 = dktX1_running_3 := dk_seg dksX1_running_2 24 rfl rfl
theorem dX1_running_0 : decode cX1_running 0 = .ok (.aload_n 0, 1) := dk_42 (dk_at dksX1_running_0 0 rfl rfl)
theorem dX1_running_1 : decode cX1_running 1 = .ok (.iconst 0, 1) := dk_3 (dk_at dksX1_running_0 1 rfl rfl)
theorem dX1_running_2 : decode cX1_running 2 = .ok (.putfield 57, 3) := dk_181 0 57 (dk_at dksX1_running_0 2 rfl rfl)
theorem dX1_running_5 : decode cX1_running 5 = .ok (.aload_n 0, 1) := dk_42 (dk_at dksX1_running_0 5 rfl rfl)
theorem dX1_running_6 : decode cX1_running 6 = .ok (.getfield 10, 3) := dk_180 0 10 (dk_at dksX1_running_0 6 rfl rfl)
theorem dX1_running_9 : decode cX1_running 9 = .ok (.getfield 300, 3) := dk_180 1 44 (dk_at dksX1_running_0 9 rfl rfl)
theorem dX1_running_12 : decode cX1_running 12 = .ok (.invokevirtual 376, 3) := dk_182 1 120 (dk_at dksX1_running_0 12 rfl rfl)
theorem dX1_running_15 : decode cX1_running 15 = .ok (.astore_n 1, 1) := dk_76 (dk_at dksX1_running_0 15 rfl rfl)
theorem dX1_running_16 : decode cX1_running 16 = .ok (.aload_n 1, 1) := dk_43 (dk_at dksX1_running_0 16 rfl rfl)
theorem dX1_running_17 : decode cX1_running 17 = .ok (.invokeinterface 352 1, 5) := by decide +kernel
theorem dX1_running_22 : decode cX1_running 22 = .ok (.ifCond .eq 48, 3) := dk_153 0 48 (dk_at dksX1_running_1 0 rfl rfl)
theorem dX1_running_25 : decode cX1_running 25 = .ok (.aload_n 1, 1) := dk_43 (dk_at dksX1_running_1 3 rfl rfl)
theorem dX1_running_26 : decode cX1_running 26 = .ok (.invokeinterface 357 1, 5) := by decide +kernel
theorem dX1_running_31 : decode cX1_running 31 = .ok (.checkcast 377, 3) := dk_192 1 121 (dk_at dksX1_running_1 9 rfl rfl)
theorem dX1_running_34 : decode cX1_running 34 = .ok (.astore_n 2, 1) := dk_77 (dk_at dksX1_running_1 12 rfl rfl)
theorem dX1_running_35 : decode cX1_running 35 = .ok (.aload_n 0, 1) := dk_42 (dk_at dksX1_running_1 13 rfl rfl)
theorem dX1_running_36 : decode cX1_running 36 = .ok (.sipush 1000, 3) := dk_17 3 232 (dk_at dksX1_running_1 14 rfl rfl)
theorem dX1_running_39 : decode cX1_running 39 = .ok (.aload_n 2, 1) := dk_44 (dk_at dksX1_running_1 17 rfl rfl)
theorem dX1_running_40 : decode cX1_running 40 = .ok (.getfield 402, 3) := dk_180 1 146 (dk_at dksX1_running_1 18 rfl rfl)
theorem dX1_running_43 : decode cX1_running 43 = .ok (.getfield 472, 3) := dk_180 1 216 (dk_at dksX1_running_1 21 rfl rfl)
theorem dX1_running_46 : decode cX1_running 46 = .ok (.imul, 1) := dk_104 (dk_at dksX1_running_2 0 rfl rfl)
theorem dX1_running_47 : decode cX1_running 47 = .ok (.bipush 10, 2) := dk_16 10 (dk_at dksX1_running_2 1 rfl rfl)
theorem dX1_running_49 : decode cX1_running 49 = .ok (.aload_n 2, 1) := dk_44 (dk_at dksX1_running_2 3 rfl rfl)
theorem dX1_running_50 : decode cX1_running 50 = .ok (.getfield 402, 3) := dk_180 1 146 (dk_at dksX1_running_2 4 rfl rfl)
theorem dX1_running_53 : decode cX1_running 53 = .ok (.getfield 360, 3) := dk_180 1 104 (dk_at dksX1_running_2 7 rfl rfl)
theorem dX1_running_56 : decode cX1_running 56 = .ok (.imul, 1) := dk_104 (dk_at dksX1_running_2 10 rfl rfl)
theorem dX1_running_57 : decode cX1_running 57 = .ok (.iadd, 1) := dk_96 (dk_at dksX1_running_2 11 rfl rfl)
theorem dX1_running_58 : decode cX1_running 58 = .ok (.aload_n 2, 1) := dk_44 (dk_at dksX1_running_2 12 rfl rfl)
theorem dX1_running_59 : decode cX1_running 59 = .ok (.getfield 383, 3) := dk_180 1 127 (dk_at dksX1_running_2 13 rfl rfl)
theorem dX1_running_62 : decode cX1_running 62 = .ok (.iadd, 1) := dk_96 (dk_at dksX1_running_2 16 rfl rfl)
theorem dX1_running_63 : decode cX1_running 63 = .ok (.i2l, 1) := dk_133 (dk_at dksX1_running_2 17 rfl rfl)
theorem dX1_running_64 : decode cX1_running 64 = .ok (.invokevirtual 310, 3) := dk_182 1 54 (dk_at dksX1_running_2 18 rfl rfl)
theorem dX1_running_67 : decode cX1_running 67 = .ok (.goto (-51), 3) := dk_167 255 205 (dk_at dksX1_running_2 21 rfl rfl)
theorem dX1_running_70 : decode cX1_running 70 = .ok (.aload_n 0, 1) := dk_42 (dk_at dksX1_running_3 0 rfl rfl)
theorem dX1_running_71 : decode cX1_running 71 = .ok (.getfield 57, 3) := dk_180 0 57 (dk_at dksX1_running_3 1 rfl rfl)
theorem dX1_running_74 : decode cX1_running 74 = .ok (.ireturn, 1) := dk_172 (dk_at dksX1_running_3 4 rfl rfl)
abbrev cX1_outbox : ByteArray := prog_1_method_35_code
def yX1_outbox : MethodName := ⟨RX1, "outbox", "()I"⟩
def dkwX1_outbox_3 : List UInt8 := [182, 1, 54, 167, 255, 202, 42, 180, 0, 10, 180, 1, 143, 182, 1, 171, 172]
abbrev dktX1_outbox_3 : List UInt8 := dkwX1_outbox_3 ++ []
def dkwX1_outbox_2 : List UInt8 := [17, 3, 232, 44, 180, 1, 219, 104, 16, 10, 44, 180, 1, 86, 104, 96, 44, 180, 1, 89, 96, 133]
abbrev dktX1_outbox_2 : List UInt8 := dkwX1_outbox_2 ++ dktX1_outbox_3
def dkwX1_outbox_1 : List UInt8 := [153, 0, 51, 43, 185, 1, 101, 1, 0, 192, 1, 76, 77, 42, 180, 0, 57, 16, 12, 162, 0, 29, 42]
abbrev dktX1_outbox_1 : List UInt8 := dkwX1_outbox_1 ++ dktX1_outbox_2
def dkwX1_outbox_0 : List UInt8 := [42, 3, 181, 0, 57, 42, 180, 0, 10, 180, 1, 143, 182, 1, 120, 76, 43, 185, 1, 96, 1, 0]
abbrev dktX1_outbox_0 : List UInt8 := dkwX1_outbox_0 ++ dktX1_outbox_1
theorem dksX1_outbox_0 : cX1_outbox.data.toList.drop 0 = dktX1_outbox_0 := by decide +kernel
theorem dksX1_outbox_1 : cX1_outbox.data.toList.drop 22 = dktX1_outbox_1 := dk_seg dksX1_outbox_0 22 rfl rfl
theorem dksX1_outbox_2 : cX1_outbox.data.toList.drop 45 = dktX1_outbox_2 := dk_seg dksX1_outbox_1 23 rfl rfl
theorem dksX1_outbox_3 : cX1_outbox.data.toList.drop 67 = dktX1_outbox_3 := dk_seg dksX1_outbox_2 22 rfl rfl
theorem dX1_outbox_0 : decode cX1_outbox 0 = .ok (.aload_n 0, 1) := dk_42 (dk_at dksX1_outbox_0 0 rfl rfl)
theorem dX1_outbox_1 : decode cX1_outbox 1 = .ok (.iconst 0, 1) := dk_3 (dk_at dksX1_outbox_0 1 rfl rfl)
theorem dX1_outbox_2 : decode cX1_outbox 2 = .ok (.putfield 57, 3) := dk_181 0 57 (dk_at dksX1_outbox_0 2 rfl rfl)
theorem dX1_outbox_5 : decode cX1_outbox 5 = .ok (.aload_n 0, 1) := dk_42 (dk_at dksX1_outbox_0 5 rfl rfl)
theorem dX1_outbox_6 : decode cX1_outbox 6 = .ok (.getfield 10, 3) := dk_180 0 10 (dk_at dksX1_outbox_0 6 rfl rfl)
theorem dX1_outbox_9 : decode cX1_outbox 9 = .ok (.getfield 399, 3) := dk_180 1 143 (dk_at dksX1_outbox_0 9 rfl rfl)
theorem dX1_outbox_12 : decode cX1_outbox 12 = .ok (.invokevirtual 376, 3) := dk_182 1 120 (dk_at dksX1_outbox_0 12 rfl rfl)
theorem dX1_outbox_15 : decode cX1_outbox 15 = .ok (.astore_n 1, 1) := dk_76 (dk_at dksX1_outbox_0 15 rfl rfl)
theorem dX1_outbox_16 : decode cX1_outbox 16 = .ok (.aload_n 1, 1) := dk_43 (dk_at dksX1_outbox_0 16 rfl rfl)
theorem dX1_outbox_17 : decode cX1_outbox 17 = .ok (.invokeinterface 352 1, 5) := by decide +kernel
theorem dX1_outbox_22 : decode cX1_outbox 22 = .ok (.ifCond .eq 51, 3) := dk_153 0 51 (dk_at dksX1_outbox_1 0 rfl rfl)
theorem dX1_outbox_25 : decode cX1_outbox 25 = .ok (.aload_n 1, 1) := dk_43 (dk_at dksX1_outbox_1 3 rfl rfl)
theorem dX1_outbox_26 : decode cX1_outbox 26 = .ok (.invokeinterface 357 1, 5) := by decide +kernel
theorem dX1_outbox_31 : decode cX1_outbox 31 = .ok (.checkcast 332, 3) := dk_192 1 76 (dk_at dksX1_outbox_1 9 rfl rfl)
theorem dX1_outbox_34 : decode cX1_outbox 34 = .ok (.astore_n 2, 1) := dk_77 (dk_at dksX1_outbox_1 12 rfl rfl)
theorem dX1_outbox_35 : decode cX1_outbox 35 = .ok (.aload_n 0, 1) := dk_42 (dk_at dksX1_outbox_1 13 rfl rfl)
theorem dX1_outbox_36 : decode cX1_outbox 36 = .ok (.getfield 57, 3) := dk_180 0 57 (dk_at dksX1_outbox_1 14 rfl rfl)
theorem dX1_outbox_39 : decode cX1_outbox 39 = .ok (.bipush 12, 2) := dk_16 12 (dk_at dksX1_outbox_1 17 rfl rfl)
theorem dX1_outbox_41 : decode cX1_outbox 41 = .ok (.if_icmp .ge 29, 3) := dk_162 0 29 (dk_at dksX1_outbox_1 19 rfl rfl)
theorem dX1_outbox_44 : decode cX1_outbox 44 = .ok (.aload_n 0, 1) := dk_42 (dk_at dksX1_outbox_1 22 rfl rfl)
theorem dX1_outbox_45 : decode cX1_outbox 45 = .ok (.sipush 1000, 3) := dk_17 3 232 (dk_at dksX1_outbox_2 0 rfl rfl)
theorem dX1_outbox_48 : decode cX1_outbox 48 = .ok (.aload_n 2, 1) := dk_44 (dk_at dksX1_outbox_2 3 rfl rfl)
theorem dX1_outbox_49 : decode cX1_outbox 49 = .ok (.getfield 475, 3) := dk_180 1 219 (dk_at dksX1_outbox_2 4 rfl rfl)
theorem dX1_outbox_52 : decode cX1_outbox 52 = .ok (.imul, 1) := dk_104 (dk_at dksX1_outbox_2 7 rfl rfl)
theorem dX1_outbox_53 : decode cX1_outbox 53 = .ok (.bipush 10, 2) := dk_16 10 (dk_at dksX1_outbox_2 8 rfl rfl)
theorem dX1_outbox_55 : decode cX1_outbox 55 = .ok (.aload_n 2, 1) := dk_44 (dk_at dksX1_outbox_2 10 rfl rfl)
theorem dX1_outbox_56 : decode cX1_outbox 56 = .ok (.getfield 342, 3) := dk_180 1 86 (dk_at dksX1_outbox_2 11 rfl rfl)
theorem dX1_outbox_59 : decode cX1_outbox 59 = .ok (.imul, 1) := dk_104 (dk_at dksX1_outbox_2 14 rfl rfl)
theorem dX1_outbox_60 : decode cX1_outbox 60 = .ok (.iadd, 1) := dk_96 (dk_at dksX1_outbox_2 15 rfl rfl)
theorem dX1_outbox_61 : decode cX1_outbox 61 = .ok (.aload_n 2, 1) := dk_44 (dk_at dksX1_outbox_2 16 rfl rfl)
theorem dX1_outbox_62 : decode cX1_outbox 62 = .ok (.getfield 345, 3) := dk_180 1 89 (dk_at dksX1_outbox_2 17 rfl rfl)
theorem dX1_outbox_65 : decode cX1_outbox 65 = .ok (.iadd, 1) := dk_96 (dk_at dksX1_outbox_2 20 rfl rfl)
theorem dX1_outbox_66 : decode cX1_outbox 66 = .ok (.i2l, 1) := dk_133 (dk_at dksX1_outbox_2 21 rfl rfl)
theorem dX1_outbox_67 : decode cX1_outbox 67 = .ok (.invokevirtual 310, 3) := dk_182 1 54 (dk_at dksX1_outbox_3 0 rfl rfl)
theorem dX1_outbox_70 : decode cX1_outbox 70 = .ok (.goto (-54), 3) := dk_167 255 202 (dk_at dksX1_outbox_3 3 rfl rfl)
theorem dX1_outbox_73 : decode cX1_outbox 73 = .ok (.aload_n 0, 1) := dk_42 (dk_at dksX1_outbox_3 6 rfl rfl)
theorem dX1_outbox_74 : decode cX1_outbox 74 = .ok (.getfield 10, 3) := dk_180 0 10 (dk_at dksX1_outbox_3 7 rfl rfl)
theorem dX1_outbox_77 : decode cX1_outbox 77 = .ok (.getfield 399, 3) := dk_180 1 143 (dk_at dksX1_outbox_3 10 rfl rfl)
theorem dX1_outbox_80 : decode cX1_outbox 80 = .ok (.invokevirtual 427, 3) := dk_182 1 171 (dk_at dksX1_outbox_3 13 rfl rfl)
theorem dX1_outbox_83 : decode cX1_outbox 83 = .ok (.ireturn, 1) := dk_172 (dk_at dksX1_outbox_3 16 rfl rfl)
abbrev cX1_phases : ByteArray := prog_1_method_36_code
def yX1_phases : MethodName := ⟨RX1, "phases", "(I)I"⟩
def dkwX1_phases_4 : List UInt8 := [182, 1, 220, 133, 182, 1, 54, 29, 172]
abbrev dktX1_phases_4 : List UInt8 := dkwX1_phases_4 ++ []
def dkwX1_phases_3 : List UInt8 := [181, 0, 57, 42, 44, 180, 0, 184, 44, 180, 0, 125, 112, 133, 182, 1, 54, 42, 44, 44, 180, 0, 184]
abbrev dktX1_phases_3 : List UInt8 := dkwX1_phases_3 ++ dktX1_phases_4
def dkwX1_phases_2 : List UInt8 := [21, 4, 182, 1, 220, 21, 4, 44, 180, 0, 125, 112, 120, 128, 62, 132, 4, 1, 167, 255, 227, 42, 3]
abbrev dktX1_phases_2 : List UInt8 := dkwX1_phases_2 ++ dktX1_phases_3
def dkwX1_phases_1 : List UInt8 := [180, 0, 181, 44, 180, 0, 125, 100, 184, 0, 217, 54, 4, 21, 4, 44, 180, 0, 181, 162, 0, 26, 29, 44]
abbrev dktX1_phases_1 : List UInt8 := dkwX1_phases_1 ++ dktX1_phases_2
def dkwX1_phases_0 : List UInt8 := [42, 27, 182, 0, 159, 154, 0, 5, 2, 172, 42, 180, 0, 10, 180, 0, 113, 27, 50, 77, 3, 62, 3, 44]
abbrev dktX1_phases_0 : List UInt8 := dkwX1_phases_0 ++ dktX1_phases_1
theorem dksX1_phases_0 : cX1_phases.data.toList.drop 0 = dktX1_phases_0 := by decide +kernel
theorem dksX1_phases_1 : cX1_phases.data.toList.drop 24 = dktX1_phases_1 := dk_seg dksX1_phases_0 24 rfl rfl
theorem dksX1_phases_2 : cX1_phases.data.toList.drop 48 = dktX1_phases_2 := dk_seg dksX1_phases_1 24 rfl rfl
theorem dksX1_phases_3 : cX1_phases.data.toList.drop 71 = dktX1_phases_3 := dk_seg dksX1_phases_2 23 rfl rfl
theorem dksX1_phases_4 : cX1_phases.data.toList.drop 94 = dktX1_phases_4 := dk_seg dksX1_phases_3 23 rfl rfl
theorem dX1_phases_0 : decode cX1_phases 0 = .ok (.aload_n 0, 1) := dk_42 (dk_at dksX1_phases_0 0 rfl rfl)
theorem dX1_phases_1 : decode cX1_phases 1 = .ok (.iload_n 1, 1) := dk_27 (dk_at dksX1_phases_0 1 rfl rfl)
theorem dX1_phases_2 : decode cX1_phases 2 = .ok (.invokevirtual 159, 3) := dk_182 0 159 (dk_at dksX1_phases_0 2 rfl rfl)
theorem dX1_phases_5 : decode cX1_phases 5 = .ok (.ifCond .ne 5, 3) := dk_154 0 5 (dk_at dksX1_phases_0 5 rfl rfl)
theorem dX1_phases_8 : decode cX1_phases 8 = .ok (.iconst (-1), 1) := dk_2 (dk_at dksX1_phases_0 8 rfl rfl)
theorem dX1_phases_9 : decode cX1_phases 9 = .ok (.ireturn, 1) := dk_172 (dk_at dksX1_phases_0 9 rfl rfl)
theorem dX1_phases_10 : decode cX1_phases 10 = .ok (.aload_n 0, 1) := dk_42 (dk_at dksX1_phases_0 10 rfl rfl)
theorem dX1_phases_11 : decode cX1_phases 11 = .ok (.getfield 10, 3) := dk_180 0 10 (dk_at dksX1_phases_0 11 rfl rfl)
theorem dX1_phases_14 : decode cX1_phases 14 = .ok (.getfield 113, 3) := dk_180 0 113 (dk_at dksX1_phases_0 14 rfl rfl)
theorem dX1_phases_17 : decode cX1_phases 17 = .ok (.iload_n 1, 1) := dk_27 (dk_at dksX1_phases_0 17 rfl rfl)
theorem dX1_phases_18 : decode cX1_phases 18 = .ok (.aaload, 1) := dk_50 (dk_at dksX1_phases_0 18 rfl rfl)
theorem dX1_phases_19 : decode cX1_phases 19 = .ok (.astore_n 2, 1) := dk_77 (dk_at dksX1_phases_0 19 rfl rfl)
theorem dX1_phases_20 : decode cX1_phases 20 = .ok (.iconst 0, 1) := dk_3 (dk_at dksX1_phases_0 20 rfl rfl)
theorem dX1_phases_21 : decode cX1_phases 21 = .ok (.istore_n 3, 1) := dk_62 (dk_at dksX1_phases_0 21 rfl rfl)
theorem dX1_phases_22 : decode cX1_phases 22 = .ok (.iconst 0, 1) := dk_3 (dk_at dksX1_phases_0 22 rfl rfl)
theorem dX1_phases_23 : decode cX1_phases 23 = .ok (.aload_n 2, 1) := dk_44 (dk_at dksX1_phases_0 23 rfl rfl)
theorem dX1_phases_24 : decode cX1_phases 24 = .ok (.getfield 181, 3) := dk_180 0 181 (dk_at dksX1_phases_1 0 rfl rfl)
theorem dX1_phases_27 : decode cX1_phases 27 = .ok (.aload_n 2, 1) := dk_44 (dk_at dksX1_phases_1 3 rfl rfl)
theorem dX1_phases_28 : decode cX1_phases 28 = .ok (.getfield 125, 3) := dk_180 0 125 (dk_at dksX1_phases_1 4 rfl rfl)
theorem dX1_phases_31 : decode cX1_phases 31 = .ok (.isub, 1) := dk_100 (dk_at dksX1_phases_1 7 rfl rfl)
theorem dX1_phases_32 : decode cX1_phases 32 = .ok (.invokestatic 217, 3) := dk_184 0 217 (dk_at dksX1_phases_1 8 rfl rfl)
theorem dX1_phases_35 : decode cX1_phases 35 = .ok (.istore 4, 2) := dk_54 4 (dk_at dksX1_phases_1 11 rfl rfl)
theorem dX1_phases_37 : decode cX1_phases 37 = .ok (.iload 4, 2) := dk_21 4 (dk_at dksX1_phases_1 13 rfl rfl)
theorem dX1_phases_39 : decode cX1_phases 39 = .ok (.aload_n 2, 1) := dk_44 (dk_at dksX1_phases_1 15 rfl rfl)
theorem dX1_phases_40 : decode cX1_phases 40 = .ok (.getfield 181, 3) := dk_180 0 181 (dk_at dksX1_phases_1 16 rfl rfl)
theorem dX1_phases_43 : decode cX1_phases 43 = .ok (.if_icmp .ge 26, 3) := dk_162 0 26 (dk_at dksX1_phases_1 19 rfl rfl)
theorem dX1_phases_46 : decode cX1_phases 46 = .ok (.iload_n 3, 1) := dk_29 (dk_at dksX1_phases_1 22 rfl rfl)
theorem dX1_phases_47 : decode cX1_phases 47 = .ok (.aload_n 2, 1) := dk_44 (dk_at dksX1_phases_1 23 rfl rfl)
theorem dX1_phases_48 : decode cX1_phases 48 = .ok (.iload 4, 2) := dk_21 4 (dk_at dksX1_phases_2 0 rfl rfl)
theorem dX1_phases_50 : decode cX1_phases 50 = .ok (.invokevirtual 476, 3) := dk_182 1 220 (dk_at dksX1_phases_2 2 rfl rfl)
theorem dX1_phases_53 : decode cX1_phases 53 = .ok (.iload 4, 2) := dk_21 4 (dk_at dksX1_phases_2 5 rfl rfl)
theorem dX1_phases_55 : decode cX1_phases 55 = .ok (.aload_n 2, 1) := dk_44 (dk_at dksX1_phases_2 7 rfl rfl)
theorem dX1_phases_56 : decode cX1_phases 56 = .ok (.getfield 125, 3) := dk_180 0 125 (dk_at dksX1_phases_2 8 rfl rfl)
theorem dX1_phases_59 : decode cX1_phases 59 = .ok (.irem, 1) := dk_112 (dk_at dksX1_phases_2 11 rfl rfl)
theorem dX1_phases_60 : decode cX1_phases 60 = .ok (.ishl, 1) := dk_120 (dk_at dksX1_phases_2 12 rfl rfl)
theorem dX1_phases_61 : decode cX1_phases 61 = .ok (.ior, 1) := dk_128 (dk_at dksX1_phases_2 13 rfl rfl)
theorem dX1_phases_62 : decode cX1_phases 62 = .ok (.istore_n 3, 1) := dk_62 (dk_at dksX1_phases_2 14 rfl rfl)
theorem dX1_phases_63 : decode cX1_phases 63 = .ok (.iinc 4 1, 3) := dk_132 4 1 (dk_at dksX1_phases_2 15 rfl rfl)
theorem dX1_phases_66 : decode cX1_phases 66 = .ok (.goto (-29), 3) := dk_167 255 227 (dk_at dksX1_phases_2 18 rfl rfl)
theorem dX1_phases_69 : decode cX1_phases 69 = .ok (.aload_n 0, 1) := dk_42 (dk_at dksX1_phases_2 21 rfl rfl)
theorem dX1_phases_70 : decode cX1_phases 70 = .ok (.iconst 0, 1) := dk_3 (dk_at dksX1_phases_2 22 rfl rfl)
theorem dX1_phases_71 : decode cX1_phases 71 = .ok (.putfield 57, 3) := dk_181 0 57 (dk_at dksX1_phases_3 0 rfl rfl)
theorem dX1_phases_74 : decode cX1_phases 74 = .ok (.aload_n 0, 1) := dk_42 (dk_at dksX1_phases_3 3 rfl rfl)
theorem dX1_phases_75 : decode cX1_phases 75 = .ok (.aload_n 2, 1) := dk_44 (dk_at dksX1_phases_3 4 rfl rfl)
theorem dX1_phases_76 : decode cX1_phases 76 = .ok (.getfield 184, 3) := dk_180 0 184 (dk_at dksX1_phases_3 5 rfl rfl)
theorem dX1_phases_79 : decode cX1_phases 79 = .ok (.aload_n 2, 1) := dk_44 (dk_at dksX1_phases_3 8 rfl rfl)
theorem dX1_phases_80 : decode cX1_phases 80 = .ok (.getfield 125, 3) := dk_180 0 125 (dk_at dksX1_phases_3 9 rfl rfl)
theorem dX1_phases_83 : decode cX1_phases 83 = .ok (.irem, 1) := dk_112 (dk_at dksX1_phases_3 12 rfl rfl)
theorem dX1_phases_84 : decode cX1_phases 84 = .ok (.i2l, 1) := dk_133 (dk_at dksX1_phases_3 13 rfl rfl)
theorem dX1_phases_85 : decode cX1_phases 85 = .ok (.invokevirtual 310, 3) := dk_182 1 54 (dk_at dksX1_phases_3 14 rfl rfl)
theorem dX1_phases_88 : decode cX1_phases 88 = .ok (.aload_n 0, 1) := dk_42 (dk_at dksX1_phases_3 17 rfl rfl)
theorem dX1_phases_89 : decode cX1_phases 89 = .ok (.aload_n 2, 1) := dk_44 (dk_at dksX1_phases_3 18 rfl rfl)
theorem dX1_phases_90 : decode cX1_phases 90 = .ok (.aload_n 2, 1) := dk_44 (dk_at dksX1_phases_3 19 rfl rfl)
theorem dX1_phases_91 : decode cX1_phases 91 = .ok (.getfield 184, 3) := dk_180 0 184 (dk_at dksX1_phases_3 20 rfl rfl)
theorem dX1_phases_94 : decode cX1_phases 94 = .ok (.invokevirtual 476, 3) := dk_182 1 220 (dk_at dksX1_phases_4 0 rfl rfl)
theorem dX1_phases_97 : decode cX1_phases 97 = .ok (.i2l, 1) := dk_133 (dk_at dksX1_phases_4 3 rfl rfl)
theorem dX1_phases_98 : decode cX1_phases 98 = .ok (.invokevirtual 310, 3) := dk_182 1 54 (dk_at dksX1_phases_4 4 rfl rfl)
theorem dX1_phases_101 : decode cX1_phases 101 = .ok (.iload_n 3, 1) := dk_29 (dk_at dksX1_phases_4 7 rfl rfl)
theorem dX1_phases_102 : decode cX1_phases 102 = .ok (.ireturn, 1) := dk_172 (dk_at dksX1_phases_4 8 rfl rfl)
abbrev cX1_room : ByteArray := prog_1_method_37_code
def yX1_room : MethodName := ⟨RX1, "room", "(I)I"⟩
def dkwX1_room_2 : List UInt8 := [182, 0, 239, 44, 182, 0, 242, 184, 0, 211, 172]
abbrev dktX1_room_2 : List UInt8 := dkwX1_room_2 ++ []
def dkwX1_room_1 : List UInt8 := [181, 0, 57, 42, 44, 182, 0, 239, 133, 182, 1, 54, 42, 44, 182, 0, 242, 133, 182, 1, 54, 44]
abbrev dktX1_room_1 : List UInt8 := dkwX1_room_1 ++ dktX1_room_2
def dkwX1_room_0 : List UInt8 := [42, 27, 182, 0, 159, 154, 0, 5, 2, 172, 42, 180, 0, 10, 180, 0, 113, 27, 50, 77, 42, 3]
abbrev dktX1_room_0 : List UInt8 := dkwX1_room_0 ++ dktX1_room_1
theorem dksX1_room_0 : cX1_room.data.toList.drop 0 = dktX1_room_0 := by decide +kernel
theorem dksX1_room_1 : cX1_room.data.toList.drop 22 = dktX1_room_1 := dk_seg dksX1_room_0 22 rfl rfl
theorem dksX1_room_2 : cX1_room.data.toList.drop 44 = dktX1_room_2 := dk_seg dksX1_room_1 22 rfl rfl
theorem dX1_room_0 : decode cX1_room 0 = .ok (.aload_n 0, 1) := dk_42 (dk_at dksX1_room_0 0 rfl rfl)
theorem dX1_room_1 : decode cX1_room 1 = .ok (.iload_n 1, 1) := dk_27 (dk_at dksX1_room_0 1 rfl rfl)
theorem dX1_room_2 : decode cX1_room 2 = .ok (.invokevirtual 159, 3) := dk_182 0 159 (dk_at dksX1_room_0 2 rfl rfl)
theorem dX1_room_5 : decode cX1_room 5 = .ok (.ifCond .ne 5, 3) := dk_154 0 5 (dk_at dksX1_room_0 5 rfl rfl)
theorem dX1_room_8 : decode cX1_room 8 = .ok (.iconst (-1), 1) := dk_2 (dk_at dksX1_room_0 8 rfl rfl)
theorem dX1_room_9 : decode cX1_room 9 = .ok (.ireturn, 1) := dk_172 (dk_at dksX1_room_0 9 rfl rfl)
theorem dX1_room_10 : decode cX1_room 10 = .ok (.aload_n 0, 1) := dk_42 (dk_at dksX1_room_0 10 rfl rfl)
theorem dX1_room_11 : decode cX1_room 11 = .ok (.getfield 10, 3) := dk_180 0 10 (dk_at dksX1_room_0 11 rfl rfl)
theorem dX1_room_14 : decode cX1_room 14 = .ok (.getfield 113, 3) := dk_180 0 113 (dk_at dksX1_room_0 14 rfl rfl)
theorem dX1_room_17 : decode cX1_room 17 = .ok (.iload_n 1, 1) := dk_27 (dk_at dksX1_room_0 17 rfl rfl)
theorem dX1_room_18 : decode cX1_room 18 = .ok (.aaload, 1) := dk_50 (dk_at dksX1_room_0 18 rfl rfl)
theorem dX1_room_19 : decode cX1_room 19 = .ok (.astore_n 2, 1) := dk_77 (dk_at dksX1_room_0 19 rfl rfl)
theorem dX1_room_20 : decode cX1_room 20 = .ok (.aload_n 0, 1) := dk_42 (dk_at dksX1_room_0 20 rfl rfl)
theorem dX1_room_21 : decode cX1_room 21 = .ok (.iconst 0, 1) := dk_3 (dk_at dksX1_room_0 21 rfl rfl)
theorem dX1_room_22 : decode cX1_room 22 = .ok (.putfield 57, 3) := dk_181 0 57 (dk_at dksX1_room_1 0 rfl rfl)
theorem dX1_room_25 : decode cX1_room 25 = .ok (.aload_n 0, 1) := dk_42 (dk_at dksX1_room_1 3 rfl rfl)
theorem dX1_room_26 : decode cX1_room 26 = .ok (.aload_n 2, 1) := dk_44 (dk_at dksX1_room_1 4 rfl rfl)
theorem dX1_room_27 : decode cX1_room 27 = .ok (.invokevirtual 239, 3) := dk_182 0 239 (dk_at dksX1_room_1 5 rfl rfl)
theorem dX1_room_30 : decode cX1_room 30 = .ok (.i2l, 1) := dk_133 (dk_at dksX1_room_1 8 rfl rfl)
theorem dX1_room_31 : decode cX1_room 31 = .ok (.invokevirtual 310, 3) := dk_182 1 54 (dk_at dksX1_room_1 9 rfl rfl)
theorem dX1_room_34 : decode cX1_room 34 = .ok (.aload_n 0, 1) := dk_42 (dk_at dksX1_room_1 12 rfl rfl)
theorem dX1_room_35 : decode cX1_room 35 = .ok (.aload_n 2, 1) := dk_44 (dk_at dksX1_room_1 13 rfl rfl)
theorem dX1_room_36 : decode cX1_room 36 = .ok (.invokevirtual 242, 3) := dk_182 0 242 (dk_at dksX1_room_1 14 rfl rfl)
theorem dX1_room_39 : decode cX1_room 39 = .ok (.i2l, 1) := dk_133 (dk_at dksX1_room_1 17 rfl rfl)
theorem dX1_room_40 : decode cX1_room 40 = .ok (.invokevirtual 310, 3) := dk_182 1 54 (dk_at dksX1_room_1 18 rfl rfl)
theorem dX1_room_43 : decode cX1_room 43 = .ok (.aload_n 2, 1) := dk_44 (dk_at dksX1_room_1 21 rfl rfl)
theorem dX1_room_44 : decode cX1_room 44 = .ok (.invokevirtual 239, 3) := dk_182 0 239 (dk_at dksX1_room_2 0 rfl rfl)
theorem dX1_room_47 : decode cX1_room 47 = .ok (.aload_n 2, 1) := dk_44 (dk_at dksX1_room_2 3 rfl rfl)
theorem dX1_room_48 : decode cX1_room 48 = .ok (.invokevirtual 242, 3) := dk_182 0 242 (dk_at dksX1_room_2 4 rfl rfl)
theorem dX1_room_51 : decode cX1_room 51 = .ok (.invokestatic 211, 3) := dk_184 0 211 (dk_at dksX1_room_2 7 rfl rfl)
theorem dX1_room_54 : decode cX1_room 54 = .ok (.ireturn, 1) := dk_172 (dk_at dksX1_room_2 10 rfl rfl)
abbrev cX1_block : ByteArray := prog_1_method_38_code
def yX1_block : MethodName := ⟨RX1, "block", "(I)I"⟩
def dkwX1_block_9 : List UInt8 := [182, 1, 54, 42, 29, 133, 182, 1, 54, 42, 180, 0, 10, 180, 0, 204, 27, 46, 172]
abbrev dktX1_block_9 : List UInt8 := dkwX1_block_9 ++ []
def dkwX1_block_8 : List UInt8 := [182, 1, 225, 153, 0, 7, 4, 167, 0, 4, 3, 96, 62, 167, 255, 186, 42, 3, 181, 0, 57, 42, 28, 133]
abbrev dktX1_block_8 : List UInt8 := dkwX1_block_8 ++ dktX1_block_9
def dkwX1_block_7 : List UInt8 := [167, 0, 8, 25, 5, 180, 1, 154, 58, 6, 29, 25, 6, 180, 1, 223, 27, 160, 0, 15, 25, 6]
abbrev dktX1_block_7 : List UInt8 := dkwX1_block_7 ++ dktX1_block_8
def dkwX1_block_6 : List UInt8 := [185, 1, 101, 1, 0, 192, 1, 121, 58, 5, 25, 5, 180, 1, 154, 199, 0, 11, 25, 5, 180, 1, 146]
abbrev dktX1_block_6 : List UInt8 := dkwX1_block_6 ++ dktX1_block_7
def dkwX1_block_5 : List UInt8 := [42, 180, 0, 10, 180, 1, 44, 182, 1, 120, 58, 4, 25, 4, 185, 1, 96, 1, 0, 153, 0, 66, 25, 4]
abbrev dktX1_block_5 : List UInt8 := dkwX1_block_5 ++ dktX1_block_6
def dkwX1_block_4 : List UInt8 := [25, 6, 180, 1, 117, 154, 0, 7, 4, 167, 0, 4, 3, 96, 61, 167, 255, 201, 132, 4, 1, 167, 255, 165]
abbrev dktX1_block_4 : List UInt8 := dkwX1_block_4 ++ dktX1_block_5
def dkwX1_block_3 : List UInt8 := [192, 0, 41, 58, 6, 28, 25, 6, 180, 1, 223, 27, 160, 0, 23, 25, 6, 182, 1, 225, 153, 0, 15]
abbrev dktX1_block_3 : List UInt8 := dkwX1_block_3 ++ dktX1_block_4
def dkwX1_block_2 : List UInt8 := [182, 1, 92, 58, 5, 25, 5, 185, 1, 96, 1, 0, 153, 0, 51, 25, 5, 185, 1, 101, 1, 0]
abbrev dktX1_block_2 : List UInt8 := dkwX1_block_2 ++ dktX1_block_3
def dkwX1_block_1 : List UInt8 := [180, 0, 10, 180, 0, 61, 162, 0, 85, 42, 180, 0, 10, 180, 0, 113, 21, 4, 50, 180, 1, 2]
abbrev dktX1_block_1 : List UInt8 := dkwX1_block_1 ++ dktX1_block_2
def dkwX1_block_0 : List UInt8 := [27, 133, 9, 20, 0, 235, 184, 0, 64, 154, 0, 5, 2, 172, 3, 61, 3, 62, 3, 54, 4, 21, 4, 42]
abbrev dktX1_block_0 : List UInt8 := dkwX1_block_0 ++ dktX1_block_1
theorem dksX1_block_0 : cX1_block.data.toList.drop 0 = dktX1_block_0 := by decide +kernel
theorem dksX1_block_1 : cX1_block.data.toList.drop 24 = dktX1_block_1 := dk_seg dksX1_block_0 24 rfl rfl
theorem dksX1_block_2 : cX1_block.data.toList.drop 46 = dktX1_block_2 := dk_seg dksX1_block_1 22 rfl rfl
theorem dksX1_block_3 : cX1_block.data.toList.drop 68 = dktX1_block_3 := dk_seg dksX1_block_2 22 rfl rfl
theorem dksX1_block_4 : cX1_block.data.toList.drop 91 = dktX1_block_4 := dk_seg dksX1_block_3 23 rfl rfl
theorem dksX1_block_5 : cX1_block.data.toList.drop 115 = dktX1_block_5 := dk_seg dksX1_block_4 24 rfl rfl
theorem dksX1_block_6 : cX1_block.data.toList.drop 139 = dktX1_block_6 := dk_seg dksX1_block_5 24 rfl rfl
theorem dksX1_block_7 : cX1_block.data.toList.drop 162 = dktX1_block_7 := dk_seg dksX1_block_6 23 rfl rfl
theorem dksX1_block_8 : cX1_block.data.toList.drop 184 = dktX1_block_8 := dk_seg dksX1_block_7 22 rfl rfl
theorem dksX1_block_9 : cX1_block.data.toList.drop 208 = dktX1_block_9 := dk_seg dksX1_block_8 24 rfl rfl
theorem dX1_block_0 : decode cX1_block 0 = .ok (.iload_n 1, 1) := dk_27 (dk_at dksX1_block_0 0 rfl rfl)
theorem dX1_block_1 : decode cX1_block 1 = .ok (.i2l, 1) := dk_133 (dk_at dksX1_block_0 1 rfl rfl)
theorem dX1_block_2 : decode cX1_block 2 = .ok (.lconst 0, 1) := dk_9 (dk_at dksX1_block_0 2 rfl rfl)
theorem dX1_block_3 : decode cX1_block 3 = .ok (.ldc2_w 235, 3) := dk_20 0 235 (dk_at dksX1_block_0 3 rfl rfl)
theorem dX1_block_6 : decode cX1_block 6 = .ok (.invokestatic 64, 3) := dk_184 0 64 (dk_at dksX1_block_0 6 rfl rfl)
theorem dX1_block_9 : decode cX1_block 9 = .ok (.ifCond .ne 5, 3) := dk_154 0 5 (dk_at dksX1_block_0 9 rfl rfl)
theorem dX1_block_12 : decode cX1_block 12 = .ok (.iconst (-1), 1) := dk_2 (dk_at dksX1_block_0 12 rfl rfl)
theorem dX1_block_13 : decode cX1_block 13 = .ok (.ireturn, 1) := dk_172 (dk_at dksX1_block_0 13 rfl rfl)
theorem dX1_block_14 : decode cX1_block 14 = .ok (.iconst 0, 1) := dk_3 (dk_at dksX1_block_0 14 rfl rfl)
theorem dX1_block_15 : decode cX1_block 15 = .ok (.istore_n 2, 1) := dk_61 (dk_at dksX1_block_0 15 rfl rfl)
theorem dX1_block_16 : decode cX1_block 16 = .ok (.iconst 0, 1) := dk_3 (dk_at dksX1_block_0 16 rfl rfl)
theorem dX1_block_17 : decode cX1_block 17 = .ok (.istore_n 3, 1) := dk_62 (dk_at dksX1_block_0 17 rfl rfl)
theorem dX1_block_18 : decode cX1_block 18 = .ok (.iconst 0, 1) := dk_3 (dk_at dksX1_block_0 18 rfl rfl)
theorem dX1_block_19 : decode cX1_block 19 = .ok (.istore 4, 2) := dk_54 4 (dk_at dksX1_block_0 19 rfl rfl)
theorem dX1_block_21 : decode cX1_block 21 = .ok (.iload 4, 2) := dk_21 4 (dk_at dksX1_block_0 21 rfl rfl)
theorem dX1_block_23 : decode cX1_block 23 = .ok (.aload_n 0, 1) := dk_42 (dk_at dksX1_block_0 23 rfl rfl)
theorem dX1_block_24 : decode cX1_block 24 = .ok (.getfield 10, 3) := dk_180 0 10 (dk_at dksX1_block_1 0 rfl rfl)
theorem dX1_block_27 : decode cX1_block 27 = .ok (.getfield 61, 3) := dk_180 0 61 (dk_at dksX1_block_1 3 rfl rfl)
theorem dX1_block_30 : decode cX1_block 30 = .ok (.if_icmp .ge 85, 3) := dk_162 0 85 (dk_at dksX1_block_1 6 rfl rfl)
theorem dX1_block_33 : decode cX1_block 33 = .ok (.aload_n 0, 1) := dk_42 (dk_at dksX1_block_1 9 rfl rfl)
theorem dX1_block_34 : decode cX1_block 34 = .ok (.getfield 10, 3) := dk_180 0 10 (dk_at dksX1_block_1 10 rfl rfl)
theorem dX1_block_37 : decode cX1_block 37 = .ok (.getfield 113, 3) := dk_180 0 113 (dk_at dksX1_block_1 13 rfl rfl)
theorem dX1_block_40 : decode cX1_block 40 = .ok (.iload 4, 2) := dk_21 4 (dk_at dksX1_block_1 16 rfl rfl)
theorem dX1_block_42 : decode cX1_block 42 = .ok (.aaload, 1) := dk_50 (dk_at dksX1_block_1 18 rfl rfl)
theorem dX1_block_43 : decode cX1_block 43 = .ok (.getfield 258, 3) := dk_180 1 2 (dk_at dksX1_block_1 19 rfl rfl)
theorem dX1_block_46 : decode cX1_block 46 = .ok (.invokevirtual 348, 3) := dk_182 1 92 (dk_at dksX1_block_2 0 rfl rfl)
theorem dX1_block_49 : decode cX1_block 49 = .ok (.astore 5, 2) := dk_58 5 (dk_at dksX1_block_2 3 rfl rfl)
theorem dX1_block_51 : decode cX1_block 51 = .ok (.aload 5, 2) := dk_25 5 (dk_at dksX1_block_2 5 rfl rfl)
theorem dX1_block_53 : decode cX1_block 53 = .ok (.invokeinterface 352 1, 5) := by decide +kernel
theorem dX1_block_58 : decode cX1_block 58 = .ok (.ifCond .eq 51, 3) := dk_153 0 51 (dk_at dksX1_block_2 12 rfl rfl)
theorem dX1_block_61 : decode cX1_block 61 = .ok (.aload 5, 2) := dk_25 5 (dk_at dksX1_block_2 15 rfl rfl)
theorem dX1_block_63 : decode cX1_block 63 = .ok (.invokeinterface 357 1, 5) := by decide +kernel
theorem dX1_block_68 : decode cX1_block 68 = .ok (.checkcast 41, 3) := dk_192 0 41 (dk_at dksX1_block_3 0 rfl rfl)
theorem dX1_block_71 : decode cX1_block 71 = .ok (.astore 6, 2) := dk_58 6 (dk_at dksX1_block_3 3 rfl rfl)
theorem dX1_block_73 : decode cX1_block 73 = .ok (.iload_n 2, 1) := dk_28 (dk_at dksX1_block_3 5 rfl rfl)
theorem dX1_block_74 : decode cX1_block 74 = .ok (.aload 6, 2) := dk_25 6 (dk_at dksX1_block_3 6 rfl rfl)
theorem dX1_block_76 : decode cX1_block 76 = .ok (.getfield 479, 3) := dk_180 1 223 (dk_at dksX1_block_3 8 rfl rfl)
theorem dX1_block_79 : decode cX1_block 79 = .ok (.iload_n 1, 1) := dk_27 (dk_at dksX1_block_3 11 rfl rfl)
theorem dX1_block_80 : decode cX1_block 80 = .ok (.if_icmp .ne 23, 3) := dk_160 0 23 (dk_at dksX1_block_3 12 rfl rfl)
theorem dX1_block_83 : decode cX1_block 83 = .ok (.aload 6, 2) := dk_25 6 (dk_at dksX1_block_3 15 rfl rfl)
theorem dX1_block_85 : decode cX1_block 85 = .ok (.invokevirtual 481, 3) := dk_182 1 225 (dk_at dksX1_block_3 17 rfl rfl)
theorem dX1_block_88 : decode cX1_block 88 = .ok (.ifCond .eq 15, 3) := dk_153 0 15 (dk_at dksX1_block_3 20 rfl rfl)
theorem dX1_block_91 : decode cX1_block 91 = .ok (.aload 6, 2) := dk_25 6 (dk_at dksX1_block_4 0 rfl rfl)
theorem dX1_block_93 : decode cX1_block 93 = .ok (.getfield 373, 3) := dk_180 1 117 (dk_at dksX1_block_4 2 rfl rfl)
theorem dX1_block_96 : decode cX1_block 96 = .ok (.ifCond .ne 7, 3) := dk_154 0 7 (dk_at dksX1_block_4 5 rfl rfl)
theorem dX1_block_99 : decode cX1_block 99 = .ok (.iconst 1, 1) := dk_4 (dk_at dksX1_block_4 8 rfl rfl)
theorem dX1_block_100 : decode cX1_block 100 = .ok (.goto 4, 3) := dk_167 0 4 (dk_at dksX1_block_4 9 rfl rfl)
theorem dX1_block_103 : decode cX1_block 103 = .ok (.iconst 0, 1) := dk_3 (dk_at dksX1_block_4 12 rfl rfl)
theorem dX1_block_104 : decode cX1_block 104 = .ok (.iadd, 1) := dk_96 (dk_at dksX1_block_4 13 rfl rfl)
theorem dX1_block_105 : decode cX1_block 105 = .ok (.istore_n 2, 1) := dk_61 (dk_at dksX1_block_4 14 rfl rfl)
theorem dX1_block_106 : decode cX1_block 106 = .ok (.goto (-55), 3) := dk_167 255 201 (dk_at dksX1_block_4 15 rfl rfl)
theorem dX1_block_109 : decode cX1_block 109 = .ok (.iinc 4 1, 3) := dk_132 4 1 (dk_at dksX1_block_4 18 rfl rfl)
theorem dX1_block_112 : decode cX1_block 112 = .ok (.goto (-91), 3) := dk_167 255 165 (dk_at dksX1_block_4 21 rfl rfl)
theorem dX1_block_115 : decode cX1_block 115 = .ok (.aload_n 0, 1) := dk_42 (dk_at dksX1_block_5 0 rfl rfl)
theorem dX1_block_116 : decode cX1_block 116 = .ok (.getfield 10, 3) := dk_180 0 10 (dk_at dksX1_block_5 1 rfl rfl)
theorem dX1_block_119 : decode cX1_block 119 = .ok (.getfield 300, 3) := dk_180 1 44 (dk_at dksX1_block_5 4 rfl rfl)
theorem dX1_block_122 : decode cX1_block 122 = .ok (.invokevirtual 376, 3) := dk_182 1 120 (dk_at dksX1_block_5 7 rfl rfl)
theorem dX1_block_125 : decode cX1_block 125 = .ok (.astore 4, 2) := dk_58 4 (dk_at dksX1_block_5 10 rfl rfl)
theorem dX1_block_127 : decode cX1_block 127 = .ok (.aload 4, 2) := dk_25 4 (dk_at dksX1_block_5 12 rfl rfl)
theorem dX1_block_129 : decode cX1_block 129 = .ok (.invokeinterface 352 1, 5) := by decide +kernel
theorem dX1_block_134 : decode cX1_block 134 = .ok (.ifCond .eq 66, 3) := dk_153 0 66 (dk_at dksX1_block_5 19 rfl rfl)
theorem dX1_block_137 : decode cX1_block 137 = .ok (.aload 4, 2) := dk_25 4 (dk_at dksX1_block_5 22 rfl rfl)
theorem dX1_block_139 : decode cX1_block 139 = .ok (.invokeinterface 357 1, 5) := by decide +kernel
theorem dX1_block_144 : decode cX1_block 144 = .ok (.checkcast 377, 3) := dk_192 1 121 (dk_at dksX1_block_6 5 rfl rfl)
theorem dX1_block_147 : decode cX1_block 147 = .ok (.astore 5, 2) := dk_58 5 (dk_at dksX1_block_6 8 rfl rfl)
theorem dX1_block_149 : decode cX1_block 149 = .ok (.aload 5, 2) := dk_25 5 (dk_at dksX1_block_6 10 rfl rfl)
theorem dX1_block_151 : decode cX1_block 151 = .ok (.getfield 410, 3) := dk_180 1 154 (dk_at dksX1_block_6 12 rfl rfl)
theorem dX1_block_154 : decode cX1_block 154 = .ok (.ifnonnull 11, 3) := dk_199 0 11 (dk_at dksX1_block_6 15 rfl rfl)
theorem dX1_block_157 : decode cX1_block 157 = .ok (.aload 5, 2) := dk_25 5 (dk_at dksX1_block_6 18 rfl rfl)
theorem dX1_block_159 : decode cX1_block 159 = .ok (.getfield 402, 3) := dk_180 1 146 (dk_at dksX1_block_6 20 rfl rfl)
theorem dX1_block_162 : decode cX1_block 162 = .ok (.goto 8, 3) := dk_167 0 8 (dk_at dksX1_block_7 0 rfl rfl)
theorem dX1_block_165 : decode cX1_block 165 = .ok (.aload 5, 2) := dk_25 5 (dk_at dksX1_block_7 3 rfl rfl)
theorem dX1_block_167 : decode cX1_block 167 = .ok (.getfield 410, 3) := dk_180 1 154 (dk_at dksX1_block_7 5 rfl rfl)
theorem dX1_block_170 : decode cX1_block 170 = .ok (.astore 6, 2) := dk_58 6 (dk_at dksX1_block_7 8 rfl rfl)
theorem dX1_block_172 : decode cX1_block 172 = .ok (.iload_n 3, 1) := dk_29 (dk_at dksX1_block_7 10 rfl rfl)
theorem dX1_block_173 : decode cX1_block 173 = .ok (.aload 6, 2) := dk_25 6 (dk_at dksX1_block_7 11 rfl rfl)
theorem dX1_block_175 : decode cX1_block 175 = .ok (.getfield 479, 3) := dk_180 1 223 (dk_at dksX1_block_7 13 rfl rfl)
theorem dX1_block_178 : decode cX1_block 178 = .ok (.iload_n 1, 1) := dk_27 (dk_at dksX1_block_7 16 rfl rfl)
theorem dX1_block_179 : decode cX1_block 179 = .ok (.if_icmp .ne 15, 3) := dk_160 0 15 (dk_at dksX1_block_7 17 rfl rfl)
theorem dX1_block_182 : decode cX1_block 182 = .ok (.aload 6, 2) := dk_25 6 (dk_at dksX1_block_7 20 rfl rfl)
theorem dX1_block_184 : decode cX1_block 184 = .ok (.invokevirtual 481, 3) := dk_182 1 225 (dk_at dksX1_block_8 0 rfl rfl)
theorem dX1_block_187 : decode cX1_block 187 = .ok (.ifCond .eq 7, 3) := dk_153 0 7 (dk_at dksX1_block_8 3 rfl rfl)
theorem dX1_block_190 : decode cX1_block 190 = .ok (.iconst 1, 1) := dk_4 (dk_at dksX1_block_8 6 rfl rfl)
theorem dX1_block_191 : decode cX1_block 191 = .ok (.goto 4, 3) := dk_167 0 4 (dk_at dksX1_block_8 7 rfl rfl)
theorem dX1_block_194 : decode cX1_block 194 = .ok (.iconst 0, 1) := dk_3 (dk_at dksX1_block_8 10 rfl rfl)
theorem dX1_block_195 : decode cX1_block 195 = .ok (.iadd, 1) := dk_96 (dk_at dksX1_block_8 11 rfl rfl)
theorem dX1_block_196 : decode cX1_block 196 = .ok (.istore_n 3, 1) := dk_62 (dk_at dksX1_block_8 12 rfl rfl)
theorem dX1_block_197 : decode cX1_block 197 = .ok (.goto (-70), 3) := dk_167 255 186 (dk_at dksX1_block_8 13 rfl rfl)
theorem dX1_block_200 : decode cX1_block 200 = .ok (.aload_n 0, 1) := dk_42 (dk_at dksX1_block_8 16 rfl rfl)
theorem dX1_block_201 : decode cX1_block 201 = .ok (.iconst 0, 1) := dk_3 (dk_at dksX1_block_8 17 rfl rfl)
theorem dX1_block_202 : decode cX1_block 202 = .ok (.putfield 57, 3) := dk_181 0 57 (dk_at dksX1_block_8 18 rfl rfl)
theorem dX1_block_205 : decode cX1_block 205 = .ok (.aload_n 0, 1) := dk_42 (dk_at dksX1_block_8 21 rfl rfl)
theorem dX1_block_206 : decode cX1_block 206 = .ok (.iload_n 2, 1) := dk_28 (dk_at dksX1_block_8 22 rfl rfl)
theorem dX1_block_207 : decode cX1_block 207 = .ok (.i2l, 1) := dk_133 (dk_at dksX1_block_8 23 rfl rfl)
theorem dX1_block_208 : decode cX1_block 208 = .ok (.invokevirtual 310, 3) := dk_182 1 54 (dk_at dksX1_block_9 0 rfl rfl)
theorem dX1_block_211 : decode cX1_block 211 = .ok (.aload_n 0, 1) := dk_42 (dk_at dksX1_block_9 3 rfl rfl)
theorem dX1_block_212 : decode cX1_block 212 = .ok (.iload_n 3, 1) := dk_29 (dk_at dksX1_block_9 4 rfl rfl)
theorem dX1_block_213 : decode cX1_block 213 = .ok (.i2l, 1) := dk_133 (dk_at dksX1_block_9 5 rfl rfl)
theorem dX1_block_214 : decode cX1_block 214 = .ok (.invokevirtual 310, 3) := dk_182 1 54 (dk_at dksX1_block_9 6 rfl rfl)
theorem dX1_block_217 : decode cX1_block 217 = .ok (.aload_n 0, 1) := dk_42 (dk_at dksX1_block_9 9 rfl rfl)
theorem dX1_block_218 : decode cX1_block 218 = .ok (.getfield 10, 3) := dk_180 0 10 (dk_at dksX1_block_9 10 rfl rfl)
theorem dX1_block_221 : decode cX1_block 221 = .ok (.getfield 204, 3) := dk_180 0 204 (dk_at dksX1_block_9 13 rfl rfl)
theorem dX1_block_224 : decode cX1_block 224 = .ok (.iload_n 1, 1) := dk_27 (dk_at dksX1_block_9 16 rfl rfl)
theorem dX1_block_225 : decode cX1_block 225 = .ok (.iaload, 1) := dk_46 (dk_at dksX1_block_9 17 rfl rfl)
theorem dX1_block_226 : decode cX1_block 226 = .ok (.ireturn, 1) := dk_172 (dk_at dksX1_block_9 18 rfl rfl)
abbrev cX1_next : ByteArray := prog_1_method_39_code
def yX1_next : MethodName := ⟨RX1, "next", "()I"⟩
def dkwX1_next_3 : List UInt8 := [182, 1, 54, 43, 180, 1, 235, 172]
abbrev dktX1_next_3 : List UInt8 := dkwX1_next_3 ++ []
def dkwX1_next_2 : List UInt8 := [180, 0, 128, 154, 0, 7, 9, 167, 0, 16, 42, 180, 0, 19, 180, 1, 179, 43, 180, 0, 128, 46, 133]
abbrev dktX1_next_2 : List UInt8 := dkwX1_next_2 ++ dktX1_next_3
def dkwX1_next_1 : List UInt8 := [42, 180, 0, 19, 182, 1, 231, 76, 42, 3, 181, 0, 57, 42, 43, 180, 0, 128, 133, 182, 1, 54, 42, 43]
abbrev dktX1_next_1 : List UInt8 := dkwX1_next_1 ++ dktX1_next_2
def dkwX1_next_0 : List UInt8 := [42, 180, 0, 10, 182, 1, 228, 154, 0, 6, 16, 254, 172, 42, 180, 0, 19, 42, 180, 0, 10, 182, 0, 229]
abbrev dktX1_next_0 : List UInt8 := dkwX1_next_0 ++ dktX1_next_1
theorem dksX1_next_0 : cX1_next.data.toList.drop 0 = dktX1_next_0 := by decide +kernel
theorem dksX1_next_1 : cX1_next.data.toList.drop 24 = dktX1_next_1 := dk_seg dksX1_next_0 24 rfl rfl
theorem dksX1_next_2 : cX1_next.data.toList.drop 48 = dktX1_next_2 := dk_seg dksX1_next_1 24 rfl rfl
theorem dksX1_next_3 : cX1_next.data.toList.drop 71 = dktX1_next_3 := dk_seg dksX1_next_2 23 rfl rfl
theorem dX1_next_0 : decode cX1_next 0 = .ok (.aload_n 0, 1) := dk_42 (dk_at dksX1_next_0 0 rfl rfl)
theorem dX1_next_1 : decode cX1_next 1 = .ok (.getfield 10, 3) := dk_180 0 10 (dk_at dksX1_next_0 1 rfl rfl)
theorem dX1_next_4 : decode cX1_next 4 = .ok (.invokevirtual 484, 3) := dk_182 1 228 (dk_at dksX1_next_0 4 rfl rfl)
theorem dX1_next_7 : decode cX1_next 7 = .ok (.ifCond .ne 6, 3) := dk_154 0 6 (dk_at dksX1_next_0 7 rfl rfl)
theorem dX1_next_10 : decode cX1_next 10 = .ok (.bipush (-2), 2) := dk_16 254 (dk_at dksX1_next_0 10 rfl rfl)
theorem dX1_next_12 : decode cX1_next 12 = .ok (.ireturn, 1) := dk_172 (dk_at dksX1_next_0 12 rfl rfl)
theorem dX1_next_13 : decode cX1_next 13 = .ok (.aload_n 0, 1) := dk_42 (dk_at dksX1_next_0 13 rfl rfl)
theorem dX1_next_14 : decode cX1_next 14 = .ok (.getfield 19, 3) := dk_180 0 19 (dk_at dksX1_next_0 14 rfl rfl)
theorem dX1_next_17 : decode cX1_next 17 = .ok (.aload_n 0, 1) := dk_42 (dk_at dksX1_next_0 17 rfl rfl)
theorem dX1_next_18 : decode cX1_next 18 = .ok (.getfield 10, 3) := dk_180 0 10 (dk_at dksX1_next_0 18 rfl rfl)
theorem dX1_next_21 : decode cX1_next 21 = .ok (.invokevirtual 229, 3) := dk_182 0 229 (dk_at dksX1_next_0 21 rfl rfl)
theorem dX1_next_24 : decode cX1_next 24 = .ok (.aload_n 0, 1) := dk_42 (dk_at dksX1_next_1 0 rfl rfl)
theorem dX1_next_25 : decode cX1_next 25 = .ok (.getfield 19, 3) := dk_180 0 19 (dk_at dksX1_next_1 1 rfl rfl)
theorem dX1_next_28 : decode cX1_next 28 = .ok (.invokevirtual 487, 3) := dk_182 1 231 (dk_at dksX1_next_1 4 rfl rfl)
theorem dX1_next_31 : decode cX1_next 31 = .ok (.astore_n 1, 1) := dk_76 (dk_at dksX1_next_1 7 rfl rfl)
theorem dX1_next_32 : decode cX1_next 32 = .ok (.aload_n 0, 1) := dk_42 (dk_at dksX1_next_1 8 rfl rfl)
theorem dX1_next_33 : decode cX1_next 33 = .ok (.iconst 0, 1) := dk_3 (dk_at dksX1_next_1 9 rfl rfl)
theorem dX1_next_34 : decode cX1_next 34 = .ok (.putfield 57, 3) := dk_181 0 57 (dk_at dksX1_next_1 10 rfl rfl)
theorem dX1_next_37 : decode cX1_next 37 = .ok (.aload_n 0, 1) := dk_42 (dk_at dksX1_next_1 13 rfl rfl)
theorem dX1_next_38 : decode cX1_next 38 = .ok (.aload_n 1, 1) := dk_43 (dk_at dksX1_next_1 14 rfl rfl)
theorem dX1_next_39 : decode cX1_next 39 = .ok (.getfield 128, 3) := dk_180 0 128 (dk_at dksX1_next_1 15 rfl rfl)
theorem dX1_next_42 : decode cX1_next 42 = .ok (.i2l, 1) := dk_133 (dk_at dksX1_next_1 18 rfl rfl)
theorem dX1_next_43 : decode cX1_next 43 = .ok (.invokevirtual 310, 3) := dk_182 1 54 (dk_at dksX1_next_1 19 rfl rfl)
theorem dX1_next_46 : decode cX1_next 46 = .ok (.aload_n 0, 1) := dk_42 (dk_at dksX1_next_1 22 rfl rfl)
theorem dX1_next_47 : decode cX1_next 47 = .ok (.aload_n 1, 1) := dk_43 (dk_at dksX1_next_1 23 rfl rfl)
theorem dX1_next_48 : decode cX1_next 48 = .ok (.getfield 128, 3) := dk_180 0 128 (dk_at dksX1_next_2 0 rfl rfl)
theorem dX1_next_51 : decode cX1_next 51 = .ok (.ifCond .ne 7, 3) := dk_154 0 7 (dk_at dksX1_next_2 3 rfl rfl)
theorem dX1_next_54 : decode cX1_next 54 = .ok (.lconst 0, 1) := dk_9 (dk_at dksX1_next_2 6 rfl rfl)
theorem dX1_next_55 : decode cX1_next 55 = .ok (.goto 16, 3) := dk_167 0 16 (dk_at dksX1_next_2 7 rfl rfl)
theorem dX1_next_58 : decode cX1_next 58 = .ok (.aload_n 0, 1) := dk_42 (dk_at dksX1_next_2 10 rfl rfl)
theorem dX1_next_59 : decode cX1_next 59 = .ok (.getfield 19, 3) := dk_180 0 19 (dk_at dksX1_next_2 11 rfl rfl)
theorem dX1_next_62 : decode cX1_next 62 = .ok (.getfield 435, 3) := dk_180 1 179 (dk_at dksX1_next_2 14 rfl rfl)
theorem dX1_next_65 : decode cX1_next 65 = .ok (.aload_n 1, 1) := dk_43 (dk_at dksX1_next_2 17 rfl rfl)
theorem dX1_next_66 : decode cX1_next 66 = .ok (.getfield 128, 3) := dk_180 0 128 (dk_at dksX1_next_2 18 rfl rfl)
theorem dX1_next_69 : decode cX1_next 69 = .ok (.iaload, 1) := dk_46 (dk_at dksX1_next_2 21 rfl rfl)
theorem dX1_next_70 : decode cX1_next 70 = .ok (.i2l, 1) := dk_133 (dk_at dksX1_next_2 22 rfl rfl)
theorem dX1_next_71 : decode cX1_next 71 = .ok (.invokevirtual 310, 3) := dk_182 1 54 (dk_at dksX1_next_3 0 rfl rfl)
theorem dX1_next_74 : decode cX1_next 74 = .ok (.aload_n 1, 1) := dk_43 (dk_at dksX1_next_3 3 rfl rfl)
theorem dX1_next_75 : decode cX1_next 75 = .ok (.getfield 491, 3) := dk_180 1 235 (dk_at dksX1_next_3 4 rfl rfl)
theorem dX1_next_78 : decode cX1_next 78 = .ok (.ireturn, 1) := dk_172 (dk_at dksX1_next_3 7 rfl rfl)
abbrev cX1_deals : ByteArray := prog_1_method_40_code
def yX1_deals : MethodName := ⟨RX1, "deals", "(I)I"⟩
def dkwX1_deals_6 : List UInt8 := [21, 6, 46, 54, 7, 42, 21, 7, 133, 182, 1, 54, 132, 6, 1, 167, 255, 232, 44, 3, 46, 172]
abbrev dktX1_deals_6 : List UInt8 := dkwX1_deals_6 ++ []
def dkwX1_deals_5 : List UInt8 := [167, 255, 238, 45, 58, 4, 25, 4, 190, 54, 5, 3, 54, 6, 21, 6, 21, 5, 162, 0, 23, 25, 4]
abbrev dktX1_deals_5 : List UInt8 := dkwX1_deals_5 ++ dktX1_deals_6
def dkwX1_deals_4 : List UInt8 := [181, 0, 57, 4, 54, 4, 21, 4, 7, 162, 0, 18, 42, 44, 21, 4, 46, 133, 182, 1, 54, 132, 4, 1]
abbrev dktX1_deals_4 : List UInt8 := dkwX1_deals_4 ++ dktX1_deals_5
def dkwX1_deals_3 : List UInt8 := [46, 4, 96, 79, 45, 25, 5, 180, 1, 235, 92, 46, 4, 96, 79, 132, 4, 1, 167, 255, 216, 42, 3]
abbrev dktX1_deals_3 : List UInt8 := dkwX1_deals_3 ++ dktX1_deals_4
def dkwX1_deals_2 : List UInt8 := [54, 4, 21, 4, 27, 162, 0, 40, 42, 180, 0, 19, 182, 1, 231, 58, 5, 44, 25, 5, 180, 0, 128, 92]
abbrev dktX1_deals_2 : List UInt8 := dkwX1_deals_2 ++ dktX1_deals_3
def dkwX1_deals_1 : List UInt8 := [16, 254, 172, 42, 180, 0, 19, 42, 180, 0, 10, 182, 0, 229, 7, 188, 10, 77, 8, 188, 10, 78, 3]
abbrev dktX1_deals_1 : List UInt8 := dkwX1_deals_1 ++ dktX1_deals_2
def dkwX1_deals_0 : List UInt8 := [27, 133, 10, 20, 1, 32, 184, 0, 64, 154, 0, 5, 2, 172, 42, 180, 0, 10, 182, 1, 228, 154, 0, 6]
abbrev dktX1_deals_0 : List UInt8 := dkwX1_deals_0 ++ dktX1_deals_1
theorem dksX1_deals_0 : cX1_deals.data.toList.drop 0 = dktX1_deals_0 := by decide +kernel
theorem dksX1_deals_1 : cX1_deals.data.toList.drop 24 = dktX1_deals_1 := dk_seg dksX1_deals_0 24 rfl rfl
theorem dksX1_deals_2 : cX1_deals.data.toList.drop 47 = dktX1_deals_2 := dk_seg dksX1_deals_1 23 rfl rfl
theorem dksX1_deals_3 : cX1_deals.data.toList.drop 71 = dktX1_deals_3 := dk_seg dksX1_deals_2 24 rfl rfl
theorem dksX1_deals_4 : cX1_deals.data.toList.drop 94 = dktX1_deals_4 := dk_seg dksX1_deals_3 23 rfl rfl
theorem dksX1_deals_5 : cX1_deals.data.toList.drop 118 = dktX1_deals_5 := dk_seg dksX1_deals_4 24 rfl rfl
theorem dksX1_deals_6 : cX1_deals.data.toList.drop 141 = dktX1_deals_6 := dk_seg dksX1_deals_5 23 rfl rfl
theorem dX1_deals_0 : decode cX1_deals 0 = .ok (.iload_n 1, 1) := dk_27 (dk_at dksX1_deals_0 0 rfl rfl)
theorem dX1_deals_1 : decode cX1_deals 1 = .ok (.i2l, 1) := dk_133 (dk_at dksX1_deals_0 1 rfl rfl)
theorem dX1_deals_2 : decode cX1_deals 2 = .ok (.lconst 1, 1) := dk_10 (dk_at dksX1_deals_0 2 rfl rfl)
theorem dX1_deals_3 : decode cX1_deals 3 = .ok (.ldc2_w 288, 3) := dk_20 1 32 (dk_at dksX1_deals_0 3 rfl rfl)
theorem dX1_deals_6 : decode cX1_deals 6 = .ok (.invokestatic 64, 3) := dk_184 0 64 (dk_at dksX1_deals_0 6 rfl rfl)
theorem dX1_deals_9 : decode cX1_deals 9 = .ok (.ifCond .ne 5, 3) := dk_154 0 5 (dk_at dksX1_deals_0 9 rfl rfl)
theorem dX1_deals_12 : decode cX1_deals 12 = .ok (.iconst (-1), 1) := dk_2 (dk_at dksX1_deals_0 12 rfl rfl)
theorem dX1_deals_13 : decode cX1_deals 13 = .ok (.ireturn, 1) := dk_172 (dk_at dksX1_deals_0 13 rfl rfl)
theorem dX1_deals_14 : decode cX1_deals 14 = .ok (.aload_n 0, 1) := dk_42 (dk_at dksX1_deals_0 14 rfl rfl)
theorem dX1_deals_15 : decode cX1_deals 15 = .ok (.getfield 10, 3) := dk_180 0 10 (dk_at dksX1_deals_0 15 rfl rfl)
theorem dX1_deals_18 : decode cX1_deals 18 = .ok (.invokevirtual 484, 3) := dk_182 1 228 (dk_at dksX1_deals_0 18 rfl rfl)
theorem dX1_deals_21 : decode cX1_deals 21 = .ok (.ifCond .ne 6, 3) := dk_154 0 6 (dk_at dksX1_deals_0 21 rfl rfl)
theorem dX1_deals_24 : decode cX1_deals 24 = .ok (.bipush (-2), 2) := dk_16 254 (dk_at dksX1_deals_1 0 rfl rfl)
theorem dX1_deals_26 : decode cX1_deals 26 = .ok (.ireturn, 1) := dk_172 (dk_at dksX1_deals_1 2 rfl rfl)
theorem dX1_deals_27 : decode cX1_deals 27 = .ok (.aload_n 0, 1) := dk_42 (dk_at dksX1_deals_1 3 rfl rfl)
theorem dX1_deals_28 : decode cX1_deals 28 = .ok (.getfield 19, 3) := dk_180 0 19 (dk_at dksX1_deals_1 4 rfl rfl)
theorem dX1_deals_31 : decode cX1_deals 31 = .ok (.aload_n 0, 1) := dk_42 (dk_at dksX1_deals_1 7 rfl rfl)
theorem dX1_deals_32 : decode cX1_deals 32 = .ok (.getfield 10, 3) := dk_180 0 10 (dk_at dksX1_deals_1 8 rfl rfl)
theorem dX1_deals_35 : decode cX1_deals 35 = .ok (.invokevirtual 229, 3) := dk_182 0 229 (dk_at dksX1_deals_1 11 rfl rfl)
theorem dX1_deals_38 : decode cX1_deals 38 = .ok (.iconst 4, 1) := dk_7 (dk_at dksX1_deals_1 14 rfl rfl)
theorem dX1_deals_39 : decode cX1_deals 39 = .ok (.newarray .int, 2) := dk_188_10 (dk_at dksX1_deals_1 15 rfl rfl)
theorem dX1_deals_41 : decode cX1_deals 41 = .ok (.astore_n 2, 1) := dk_77 (dk_at dksX1_deals_1 17 rfl rfl)
theorem dX1_deals_42 : decode cX1_deals 42 = .ok (.iconst 5, 1) := dk_8 (dk_at dksX1_deals_1 18 rfl rfl)
theorem dX1_deals_43 : decode cX1_deals 43 = .ok (.newarray .int, 2) := dk_188_10 (dk_at dksX1_deals_1 19 rfl rfl)
theorem dX1_deals_45 : decode cX1_deals 45 = .ok (.astore_n 3, 1) := dk_78 (dk_at dksX1_deals_1 21 rfl rfl)
theorem dX1_deals_46 : decode cX1_deals 46 = .ok (.iconst 0, 1) := dk_3 (dk_at dksX1_deals_1 22 rfl rfl)
theorem dX1_deals_47 : decode cX1_deals 47 = .ok (.istore 4, 2) := dk_54 4 (dk_at dksX1_deals_2 0 rfl rfl)
theorem dX1_deals_49 : decode cX1_deals 49 = .ok (.iload 4, 2) := dk_21 4 (dk_at dksX1_deals_2 2 rfl rfl)
theorem dX1_deals_51 : decode cX1_deals 51 = .ok (.iload_n 1, 1) := dk_27 (dk_at dksX1_deals_2 4 rfl rfl)
theorem dX1_deals_52 : decode cX1_deals 52 = .ok (.if_icmp .ge 40, 3) := dk_162 0 40 (dk_at dksX1_deals_2 5 rfl rfl)
theorem dX1_deals_55 : decode cX1_deals 55 = .ok (.aload_n 0, 1) := dk_42 (dk_at dksX1_deals_2 8 rfl rfl)
theorem dX1_deals_56 : decode cX1_deals 56 = .ok (.getfield 19, 3) := dk_180 0 19 (dk_at dksX1_deals_2 9 rfl rfl)
theorem dX1_deals_59 : decode cX1_deals 59 = .ok (.invokevirtual 487, 3) := dk_182 1 231 (dk_at dksX1_deals_2 12 rfl rfl)
theorem dX1_deals_62 : decode cX1_deals 62 = .ok (.astore 5, 2) := dk_58 5 (dk_at dksX1_deals_2 15 rfl rfl)
theorem dX1_deals_64 : decode cX1_deals 64 = .ok (.aload_n 2, 1) := dk_44 (dk_at dksX1_deals_2 17 rfl rfl)
theorem dX1_deals_65 : decode cX1_deals 65 = .ok (.aload 5, 2) := dk_25 5 (dk_at dksX1_deals_2 18 rfl rfl)
theorem dX1_deals_67 : decode cX1_deals 67 = .ok (.getfield 128, 3) := dk_180 0 128 (dk_at dksX1_deals_2 20 rfl rfl)
theorem dX1_deals_70 : decode cX1_deals 70 = .ok (.dup2, 1) := dk_92 (dk_at dksX1_deals_2 23 rfl rfl)
theorem dX1_deals_71 : decode cX1_deals 71 = .ok (.iaload, 1) := dk_46 (dk_at dksX1_deals_3 0 rfl rfl)
theorem dX1_deals_72 : decode cX1_deals 72 = .ok (.iconst 1, 1) := dk_4 (dk_at dksX1_deals_3 1 rfl rfl)
theorem dX1_deals_73 : decode cX1_deals 73 = .ok (.iadd, 1) := dk_96 (dk_at dksX1_deals_3 2 rfl rfl)
theorem dX1_deals_74 : decode cX1_deals 74 = .ok (.iastore, 1) := dk_79 (dk_at dksX1_deals_3 3 rfl rfl)
theorem dX1_deals_75 : decode cX1_deals 75 = .ok (.aload_n 3, 1) := dk_45 (dk_at dksX1_deals_3 4 rfl rfl)
theorem dX1_deals_76 : decode cX1_deals 76 = .ok (.aload 5, 2) := dk_25 5 (dk_at dksX1_deals_3 5 rfl rfl)
theorem dX1_deals_78 : decode cX1_deals 78 = .ok (.getfield 491, 3) := dk_180 1 235 (dk_at dksX1_deals_3 7 rfl rfl)
theorem dX1_deals_81 : decode cX1_deals 81 = .ok (.dup2, 1) := dk_92 (dk_at dksX1_deals_3 10 rfl rfl)
theorem dX1_deals_82 : decode cX1_deals 82 = .ok (.iaload, 1) := dk_46 (dk_at dksX1_deals_3 11 rfl rfl)
theorem dX1_deals_83 : decode cX1_deals 83 = .ok (.iconst 1, 1) := dk_4 (dk_at dksX1_deals_3 12 rfl rfl)
theorem dX1_deals_84 : decode cX1_deals 84 = .ok (.iadd, 1) := dk_96 (dk_at dksX1_deals_3 13 rfl rfl)
theorem dX1_deals_85 : decode cX1_deals 85 = .ok (.iastore, 1) := dk_79 (dk_at dksX1_deals_3 14 rfl rfl)
theorem dX1_deals_86 : decode cX1_deals 86 = .ok (.iinc 4 1, 3) := dk_132 4 1 (dk_at dksX1_deals_3 15 rfl rfl)
theorem dX1_deals_89 : decode cX1_deals 89 = .ok (.goto (-40), 3) := dk_167 255 216 (dk_at dksX1_deals_3 18 rfl rfl)
theorem dX1_deals_92 : decode cX1_deals 92 = .ok (.aload_n 0, 1) := dk_42 (dk_at dksX1_deals_3 21 rfl rfl)
theorem dX1_deals_93 : decode cX1_deals 93 = .ok (.iconst 0, 1) := dk_3 (dk_at dksX1_deals_3 22 rfl rfl)
theorem dX1_deals_94 : decode cX1_deals 94 = .ok (.putfield 57, 3) := dk_181 0 57 (dk_at dksX1_deals_4 0 rfl rfl)
theorem dX1_deals_97 : decode cX1_deals 97 = .ok (.iconst 1, 1) := dk_4 (dk_at dksX1_deals_4 3 rfl rfl)
theorem dX1_deals_98 : decode cX1_deals 98 = .ok (.istore 4, 2) := dk_54 4 (dk_at dksX1_deals_4 4 rfl rfl)
theorem dX1_deals_100 : decode cX1_deals 100 = .ok (.iload 4, 2) := dk_21 4 (dk_at dksX1_deals_4 6 rfl rfl)
theorem dX1_deals_102 : decode cX1_deals 102 = .ok (.iconst 4, 1) := dk_7 (dk_at dksX1_deals_4 8 rfl rfl)
theorem dX1_deals_103 : decode cX1_deals 103 = .ok (.if_icmp .ge 18, 3) := dk_162 0 18 (dk_at dksX1_deals_4 9 rfl rfl)
theorem dX1_deals_106 : decode cX1_deals 106 = .ok (.aload_n 0, 1) := dk_42 (dk_at dksX1_deals_4 12 rfl rfl)
theorem dX1_deals_107 : decode cX1_deals 107 = .ok (.aload_n 2, 1) := dk_44 (dk_at dksX1_deals_4 13 rfl rfl)
theorem dX1_deals_108 : decode cX1_deals 108 = .ok (.iload 4, 2) := dk_21 4 (dk_at dksX1_deals_4 14 rfl rfl)
theorem dX1_deals_110 : decode cX1_deals 110 = .ok (.iaload, 1) := dk_46 (dk_at dksX1_deals_4 16 rfl rfl)
theorem dX1_deals_111 : decode cX1_deals 111 = .ok (.i2l, 1) := dk_133 (dk_at dksX1_deals_4 17 rfl rfl)
theorem dX1_deals_112 : decode cX1_deals 112 = .ok (.invokevirtual 310, 3) := dk_182 1 54 (dk_at dksX1_deals_4 18 rfl rfl)
theorem dX1_deals_115 : decode cX1_deals 115 = .ok (.iinc 4 1, 3) := dk_132 4 1 (dk_at dksX1_deals_4 21 rfl rfl)
theorem dX1_deals_118 : decode cX1_deals 118 = .ok (.goto (-18), 3) := dk_167 255 238 (dk_at dksX1_deals_5 0 rfl rfl)
theorem dX1_deals_121 : decode cX1_deals 121 = .ok (.aload_n 3, 1) := dk_45 (dk_at dksX1_deals_5 3 rfl rfl)
theorem dX1_deals_122 : decode cX1_deals 122 = .ok (.astore 4, 2) := dk_58 4 (dk_at dksX1_deals_5 4 rfl rfl)
theorem dX1_deals_124 : decode cX1_deals 124 = .ok (.aload 4, 2) := dk_25 4 (dk_at dksX1_deals_5 6 rfl rfl)
theorem dX1_deals_126 : decode cX1_deals 126 = .ok (.arraylength, 1) := dk_190 (dk_at dksX1_deals_5 8 rfl rfl)
theorem dX1_deals_127 : decode cX1_deals 127 = .ok (.istore 5, 2) := dk_54 5 (dk_at dksX1_deals_5 9 rfl rfl)
theorem dX1_deals_129 : decode cX1_deals 129 = .ok (.iconst 0, 1) := dk_3 (dk_at dksX1_deals_5 11 rfl rfl)
theorem dX1_deals_130 : decode cX1_deals 130 = .ok (.istore 6, 2) := dk_54 6 (dk_at dksX1_deals_5 12 rfl rfl)
theorem dX1_deals_132 : decode cX1_deals 132 = .ok (.iload 6, 2) := dk_21 6 (dk_at dksX1_deals_5 14 rfl rfl)
theorem dX1_deals_134 : decode cX1_deals 134 = .ok (.iload 5, 2) := dk_21 5 (dk_at dksX1_deals_5 16 rfl rfl)
theorem dX1_deals_136 : decode cX1_deals 136 = .ok (.if_icmp .ge 23, 3) := dk_162 0 23 (dk_at dksX1_deals_5 18 rfl rfl)
theorem dX1_deals_139 : decode cX1_deals 139 = .ok (.aload 4, 2) := dk_25 4 (dk_at dksX1_deals_5 21 rfl rfl)
theorem dX1_deals_141 : decode cX1_deals 141 = .ok (.iload 6, 2) := dk_21 6 (dk_at dksX1_deals_6 0 rfl rfl)
theorem dX1_deals_143 : decode cX1_deals 143 = .ok (.iaload, 1) := dk_46 (dk_at dksX1_deals_6 2 rfl rfl)
theorem dX1_deals_144 : decode cX1_deals 144 = .ok (.istore 7, 2) := dk_54 7 (dk_at dksX1_deals_6 3 rfl rfl)
theorem dX1_deals_146 : decode cX1_deals 146 = .ok (.aload_n 0, 1) := dk_42 (dk_at dksX1_deals_6 5 rfl rfl)
theorem dX1_deals_147 : decode cX1_deals 147 = .ok (.iload 7, 2) := dk_21 7 (dk_at dksX1_deals_6 6 rfl rfl)
theorem dX1_deals_149 : decode cX1_deals 149 = .ok (.i2l, 1) := dk_133 (dk_at dksX1_deals_6 8 rfl rfl)
theorem dX1_deals_150 : decode cX1_deals 150 = .ok (.invokevirtual 310, 3) := dk_182 1 54 (dk_at dksX1_deals_6 9 rfl rfl)
theorem dX1_deals_153 : decode cX1_deals 153 = .ok (.iinc 6 1, 3) := dk_132 6 1 (dk_at dksX1_deals_6 12 rfl rfl)
theorem dX1_deals_156 : decode cX1_deals 156 = .ok (.goto (-24), 3) := dk_167 255 232 (dk_at dksX1_deals_6 15 rfl rfl)
theorem dX1_deals_159 : decode cX1_deals 159 = .ok (.aload_n 2, 1) := dk_44 (dk_at dksX1_deals_6 18 rfl rfl)
theorem dX1_deals_160 : decode cX1_deals 160 = .ok (.iconst 0, 1) := dk_3 (dk_at dksX1_deals_6 19 rfl rfl)
theorem dX1_deals_161 : decode cX1_deals 161 = .ok (.iaload, 1) := dk_46 (dk_at dksX1_deals_6 20 rfl rfl)
theorem dX1_deals_162 : decode cX1_deals 162 = .ok (.ireturn, 1) := dk_172 (dk_at dksX1_deals_6 21 rfl rfl)
abbrev cX1_when : ByteArray := prog_1_method_42_code
def yX1_when : MethodName := ⟨RX1, "when", "(II)I"⟩
def dkwX1_when_6 : List UInt8 := [180, 1, 75, 133, 182, 1, 54, 29, 172, 132, 3, 1, 167, 255, 180, 16, 254, 172]
abbrev dktX1_when_6 : List UInt8 := dkwX1_when_6 ++ []
def dkwX1_when_5 : List UInt8 := [181, 0, 57, 42, 25, 4, 180, 1, 69, 180, 1, 89, 133, 182, 1, 54, 42, 25, 4, 180, 1, 69]
abbrev dktX1_when_5 : List UInt8 := dkwX1_when_5 ++ dktX1_when_6
def dkwX1_when_4 : List UInt8 := [180, 0, 19, 180, 0, 113, 27, 50, 28, 184, 1, 241, 58, 4, 25, 4, 199, 0, 6, 167, 0, 36, 42, 3]
abbrev dktX1_when_4 : List UInt8 := dkwX1_when_4 ++ dktX1_when_5
def dkwX1_when_3 : List UInt8 := [182, 0, 229, 4, 62, 29, 16, 99, 163, 0, 76, 42, 180, 0, 19, 42, 180, 0, 146, 182, 1, 40, 42]
abbrev dktX1_when_3 : List UInt8 := dkwX1_when_3 ++ dktX1_when_4
def dkwX1_when_2 : List UInt8 := [180, 0, 113, 27, 50, 28, 184, 1, 241, 198, 0, 6, 16, 253, 172, 42, 180, 0, 19, 42, 180, 0, 10]
abbrev dktX1_when_2 : List UInt8 := dkwX1_when_2 ++ dktX1_when_3
def dkwX1_when_1 : List UInt8 := [180, 0, 10, 180, 0, 113, 27, 50, 180, 0, 245, 28, 182, 1, 238, 153, 0, 19, 42, 180, 0, 10]
abbrev dktX1_when_1 : List UInt8 := dkwX1_when_1 ++ dktX1_when_2
def dkwX1_when_0 : List UInt8 := [42, 27, 182, 0, 159, 153, 0, 15, 28, 133, 9, 20, 1, 105, 184, 0, 64, 154, 0, 5, 2, 172, 42]
abbrev dktX1_when_0 : List UInt8 := dkwX1_when_0 ++ dktX1_when_1
theorem dksX1_when_0 : cX1_when.data.toList.drop 0 = dktX1_when_0 := by decide +kernel
theorem dksX1_when_1 : cX1_when.data.toList.drop 23 = dktX1_when_1 := dk_seg dksX1_when_0 23 rfl rfl
theorem dksX1_when_2 : cX1_when.data.toList.drop 45 = dktX1_when_2 := dk_seg dksX1_when_1 22 rfl rfl
theorem dksX1_when_3 : cX1_when.data.toList.drop 68 = dktX1_when_3 := dk_seg dksX1_when_2 23 rfl rfl
theorem dksX1_when_4 : cX1_when.data.toList.drop 91 = dktX1_when_4 := dk_seg dksX1_when_3 23 rfl rfl
theorem dksX1_when_5 : cX1_when.data.toList.drop 115 = dktX1_when_5 := dk_seg dksX1_when_4 24 rfl rfl
theorem dksX1_when_6 : cX1_when.data.toList.drop 137 = dktX1_when_6 := dk_seg dksX1_when_5 22 rfl rfl
theorem dX1_when_0 : decode cX1_when 0 = .ok (.aload_n 0, 1) := dk_42 (dk_at dksX1_when_0 0 rfl rfl)
theorem dX1_when_1 : decode cX1_when 1 = .ok (.iload_n 1, 1) := dk_27 (dk_at dksX1_when_0 1 rfl rfl)
theorem dX1_when_2 : decode cX1_when 2 = .ok (.invokevirtual 159, 3) := dk_182 0 159 (dk_at dksX1_when_0 2 rfl rfl)
theorem dX1_when_5 : decode cX1_when 5 = .ok (.ifCond .eq 15, 3) := dk_153 0 15 (dk_at dksX1_when_0 5 rfl rfl)
theorem dX1_when_8 : decode cX1_when 8 = .ok (.iload_n 2, 1) := dk_28 (dk_at dksX1_when_0 8 rfl rfl)
theorem dX1_when_9 : decode cX1_when 9 = .ok (.i2l, 1) := dk_133 (dk_at dksX1_when_0 9 rfl rfl)
theorem dX1_when_10 : decode cX1_when 10 = .ok (.lconst 0, 1) := dk_9 (dk_at dksX1_when_0 10 rfl rfl)
theorem dX1_when_11 : decode cX1_when 11 = .ok (.ldc2_w 361, 3) := dk_20 1 105 (dk_at dksX1_when_0 11 rfl rfl)
theorem dX1_when_14 : decode cX1_when 14 = .ok (.invokestatic 64, 3) := dk_184 0 64 (dk_at dksX1_when_0 14 rfl rfl)
theorem dX1_when_17 : decode cX1_when 17 = .ok (.ifCond .ne 5, 3) := dk_154 0 5 (dk_at dksX1_when_0 17 rfl rfl)
theorem dX1_when_20 : decode cX1_when 20 = .ok (.iconst (-1), 1) := dk_2 (dk_at dksX1_when_0 20 rfl rfl)
theorem dX1_when_21 : decode cX1_when 21 = .ok (.ireturn, 1) := dk_172 (dk_at dksX1_when_0 21 rfl rfl)
theorem dX1_when_22 : decode cX1_when 22 = .ok (.aload_n 0, 1) := dk_42 (dk_at dksX1_when_0 22 rfl rfl)
theorem dX1_when_23 : decode cX1_when 23 = .ok (.getfield 10, 3) := dk_180 0 10 (dk_at dksX1_when_1 0 rfl rfl)
theorem dX1_when_26 : decode cX1_when 26 = .ok (.getfield 113, 3) := dk_180 0 113 (dk_at dksX1_when_1 3 rfl rfl)
theorem dX1_when_29 : decode cX1_when 29 = .ok (.iload_n 1, 1) := dk_27 (dk_at dksX1_when_1 6 rfl rfl)
theorem dX1_when_30 : decode cX1_when 30 = .ok (.aaload, 1) := dk_50 (dk_at dksX1_when_1 7 rfl rfl)
theorem dX1_when_31 : decode cX1_when 31 = .ok (.getfield 245, 3) := dk_180 0 245 (dk_at dksX1_when_1 8 rfl rfl)
theorem dX1_when_34 : decode cX1_when 34 = .ok (.iload_n 2, 1) := dk_28 (dk_at dksX1_when_1 11 rfl rfl)
theorem dX1_when_35 : decode cX1_when 35 = .ok (.invokevirtual 494, 3) := dk_182 1 238 (dk_at dksX1_when_1 12 rfl rfl)
theorem dX1_when_38 : decode cX1_when 38 = .ok (.ifCond .eq 19, 3) := dk_153 0 19 (dk_at dksX1_when_1 15 rfl rfl)
theorem dX1_when_41 : decode cX1_when 41 = .ok (.aload_n 0, 1) := dk_42 (dk_at dksX1_when_1 18 rfl rfl)
theorem dX1_when_42 : decode cX1_when 42 = .ok (.getfield 10, 3) := dk_180 0 10 (dk_at dksX1_when_1 19 rfl rfl)
theorem dX1_when_45 : decode cX1_when 45 = .ok (.getfield 113, 3) := dk_180 0 113 (dk_at dksX1_when_2 0 rfl rfl)
theorem dX1_when_48 : decode cX1_when 48 = .ok (.iload_n 1, 1) := dk_27 (dk_at dksX1_when_2 3 rfl rfl)
theorem dX1_when_49 : decode cX1_when 49 = .ok (.aaload, 1) := dk_50 (dk_at dksX1_when_2 4 rfl rfl)
theorem dX1_when_50 : decode cX1_when 50 = .ok (.iload_n 2, 1) := dk_28 (dk_at dksX1_when_2 5 rfl rfl)
theorem dX1_when_51 : decode cX1_when 51 = .ok (.invokestatic 497, 3) := dk_184 1 241 (dk_at dksX1_when_2 6 rfl rfl)
theorem dX1_when_54 : decode cX1_when 54 = .ok (.ifnull 6, 3) := dk_198 0 6 (dk_at dksX1_when_2 9 rfl rfl)
theorem dX1_when_57 : decode cX1_when 57 = .ok (.bipush (-3), 2) := dk_16 253 (dk_at dksX1_when_2 12 rfl rfl)
theorem dX1_when_59 : decode cX1_when 59 = .ok (.ireturn, 1) := dk_172 (dk_at dksX1_when_2 14 rfl rfl)
theorem dX1_when_60 : decode cX1_when 60 = .ok (.aload_n 0, 1) := dk_42 (dk_at dksX1_when_2 15 rfl rfl)
theorem dX1_when_61 : decode cX1_when 61 = .ok (.getfield 19, 3) := dk_180 0 19 (dk_at dksX1_when_2 16 rfl rfl)
theorem dX1_when_64 : decode cX1_when 64 = .ok (.aload_n 0, 1) := dk_42 (dk_at dksX1_when_2 19 rfl rfl)
theorem dX1_when_65 : decode cX1_when 65 = .ok (.getfield 10, 3) := dk_180 0 10 (dk_at dksX1_when_2 20 rfl rfl)
theorem dX1_when_68 : decode cX1_when 68 = .ok (.invokevirtual 229, 3) := dk_182 0 229 (dk_at dksX1_when_3 0 rfl rfl)
theorem dX1_when_71 : decode cX1_when 71 = .ok (.iconst 1, 1) := dk_4 (dk_at dksX1_when_3 3 rfl rfl)
theorem dX1_when_72 : decode cX1_when 72 = .ok (.istore_n 3, 1) := dk_62 (dk_at dksX1_when_3 4 rfl rfl)
theorem dX1_when_73 : decode cX1_when 73 = .ok (.iload_n 3, 1) := dk_29 (dk_at dksX1_when_3 5 rfl rfl)
theorem dX1_when_74 : decode cX1_when 74 = .ok (.bipush 99, 2) := dk_16 99 (dk_at dksX1_when_3 6 rfl rfl)
theorem dX1_when_76 : decode cX1_when 76 = .ok (.if_icmp .gt 76, 3) := dk_163 0 76 (dk_at dksX1_when_3 8 rfl rfl)
theorem dX1_when_79 : decode cX1_when 79 = .ok (.aload_n 0, 1) := dk_42 (dk_at dksX1_when_3 11 rfl rfl)
theorem dX1_when_80 : decode cX1_when 80 = .ok (.getfield 19, 3) := dk_180 0 19 (dk_at dksX1_when_3 12 rfl rfl)
theorem dX1_when_83 : decode cX1_when 83 = .ok (.aload_n 0, 1) := dk_42 (dk_at dksX1_when_3 15 rfl rfl)
theorem dX1_when_84 : decode cX1_when 84 = .ok (.getfield 146, 3) := dk_180 0 146 (dk_at dksX1_when_3 16 rfl rfl)
theorem dX1_when_87 : decode cX1_when 87 = .ok (.invokevirtual 296, 3) := dk_182 1 40 (dk_at dksX1_when_3 19 rfl rfl)
theorem dX1_when_90 : decode cX1_when 90 = .ok (.aload_n 0, 1) := dk_42 (dk_at dksX1_when_3 22 rfl rfl)
theorem dX1_when_91 : decode cX1_when 91 = .ok (.getfield 19, 3) := dk_180 0 19 (dk_at dksX1_when_4 0 rfl rfl)
theorem dX1_when_94 : decode cX1_when 94 = .ok (.getfield 113, 3) := dk_180 0 113 (dk_at dksX1_when_4 3 rfl rfl)
theorem dX1_when_97 : decode cX1_when 97 = .ok (.iload_n 1, 1) := dk_27 (dk_at dksX1_when_4 6 rfl rfl)
theorem dX1_when_98 : decode cX1_when 98 = .ok (.aaload, 1) := dk_50 (dk_at dksX1_when_4 7 rfl rfl)
theorem dX1_when_99 : decode cX1_when 99 = .ok (.iload_n 2, 1) := dk_28 (dk_at dksX1_when_4 8 rfl rfl)
theorem dX1_when_100 : decode cX1_when 100 = .ok (.invokestatic 497, 3) := dk_184 1 241 (dk_at dksX1_when_4 9 rfl rfl)
theorem dX1_when_103 : decode cX1_when 103 = .ok (.astore 4, 2) := dk_58 4 (dk_at dksX1_when_4 12 rfl rfl)
theorem dX1_when_105 : decode cX1_when 105 = .ok (.aload 4, 2) := dk_25 4 (dk_at dksX1_when_4 14 rfl rfl)
theorem dX1_when_107 : decode cX1_when 107 = .ok (.ifnonnull 6, 3) := dk_199 0 6 (dk_at dksX1_when_4 16 rfl rfl)
theorem dX1_when_110 : decode cX1_when 110 = .ok (.goto 36, 3) := dk_167 0 36 (dk_at dksX1_when_4 19 rfl rfl)
theorem dX1_when_113 : decode cX1_when 113 = .ok (.aload_n 0, 1) := dk_42 (dk_at dksX1_when_4 22 rfl rfl)
theorem dX1_when_114 : decode cX1_when 114 = .ok (.iconst 0, 1) := dk_3 (dk_at dksX1_when_4 23 rfl rfl)
theorem dX1_when_115 : decode cX1_when 115 = .ok (.putfield 57, 3) := dk_181 0 57 (dk_at dksX1_when_5 0 rfl rfl)
theorem dX1_when_118 : decode cX1_when 118 = .ok (.aload_n 0, 1) := dk_42 (dk_at dksX1_when_5 3 rfl rfl)
theorem dX1_when_119 : decode cX1_when 119 = .ok (.aload 4, 2) := dk_25 4 (dk_at dksX1_when_5 4 rfl rfl)
theorem dX1_when_121 : decode cX1_when 121 = .ok (.getfield 325, 3) := dk_180 1 69 (dk_at dksX1_when_5 6 rfl rfl)
theorem dX1_when_124 : decode cX1_when 124 = .ok (.getfield 345, 3) := dk_180 1 89 (dk_at dksX1_when_5 9 rfl rfl)
theorem dX1_when_127 : decode cX1_when 127 = .ok (.i2l, 1) := dk_133 (dk_at dksX1_when_5 12 rfl rfl)
theorem dX1_when_128 : decode cX1_when 128 = .ok (.invokevirtual 310, 3) := dk_182 1 54 (dk_at dksX1_when_5 13 rfl rfl)
theorem dX1_when_131 : decode cX1_when 131 = .ok (.aload_n 0, 1) := dk_42 (dk_at dksX1_when_5 16 rfl rfl)
theorem dX1_when_132 : decode cX1_when 132 = .ok (.aload 4, 2) := dk_25 4 (dk_at dksX1_when_5 17 rfl rfl)
theorem dX1_when_134 : decode cX1_when 134 = .ok (.getfield 325, 3) := dk_180 1 69 (dk_at dksX1_when_5 19 rfl rfl)
theorem dX1_when_137 : decode cX1_when 137 = .ok (.getfield 331, 3) := dk_180 1 75 (dk_at dksX1_when_6 0 rfl rfl)
theorem dX1_when_140 : decode cX1_when 140 = .ok (.i2l, 1) := dk_133 (dk_at dksX1_when_6 3 rfl rfl)
theorem dX1_when_141 : decode cX1_when 141 = .ok (.invokevirtual 310, 3) := dk_182 1 54 (dk_at dksX1_when_6 4 rfl rfl)
theorem dX1_when_144 : decode cX1_when 144 = .ok (.iload_n 3, 1) := dk_29 (dk_at dksX1_when_6 7 rfl rfl)
theorem dX1_when_145 : decode cX1_when 145 = .ok (.ireturn, 1) := dk_172 (dk_at dksX1_when_6 8 rfl rfl)
theorem dX1_when_146 : decode cX1_when 146 = .ok (.iinc 3 1, 3) := dk_132 3 1 (dk_at dksX1_when_6 9 rfl rfl)
theorem dX1_when_149 : decode cX1_when 149 = .ok (.goto (-76), 3) := dk_167 255 180 (dk_at dksX1_when_6 12 rfl rfl)
theorem dX1_when_152 : decode cX1_when 152 = .ok (.bipush (-2), 2) := dk_16 254 (dk_at dksX1_when_6 15 rfl rfl)
theorem dX1_when_154 : decode cX1_when 154 = .ok (.ireturn, 1) := dk_172 (dk_at dksX1_when_6 17 rfl rfl)
abbrev cX1_postOf : ByteArray := prog_1_method_41_code
def yX1_postOf : MethodName := ⟨RX1, "postOf", "(LQueueDrive$Line;I)LQueueDrive$Post;"⟩
def dkwX1_postOf_1 : List UInt8 := [192, 1, 70, 78, 45, 180, 1, 69, 180, 1, 86, 27, 160, 0, 5, 45, 176, 167, 255, 224, 1, 176]
abbrev dktX1_postOf_1 : List UInt8 := dkwX1_postOf_1 ++ []
def dkwX1_postOf_0 : List UInt8 := [42, 180, 1, 58, 182, 1, 92, 77, 44, 185, 1, 96, 1, 0, 153, 0, 29, 44, 185, 1, 101, 1, 0]
abbrev dktX1_postOf_0 : List UInt8 := dkwX1_postOf_0 ++ dktX1_postOf_1
theorem dksX1_postOf_0 : cX1_postOf.data.toList.drop 0 = dktX1_postOf_0 := by decide +kernel
theorem dksX1_postOf_1 : cX1_postOf.data.toList.drop 23 = dktX1_postOf_1 := dk_seg dksX1_postOf_0 23 rfl rfl
theorem dX1_postOf_0 : decode cX1_postOf 0 = .ok (.aload_n 0, 1) := dk_42 (dk_at dksX1_postOf_0 0 rfl rfl)
theorem dX1_postOf_1 : decode cX1_postOf 1 = .ok (.getfield 314, 3) := dk_180 1 58 (dk_at dksX1_postOf_0 1 rfl rfl)
theorem dX1_postOf_4 : decode cX1_postOf 4 = .ok (.invokevirtual 348, 3) := dk_182 1 92 (dk_at dksX1_postOf_0 4 rfl rfl)
theorem dX1_postOf_7 : decode cX1_postOf 7 = .ok (.astore_n 2, 1) := dk_77 (dk_at dksX1_postOf_0 7 rfl rfl)
theorem dX1_postOf_8 : decode cX1_postOf 8 = .ok (.aload_n 2, 1) := dk_44 (dk_at dksX1_postOf_0 8 rfl rfl)
theorem dX1_postOf_9 : decode cX1_postOf 9 = .ok (.invokeinterface 352 1, 5) := by decide +kernel
theorem dX1_postOf_14 : decode cX1_postOf 14 = .ok (.ifCond .eq 29, 3) := dk_153 0 29 (dk_at dksX1_postOf_0 14 rfl rfl)
theorem dX1_postOf_17 : decode cX1_postOf 17 = .ok (.aload_n 2, 1) := dk_44 (dk_at dksX1_postOf_0 17 rfl rfl)
theorem dX1_postOf_18 : decode cX1_postOf 18 = .ok (.invokeinterface 357 1, 5) := by decide +kernel
theorem dX1_postOf_23 : decode cX1_postOf 23 = .ok (.checkcast 326, 3) := dk_192 1 70 (dk_at dksX1_postOf_1 0 rfl rfl)
theorem dX1_postOf_26 : decode cX1_postOf 26 = .ok (.astore_n 3, 1) := dk_78 (dk_at dksX1_postOf_1 3 rfl rfl)
theorem dX1_postOf_27 : decode cX1_postOf 27 = .ok (.aload_n 3, 1) := dk_45 (dk_at dksX1_postOf_1 4 rfl rfl)
theorem dX1_postOf_28 : decode cX1_postOf 28 = .ok (.getfield 325, 3) := dk_180 1 69 (dk_at dksX1_postOf_1 5 rfl rfl)
theorem dX1_postOf_31 : decode cX1_postOf 31 = .ok (.getfield 342, 3) := dk_180 1 86 (dk_at dksX1_postOf_1 8 rfl rfl)
theorem dX1_postOf_34 : decode cX1_postOf 34 = .ok (.iload_n 1, 1) := dk_27 (dk_at dksX1_postOf_1 11 rfl rfl)
theorem dX1_postOf_35 : decode cX1_postOf 35 = .ok (.if_icmp .ne 5, 3) := dk_160 0 5 (dk_at dksX1_postOf_1 12 rfl rfl)
theorem dX1_postOf_38 : decode cX1_postOf 38 = .ok (.aload_n 3, 1) := dk_45 (dk_at dksX1_postOf_1 15 rfl rfl)
theorem dX1_postOf_39 : decode cX1_postOf 39 = .ok (.areturn, 1) := dk_176 (dk_at dksX1_postOf_1 16 rfl rfl)
theorem dX1_postOf_40 : decode cX1_postOf 40 = .ok (.goto (-32), 3) := dk_167 255 224 (dk_at dksX1_postOf_1 17 rfl rfl)
theorem dX1_postOf_43 : decode cX1_postOf 43 = .ok (.aconst_null, 1) := dk_1 (dk_at dksX1_postOf_1 20 rfl rfl)
theorem dX1_postOf_44 : decode cX1_postOf 44 = .ok (.areturn, 1) := dk_176 (dk_at dksX1_postOf_1 21 rfl rfl)
abbrev cX1_drains : ByteArray := prog_1_method_44_code
def yX1_drains : MethodName := ⟨RX1, "drains", "()I"⟩
def dkwX1_drains_2 : List UInt8 := [27, 172]
abbrev dktX1_drains_2 : List UInt8 := dkwX1_drains_2 ++ []
def dkwX1_drains_1 : List UInt8 := [181, 0, 57, 42, 42, 180, 1, 245, 133, 182, 1, 54, 42, 42, 180, 0, 19, 182, 0, 220, 133, 182, 1, 54]
abbrev dktX1_drains_1 : List UInt8 := dkwX1_drains_1 ++ dktX1_drains_2
def dkwX1_drains_0 : List UInt8 := [42, 180, 0, 19, 42, 180, 0, 10, 182, 0, 229, 42, 182, 1, 254, 60, 27, 156, 0, 5, 27, 172, 42, 3]
abbrev dktX1_drains_0 : List UInt8 := dkwX1_drains_0 ++ dktX1_drains_1
theorem dksX1_drains_0 : cX1_drains.data.toList.drop 0 = dktX1_drains_0 := by decide +kernel
theorem dksX1_drains_1 : cX1_drains.data.toList.drop 24 = dktX1_drains_1 := dk_seg dksX1_drains_0 24 rfl rfl
theorem dksX1_drains_2 : cX1_drains.data.toList.drop 48 = dktX1_drains_2 := dk_seg dksX1_drains_1 24 rfl rfl
theorem dX1_drains_0 : decode cX1_drains 0 = .ok (.aload_n 0, 1) := dk_42 (dk_at dksX1_drains_0 0 rfl rfl)
theorem dX1_drains_1 : decode cX1_drains 1 = .ok (.getfield 19, 3) := dk_180 0 19 (dk_at dksX1_drains_0 1 rfl rfl)
theorem dX1_drains_4 : decode cX1_drains 4 = .ok (.aload_n 0, 1) := dk_42 (dk_at dksX1_drains_0 4 rfl rfl)
theorem dX1_drains_5 : decode cX1_drains 5 = .ok (.getfield 10, 3) := dk_180 0 10 (dk_at dksX1_drains_0 5 rfl rfl)
theorem dX1_drains_8 : decode cX1_drains 8 = .ok (.invokevirtual 229, 3) := dk_182 0 229 (dk_at dksX1_drains_0 8 rfl rfl)
theorem dX1_drains_11 : decode cX1_drains 11 = .ok (.aload_n 0, 1) := dk_42 (dk_at dksX1_drains_0 11 rfl rfl)
theorem dX1_drains_12 : decode cX1_drains 12 = .ok (.invokevirtual 510, 3) := dk_182 1 254 (dk_at dksX1_drains_0 12 rfl rfl)
theorem dX1_drains_15 : decode cX1_drains 15 = .ok (.istore_n 1, 1) := dk_60 (dk_at dksX1_drains_0 15 rfl rfl)
theorem dX1_drains_16 : decode cX1_drains 16 = .ok (.iload_n 1, 1) := dk_27 (dk_at dksX1_drains_0 16 rfl rfl)
theorem dX1_drains_17 : decode cX1_drains 17 = .ok (.ifCond .ge 5, 3) := dk_156 0 5 (dk_at dksX1_drains_0 17 rfl rfl)
theorem dX1_drains_20 : decode cX1_drains 20 = .ok (.iload_n 1, 1) := dk_27 (dk_at dksX1_drains_0 20 rfl rfl)
theorem dX1_drains_21 : decode cX1_drains 21 = .ok (.ireturn, 1) := dk_172 (dk_at dksX1_drains_0 21 rfl rfl)
theorem dX1_drains_22 : decode cX1_drains 22 = .ok (.aload_n 0, 1) := dk_42 (dk_at dksX1_drains_0 22 rfl rfl)
theorem dX1_drains_23 : decode cX1_drains 23 = .ok (.iconst 0, 1) := dk_3 (dk_at dksX1_drains_0 23 rfl rfl)
theorem dX1_drains_24 : decode cX1_drains 24 = .ok (.putfield 57, 3) := dk_181 0 57 (dk_at dksX1_drains_1 0 rfl rfl)
theorem dX1_drains_27 : decode cX1_drains 27 = .ok (.aload_n 0, 1) := dk_42 (dk_at dksX1_drains_1 3 rfl rfl)
theorem dX1_drains_28 : decode cX1_drains 28 = .ok (.aload_n 0, 1) := dk_42 (dk_at dksX1_drains_1 4 rfl rfl)
theorem dX1_drains_29 : decode cX1_drains 29 = .ok (.getfield 501, 3) := dk_180 1 245 (dk_at dksX1_drains_1 5 rfl rfl)
theorem dX1_drains_32 : decode cX1_drains 32 = .ok (.i2l, 1) := dk_133 (dk_at dksX1_drains_1 8 rfl rfl)
theorem dX1_drains_33 : decode cX1_drains 33 = .ok (.invokevirtual 310, 3) := dk_182 1 54 (dk_at dksX1_drains_1 9 rfl rfl)
theorem dX1_drains_36 : decode cX1_drains 36 = .ok (.aload_n 0, 1) := dk_42 (dk_at dksX1_drains_1 12 rfl rfl)
theorem dX1_drains_37 : decode cX1_drains 37 = .ok (.aload_n 0, 1) := dk_42 (dk_at dksX1_drains_1 13 rfl rfl)
theorem dX1_drains_38 : decode cX1_drains 38 = .ok (.getfield 19, 3) := dk_180 0 19 (dk_at dksX1_drains_1 14 rfl rfl)
theorem dX1_drains_41 : decode cX1_drains 41 = .ok (.invokevirtual 220, 3) := dk_182 0 220 (dk_at dksX1_drains_1 17 rfl rfl)
theorem dX1_drains_44 : decode cX1_drains 44 = .ok (.i2l, 1) := dk_133 (dk_at dksX1_drains_1 20 rfl rfl)
theorem dX1_drains_45 : decode cX1_drains 45 = .ok (.invokevirtual 310, 3) := dk_182 1 54 (dk_at dksX1_drains_1 21 rfl rfl)
theorem dX1_drains_48 : decode cX1_drains 48 = .ok (.iload_n 1, 1) := dk_27 (dk_at dksX1_drains_2 0 rfl rfl)
theorem dX1_drains_49 : decode cX1_drains 49 = .ok (.ireturn, 1) := dk_172 (dk_at dksX1_drains_2 1 rfl rfl)
abbrev cX1_drained : ByteArray := prog_1_method_43_code
def yX1_drained : MethodName := ⟨RX1, "drained", "()I"⟩
def dkwX1_drained_2 : List UInt8 := [181, 1, 245, 42, 180, 0, 19, 42, 180, 0, 146, 182, 1, 40, 132, 1, 1, 167, 255, 199, 16, 254, 172]
abbrev dktX1_drained_2 : List UInt8 := dkwX1_drained_2 ++ []
def dkwX1_drained_1 : List UInt8 := [172, 27, 16, 99, 160, 0, 6, 167, 0, 36, 42, 89, 180, 1, 245, 42, 180, 0, 19, 182, 1, 251, 96]
abbrev dktX1_drained_1 : List UInt8 := dkwX1_drained_1 ++ dktX1_drained_2
def dkwX1_drained_0 : List UInt8 := [42, 3, 181, 1, 245, 3, 60, 27, 16, 99, 163, 0, 57, 42, 180, 0, 19, 182, 1, 248, 153, 0, 5, 27]
abbrev dktX1_drained_0 : List UInt8 := dkwX1_drained_0 ++ dktX1_drained_1
theorem dksX1_drained_0 : cX1_drained.data.toList.drop 0 = dktX1_drained_0 := by decide +kernel
theorem dksX1_drained_1 : cX1_drained.data.toList.drop 24 = dktX1_drained_1 := dk_seg dksX1_drained_0 24 rfl rfl
theorem dksX1_drained_2 : cX1_drained.data.toList.drop 47 = dktX1_drained_2 := dk_seg dksX1_drained_1 23 rfl rfl
theorem dX1_drained_0 : decode cX1_drained 0 = .ok (.aload_n 0, 1) := dk_42 (dk_at dksX1_drained_0 0 rfl rfl)
theorem dX1_drained_1 : decode cX1_drained 1 = .ok (.iconst 0, 1) := dk_3 (dk_at dksX1_drained_0 1 rfl rfl)
theorem dX1_drained_2 : decode cX1_drained 2 = .ok (.putfield 501, 3) := dk_181 1 245 (dk_at dksX1_drained_0 2 rfl rfl)
theorem dX1_drained_5 : decode cX1_drained 5 = .ok (.iconst 0, 1) := dk_3 (dk_at dksX1_drained_0 5 rfl rfl)
theorem dX1_drained_6 : decode cX1_drained 6 = .ok (.istore_n 1, 1) := dk_60 (dk_at dksX1_drained_0 6 rfl rfl)
theorem dX1_drained_7 : decode cX1_drained 7 = .ok (.iload_n 1, 1) := dk_27 (dk_at dksX1_drained_0 7 rfl rfl)
theorem dX1_drained_8 : decode cX1_drained 8 = .ok (.bipush 99, 2) := dk_16 99 (dk_at dksX1_drained_0 8 rfl rfl)
theorem dX1_drained_10 : decode cX1_drained 10 = .ok (.if_icmp .gt 57, 3) := dk_163 0 57 (dk_at dksX1_drained_0 10 rfl rfl)
theorem dX1_drained_13 : decode cX1_drained 13 = .ok (.aload_n 0, 1) := dk_42 (dk_at dksX1_drained_0 13 rfl rfl)
theorem dX1_drained_14 : decode cX1_drained 14 = .ok (.getfield 19, 3) := dk_180 0 19 (dk_at dksX1_drained_0 14 rfl rfl)
theorem dX1_drained_17 : decode cX1_drained 17 = .ok (.invokevirtual 504, 3) := dk_182 1 248 (dk_at dksX1_drained_0 17 rfl rfl)
theorem dX1_drained_20 : decode cX1_drained 20 = .ok (.ifCond .eq 5, 3) := dk_153 0 5 (dk_at dksX1_drained_0 20 rfl rfl)
theorem dX1_drained_23 : decode cX1_drained 23 = .ok (.iload_n 1, 1) := dk_27 (dk_at dksX1_drained_0 23 rfl rfl)
theorem dX1_drained_24 : decode cX1_drained 24 = .ok (.ireturn, 1) := dk_172 (dk_at dksX1_drained_1 0 rfl rfl)
theorem dX1_drained_25 : decode cX1_drained 25 = .ok (.iload_n 1, 1) := dk_27 (dk_at dksX1_drained_1 1 rfl rfl)
theorem dX1_drained_26 : decode cX1_drained 26 = .ok (.bipush 99, 2) := dk_16 99 (dk_at dksX1_drained_1 2 rfl rfl)
theorem dX1_drained_28 : decode cX1_drained 28 = .ok (.if_icmp .ne 6, 3) := dk_160 0 6 (dk_at dksX1_drained_1 4 rfl rfl)
theorem dX1_drained_31 : decode cX1_drained 31 = .ok (.goto 36, 3) := dk_167 0 36 (dk_at dksX1_drained_1 7 rfl rfl)
theorem dX1_drained_34 : decode cX1_drained 34 = .ok (.aload_n 0, 1) := dk_42 (dk_at dksX1_drained_1 10 rfl rfl)
theorem dX1_drained_35 : decode cX1_drained 35 = .ok (.dup, 1) := dk_89 (dk_at dksX1_drained_1 11 rfl rfl)
theorem dX1_drained_36 : decode cX1_drained 36 = .ok (.getfield 501, 3) := dk_180 1 245 (dk_at dksX1_drained_1 12 rfl rfl)
theorem dX1_drained_39 : decode cX1_drained 39 = .ok (.aload_n 0, 1) := dk_42 (dk_at dksX1_drained_1 15 rfl rfl)
theorem dX1_drained_40 : decode cX1_drained 40 = .ok (.getfield 19, 3) := dk_180 0 19 (dk_at dksX1_drained_1 16 rfl rfl)
theorem dX1_drained_43 : decode cX1_drained 43 = .ok (.invokevirtual 507, 3) := dk_182 1 251 (dk_at dksX1_drained_1 19 rfl rfl)
theorem dX1_drained_46 : decode cX1_drained 46 = .ok (.iadd, 1) := dk_96 (dk_at dksX1_drained_1 22 rfl rfl)
theorem dX1_drained_47 : decode cX1_drained 47 = .ok (.putfield 501, 3) := dk_181 1 245 (dk_at dksX1_drained_2 0 rfl rfl)
theorem dX1_drained_50 : decode cX1_drained 50 = .ok (.aload_n 0, 1) := dk_42 (dk_at dksX1_drained_2 3 rfl rfl)
theorem dX1_drained_51 : decode cX1_drained 51 = .ok (.getfield 19, 3) := dk_180 0 19 (dk_at dksX1_drained_2 4 rfl rfl)
theorem dX1_drained_54 : decode cX1_drained 54 = .ok (.aload_n 0, 1) := dk_42 (dk_at dksX1_drained_2 7 rfl rfl)
theorem dX1_drained_55 : decode cX1_drained 55 = .ok (.getfield 146, 3) := dk_180 0 146 (dk_at dksX1_drained_2 8 rfl rfl)
theorem dX1_drained_58 : decode cX1_drained 58 = .ok (.invokevirtual 296, 3) := dk_182 1 40 (dk_at dksX1_drained_2 11 rfl rfl)
theorem dX1_drained_61 : decode cX1_drained 61 = .ok (.iinc 1 1, 3) := dk_132 1 1 (dk_at dksX1_drained_2 14 rfl rfl)
theorem dX1_drained_64 : decode cX1_drained 64 = .ok (.goto (-57), 3) := dk_167 255 199 (dk_at dksX1_drained_2 17 rfl rfl)
theorem dX1_drained_67 : decode cX1_drained 67 = .ok (.bipush (-2), 2) := dk_16 254 (dk_at dksX1_drained_2 20 rfl rfl)
theorem dX1_drained_69 : decode cX1_drained 69 = .ok (.ireturn, 1) := dk_172 (dk_at dksX1_drained_2 22 rfl rfl)
abbrev cX1_would : ByteArray := prog_1_method_45_code
def yX1_would : MethodName := ⟨RX1, "would", "(I)I"⟩
def dkwX1_would_4 : List UInt8 := [46, 172]
abbrev dktX1_would_4 : List UInt8 := dkwX1_would_4 ++ []
def dkwX1_would_3 : List UInt8 := [181, 0, 57, 42, 28, 156, 0, 7, 9, 167, 0, 4, 10, 182, 1, 54, 42, 180, 0, 19, 180, 0, 204, 27]
abbrev dktX1_would_3 : List UInt8 := dkwX1_would_3 ++ dktX1_would_4
def dkwX1_would_2 : List UInt8 := [180, 0, 113, 28, 50, 182, 1, 28, 87, 132, 2, 1, 167, 255, 225, 42, 182, 1, 254, 61, 42, 3]
abbrev dktX1_would_2 : List UInt8 := dkwX1_would_2 ++ dktX1_would_3
def dkwX1_would_1 : List UInt8 := [182, 0, 229, 3, 61, 28, 42, 180, 0, 19, 180, 0, 61, 162, 0, 26, 42, 180, 0, 19, 42, 180, 0, 19]
abbrev dktX1_would_1 : List UInt8 := dkwX1_would_1 ++ dktX1_would_2
def dkwX1_would_0 : List UInt8 := [27, 133, 9, 20, 0, 235, 184, 0, 64, 154, 0, 5, 2, 172, 42, 180, 0, 19, 42, 180, 0, 10]
abbrev dktX1_would_0 : List UInt8 := dkwX1_would_0 ++ dktX1_would_1
theorem dksX1_would_0 : cX1_would.data.toList.drop 0 = dktX1_would_0 := by decide +kernel
theorem dksX1_would_1 : cX1_would.data.toList.drop 22 = dktX1_would_1 := dk_seg dksX1_would_0 22 rfl rfl
theorem dksX1_would_2 : cX1_would.data.toList.drop 46 = dktX1_would_2 := dk_seg dksX1_would_1 24 rfl rfl
theorem dksX1_would_3 : cX1_would.data.toList.drop 68 = dktX1_would_3 := dk_seg dksX1_would_2 22 rfl rfl
theorem dksX1_would_4 : cX1_would.data.toList.drop 92 = dktX1_would_4 := dk_seg dksX1_would_3 24 rfl rfl
theorem dX1_would_0 : decode cX1_would 0 = .ok (.iload_n 1, 1) := dk_27 (dk_at dksX1_would_0 0 rfl rfl)
theorem dX1_would_1 : decode cX1_would 1 = .ok (.i2l, 1) := dk_133 (dk_at dksX1_would_0 1 rfl rfl)
theorem dX1_would_2 : decode cX1_would 2 = .ok (.lconst 0, 1) := dk_9 (dk_at dksX1_would_0 2 rfl rfl)
theorem dX1_would_3 : decode cX1_would 3 = .ok (.ldc2_w 235, 3) := dk_20 0 235 (dk_at dksX1_would_0 3 rfl rfl)
theorem dX1_would_6 : decode cX1_would 6 = .ok (.invokestatic 64, 3) := dk_184 0 64 (dk_at dksX1_would_0 6 rfl rfl)
theorem dX1_would_9 : decode cX1_would 9 = .ok (.ifCond .ne 5, 3) := dk_154 0 5 (dk_at dksX1_would_0 9 rfl rfl)
theorem dX1_would_12 : decode cX1_would 12 = .ok (.iconst (-1), 1) := dk_2 (dk_at dksX1_would_0 12 rfl rfl)
theorem dX1_would_13 : decode cX1_would 13 = .ok (.ireturn, 1) := dk_172 (dk_at dksX1_would_0 13 rfl rfl)
theorem dX1_would_14 : decode cX1_would 14 = .ok (.aload_n 0, 1) := dk_42 (dk_at dksX1_would_0 14 rfl rfl)
theorem dX1_would_15 : decode cX1_would 15 = .ok (.getfield 19, 3) := dk_180 0 19 (dk_at dksX1_would_0 15 rfl rfl)
theorem dX1_would_18 : decode cX1_would 18 = .ok (.aload_n 0, 1) := dk_42 (dk_at dksX1_would_0 18 rfl rfl)
theorem dX1_would_19 : decode cX1_would 19 = .ok (.getfield 10, 3) := dk_180 0 10 (dk_at dksX1_would_0 19 rfl rfl)
theorem dX1_would_22 : decode cX1_would 22 = .ok (.invokevirtual 229, 3) := dk_182 0 229 (dk_at dksX1_would_1 0 rfl rfl)
theorem dX1_would_25 : decode cX1_would 25 = .ok (.iconst 0, 1) := dk_3 (dk_at dksX1_would_1 3 rfl rfl)
theorem dX1_would_26 : decode cX1_would 26 = .ok (.istore_n 2, 1) := dk_61 (dk_at dksX1_would_1 4 rfl rfl)
theorem dX1_would_27 : decode cX1_would 27 = .ok (.iload_n 2, 1) := dk_28 (dk_at dksX1_would_1 5 rfl rfl)
theorem dX1_would_28 : decode cX1_would 28 = .ok (.aload_n 0, 1) := dk_42 (dk_at dksX1_would_1 6 rfl rfl)
theorem dX1_would_29 : decode cX1_would 29 = .ok (.getfield 19, 3) := dk_180 0 19 (dk_at dksX1_would_1 7 rfl rfl)
theorem dX1_would_32 : decode cX1_would 32 = .ok (.getfield 61, 3) := dk_180 0 61 (dk_at dksX1_would_1 10 rfl rfl)
theorem dX1_would_35 : decode cX1_would 35 = .ok (.if_icmp .ge 26, 3) := dk_162 0 26 (dk_at dksX1_would_1 13 rfl rfl)
theorem dX1_would_38 : decode cX1_would 38 = .ok (.aload_n 0, 1) := dk_42 (dk_at dksX1_would_1 16 rfl rfl)
theorem dX1_would_39 : decode cX1_would 39 = .ok (.getfield 19, 3) := dk_180 0 19 (dk_at dksX1_would_1 17 rfl rfl)
theorem dX1_would_42 : decode cX1_would 42 = .ok (.aload_n 0, 1) := dk_42 (dk_at dksX1_would_1 20 rfl rfl)
theorem dX1_would_43 : decode cX1_would 43 = .ok (.getfield 19, 3) := dk_180 0 19 (dk_at dksX1_would_1 21 rfl rfl)
theorem dX1_would_46 : decode cX1_would 46 = .ok (.getfield 113, 3) := dk_180 0 113 (dk_at dksX1_would_2 0 rfl rfl)
theorem dX1_would_49 : decode cX1_would 49 = .ok (.iload_n 2, 1) := dk_28 (dk_at dksX1_would_2 3 rfl rfl)
theorem dX1_would_50 : decode cX1_would 50 = .ok (.aaload, 1) := dk_50 (dk_at dksX1_would_2 4 rfl rfl)
theorem dX1_would_51 : decode cX1_would 51 = .ok (.invokevirtual 284, 3) := dk_182 1 28 (dk_at dksX1_would_2 5 rfl rfl)
theorem dX1_would_54 : decode cX1_would 54 = .ok (.pop, 1) := dk_87 (dk_at dksX1_would_2 8 rfl rfl)
theorem dX1_would_55 : decode cX1_would 55 = .ok (.iinc 2 1, 3) := dk_132 2 1 (dk_at dksX1_would_2 9 rfl rfl)
theorem dX1_would_58 : decode cX1_would 58 = .ok (.goto (-31), 3) := dk_167 255 225 (dk_at dksX1_would_2 12 rfl rfl)
theorem dX1_would_61 : decode cX1_would 61 = .ok (.aload_n 0, 1) := dk_42 (dk_at dksX1_would_2 15 rfl rfl)
theorem dX1_would_62 : decode cX1_would 62 = .ok (.invokevirtual 510, 3) := dk_182 1 254 (dk_at dksX1_would_2 16 rfl rfl)
theorem dX1_would_65 : decode cX1_would 65 = .ok (.istore_n 2, 1) := dk_61 (dk_at dksX1_would_2 19 rfl rfl)
theorem dX1_would_66 : decode cX1_would 66 = .ok (.aload_n 0, 1) := dk_42 (dk_at dksX1_would_2 20 rfl rfl)
theorem dX1_would_67 : decode cX1_would 67 = .ok (.iconst 0, 1) := dk_3 (dk_at dksX1_would_2 21 rfl rfl)
theorem dX1_would_68 : decode cX1_would 68 = .ok (.putfield 57, 3) := dk_181 0 57 (dk_at dksX1_would_3 0 rfl rfl)
theorem dX1_would_71 : decode cX1_would 71 = .ok (.aload_n 0, 1) := dk_42 (dk_at dksX1_would_3 3 rfl rfl)
theorem dX1_would_72 : decode cX1_would 72 = .ok (.iload_n 2, 1) := dk_28 (dk_at dksX1_would_3 4 rfl rfl)
theorem dX1_would_73 : decode cX1_would 73 = .ok (.ifCond .ge 7, 3) := dk_156 0 7 (dk_at dksX1_would_3 5 rfl rfl)
theorem dX1_would_76 : decode cX1_would 76 = .ok (.lconst 0, 1) := dk_9 (dk_at dksX1_would_3 8 rfl rfl)
theorem dX1_would_77 : decode cX1_would 77 = .ok (.goto 4, 3) := dk_167 0 4 (dk_at dksX1_would_3 9 rfl rfl)
theorem dX1_would_80 : decode cX1_would 80 = .ok (.lconst 1, 1) := dk_10 (dk_at dksX1_would_3 12 rfl rfl)
theorem dX1_would_81 : decode cX1_would 81 = .ok (.invokevirtual 310, 3) := dk_182 1 54 (dk_at dksX1_would_3 13 rfl rfl)
theorem dX1_would_84 : decode cX1_would 84 = .ok (.aload_n 0, 1) := dk_42 (dk_at dksX1_would_3 16 rfl rfl)
theorem dX1_would_85 : decode cX1_would 85 = .ok (.getfield 19, 3) := dk_180 0 19 (dk_at dksX1_would_3 17 rfl rfl)
theorem dX1_would_88 : decode cX1_would 88 = .ok (.getfield 204, 3) := dk_180 0 204 (dk_at dksX1_would_3 20 rfl rfl)
theorem dX1_would_91 : decode cX1_would 91 = .ok (.iload_n 1, 1) := dk_27 (dk_at dksX1_would_3 23 rfl rfl)
theorem dX1_would_92 : decode cX1_would 92 = .ok (.iaload, 1) := dk_46 (dk_at dksX1_would_4 0 rfl rfl)
theorem dX1_would_93 : decode cX1_would 93 = .ok (.ireturn, 1) := dk_172 (dk_at dksX1_would_4 1 rfl rfl)
abbrev cX1_needs : ByteArray := prog_1_method_46_code
def yX1_needs : MethodName := ⟨RX1, "needs", "(I)I"⟩
def dkwX1_needs_2 : List UInt8 := [44, 180, 0, 172, 100, 133, 167, 0, 4, 9, 182, 1, 54, 29, 172]
abbrev dktX1_needs_2 : List UInt8 := dkwX1_needs_2 ++ []
def dkwX1_needs_1 : List UInt8 := [62, 29, 16, 254, 160, 0, 5, 29, 172, 42, 3, 181, 0, 57, 42, 29, 4, 160, 0, 16, 44, 180, 0, 166]
abbrev dktX1_needs_1 : List UInt8 := dkwX1_needs_1 ++ dktX1_needs_2
def dkwX1_needs_0 : List UInt8 := [42, 27, 182, 0, 159, 154, 0, 5, 2, 172, 42, 180, 0, 10, 180, 0, 113, 27, 50, 77, 44, 182, 1, 25]
abbrev dktX1_needs_0 : List UInt8 := dkwX1_needs_0 ++ dktX1_needs_1
theorem dksX1_needs_0 : cX1_needs.data.toList.drop 0 = dktX1_needs_0 := by decide +kernel
theorem dksX1_needs_1 : cX1_needs.data.toList.drop 24 = dktX1_needs_1 := dk_seg dksX1_needs_0 24 rfl rfl
theorem dksX1_needs_2 : cX1_needs.data.toList.drop 48 = dktX1_needs_2 := dk_seg dksX1_needs_1 24 rfl rfl
theorem dX1_needs_0 : decode cX1_needs 0 = .ok (.aload_n 0, 1) := dk_42 (dk_at dksX1_needs_0 0 rfl rfl)
theorem dX1_needs_1 : decode cX1_needs 1 = .ok (.iload_n 1, 1) := dk_27 (dk_at dksX1_needs_0 1 rfl rfl)
theorem dX1_needs_2 : decode cX1_needs 2 = .ok (.invokevirtual 159, 3) := dk_182 0 159 (dk_at dksX1_needs_0 2 rfl rfl)
theorem dX1_needs_5 : decode cX1_needs 5 = .ok (.ifCond .ne 5, 3) := dk_154 0 5 (dk_at dksX1_needs_0 5 rfl rfl)
theorem dX1_needs_8 : decode cX1_needs 8 = .ok (.iconst (-1), 1) := dk_2 (dk_at dksX1_needs_0 8 rfl rfl)
theorem dX1_needs_9 : decode cX1_needs 9 = .ok (.ireturn, 1) := dk_172 (dk_at dksX1_needs_0 9 rfl rfl)
theorem dX1_needs_10 : decode cX1_needs 10 = .ok (.aload_n 0, 1) := dk_42 (dk_at dksX1_needs_0 10 rfl rfl)
theorem dX1_needs_11 : decode cX1_needs 11 = .ok (.getfield 10, 3) := dk_180 0 10 (dk_at dksX1_needs_0 11 rfl rfl)
theorem dX1_needs_14 : decode cX1_needs 14 = .ok (.getfield 113, 3) := dk_180 0 113 (dk_at dksX1_needs_0 14 rfl rfl)
theorem dX1_needs_17 : decode cX1_needs 17 = .ok (.iload_n 1, 1) := dk_27 (dk_at dksX1_needs_0 17 rfl rfl)
theorem dX1_needs_18 : decode cX1_needs 18 = .ok (.aaload, 1) := dk_50 (dk_at dksX1_needs_0 18 rfl rfl)
theorem dX1_needs_19 : decode cX1_needs 19 = .ok (.astore_n 2, 1) := dk_77 (dk_at dksX1_needs_0 19 rfl rfl)
theorem dX1_needs_20 : decode cX1_needs 20 = .ok (.aload_n 2, 1) := dk_44 (dk_at dksX1_needs_0 20 rfl rfl)
theorem dX1_needs_21 : decode cX1_needs 21 = .ok (.invokevirtual 281, 3) := dk_182 1 25 (dk_at dksX1_needs_0 21 rfl rfl)
theorem dX1_needs_24 : decode cX1_needs 24 = .ok (.istore_n 3, 1) := dk_62 (dk_at dksX1_needs_1 0 rfl rfl)
theorem dX1_needs_25 : decode cX1_needs 25 = .ok (.iload_n 3, 1) := dk_29 (dk_at dksX1_needs_1 1 rfl rfl)
theorem dX1_needs_26 : decode cX1_needs 26 = .ok (.bipush (-2), 2) := dk_16 254 (dk_at dksX1_needs_1 2 rfl rfl)
theorem dX1_needs_28 : decode cX1_needs 28 = .ok (.if_icmp .ne 5, 3) := dk_160 0 5 (dk_at dksX1_needs_1 4 rfl rfl)
theorem dX1_needs_31 : decode cX1_needs 31 = .ok (.iload_n 3, 1) := dk_29 (dk_at dksX1_needs_1 7 rfl rfl)
theorem dX1_needs_32 : decode cX1_needs 32 = .ok (.ireturn, 1) := dk_172 (dk_at dksX1_needs_1 8 rfl rfl)
theorem dX1_needs_33 : decode cX1_needs 33 = .ok (.aload_n 0, 1) := dk_42 (dk_at dksX1_needs_1 9 rfl rfl)
theorem dX1_needs_34 : decode cX1_needs 34 = .ok (.iconst 0, 1) := dk_3 (dk_at dksX1_needs_1 10 rfl rfl)
theorem dX1_needs_35 : decode cX1_needs 35 = .ok (.putfield 57, 3) := dk_181 0 57 (dk_at dksX1_needs_1 11 rfl rfl)
theorem dX1_needs_38 : decode cX1_needs 38 = .ok (.aload_n 0, 1) := dk_42 (dk_at dksX1_needs_1 14 rfl rfl)
theorem dX1_needs_39 : decode cX1_needs 39 = .ok (.iload_n 3, 1) := dk_29 (dk_at dksX1_needs_1 15 rfl rfl)
theorem dX1_needs_40 : decode cX1_needs 40 = .ok (.iconst 1, 1) := dk_4 (dk_at dksX1_needs_1 16 rfl rfl)
theorem dX1_needs_41 : decode cX1_needs 41 = .ok (.if_icmp .ne 16, 3) := dk_160 0 16 (dk_at dksX1_needs_1 17 rfl rfl)
theorem dX1_needs_44 : decode cX1_needs 44 = .ok (.aload_n 2, 1) := dk_44 (dk_at dksX1_needs_1 20 rfl rfl)
theorem dX1_needs_45 : decode cX1_needs 45 = .ok (.getfield 166, 3) := dk_180 0 166 (dk_at dksX1_needs_1 21 rfl rfl)
theorem dX1_needs_48 : decode cX1_needs 48 = .ok (.aload_n 2, 1) := dk_44 (dk_at dksX1_needs_2 0 rfl rfl)
theorem dX1_needs_49 : decode cX1_needs 49 = .ok (.getfield 172, 3) := dk_180 0 172 (dk_at dksX1_needs_2 1 rfl rfl)
theorem dX1_needs_52 : decode cX1_needs 52 = .ok (.isub, 1) := dk_100 (dk_at dksX1_needs_2 4 rfl rfl)
theorem dX1_needs_53 : decode cX1_needs 53 = .ok (.i2l, 1) := dk_133 (dk_at dksX1_needs_2 5 rfl rfl)
theorem dX1_needs_54 : decode cX1_needs 54 = .ok (.goto 4, 3) := dk_167 0 4 (dk_at dksX1_needs_2 6 rfl rfl)
theorem dX1_needs_57 : decode cX1_needs 57 = .ok (.lconst 0, 1) := dk_9 (dk_at dksX1_needs_2 9 rfl rfl)
theorem dX1_needs_58 : decode cX1_needs 58 = .ok (.invokevirtual 310, 3) := dk_182 1 54 (dk_at dksX1_needs_2 10 rfl rfl)
theorem dX1_needs_61 : decode cX1_needs 61 = .ok (.iload_n 3, 1) := dk_29 (dk_at dksX1_needs_2 13 rfl rfl)
theorem dX1_needs_62 : decode cX1_needs 62 = .ok (.ireturn, 1) := dk_172 (dk_at dksX1_needs_2 14 rfl rfl)
abbrev cX1_bells : ByteArray := prog_1_method_47_code
def yX1_bells : MethodName := ⟨RX1, "bells", "()I"⟩
def dkwX1_bells_1 : List UInt8 := [172]
abbrev dktX1_bells_1 : List UInt8 := dkwX1_bells_1 ++ []
def dkwX1_bells_0 : List UInt8 := [42, 3, 181, 0, 57, 42, 42, 180, 0, 10, 180, 2, 1, 133, 182, 1, 54, 42, 180, 0, 10, 180, 2, 4]
abbrev dktX1_bells_0 : List UInt8 := dkwX1_bells_0 ++ dktX1_bells_1
theorem dksX1_bells_0 : cX1_bells.data.toList.drop 0 = dktX1_bells_0 := by decide +kernel
theorem dksX1_bells_1 : cX1_bells.data.toList.drop 24 = dktX1_bells_1 := dk_seg dksX1_bells_0 24 rfl rfl
theorem dX1_bells_0 : decode cX1_bells 0 = .ok (.aload_n 0, 1) := dk_42 (dk_at dksX1_bells_0 0 rfl rfl)
theorem dX1_bells_1 : decode cX1_bells 1 = .ok (.iconst 0, 1) := dk_3 (dk_at dksX1_bells_0 1 rfl rfl)
theorem dX1_bells_2 : decode cX1_bells 2 = .ok (.putfield 57, 3) := dk_181 0 57 (dk_at dksX1_bells_0 2 rfl rfl)
theorem dX1_bells_5 : decode cX1_bells 5 = .ok (.aload_n 0, 1) := dk_42 (dk_at dksX1_bells_0 5 rfl rfl)
theorem dX1_bells_6 : decode cX1_bells 6 = .ok (.aload_n 0, 1) := dk_42 (dk_at dksX1_bells_0 6 rfl rfl)
theorem dX1_bells_7 : decode cX1_bells 7 = .ok (.getfield 10, 3) := dk_180 0 10 (dk_at dksX1_bells_0 7 rfl rfl)
theorem dX1_bells_10 : decode cX1_bells 10 = .ok (.getfield 513, 3) := dk_180 2 1 (dk_at dksX1_bells_0 10 rfl rfl)
theorem dX1_bells_13 : decode cX1_bells 13 = .ok (.i2l, 1) := dk_133 (dk_at dksX1_bells_0 13 rfl rfl)
theorem dX1_bells_14 : decode cX1_bells 14 = .ok (.invokevirtual 310, 3) := dk_182 1 54 (dk_at dksX1_bells_0 14 rfl rfl)
theorem dX1_bells_17 : decode cX1_bells 17 = .ok (.aload_n 0, 1) := dk_42 (dk_at dksX1_bells_0 17 rfl rfl)
theorem dX1_bells_18 : decode cX1_bells 18 = .ok (.getfield 10, 3) := dk_180 0 10 (dk_at dksX1_bells_0 18 rfl rfl)
theorem dX1_bells_21 : decode cX1_bells 21 = .ok (.getfield 516, 3) := dk_180 2 4 (dk_at dksX1_bells_0 21 rfl rfl)
theorem dX1_bells_24 : decode cX1_bells 24 = .ok (.ireturn, 1) := dk_172 (dk_at dksX1_bells_1 0 rfl rfl)
abbrev cX1_recall : ByteArray := prog_1_method_48_code
def yX1_recall : MethodName := ⟨RX1, "recall", "(II)I"⟩
def dkwX1_recall_1 : List UInt8 := [180, 1, 114, 133, 182, 1, 54, 42, 42, 180, 1, 111, 133, 182, 1, 54, 29, 172]
abbrev dktX1_recall_1 : List UInt8 := dkwX1_recall_1 ++ []
def dkwX1_recall_0 : List UInt8 := [42, 42, 180, 0, 10, 27, 28, 182, 1, 157, 62, 29, 156, 0, 5, 29, 172, 42, 3, 181, 0, 57, 42, 42]
abbrev dktX1_recall_0 : List UInt8 := dkwX1_recall_0 ++ dktX1_recall_1
theorem dksX1_recall_0 : cX1_recall.data.toList.drop 0 = dktX1_recall_0 := by decide +kernel
theorem dksX1_recall_1 : cX1_recall.data.toList.drop 24 = dktX1_recall_1 := dk_seg dksX1_recall_0 24 rfl rfl
theorem dX1_recall_0 : decode cX1_recall 0 = .ok (.aload_n 0, 1) := dk_42 (dk_at dksX1_recall_0 0 rfl rfl)
theorem dX1_recall_1 : decode cX1_recall 1 = .ok (.aload_n 0, 1) := dk_42 (dk_at dksX1_recall_0 1 rfl rfl)
theorem dX1_recall_2 : decode cX1_recall 2 = .ok (.getfield 10, 3) := dk_180 0 10 (dk_at dksX1_recall_0 2 rfl rfl)
theorem dX1_recall_5 : decode cX1_recall 5 = .ok (.iload_n 1, 1) := dk_27 (dk_at dksX1_recall_0 5 rfl rfl)
theorem dX1_recall_6 : decode cX1_recall 6 = .ok (.iload_n 2, 1) := dk_28 (dk_at dksX1_recall_0 6 rfl rfl)
theorem dX1_recall_7 : decode cX1_recall 7 = .ok (.invokevirtual 413, 3) := dk_182 1 157 (dk_at dksX1_recall_0 7 rfl rfl)
theorem dX1_recall_10 : decode cX1_recall 10 = .ok (.istore_n 3, 1) := dk_62 (dk_at dksX1_recall_0 10 rfl rfl)
theorem dX1_recall_11 : decode cX1_recall 11 = .ok (.iload_n 3, 1) := dk_29 (dk_at dksX1_recall_0 11 rfl rfl)
theorem dX1_recall_12 : decode cX1_recall 12 = .ok (.ifCond .ge 5, 3) := dk_156 0 5 (dk_at dksX1_recall_0 12 rfl rfl)
theorem dX1_recall_15 : decode cX1_recall 15 = .ok (.iload_n 3, 1) := dk_29 (dk_at dksX1_recall_0 15 rfl rfl)
theorem dX1_recall_16 : decode cX1_recall 16 = .ok (.ireturn, 1) := dk_172 (dk_at dksX1_recall_0 16 rfl rfl)
theorem dX1_recall_17 : decode cX1_recall 17 = .ok (.aload_n 0, 1) := dk_42 (dk_at dksX1_recall_0 17 rfl rfl)
theorem dX1_recall_18 : decode cX1_recall 18 = .ok (.iconst 0, 1) := dk_3 (dk_at dksX1_recall_0 18 rfl rfl)
theorem dX1_recall_19 : decode cX1_recall 19 = .ok (.putfield 57, 3) := dk_181 0 57 (dk_at dksX1_recall_0 19 rfl rfl)
theorem dX1_recall_22 : decode cX1_recall 22 = .ok (.aload_n 0, 1) := dk_42 (dk_at dksX1_recall_0 22 rfl rfl)
theorem dX1_recall_23 : decode cX1_recall 23 = .ok (.aload_n 0, 1) := dk_42 (dk_at dksX1_recall_0 23 rfl rfl)
theorem dX1_recall_24 : decode cX1_recall 24 = .ok (.getfield 370, 3) := dk_180 1 114 (dk_at dksX1_recall_1 0 rfl rfl)
theorem dX1_recall_27 : decode cX1_recall 27 = .ok (.i2l, 1) := dk_133 (dk_at dksX1_recall_1 3 rfl rfl)
theorem dX1_recall_28 : decode cX1_recall 28 = .ok (.invokevirtual 310, 3) := dk_182 1 54 (dk_at dksX1_recall_1 4 rfl rfl)
theorem dX1_recall_31 : decode cX1_recall 31 = .ok (.aload_n 0, 1) := dk_42 (dk_at dksX1_recall_1 7 rfl rfl)
theorem dX1_recall_32 : decode cX1_recall 32 = .ok (.aload_n 0, 1) := dk_42 (dk_at dksX1_recall_1 8 rfl rfl)
theorem dX1_recall_33 : decode cX1_recall 33 = .ok (.getfield 367, 3) := dk_180 1 111 (dk_at dksX1_recall_1 9 rfl rfl)
theorem dX1_recall_36 : decode cX1_recall 36 = .ok (.i2l, 1) := dk_133 (dk_at dksX1_recall_1 12 rfl rfl)
theorem dX1_recall_37 : decode cX1_recall 37 = .ok (.invokevirtual 310, 3) := dk_182 1 54 (dk_at dksX1_recall_1 13 rfl rfl)
theorem dX1_recall_40 : decode cX1_recall 40 = .ok (.iload_n 3, 1) := dk_29 (dk_at dksX1_recall_1 16 rfl rfl)
theorem dX1_recall_41 : decode cX1_recall 41 = .ok (.ireturn, 1) := dk_172 (dk_at dksX1_recall_1 17 rfl rfl)
abbrev cX1_served : ByteArray := prog_1_method_49_code
def yX1_served : MethodName := ⟨RX1, "served", "()I"⟩
def dkwX1_served_2 : List UInt8 := [180, 0, 10, 180, 2, 7, 3, 46, 133, 182, 1, 54, 27, 172]
abbrev dktX1_served_2 : List UInt8 := dkwX1_served_2 ++ []
def dkwX1_served_1 : List UInt8 := [133, 182, 1, 54, 27, 42, 180, 0, 10, 180, 2, 7, 28, 46, 96, 60, 132, 2, 1, 167, 255, 222, 42, 42]
abbrev dktX1_served_1 : List UInt8 := dkwX1_served_1 ++ dktX1_served_2
def dkwX1_served_0 : List UInt8 := [42, 3, 181, 0, 57, 3, 60, 4, 61, 28, 7, 162, 0, 35, 42, 42, 180, 0, 10, 180, 2, 7, 28, 46]
abbrev dktX1_served_0 : List UInt8 := dkwX1_served_0 ++ dktX1_served_1
theorem dksX1_served_0 : cX1_served.data.toList.drop 0 = dktX1_served_0 := by decide +kernel
theorem dksX1_served_1 : cX1_served.data.toList.drop 24 = dktX1_served_1 := dk_seg dksX1_served_0 24 rfl rfl
theorem dksX1_served_2 : cX1_served.data.toList.drop 48 = dktX1_served_2 := dk_seg dksX1_served_1 24 rfl rfl
theorem dX1_served_0 : decode cX1_served 0 = .ok (.aload_n 0, 1) := dk_42 (dk_at dksX1_served_0 0 rfl rfl)
theorem dX1_served_1 : decode cX1_served 1 = .ok (.iconst 0, 1) := dk_3 (dk_at dksX1_served_0 1 rfl rfl)
theorem dX1_served_2 : decode cX1_served 2 = .ok (.putfield 57, 3) := dk_181 0 57 (dk_at dksX1_served_0 2 rfl rfl)
theorem dX1_served_5 : decode cX1_served 5 = .ok (.iconst 0, 1) := dk_3 (dk_at dksX1_served_0 5 rfl rfl)
theorem dX1_served_6 : decode cX1_served 6 = .ok (.istore_n 1, 1) := dk_60 (dk_at dksX1_served_0 6 rfl rfl)
theorem dX1_served_7 : decode cX1_served 7 = .ok (.iconst 1, 1) := dk_4 (dk_at dksX1_served_0 7 rfl rfl)
theorem dX1_served_8 : decode cX1_served 8 = .ok (.istore_n 2, 1) := dk_61 (dk_at dksX1_served_0 8 rfl rfl)
theorem dX1_served_9 : decode cX1_served 9 = .ok (.iload_n 2, 1) := dk_28 (dk_at dksX1_served_0 9 rfl rfl)
theorem dX1_served_10 : decode cX1_served 10 = .ok (.iconst 4, 1) := dk_7 (dk_at dksX1_served_0 10 rfl rfl)
theorem dX1_served_11 : decode cX1_served 11 = .ok (.if_icmp .ge 35, 3) := dk_162 0 35 (dk_at dksX1_served_0 11 rfl rfl)
theorem dX1_served_14 : decode cX1_served 14 = .ok (.aload_n 0, 1) := dk_42 (dk_at dksX1_served_0 14 rfl rfl)
theorem dX1_served_15 : decode cX1_served 15 = .ok (.aload_n 0, 1) := dk_42 (dk_at dksX1_served_0 15 rfl rfl)
theorem dX1_served_16 : decode cX1_served 16 = .ok (.getfield 10, 3) := dk_180 0 10 (dk_at dksX1_served_0 16 rfl rfl)
theorem dX1_served_19 : decode cX1_served 19 = .ok (.getfield 519, 3) := dk_180 2 7 (dk_at dksX1_served_0 19 rfl rfl)
theorem dX1_served_22 : decode cX1_served 22 = .ok (.iload_n 2, 1) := dk_28 (dk_at dksX1_served_0 22 rfl rfl)
theorem dX1_served_23 : decode cX1_served 23 = .ok (.iaload, 1) := dk_46 (dk_at dksX1_served_0 23 rfl rfl)
theorem dX1_served_24 : decode cX1_served 24 = .ok (.i2l, 1) := dk_133 (dk_at dksX1_served_1 0 rfl rfl)
theorem dX1_served_25 : decode cX1_served 25 = .ok (.invokevirtual 310, 3) := dk_182 1 54 (dk_at dksX1_served_1 1 rfl rfl)
theorem dX1_served_28 : decode cX1_served 28 = .ok (.iload_n 1, 1) := dk_27 (dk_at dksX1_served_1 4 rfl rfl)
theorem dX1_served_29 : decode cX1_served 29 = .ok (.aload_n 0, 1) := dk_42 (dk_at dksX1_served_1 5 rfl rfl)
theorem dX1_served_30 : decode cX1_served 30 = .ok (.getfield 10, 3) := dk_180 0 10 (dk_at dksX1_served_1 6 rfl rfl)
theorem dX1_served_33 : decode cX1_served 33 = .ok (.getfield 519, 3) := dk_180 2 7 (dk_at dksX1_served_1 9 rfl rfl)
theorem dX1_served_36 : decode cX1_served 36 = .ok (.iload_n 2, 1) := dk_28 (dk_at dksX1_served_1 12 rfl rfl)
theorem dX1_served_37 : decode cX1_served 37 = .ok (.iaload, 1) := dk_46 (dk_at dksX1_served_1 13 rfl rfl)
theorem dX1_served_38 : decode cX1_served 38 = .ok (.iadd, 1) := dk_96 (dk_at dksX1_served_1 14 rfl rfl)
theorem dX1_served_39 : decode cX1_served 39 = .ok (.istore_n 1, 1) := dk_60 (dk_at dksX1_served_1 15 rfl rfl)
theorem dX1_served_40 : decode cX1_served 40 = .ok (.iinc 2 1, 3) := dk_132 2 1 (dk_at dksX1_served_1 16 rfl rfl)
theorem dX1_served_43 : decode cX1_served 43 = .ok (.goto (-34), 3) := dk_167 255 222 (dk_at dksX1_served_1 19 rfl rfl)
theorem dX1_served_46 : decode cX1_served 46 = .ok (.aload_n 0, 1) := dk_42 (dk_at dksX1_served_1 22 rfl rfl)
theorem dX1_served_47 : decode cX1_served 47 = .ok (.aload_n 0, 1) := dk_42 (dk_at dksX1_served_1 23 rfl rfl)
theorem dX1_served_48 : decode cX1_served 48 = .ok (.getfield 10, 3) := dk_180 0 10 (dk_at dksX1_served_2 0 rfl rfl)
theorem dX1_served_51 : decode cX1_served 51 = .ok (.getfield 519, 3) := dk_180 2 7 (dk_at dksX1_served_2 3 rfl rfl)
theorem dX1_served_54 : decode cX1_served 54 = .ok (.iconst 0, 1) := dk_3 (dk_at dksX1_served_2 6 rfl rfl)
theorem dX1_served_55 : decode cX1_served 55 = .ok (.iaload, 1) := dk_46 (dk_at dksX1_served_2 7 rfl rfl)
theorem dX1_served_56 : decode cX1_served 56 = .ok (.i2l, 1) := dk_133 (dk_at dksX1_served_2 8 rfl rfl)
theorem dX1_served_57 : decode cX1_served 57 = .ok (.invokevirtual 310, 3) := dk_182 1 54 (dk_at dksX1_served_2 9 rfl rfl)
theorem dX1_served_60 : decode cX1_served 60 = .ok (.iload_n 1, 1) := dk_27 (dk_at dksX1_served_2 12 rfl rfl)
theorem dX1_served_61 : decode cX1_served 61 = .ok (.ireturn, 1) := dk_172 (dk_at dksX1_served_2 13 rfl rfl)
abbrev cX1_heard : ByteArray := prog_1_method_51_code
def yX1_heard : MethodName := ⟨RX1, "heard", "(II)I"⟩
def dkwX1_heard_3 : List UInt8 := [172]
abbrev dktX1_heard_3 : List UInt8 := dkwX1_heard_3 ++ []
def dkwX1_heard_2 : List UInt8 := [42, 180, 0, 38, 42, 180, 2, 13, 28, 79, 42, 89, 180, 2, 13, 4, 96, 181, 2, 13, 42, 180, 2, 13]
abbrev dktX1_heard_2 : List UInt8 := dkwX1_heard_2 ++ dktX1_heard_3
def dkwX1_heard_1 : List UInt8 := [153, 0, 12, 42, 180, 2, 13, 16, 12, 160, 0, 5, 2, 172, 42, 180, 0, 34, 42, 180, 2, 13, 27, 79]
abbrev dktX1_heard_1 : List UInt8 := dkwX1_heard_1 ++ dktX1_heard_2
def dkwX1_heard_0 : List UInt8 := [27, 133, 9, 20, 0, 196, 184, 0, 64, 153, 0, 26, 28, 133, 9, 27, 184, 2, 10, 133, 184, 0, 64]
abbrev dktX1_heard_0 : List UInt8 := dkwX1_heard_0 ++ dktX1_heard_1
theorem dksX1_heard_0 : cX1_heard.data.toList.drop 0 = dktX1_heard_0 := by decide +kernel
theorem dksX1_heard_1 : cX1_heard.data.toList.drop 23 = dktX1_heard_1 := dk_seg dksX1_heard_0 23 rfl rfl
theorem dksX1_heard_2 : cX1_heard.data.toList.drop 47 = dktX1_heard_2 := dk_seg dksX1_heard_1 24 rfl rfl
theorem dksX1_heard_3 : cX1_heard.data.toList.drop 71 = dktX1_heard_3 := dk_seg dksX1_heard_2 24 rfl rfl
theorem dX1_heard_0 : decode cX1_heard 0 = .ok (.iload_n 1, 1) := dk_27 (dk_at dksX1_heard_0 0 rfl rfl)
theorem dX1_heard_1 : decode cX1_heard 1 = .ok (.i2l, 1) := dk_133 (dk_at dksX1_heard_0 1 rfl rfl)
theorem dX1_heard_2 : decode cX1_heard 2 = .ok (.lconst 0, 1) := dk_9 (dk_at dksX1_heard_0 2 rfl rfl)
theorem dX1_heard_3 : decode cX1_heard 3 = .ok (.ldc2_w 196, 3) := dk_20 0 196 (dk_at dksX1_heard_0 3 rfl rfl)
theorem dX1_heard_6 : decode cX1_heard 6 = .ok (.invokestatic 64, 3) := dk_184 0 64 (dk_at dksX1_heard_0 6 rfl rfl)
theorem dX1_heard_9 : decode cX1_heard 9 = .ok (.ifCond .eq 26, 3) := dk_153 0 26 (dk_at dksX1_heard_0 9 rfl rfl)
theorem dX1_heard_12 : decode cX1_heard 12 = .ok (.iload_n 2, 1) := dk_28 (dk_at dksX1_heard_0 12 rfl rfl)
theorem dX1_heard_13 : decode cX1_heard 13 = .ok (.i2l, 1) := dk_133 (dk_at dksX1_heard_0 13 rfl rfl)
theorem dX1_heard_14 : decode cX1_heard 14 = .ok (.lconst 0, 1) := dk_9 (dk_at dksX1_heard_0 14 rfl rfl)
theorem dX1_heard_15 : decode cX1_heard 15 = .ok (.iload_n 1, 1) := dk_27 (dk_at dksX1_heard_0 15 rfl rfl)
theorem dX1_heard_16 : decode cX1_heard 16 = .ok (.invokestatic 522, 3) := dk_184 2 10 (dk_at dksX1_heard_0 16 rfl rfl)
theorem dX1_heard_19 : decode cX1_heard 19 = .ok (.i2l, 1) := dk_133 (dk_at dksX1_heard_0 19 rfl rfl)
theorem dX1_heard_20 : decode cX1_heard 20 = .ok (.invokestatic 64, 3) := dk_184 0 64 (dk_at dksX1_heard_0 20 rfl rfl)
theorem dX1_heard_23 : decode cX1_heard 23 = .ok (.ifCond .eq 12, 3) := dk_153 0 12 (dk_at dksX1_heard_1 0 rfl rfl)
theorem dX1_heard_26 : decode cX1_heard 26 = .ok (.aload_n 0, 1) := dk_42 (dk_at dksX1_heard_1 3 rfl rfl)
theorem dX1_heard_27 : decode cX1_heard 27 = .ok (.getfield 525, 3) := dk_180 2 13 (dk_at dksX1_heard_1 4 rfl rfl)
theorem dX1_heard_30 : decode cX1_heard 30 = .ok (.bipush 12, 2) := dk_16 12 (dk_at dksX1_heard_1 7 rfl rfl)
theorem dX1_heard_32 : decode cX1_heard 32 = .ok (.if_icmp .ne 5, 3) := dk_160 0 5 (dk_at dksX1_heard_1 9 rfl rfl)
theorem dX1_heard_35 : decode cX1_heard 35 = .ok (.iconst (-1), 1) := dk_2 (dk_at dksX1_heard_1 12 rfl rfl)
theorem dX1_heard_36 : decode cX1_heard 36 = .ok (.ireturn, 1) := dk_172 (dk_at dksX1_heard_1 13 rfl rfl)
theorem dX1_heard_37 : decode cX1_heard 37 = .ok (.aload_n 0, 1) := dk_42 (dk_at dksX1_heard_1 14 rfl rfl)
theorem dX1_heard_38 : decode cX1_heard 38 = .ok (.getfield 34, 3) := dk_180 0 34 (dk_at dksX1_heard_1 15 rfl rfl)
theorem dX1_heard_41 : decode cX1_heard 41 = .ok (.aload_n 0, 1) := dk_42 (dk_at dksX1_heard_1 18 rfl rfl)
theorem dX1_heard_42 : decode cX1_heard 42 = .ok (.getfield 525, 3) := dk_180 2 13 (dk_at dksX1_heard_1 19 rfl rfl)
theorem dX1_heard_45 : decode cX1_heard 45 = .ok (.iload_n 1, 1) := dk_27 (dk_at dksX1_heard_1 22 rfl rfl)
theorem dX1_heard_46 : decode cX1_heard 46 = .ok (.iastore, 1) := dk_79 (dk_at dksX1_heard_1 23 rfl rfl)
theorem dX1_heard_47 : decode cX1_heard 47 = .ok (.aload_n 0, 1) := dk_42 (dk_at dksX1_heard_2 0 rfl rfl)
theorem dX1_heard_48 : decode cX1_heard 48 = .ok (.getfield 38, 3) := dk_180 0 38 (dk_at dksX1_heard_2 1 rfl rfl)
theorem dX1_heard_51 : decode cX1_heard 51 = .ok (.aload_n 0, 1) := dk_42 (dk_at dksX1_heard_2 4 rfl rfl)
theorem dX1_heard_52 : decode cX1_heard 52 = .ok (.getfield 525, 3) := dk_180 2 13 (dk_at dksX1_heard_2 5 rfl rfl)
theorem dX1_heard_55 : decode cX1_heard 55 = .ok (.iload_n 2, 1) := dk_28 (dk_at dksX1_heard_2 8 rfl rfl)
theorem dX1_heard_56 : decode cX1_heard 56 = .ok (.iastore, 1) := dk_79 (dk_at dksX1_heard_2 9 rfl rfl)
theorem dX1_heard_57 : decode cX1_heard 57 = .ok (.aload_n 0, 1) := dk_42 (dk_at dksX1_heard_2 10 rfl rfl)
theorem dX1_heard_58 : decode cX1_heard 58 = .ok (.dup, 1) := dk_89 (dk_at dksX1_heard_2 11 rfl rfl)
theorem dX1_heard_59 : decode cX1_heard 59 = .ok (.getfield 525, 3) := dk_180 2 13 (dk_at dksX1_heard_2 12 rfl rfl)
theorem dX1_heard_62 : decode cX1_heard 62 = .ok (.iconst 1, 1) := dk_4 (dk_at dksX1_heard_2 15 rfl rfl)
theorem dX1_heard_63 : decode cX1_heard 63 = .ok (.iadd, 1) := dk_96 (dk_at dksX1_heard_2 16 rfl rfl)
theorem dX1_heard_64 : decode cX1_heard 64 = .ok (.putfield 525, 3) := dk_181 2 13 (dk_at dksX1_heard_2 17 rfl rfl)
theorem dX1_heard_67 : decode cX1_heard 67 = .ok (.aload_n 0, 1) := dk_42 (dk_at dksX1_heard_2 20 rfl rfl)
theorem dX1_heard_68 : decode cX1_heard 68 = .ok (.getfield 525, 3) := dk_180 2 13 (dk_at dksX1_heard_2 21 rfl rfl)
theorem dX1_heard_71 : decode cX1_heard 71 = .ok (.ireturn, 1) := dk_172 (dk_at dksX1_heard_3 0 rfl rfl)
abbrev cX1_highOf : ByteArray := prog_1_method_50_code
def yX1_highOf : MethodName := ⟨RX1, "highOf", "(I)I"⟩
def dkwX1_highOf_0 : List UInt8 := [26, 5, 160, 0, 8, 16, 9, 167, 0, 13, 26, 6, 160, 0, 7, 4, 167, 0, 4, 7, 172]
abbrev dktX1_highOf_0 : List UInt8 := dkwX1_highOf_0 ++ []
theorem dksX1_highOf_0 : cX1_highOf.data.toList.drop 0 = dktX1_highOf_0 := by decide +kernel
theorem dX1_highOf_0 : decode cX1_highOf 0 = .ok (.iload_n 0, 1) := dk_26 (dk_at dksX1_highOf_0 0 rfl rfl)
theorem dX1_highOf_1 : decode cX1_highOf 1 = .ok (.iconst 2, 1) := dk_5 (dk_at dksX1_highOf_0 1 rfl rfl)
theorem dX1_highOf_2 : decode cX1_highOf 2 = .ok (.if_icmp .ne 8, 3) := dk_160 0 8 (dk_at dksX1_highOf_0 2 rfl rfl)
theorem dX1_highOf_5 : decode cX1_highOf 5 = .ok (.bipush 9, 2) := dk_16 9 (dk_at dksX1_highOf_0 5 rfl rfl)
theorem dX1_highOf_7 : decode cX1_highOf 7 = .ok (.goto 13, 3) := dk_167 0 13 (dk_at dksX1_highOf_0 7 rfl rfl)
theorem dX1_highOf_10 : decode cX1_highOf 10 = .ok (.iload_n 0, 1) := dk_26 (dk_at dksX1_highOf_0 10 rfl rfl)
theorem dX1_highOf_11 : decode cX1_highOf 11 = .ok (.iconst 3, 1) := dk_6 (dk_at dksX1_highOf_0 11 rfl rfl)
theorem dX1_highOf_12 : decode cX1_highOf 12 = .ok (.if_icmp .ne 7, 3) := dk_160 0 7 (dk_at dksX1_highOf_0 12 rfl rfl)
theorem dX1_highOf_15 : decode cX1_highOf 15 = .ok (.iconst 1, 1) := dk_4 (dk_at dksX1_highOf_0 15 rfl rfl)
theorem dX1_highOf_16 : decode cX1_highOf 16 = .ok (.goto 4, 3) := dk_167 0 4 (dk_at dksX1_highOf_0 16 rfl rfl)
theorem dX1_highOf_19 : decode cX1_highOf 19 = .ok (.iconst 4, 1) := dk_7 (dk_at dksX1_highOf_0 19 rfl rfl)
theorem dX1_highOf_20 : decode cX1_highOf 20 = .ok (.ireturn, 1) := dk_172 (dk_at dksX1_highOf_0 20 rfl rfl)
abbrev cX1_denies : ByteArray := prog_1_method_52_code
def yX1_denies : MethodName := ⟨RX1, "denies", "()I"⟩
def dkwX1_denies_0 : List UInt8 := [42, 180, 2, 13, 60, 42, 3, 181, 2, 13, 27, 172]
abbrev dktX1_denies_0 : List UInt8 := dkwX1_denies_0 ++ []
theorem dksX1_denies_0 : cX1_denies.data.toList.drop 0 = dktX1_denies_0 := by decide +kernel
theorem dX1_denies_0 : decode cX1_denies 0 = .ok (.aload_n 0, 1) := dk_42 (dk_at dksX1_denies_0 0 rfl rfl)
theorem dX1_denies_1 : decode cX1_denies 1 = .ok (.getfield 525, 3) := dk_180 2 13 (dk_at dksX1_denies_0 1 rfl rfl)
theorem dX1_denies_4 : decode cX1_denies 4 = .ok (.istore_n 1, 1) := dk_60 (dk_at dksX1_denies_0 4 rfl rfl)
theorem dX1_denies_5 : decode cX1_denies 5 = .ok (.aload_n 0, 1) := dk_42 (dk_at dksX1_denies_0 5 rfl rfl)
theorem dX1_denies_6 : decode cX1_denies 6 = .ok (.iconst 0, 1) := dk_3 (dk_at dksX1_denies_0 6 rfl rfl)
theorem dX1_denies_7 : decode cX1_denies 7 = .ok (.putfield 525, 3) := dk_181 2 13 (dk_at dksX1_denies_0 7 rfl rfl)
theorem dX1_denies_10 : decode cX1_denies 10 = .ok (.iload_n 1, 1) := dk_27 (dk_at dksX1_denies_0 10 rfl rfl)
theorem dX1_denies_11 : decode cX1_denies 11 = .ok (.ireturn, 1) := dk_172 (dk_at dksX1_denies_0 11 rfl rfl)
abbrev cX1_fits : ByteArray := prog_1_method_56_code
def yX1_fits : MethodName := ⟨RX1, "fits", "()I"⟩
def dkwX1_fits_2 : List UInt8 := [42, 28, 16, 16, 112, 133, 182, 1, 54, 132, 2, 1, 167, 255, 210, 27, 172]
abbrev dktX1_fits_2 : List UInt8 := dkwX1_fits_2 ++ []
def dkwX1_fits_1 : List UInt8 := [154, 0, 39, 42, 180, 0, 43, 28, 50, 199, 0, 6, 167, 0, 21, 42, 28, 16, 16, 108, 133, 182, 1, 54]
abbrev dktX1_fits_1 : List UInt8 := dkwX1_fits_1 ++ dktX1_fits_2
def dkwX1_fits_0 : List UInt8 := [42, 182, 2, 30, 60, 42, 3, 181, 0, 57, 3, 61, 28, 16, 80, 162, 0, 46, 42, 180, 0, 57]
abbrev dktX1_fits_0 : List UInt8 := dkwX1_fits_0 ++ dktX1_fits_1
theorem dksX1_fits_0 : cX1_fits.data.toList.drop 0 = dktX1_fits_0 := by decide +kernel
theorem dksX1_fits_1 : cX1_fits.data.toList.drop 22 = dktX1_fits_1 := dk_seg dksX1_fits_0 22 rfl rfl
theorem dksX1_fits_2 : cX1_fits.data.toList.drop 46 = dktX1_fits_2 := dk_seg dksX1_fits_1 24 rfl rfl
theorem dX1_fits_0 : decode cX1_fits 0 = .ok (.aload_n 0, 1) := dk_42 (dk_at dksX1_fits_0 0 rfl rfl)
theorem dX1_fits_1 : decode cX1_fits 1 = .ok (.invokevirtual 542, 3) := dk_182 2 30 (dk_at dksX1_fits_0 1 rfl rfl)
theorem dX1_fits_4 : decode cX1_fits 4 = .ok (.istore_n 1, 1) := dk_60 (dk_at dksX1_fits_0 4 rfl rfl)
theorem dX1_fits_5 : decode cX1_fits 5 = .ok (.aload_n 0, 1) := dk_42 (dk_at dksX1_fits_0 5 rfl rfl)
theorem dX1_fits_6 : decode cX1_fits 6 = .ok (.iconst 0, 1) := dk_3 (dk_at dksX1_fits_0 6 rfl rfl)
theorem dX1_fits_7 : decode cX1_fits 7 = .ok (.putfield 57, 3) := dk_181 0 57 (dk_at dksX1_fits_0 7 rfl rfl)
theorem dX1_fits_10 : decode cX1_fits 10 = .ok (.iconst 0, 1) := dk_3 (dk_at dksX1_fits_0 10 rfl rfl)
theorem dX1_fits_11 : decode cX1_fits 11 = .ok (.istore_n 2, 1) := dk_61 (dk_at dksX1_fits_0 11 rfl rfl)
theorem dX1_fits_12 : decode cX1_fits 12 = .ok (.iload_n 2, 1) := dk_28 (dk_at dksX1_fits_0 12 rfl rfl)
theorem dX1_fits_13 : decode cX1_fits 13 = .ok (.bipush 80, 2) := dk_16 80 (dk_at dksX1_fits_0 13 rfl rfl)
theorem dX1_fits_15 : decode cX1_fits 15 = .ok (.if_icmp .ge 46, 3) := dk_162 0 46 (dk_at dksX1_fits_0 15 rfl rfl)
theorem dX1_fits_18 : decode cX1_fits 18 = .ok (.aload_n 0, 1) := dk_42 (dk_at dksX1_fits_0 18 rfl rfl)
theorem dX1_fits_19 : decode cX1_fits 19 = .ok (.getfield 57, 3) := dk_180 0 57 (dk_at dksX1_fits_0 19 rfl rfl)
theorem dX1_fits_22 : decode cX1_fits 22 = .ok (.ifCond .ne 39, 3) := dk_154 0 39 (dk_at dksX1_fits_1 0 rfl rfl)
theorem dX1_fits_25 : decode cX1_fits 25 = .ok (.aload_n 0, 1) := dk_42 (dk_at dksX1_fits_1 3 rfl rfl)
theorem dX1_fits_26 : decode cX1_fits 26 = .ok (.getfield 43, 3) := dk_180 0 43 (dk_at dksX1_fits_1 4 rfl rfl)
theorem dX1_fits_29 : decode cX1_fits 29 = .ok (.iload_n 2, 1) := dk_28 (dk_at dksX1_fits_1 7 rfl rfl)
theorem dX1_fits_30 : decode cX1_fits 30 = .ok (.aaload, 1) := dk_50 (dk_at dksX1_fits_1 8 rfl rfl)
theorem dX1_fits_31 : decode cX1_fits 31 = .ok (.ifnonnull 6, 3) := dk_199 0 6 (dk_at dksX1_fits_1 9 rfl rfl)
theorem dX1_fits_34 : decode cX1_fits 34 = .ok (.goto 21, 3) := dk_167 0 21 (dk_at dksX1_fits_1 12 rfl rfl)
theorem dX1_fits_37 : decode cX1_fits 37 = .ok (.aload_n 0, 1) := dk_42 (dk_at dksX1_fits_1 15 rfl rfl)
theorem dX1_fits_38 : decode cX1_fits 38 = .ok (.iload_n 2, 1) := dk_28 (dk_at dksX1_fits_1 16 rfl rfl)
theorem dX1_fits_39 : decode cX1_fits 39 = .ok (.bipush 16, 2) := dk_16 16 (dk_at dksX1_fits_1 17 rfl rfl)
theorem dX1_fits_41 : decode cX1_fits 41 = .ok (.idiv, 1) := dk_108 (dk_at dksX1_fits_1 19 rfl rfl)
theorem dX1_fits_42 : decode cX1_fits 42 = .ok (.i2l, 1) := dk_133 (dk_at dksX1_fits_1 20 rfl rfl)
theorem dX1_fits_43 : decode cX1_fits 43 = .ok (.invokevirtual 310, 3) := dk_182 1 54 (dk_at dksX1_fits_1 21 rfl rfl)
theorem dX1_fits_46 : decode cX1_fits 46 = .ok (.aload_n 0, 1) := dk_42 (dk_at dksX1_fits_2 0 rfl rfl)
theorem dX1_fits_47 : decode cX1_fits 47 = .ok (.iload_n 2, 1) := dk_28 (dk_at dksX1_fits_2 1 rfl rfl)
theorem dX1_fits_48 : decode cX1_fits 48 = .ok (.bipush 16, 2) := dk_16 16 (dk_at dksX1_fits_2 2 rfl rfl)
theorem dX1_fits_50 : decode cX1_fits 50 = .ok (.irem, 1) := dk_112 (dk_at dksX1_fits_2 4 rfl rfl)
theorem dX1_fits_51 : decode cX1_fits 51 = .ok (.i2l, 1) := dk_133 (dk_at dksX1_fits_2 5 rfl rfl)
theorem dX1_fits_52 : decode cX1_fits 52 = .ok (.invokevirtual 310, 3) := dk_182 1 54 (dk_at dksX1_fits_2 6 rfl rfl)
theorem dX1_fits_55 : decode cX1_fits 55 = .ok (.iinc 2 1, 3) := dk_132 2 1 (dk_at dksX1_fits_2 9 rfl rfl)
theorem dX1_fits_58 : decode cX1_fits 58 = .ok (.goto (-46), 3) := dk_167 255 210 (dk_at dksX1_fits_2 12 rfl rfl)
theorem dX1_fits_61 : decode cX1_fits 61 = .ok (.iload_n 1, 1) := dk_27 (dk_at dksX1_fits_2 15 rfl rfl)
theorem dX1_fits_62 : decode cX1_fits 62 = .ok (.ireturn, 1) := dk_172 (dk_at dksX1_fits_2 16 rfl rfl)
abbrev cX1_layThought : ByteArray := prog_1_method_55_code
def yX1_layThought : MethodName := ⟨RX1, "layThought", "()I"⟩
def dkwX1_layThought_9 : List UInt8 := [132, 2, 1, 167, 255, 183, 27, 172]
abbrev dktX1_layThought_9 : List UInt8 := dkwX1_layThought_9 ++ []
def dkwX1_layThought_8 : List UInt8 := [167, 0, 13, 42, 180, 0, 43, 28, 1, 83, 167, 0, 12, 132, 3, 1, 167, 255, 212, 132, 1, 1]
abbrev dktX1_layThought_8 : List UInt8 := dkwX1_layThought_8 ++ dktX1_layThought_9
def dkwX1_layThought_7 : List UInt8 := [162, 0, 42, 42, 28, 42, 180, 0, 34, 29, 46, 42, 180, 0, 38, 29, 46, 182, 2, 26, 153, 0, 6]
abbrev dktX1_layThought_7 : List UInt8 := dkwX1_layThought_7 ++ dktX1_layThought_8
def dkwX1_layThought_6 : List UInt8 := [162, 0, 73, 42, 180, 0, 43, 28, 50, 199, 0, 6, 167, 0, 55, 3, 62, 29, 42, 180, 2, 13]
abbrev dktX1_layThought_6 : List UInt8 := dkwX1_layThought_6 ++ dktX1_layThought_7
def dkwX1_layThought_5 : List UInt8 := [198, 0, 12, 42, 44, 180, 1, 154, 4, 182, 2, 22, 167, 255, 212, 3, 60, 3, 61, 28, 16, 80]
abbrev dktX1_layThought_5 : List UInt8 := dkwX1_layThought_5 ++ dktX1_layThought_6
def dkwX1_layThought_4 : List UInt8 := [185, 1, 101, 1, 0, 192, 1, 121, 77, 42, 44, 180, 1, 146, 4, 182, 2, 22, 44, 180, 1, 154]
abbrev dktX1_layThought_4 : List UInt8 := dkwX1_layThought_4 ++ dktX1_layThought_5
def dkwX1_layThought_3 : List UInt8 := [167, 255, 198, 42, 180, 0, 10, 180, 1, 44, 182, 1, 120, 76, 43, 185, 1, 96, 1, 0, 153, 0, 41, 43]
abbrev dktX1_layThought_3 : List UInt8 := dkwX1_layThought_3 ++ dktX1_layThought_4
def dkwX1_layThought_2 : List UInt8 := [44, 185, 1, 101, 1, 0, 192, 0, 41, 78, 42, 45, 3, 182, 2, 22, 167, 255, 231, 132, 1, 1]
abbrev dktX1_layThought_2 : List UInt8 := dkwX1_layThought_2 ++ dktX1_layThought_3
def dkwX1_layThought_1 : List UInt8 := [180, 0, 10, 180, 0, 113, 27, 50, 180, 1, 2, 182, 1, 92, 77, 44, 185, 1, 96, 1, 0, 153, 0, 22]
abbrev dktX1_layThought_1 : List UInt8 := dkwX1_layThought_1 ++ dktX1_layThought_2
def dkwX1_layThought_0 : List UInt8 := [42, 180, 0, 43, 1, 184, 2, 16, 3, 60, 27, 42, 180, 0, 10, 180, 0, 61, 162, 0, 53, 42]
abbrev dktX1_layThought_0 : List UInt8 := dkwX1_layThought_0 ++ dktX1_layThought_1
theorem dksX1_layThought_0 : cX1_layThought.data.toList.drop 0 = dktX1_layThought_0 := by decide +kernel
theorem dksX1_layThought_1 : cX1_layThought.data.toList.drop 22 = dktX1_layThought_1 := dk_seg dksX1_layThought_0 22 rfl rfl
theorem dksX1_layThought_2 : cX1_layThought.data.toList.drop 46 = dktX1_layThought_2 := dk_seg dksX1_layThought_1 24 rfl rfl
theorem dksX1_layThought_3 : cX1_layThought.data.toList.drop 68 = dktX1_layThought_3 := dk_seg dksX1_layThought_2 22 rfl rfl
theorem dksX1_layThought_4 : cX1_layThought.data.toList.drop 92 = dktX1_layThought_4 := dk_seg dksX1_layThought_3 24 rfl rfl
theorem dksX1_layThought_5 : cX1_layThought.data.toList.drop 114 = dktX1_layThought_5 := dk_seg dksX1_layThought_4 22 rfl rfl
theorem dksX1_layThought_6 : cX1_layThought.data.toList.drop 136 = dktX1_layThought_6 := dk_seg dksX1_layThought_5 22 rfl rfl
theorem dksX1_layThought_7 : cX1_layThought.data.toList.drop 158 = dktX1_layThought_7 := dk_seg dksX1_layThought_6 22 rfl rfl
theorem dksX1_layThought_8 : cX1_layThought.data.toList.drop 181 = dktX1_layThought_8 := dk_seg dksX1_layThought_7 23 rfl rfl
theorem dksX1_layThought_9 : cX1_layThought.data.toList.drop 203 = dktX1_layThought_9 := dk_seg dksX1_layThought_8 22 rfl rfl
theorem dX1_layThought_0 : decode cX1_layThought 0 = .ok (.aload_n 0, 1) := dk_42 (dk_at dksX1_layThought_0 0 rfl rfl)
theorem dX1_layThought_1 : decode cX1_layThought 1 = .ok (.getfield 43, 3) := dk_180 0 43 (dk_at dksX1_layThought_0 1 rfl rfl)
theorem dX1_layThought_4 : decode cX1_layThought 4 = .ok (.aconst_null, 1) := dk_1 (dk_at dksX1_layThought_0 4 rfl rfl)
theorem dX1_layThought_5 : decode cX1_layThought 5 = .ok (.invokestatic 528, 3) := dk_184 2 16 (dk_at dksX1_layThought_0 5 rfl rfl)
theorem dX1_layThought_8 : decode cX1_layThought 8 = .ok (.iconst 0, 1) := dk_3 (dk_at dksX1_layThought_0 8 rfl rfl)
theorem dX1_layThought_9 : decode cX1_layThought 9 = .ok (.istore_n 1, 1) := dk_60 (dk_at dksX1_layThought_0 9 rfl rfl)
theorem dX1_layThought_10 : decode cX1_layThought 10 = .ok (.iload_n 1, 1) := dk_27 (dk_at dksX1_layThought_0 10 rfl rfl)
theorem dX1_layThought_11 : decode cX1_layThought 11 = .ok (.aload_n 0, 1) := dk_42 (dk_at dksX1_layThought_0 11 rfl rfl)
theorem dX1_layThought_12 : decode cX1_layThought 12 = .ok (.getfield 10, 3) := dk_180 0 10 (dk_at dksX1_layThought_0 12 rfl rfl)
theorem dX1_layThought_15 : decode cX1_layThought 15 = .ok (.getfield 61, 3) := dk_180 0 61 (dk_at dksX1_layThought_0 15 rfl rfl)
theorem dX1_layThought_18 : decode cX1_layThought 18 = .ok (.if_icmp .ge 53, 3) := dk_162 0 53 (dk_at dksX1_layThought_0 18 rfl rfl)
theorem dX1_layThought_21 : decode cX1_layThought 21 = .ok (.aload_n 0, 1) := dk_42 (dk_at dksX1_layThought_0 21 rfl rfl)
theorem dX1_layThought_22 : decode cX1_layThought 22 = .ok (.getfield 10, 3) := dk_180 0 10 (dk_at dksX1_layThought_1 0 rfl rfl)
theorem dX1_layThought_25 : decode cX1_layThought 25 = .ok (.getfield 113, 3) := dk_180 0 113 (dk_at dksX1_layThought_1 3 rfl rfl)
theorem dX1_layThought_28 : decode cX1_layThought 28 = .ok (.iload_n 1, 1) := dk_27 (dk_at dksX1_layThought_1 6 rfl rfl)
theorem dX1_layThought_29 : decode cX1_layThought 29 = .ok (.aaload, 1) := dk_50 (dk_at dksX1_layThought_1 7 rfl rfl)
theorem dX1_layThought_30 : decode cX1_layThought 30 = .ok (.getfield 258, 3) := dk_180 1 2 (dk_at dksX1_layThought_1 8 rfl rfl)
theorem dX1_layThought_33 : decode cX1_layThought 33 = .ok (.invokevirtual 348, 3) := dk_182 1 92 (dk_at dksX1_layThought_1 11 rfl rfl)
theorem dX1_layThought_36 : decode cX1_layThought 36 = .ok (.astore_n 2, 1) := dk_77 (dk_at dksX1_layThought_1 14 rfl rfl)
theorem dX1_layThought_37 : decode cX1_layThought 37 = .ok (.aload_n 2, 1) := dk_44 (dk_at dksX1_layThought_1 15 rfl rfl)
theorem dX1_layThought_38 : decode cX1_layThought 38 = .ok (.invokeinterface 352 1, 5) := by decide +kernel
theorem dX1_layThought_43 : decode cX1_layThought 43 = .ok (.ifCond .eq 22, 3) := dk_153 0 22 (dk_at dksX1_layThought_1 21 rfl rfl)
theorem dX1_layThought_46 : decode cX1_layThought 46 = .ok (.aload_n 2, 1) := dk_44 (dk_at dksX1_layThought_2 0 rfl rfl)
theorem dX1_layThought_47 : decode cX1_layThought 47 = .ok (.invokeinterface 357 1, 5) := by decide +kernel
theorem dX1_layThought_52 : decode cX1_layThought 52 = .ok (.checkcast 41, 3) := dk_192 0 41 (dk_at dksX1_layThought_2 6 rfl rfl)
theorem dX1_layThought_55 : decode cX1_layThought 55 = .ok (.astore_n 3, 1) := dk_78 (dk_at dksX1_layThought_2 9 rfl rfl)
theorem dX1_layThought_56 : decode cX1_layThought 56 = .ok (.aload_n 0, 1) := dk_42 (dk_at dksX1_layThought_2 10 rfl rfl)
theorem dX1_layThought_57 : decode cX1_layThought 57 = .ok (.aload_n 3, 1) := dk_45 (dk_at dksX1_layThought_2 11 rfl rfl)
theorem dX1_layThought_58 : decode cX1_layThought 58 = .ok (.iconst 0, 1) := dk_3 (dk_at dksX1_layThought_2 12 rfl rfl)
theorem dX1_layThought_59 : decode cX1_layThought 59 = .ok (.invokevirtual 534, 3) := dk_182 2 22 (dk_at dksX1_layThought_2 13 rfl rfl)
theorem dX1_layThought_62 : decode cX1_layThought 62 = .ok (.goto (-25), 3) := dk_167 255 231 (dk_at dksX1_layThought_2 16 rfl rfl)
theorem dX1_layThought_65 : decode cX1_layThought 65 = .ok (.iinc 1 1, 3) := dk_132 1 1 (dk_at dksX1_layThought_2 19 rfl rfl)
theorem dX1_layThought_68 : decode cX1_layThought 68 = .ok (.goto (-58), 3) := dk_167 255 198 (dk_at dksX1_layThought_3 0 rfl rfl)
theorem dX1_layThought_71 : decode cX1_layThought 71 = .ok (.aload_n 0, 1) := dk_42 (dk_at dksX1_layThought_3 3 rfl rfl)
theorem dX1_layThought_72 : decode cX1_layThought 72 = .ok (.getfield 10, 3) := dk_180 0 10 (dk_at dksX1_layThought_3 4 rfl rfl)
theorem dX1_layThought_75 : decode cX1_layThought 75 = .ok (.getfield 300, 3) := dk_180 1 44 (dk_at dksX1_layThought_3 7 rfl rfl)
theorem dX1_layThought_78 : decode cX1_layThought 78 = .ok (.invokevirtual 376, 3) := dk_182 1 120 (dk_at dksX1_layThought_3 10 rfl rfl)
theorem dX1_layThought_81 : decode cX1_layThought 81 = .ok (.astore_n 1, 1) := dk_76 (dk_at dksX1_layThought_3 13 rfl rfl)
theorem dX1_layThought_82 : decode cX1_layThought 82 = .ok (.aload_n 1, 1) := dk_43 (dk_at dksX1_layThought_3 14 rfl rfl)
theorem dX1_layThought_83 : decode cX1_layThought 83 = .ok (.invokeinterface 352 1, 5) := by decide +kernel
theorem dX1_layThought_88 : decode cX1_layThought 88 = .ok (.ifCond .eq 41, 3) := dk_153 0 41 (dk_at dksX1_layThought_3 20 rfl rfl)
theorem dX1_layThought_91 : decode cX1_layThought 91 = .ok (.aload_n 1, 1) := dk_43 (dk_at dksX1_layThought_3 23 rfl rfl)
theorem dX1_layThought_92 : decode cX1_layThought 92 = .ok (.invokeinterface 357 1, 5) := by decide +kernel
theorem dX1_layThought_97 : decode cX1_layThought 97 = .ok (.checkcast 377, 3) := dk_192 1 121 (dk_at dksX1_layThought_4 5 rfl rfl)
theorem dX1_layThought_100 : decode cX1_layThought 100 = .ok (.astore_n 2, 1) := dk_77 (dk_at dksX1_layThought_4 8 rfl rfl)
theorem dX1_layThought_101 : decode cX1_layThought 101 = .ok (.aload_n 0, 1) := dk_42 (dk_at dksX1_layThought_4 9 rfl rfl)
theorem dX1_layThought_102 : decode cX1_layThought 102 = .ok (.aload_n 2, 1) := dk_44 (dk_at dksX1_layThought_4 10 rfl rfl)
theorem dX1_layThought_103 : decode cX1_layThought 103 = .ok (.getfield 402, 3) := dk_180 1 146 (dk_at dksX1_layThought_4 11 rfl rfl)
theorem dX1_layThought_106 : decode cX1_layThought 106 = .ok (.iconst 1, 1) := dk_4 (dk_at dksX1_layThought_4 14 rfl rfl)
theorem dX1_layThought_107 : decode cX1_layThought 107 = .ok (.invokevirtual 534, 3) := dk_182 2 22 (dk_at dksX1_layThought_4 15 rfl rfl)
theorem dX1_layThought_110 : decode cX1_layThought 110 = .ok (.aload_n 2, 1) := dk_44 (dk_at dksX1_layThought_4 18 rfl rfl)
theorem dX1_layThought_111 : decode cX1_layThought 111 = .ok (.getfield 410, 3) := dk_180 1 154 (dk_at dksX1_layThought_4 19 rfl rfl)
theorem dX1_layThought_114 : decode cX1_layThought 114 = .ok (.ifnull 12, 3) := dk_198 0 12 (dk_at dksX1_layThought_5 0 rfl rfl)
theorem dX1_layThought_117 : decode cX1_layThought 117 = .ok (.aload_n 0, 1) := dk_42 (dk_at dksX1_layThought_5 3 rfl rfl)
theorem dX1_layThought_118 : decode cX1_layThought 118 = .ok (.aload_n 2, 1) := dk_44 (dk_at dksX1_layThought_5 4 rfl rfl)
theorem dX1_layThought_119 : decode cX1_layThought 119 = .ok (.getfield 410, 3) := dk_180 1 154 (dk_at dksX1_layThought_5 5 rfl rfl)
theorem dX1_layThought_122 : decode cX1_layThought 122 = .ok (.iconst 1, 1) := dk_4 (dk_at dksX1_layThought_5 8 rfl rfl)
theorem dX1_layThought_123 : decode cX1_layThought 123 = .ok (.invokevirtual 534, 3) := dk_182 2 22 (dk_at dksX1_layThought_5 9 rfl rfl)
theorem dX1_layThought_126 : decode cX1_layThought 126 = .ok (.goto (-44), 3) := dk_167 255 212 (dk_at dksX1_layThought_5 12 rfl rfl)
theorem dX1_layThought_129 : decode cX1_layThought 129 = .ok (.iconst 0, 1) := dk_3 (dk_at dksX1_layThought_5 15 rfl rfl)
theorem dX1_layThought_130 : decode cX1_layThought 130 = .ok (.istore_n 1, 1) := dk_60 (dk_at dksX1_layThought_5 16 rfl rfl)
theorem dX1_layThought_131 : decode cX1_layThought 131 = .ok (.iconst 0, 1) := dk_3 (dk_at dksX1_layThought_5 17 rfl rfl)
theorem dX1_layThought_132 : decode cX1_layThought 132 = .ok (.istore_n 2, 1) := dk_61 (dk_at dksX1_layThought_5 18 rfl rfl)
theorem dX1_layThought_133 : decode cX1_layThought 133 = .ok (.iload_n 2, 1) := dk_28 (dk_at dksX1_layThought_5 19 rfl rfl)
theorem dX1_layThought_134 : decode cX1_layThought 134 = .ok (.bipush 80, 2) := dk_16 80 (dk_at dksX1_layThought_5 20 rfl rfl)
theorem dX1_layThought_136 : decode cX1_layThought 136 = .ok (.if_icmp .ge 73, 3) := dk_162 0 73 (dk_at dksX1_layThought_6 0 rfl rfl)
theorem dX1_layThought_139 : decode cX1_layThought 139 = .ok (.aload_n 0, 1) := dk_42 (dk_at dksX1_layThought_6 3 rfl rfl)
theorem dX1_layThought_140 : decode cX1_layThought 140 = .ok (.getfield 43, 3) := dk_180 0 43 (dk_at dksX1_layThought_6 4 rfl rfl)
theorem dX1_layThought_143 : decode cX1_layThought 143 = .ok (.iload_n 2, 1) := dk_28 (dk_at dksX1_layThought_6 7 rfl rfl)
theorem dX1_layThought_144 : decode cX1_layThought 144 = .ok (.aaload, 1) := dk_50 (dk_at dksX1_layThought_6 8 rfl rfl)
theorem dX1_layThought_145 : decode cX1_layThought 145 = .ok (.ifnonnull 6, 3) := dk_199 0 6 (dk_at dksX1_layThought_6 9 rfl rfl)
theorem dX1_layThought_148 : decode cX1_layThought 148 = .ok (.goto 55, 3) := dk_167 0 55 (dk_at dksX1_layThought_6 12 rfl rfl)
theorem dX1_layThought_151 : decode cX1_layThought 151 = .ok (.iconst 0, 1) := dk_3 (dk_at dksX1_layThought_6 15 rfl rfl)
theorem dX1_layThought_152 : decode cX1_layThought 152 = .ok (.istore_n 3, 1) := dk_62 (dk_at dksX1_layThought_6 16 rfl rfl)
theorem dX1_layThought_153 : decode cX1_layThought 153 = .ok (.iload_n 3, 1) := dk_29 (dk_at dksX1_layThought_6 17 rfl rfl)
theorem dX1_layThought_154 : decode cX1_layThought 154 = .ok (.aload_n 0, 1) := dk_42 (dk_at dksX1_layThought_6 18 rfl rfl)
theorem dX1_layThought_155 : decode cX1_layThought 155 = .ok (.getfield 525, 3) := dk_180 2 13 (dk_at dksX1_layThought_6 19 rfl rfl)
theorem dX1_layThought_158 : decode cX1_layThought 158 = .ok (.if_icmp .ge 42, 3) := dk_162 0 42 (dk_at dksX1_layThought_7 0 rfl rfl)
theorem dX1_layThought_161 : decode cX1_layThought 161 = .ok (.aload_n 0, 1) := dk_42 (dk_at dksX1_layThought_7 3 rfl rfl)
theorem dX1_layThought_162 : decode cX1_layThought 162 = .ok (.iload_n 2, 1) := dk_28 (dk_at dksX1_layThought_7 4 rfl rfl)
theorem dX1_layThought_163 : decode cX1_layThought 163 = .ok (.aload_n 0, 1) := dk_42 (dk_at dksX1_layThought_7 5 rfl rfl)
theorem dX1_layThought_164 : decode cX1_layThought 164 = .ok (.getfield 34, 3) := dk_180 0 34 (dk_at dksX1_layThought_7 6 rfl rfl)
theorem dX1_layThought_167 : decode cX1_layThought 167 = .ok (.iload_n 3, 1) := dk_29 (dk_at dksX1_layThought_7 9 rfl rfl)
theorem dX1_layThought_168 : decode cX1_layThought 168 = .ok (.iaload, 1) := dk_46 (dk_at dksX1_layThought_7 10 rfl rfl)
theorem dX1_layThought_169 : decode cX1_layThought 169 = .ok (.aload_n 0, 1) := dk_42 (dk_at dksX1_layThought_7 11 rfl rfl)
theorem dX1_layThought_170 : decode cX1_layThought 170 = .ok (.getfield 38, 3) := dk_180 0 38 (dk_at dksX1_layThought_7 12 rfl rfl)
theorem dX1_layThought_173 : decode cX1_layThought 173 = .ok (.iload_n 3, 1) := dk_29 (dk_at dksX1_layThought_7 15 rfl rfl)
theorem dX1_layThought_174 : decode cX1_layThought 174 = .ok (.iaload, 1) := dk_46 (dk_at dksX1_layThought_7 16 rfl rfl)
theorem dX1_layThought_175 : decode cX1_layThought 175 = .ok (.invokevirtual 538, 3) := dk_182 2 26 (dk_at dksX1_layThought_7 17 rfl rfl)
theorem dX1_layThought_178 : decode cX1_layThought 178 = .ok (.ifCond .eq 6, 3) := dk_153 0 6 (dk_at dksX1_layThought_7 20 rfl rfl)
theorem dX1_layThought_181 : decode cX1_layThought 181 = .ok (.goto 13, 3) := dk_167 0 13 (dk_at dksX1_layThought_8 0 rfl rfl)
theorem dX1_layThought_184 : decode cX1_layThought 184 = .ok (.aload_n 0, 1) := dk_42 (dk_at dksX1_layThought_8 3 rfl rfl)
theorem dX1_layThought_185 : decode cX1_layThought 185 = .ok (.getfield 43, 3) := dk_180 0 43 (dk_at dksX1_layThought_8 4 rfl rfl)
theorem dX1_layThought_188 : decode cX1_layThought 188 = .ok (.iload_n 2, 1) := dk_28 (dk_at dksX1_layThought_8 7 rfl rfl)
theorem dX1_layThought_189 : decode cX1_layThought 189 = .ok (.aconst_null, 1) := dk_1 (dk_at dksX1_layThought_8 8 rfl rfl)
theorem dX1_layThought_190 : decode cX1_layThought 190 = .ok (.aastore, 1) := dk_83 (dk_at dksX1_layThought_8 9 rfl rfl)
theorem dX1_layThought_191 : decode cX1_layThought 191 = .ok (.goto 12, 3) := dk_167 0 12 (dk_at dksX1_layThought_8 10 rfl rfl)
theorem dX1_layThought_194 : decode cX1_layThought 194 = .ok (.iinc 3 1, 3) := dk_132 3 1 (dk_at dksX1_layThought_8 13 rfl rfl)
theorem dX1_layThought_197 : decode cX1_layThought 197 = .ok (.goto (-44), 3) := dk_167 255 212 (dk_at dksX1_layThought_8 16 rfl rfl)
theorem dX1_layThought_200 : decode cX1_layThought 200 = .ok (.iinc 1 1, 3) := dk_132 1 1 (dk_at dksX1_layThought_8 19 rfl rfl)
theorem dX1_layThought_203 : decode cX1_layThought 203 = .ok (.iinc 2 1, 3) := dk_132 2 1 (dk_at dksX1_layThought_9 0 rfl rfl)
theorem dX1_layThought_206 : decode cX1_layThought 206 = .ok (.goto (-73), 3) := dk_167 255 183 (dk_at dksX1_layThought_9 3 rfl rfl)
theorem dX1_layThought_209 : decode cX1_layThought 209 = .ok (.iload_n 1, 1) := dk_27 (dk_at dksX1_layThought_9 6 rfl rfl)
theorem dX1_layThought_210 : decode cX1_layThought 210 = .ok (.ireturn, 1) := dk_172 (dk_at dksX1_layThought_9 7 rfl rfl)
abbrev cX1_think : ByteArray := prog_1_method_53_code
def yX1_think : MethodName := ⟨RX1, "think", "(LQueueDrive$Command;Z)V"⟩
def dkwX1_think_1 : List UInt8 := [43, 180, 1, 216, 104, 43, 180, 1, 104, 96, 28, 84, 177]
abbrev dktX1_think_1 : List UInt8 := dkwX1_think_1 ++ []
def dkwX1_think_0 : List UInt8 := [42, 180, 0, 43, 16, 16, 43, 180, 1, 216, 104, 43, 180, 1, 104, 96, 43, 83, 42, 180, 0, 47, 16, 16]
abbrev dktX1_think_0 : List UInt8 := dkwX1_think_0 ++ dktX1_think_1
theorem dksX1_think_0 : cX1_think.data.toList.drop 0 = dktX1_think_0 := by decide +kernel
theorem dksX1_think_1 : cX1_think.data.toList.drop 24 = dktX1_think_1 := dk_seg dksX1_think_0 24 rfl rfl
theorem dX1_think_0 : decode cX1_think 0 = .ok (.aload_n 0, 1) := dk_42 (dk_at dksX1_think_0 0 rfl rfl)
theorem dX1_think_1 : decode cX1_think 1 = .ok (.getfield 43, 3) := dk_180 0 43 (dk_at dksX1_think_0 1 rfl rfl)
theorem dX1_think_4 : decode cX1_think 4 = .ok (.bipush 16, 2) := dk_16 16 (dk_at dksX1_think_0 4 rfl rfl)
theorem dX1_think_6 : decode cX1_think 6 = .ok (.aload_n 1, 1) := dk_43 (dk_at dksX1_think_0 6 rfl rfl)
theorem dX1_think_7 : decode cX1_think 7 = .ok (.getfield 472, 3) := dk_180 1 216 (dk_at dksX1_think_0 7 rfl rfl)
theorem dX1_think_10 : decode cX1_think 10 = .ok (.imul, 1) := dk_104 (dk_at dksX1_think_0 10 rfl rfl)
theorem dX1_think_11 : decode cX1_think 11 = .ok (.aload_n 1, 1) := dk_43 (dk_at dksX1_think_0 11 rfl rfl)
theorem dX1_think_12 : decode cX1_think 12 = .ok (.getfield 360, 3) := dk_180 1 104 (dk_at dksX1_think_0 12 rfl rfl)
theorem dX1_think_15 : decode cX1_think 15 = .ok (.iadd, 1) := dk_96 (dk_at dksX1_think_0 15 rfl rfl)
theorem dX1_think_16 : decode cX1_think 16 = .ok (.aload_n 1, 1) := dk_43 (dk_at dksX1_think_0 16 rfl rfl)
theorem dX1_think_17 : decode cX1_think 17 = .ok (.aastore, 1) := dk_83 (dk_at dksX1_think_0 17 rfl rfl)
theorem dX1_think_18 : decode cX1_think 18 = .ok (.aload_n 0, 1) := dk_42 (dk_at dksX1_think_0 18 rfl rfl)
theorem dX1_think_19 : decode cX1_think 19 = .ok (.getfield 47, 3) := dk_180 0 47 (dk_at dksX1_think_0 19 rfl rfl)
theorem dX1_think_22 : decode cX1_think 22 = .ok (.bipush 16, 2) := dk_16 16 (dk_at dksX1_think_0 22 rfl rfl)
theorem dX1_think_24 : decode cX1_think 24 = .ok (.aload_n 1, 1) := dk_43 (dk_at dksX1_think_1 0 rfl rfl)
theorem dX1_think_25 : decode cX1_think 25 = .ok (.getfield 472, 3) := dk_180 1 216 (dk_at dksX1_think_1 1 rfl rfl)
theorem dX1_think_28 : decode cX1_think 28 = .ok (.imul, 1) := dk_104 (dk_at dksX1_think_1 4 rfl rfl)
theorem dX1_think_29 : decode cX1_think 29 = .ok (.aload_n 1, 1) := dk_43 (dk_at dksX1_think_1 5 rfl rfl)
theorem dX1_think_30 : decode cX1_think 30 = .ok (.getfield 360, 3) := dk_180 1 104 (dk_at dksX1_think_1 6 rfl rfl)
theorem dX1_think_33 : decode cX1_think 33 = .ok (.iadd, 1) := dk_96 (dk_at dksX1_think_1 9 rfl rfl)
theorem dX1_think_34 : decode cX1_think 34 = .ok (.iload_n 2, 1) := dk_28 (dk_at dksX1_think_1 10 rfl rfl)
theorem dX1_think_35 : decode cX1_think 35 = .ok (.bastore, 1) := dk_84 (dk_at dksX1_think_1 11 rfl rfl)
theorem dX1_think_36 : decode cX1_think 36 = .ok (.return_, 1) := dk_177 (dk_at dksX1_think_1 12 rfl rfl)
abbrev cX1_isSo : ByteArray := prog_1_method_54_code
def yX1_isSo : MethodName := ⟨RX1, "isSo", "(III)Z"⟩
def dkwX1_isSo_4 : List UInt8 := [180, 0, 47, 27, 51, 29, 4, 160, 0, 7, 4, 167, 0, 4, 3, 160, 0, 7, 4, 167, 0, 4, 3, 172]
abbrev dktX1_isSo_4 : List UInt8 := dkwX1_isSo_4 ++ []
def dkwX1_isSo_3 : List UInt8 := [4, 167, 0, 4, 3, 172, 25, 4, 180, 1, 223, 29, 160, 0, 7, 4, 167, 0, 4, 3, 172, 42]
abbrev dktX1_isSo_3 : List UInt8 := dkwX1_isSo_3 ++ dktX1_isSo_4
def dkwX1_isSo_2 : List UInt8 := [25, 4, 180, 1, 216, 29, 160, 0, 7, 4, 167, 0, 4, 3, 172, 25, 4, 180, 1, 214, 29, 160, 0, 7]
abbrev dktX1_isSo_2 : List UInt8 := dkwX1_isSo_2 ++ dktX1_isSo_3
def dkwX1_isSo_1 : List UInt8 := [170, 0, 0, 0, 0, 0, 72, 0, 0, 0, 0, 0, 0, 0, 2, 0, 0, 0, 27, 0, 0, 0, 42, 0, 0, 0, 57]
abbrev dktX1_isSo_1 : List UInt8 := dkwX1_isSo_1 ++ dktX1_isSo_2
def dkwX1_isSo_0 : List UInt8 := [42, 180, 0, 43, 27, 50, 58, 4, 28]
abbrev dktX1_isSo_0 : List UInt8 := dkwX1_isSo_0 ++ dktX1_isSo_1
theorem dksX1_isSo_0 : cX1_isSo.data.toList.drop 0 = dktX1_isSo_0 := by decide +kernel
theorem dksX1_isSo_1 : cX1_isSo.data.toList.drop 9 = dktX1_isSo_1 := dk_seg dksX1_isSo_0 9 rfl rfl
theorem dksX1_isSo_2 : cX1_isSo.data.toList.drop 36 = dktX1_isSo_2 := dk_seg dksX1_isSo_1 27 rfl rfl
theorem dksX1_isSo_3 : cX1_isSo.data.toList.drop 60 = dktX1_isSo_3 := dk_seg dksX1_isSo_2 24 rfl rfl
theorem dksX1_isSo_4 : cX1_isSo.data.toList.drop 82 = dktX1_isSo_4 := dk_seg dksX1_isSo_3 22 rfl rfl
theorem dX1_isSo_0 : decode cX1_isSo 0 = .ok (.aload_n 0, 1) := dk_42 (dk_at dksX1_isSo_0 0 rfl rfl)
theorem dX1_isSo_1 : decode cX1_isSo 1 = .ok (.getfield 43, 3) := dk_180 0 43 (dk_at dksX1_isSo_0 1 rfl rfl)
theorem dX1_isSo_4 : decode cX1_isSo 4 = .ok (.iload_n 1, 1) := dk_27 (dk_at dksX1_isSo_0 4 rfl rfl)
theorem dX1_isSo_5 : decode cX1_isSo 5 = .ok (.aaload, 1) := dk_50 (dk_at dksX1_isSo_0 5 rfl rfl)
theorem dX1_isSo_6 : decode cX1_isSo 6 = .ok (.astore 4, 2) := dk_58 4 (dk_at dksX1_isSo_0 6 rfl rfl)
theorem dX1_isSo_8 : decode cX1_isSo 8 = .ok (.iload_n 2, 1) := dk_28 (dk_at dksX1_isSo_0 8 rfl rfl)
theorem dX1_isSo_9 : decode cX1_isSo 9 = .ok (.tableswitch 72 0 2 #[27, 42, 57], 27) := by decide +kernel
theorem dX1_isSo_36 : decode cX1_isSo 36 = .ok (.aload 4, 2) := dk_25 4 (dk_at dksX1_isSo_2 0 rfl rfl)
theorem dX1_isSo_38 : decode cX1_isSo 38 = .ok (.getfield 472, 3) := dk_180 1 216 (dk_at dksX1_isSo_2 2 rfl rfl)
theorem dX1_isSo_41 : decode cX1_isSo 41 = .ok (.iload_n 3, 1) := dk_29 (dk_at dksX1_isSo_2 5 rfl rfl)
theorem dX1_isSo_42 : decode cX1_isSo 42 = .ok (.if_icmp .ne 7, 3) := dk_160 0 7 (dk_at dksX1_isSo_2 6 rfl rfl)
theorem dX1_isSo_45 : decode cX1_isSo 45 = .ok (.iconst 1, 1) := dk_4 (dk_at dksX1_isSo_2 9 rfl rfl)
theorem dX1_isSo_46 : decode cX1_isSo 46 = .ok (.goto 4, 3) := dk_167 0 4 (dk_at dksX1_isSo_2 10 rfl rfl)
theorem dX1_isSo_49 : decode cX1_isSo 49 = .ok (.iconst 0, 1) := dk_3 (dk_at dksX1_isSo_2 13 rfl rfl)
theorem dX1_isSo_50 : decode cX1_isSo 50 = .ok (.ireturn, 1) := dk_172 (dk_at dksX1_isSo_2 14 rfl rfl)
theorem dX1_isSo_51 : decode cX1_isSo 51 = .ok (.aload 4, 2) := dk_25 4 (dk_at dksX1_isSo_2 15 rfl rfl)
theorem dX1_isSo_53 : decode cX1_isSo 53 = .ok (.getfield 470, 3) := dk_180 1 214 (dk_at dksX1_isSo_2 17 rfl rfl)
theorem dX1_isSo_56 : decode cX1_isSo 56 = .ok (.iload_n 3, 1) := dk_29 (dk_at dksX1_isSo_2 20 rfl rfl)
theorem dX1_isSo_57 : decode cX1_isSo 57 = .ok (.if_icmp .ne 7, 3) := dk_160 0 7 (dk_at dksX1_isSo_2 21 rfl rfl)
theorem dX1_isSo_60 : decode cX1_isSo 60 = .ok (.iconst 1, 1) := dk_4 (dk_at dksX1_isSo_3 0 rfl rfl)
theorem dX1_isSo_61 : decode cX1_isSo 61 = .ok (.goto 4, 3) := dk_167 0 4 (dk_at dksX1_isSo_3 1 rfl rfl)
theorem dX1_isSo_64 : decode cX1_isSo 64 = .ok (.iconst 0, 1) := dk_3 (dk_at dksX1_isSo_3 4 rfl rfl)
theorem dX1_isSo_65 : decode cX1_isSo 65 = .ok (.ireturn, 1) := dk_172 (dk_at dksX1_isSo_3 5 rfl rfl)
theorem dX1_isSo_66 : decode cX1_isSo 66 = .ok (.aload 4, 2) := dk_25 4 (dk_at dksX1_isSo_3 6 rfl rfl)
theorem dX1_isSo_68 : decode cX1_isSo 68 = .ok (.getfield 479, 3) := dk_180 1 223 (dk_at dksX1_isSo_3 8 rfl rfl)
theorem dX1_isSo_71 : decode cX1_isSo 71 = .ok (.iload_n 3, 1) := dk_29 (dk_at dksX1_isSo_3 11 rfl rfl)
theorem dX1_isSo_72 : decode cX1_isSo 72 = .ok (.if_icmp .ne 7, 3) := dk_160 0 7 (dk_at dksX1_isSo_3 12 rfl rfl)
theorem dX1_isSo_75 : decode cX1_isSo 75 = .ok (.iconst 1, 1) := dk_4 (dk_at dksX1_isSo_3 15 rfl rfl)
theorem dX1_isSo_76 : decode cX1_isSo 76 = .ok (.goto 4, 3) := dk_167 0 4 (dk_at dksX1_isSo_3 16 rfl rfl)
theorem dX1_isSo_79 : decode cX1_isSo 79 = .ok (.iconst 0, 1) := dk_3 (dk_at dksX1_isSo_3 19 rfl rfl)
theorem dX1_isSo_80 : decode cX1_isSo 80 = .ok (.ireturn, 1) := dk_172 (dk_at dksX1_isSo_3 20 rfl rfl)
theorem dX1_isSo_81 : decode cX1_isSo 81 = .ok (.aload_n 0, 1) := dk_42 (dk_at dksX1_isSo_3 21 rfl rfl)
theorem dX1_isSo_82 : decode cX1_isSo 82 = .ok (.getfield 47, 3) := dk_180 0 47 (dk_at dksX1_isSo_4 0 rfl rfl)
theorem dX1_isSo_85 : decode cX1_isSo 85 = .ok (.iload_n 1, 1) := dk_27 (dk_at dksX1_isSo_4 3 rfl rfl)
theorem dX1_isSo_86 : decode cX1_isSo 86 = .ok (.baload, 1) := dk_51 (dk_at dksX1_isSo_4 4 rfl rfl)
theorem dX1_isSo_87 : decode cX1_isSo 87 = .ok (.iload_n 3, 1) := dk_29 (dk_at dksX1_isSo_4 5 rfl rfl)
theorem dX1_isSo_88 : decode cX1_isSo 88 = .ok (.iconst 1, 1) := dk_4 (dk_at dksX1_isSo_4 6 rfl rfl)
theorem dX1_isSo_89 : decode cX1_isSo 89 = .ok (.if_icmp .ne 7, 3) := dk_160 0 7 (dk_at dksX1_isSo_4 7 rfl rfl)
theorem dX1_isSo_92 : decode cX1_isSo 92 = .ok (.iconst 1, 1) := dk_4 (dk_at dksX1_isSo_4 10 rfl rfl)
theorem dX1_isSo_93 : decode cX1_isSo 93 = .ok (.goto 4, 3) := dk_167 0 4 (dk_at dksX1_isSo_4 11 rfl rfl)
theorem dX1_isSo_96 : decode cX1_isSo 96 = .ok (.iconst 0, 1) := dk_3 (dk_at dksX1_isSo_4 14 rfl rfl)
theorem dX1_isSo_97 : decode cX1_isSo 97 = .ok (.if_icmp .ne 7, 3) := dk_160 0 7 (dk_at dksX1_isSo_4 15 rfl rfl)
theorem dX1_isSo_100 : decode cX1_isSo 100 = .ok (.iconst 1, 1) := dk_4 (dk_at dksX1_isSo_4 18 rfl rfl)
theorem dX1_isSo_101 : decode cX1_isSo 101 = .ok (.goto 4, 3) := dk_167 0 4 (dk_at dksX1_isSo_4 19 rfl rfl)
theorem dX1_isSo_104 : decode cX1_isSo 104 = .ok (.iconst 0, 1) := dk_3 (dk_at dksX1_isSo_4 22 rfl rfl)
theorem dX1_isSo_105 : decode cX1_isSo 105 = .ok (.ireturn, 1) := dk_172 (dk_at dksX1_isSo_4 23 rfl rfl)
abbrev cX1_asks : ByteArray := prog_1_method_57_code
def yX1_asks : MethodName := ⟨RX1, "asks", "()I"⟩
def dkwX1_asks_6 : List UInt8 := [133, 182, 1, 54, 28, 172]
abbrev dktX1_asks_6 : List UInt8 := dkwX1_asks_6 ++ []
def dkwX1_asks_5 : List UInt8 := [96, 61, 21, 7, 62, 132, 5, 1, 167, 255, 159, 132, 4, 1, 167, 255, 144, 42, 3, 181, 0, 57, 42, 29]
abbrev dktX1_asks_5 : List UInt8 := dkwX1_asks_5 ++ dktX1_asks_6
def dkwX1_asks_4 : List UInt8 := [21, 6, 100, 184, 0, 217, 54, 7, 21, 7, 29, 161, 0, 6, 167, 0, 15, 16, 10, 21, 4, 104, 21, 5]
abbrev dktX1_asks_4 : List UInt8 := dkwX1_asks_4 ++ dktX1_asks_5
def dkwX1_asks_3 : List UInt8 := [182, 2, 26, 153, 0, 7, 4, 167, 0, 4, 3, 96, 54, 6, 132, 7, 1, 167, 255, 213, 21, 6, 27]
abbrev dktX1_asks_3 : List UInt8 := dkwX1_asks_3 ++ dktX1_asks_4
def dkwX1_asks_2 : List UInt8 := [16, 80, 162, 0, 42, 21, 6, 42, 180, 0, 43, 21, 7, 50, 198, 0, 20, 42, 21, 7, 21, 4, 21, 5]
abbrev dktX1_asks_2 : List UInt8 := dkwX1_asks_2 ++ dktX1_asks_3
def dkwX1_asks_1 : List UInt8 := [163, 0, 112, 3, 54, 5, 21, 5, 21, 4, 184, 2, 10, 163, 0, 93, 3, 54, 6, 3, 54, 7, 21, 7]
abbrev dktX1_asks_1 : List UInt8 := dkwX1_asks_1 ++ dktX1_asks_2
def dkwX1_asks_0 : List UInt8 := [42, 182, 2, 30, 60, 27, 154, 0, 6, 16, 254, 172, 2, 61, 19, 2, 33, 62, 3, 54, 4, 21, 4, 6]
abbrev dktX1_asks_0 : List UInt8 := dkwX1_asks_0 ++ dktX1_asks_1
theorem dksX1_asks_0 : cX1_asks.data.toList.drop 0 = dktX1_asks_0 := by decide +kernel
theorem dksX1_asks_1 : cX1_asks.data.toList.drop 24 = dktX1_asks_1 := dk_seg dksX1_asks_0 24 rfl rfl
theorem dksX1_asks_2 : cX1_asks.data.toList.drop 48 = dktX1_asks_2 := dk_seg dksX1_asks_1 24 rfl rfl
theorem dksX1_asks_3 : cX1_asks.data.toList.drop 72 = dktX1_asks_3 := dk_seg dksX1_asks_2 24 rfl rfl
theorem dksX1_asks_4 : cX1_asks.data.toList.drop 95 = dktX1_asks_4 := dk_seg dksX1_asks_3 23 rfl rfl
theorem dksX1_asks_5 : cX1_asks.data.toList.drop 119 = dktX1_asks_5 := dk_seg dksX1_asks_4 24 rfl rfl
theorem dksX1_asks_6 : cX1_asks.data.toList.drop 143 = dktX1_asks_6 := dk_seg dksX1_asks_5 24 rfl rfl
theorem dX1_asks_0 : decode cX1_asks 0 = .ok (.aload_n 0, 1) := dk_42 (dk_at dksX1_asks_0 0 rfl rfl)
theorem dX1_asks_1 : decode cX1_asks 1 = .ok (.invokevirtual 542, 3) := dk_182 2 30 (dk_at dksX1_asks_0 1 rfl rfl)
theorem dX1_asks_4 : decode cX1_asks 4 = .ok (.istore_n 1, 1) := dk_60 (dk_at dksX1_asks_0 4 rfl rfl)
theorem dX1_asks_5 : decode cX1_asks 5 = .ok (.iload_n 1, 1) := dk_27 (dk_at dksX1_asks_0 5 rfl rfl)
theorem dX1_asks_6 : decode cX1_asks 6 = .ok (.ifCond .ne 6, 3) := dk_154 0 6 (dk_at dksX1_asks_0 6 rfl rfl)
theorem dX1_asks_9 : decode cX1_asks 9 = .ok (.bipush (-2), 2) := dk_16 254 (dk_at dksX1_asks_0 9 rfl rfl)
theorem dX1_asks_11 : decode cX1_asks 11 = .ok (.ireturn, 1) := dk_172 (dk_at dksX1_asks_0 11 rfl rfl)
theorem dX1_asks_12 : decode cX1_asks 12 = .ok (.iconst (-1), 1) := dk_2 (dk_at dksX1_asks_0 12 rfl rfl)
theorem dX1_asks_13 : decode cX1_asks 13 = .ok (.istore_n 2, 1) := dk_61 (dk_at dksX1_asks_0 13 rfl rfl)
theorem dX1_asks_14 : decode cX1_asks 14 = .ok (.ldc_w 545, 3) := dk_19 2 33 (dk_at dksX1_asks_0 14 rfl rfl)
theorem dX1_asks_17 : decode cX1_asks 17 = .ok (.istore_n 3, 1) := dk_62 (dk_at dksX1_asks_0 17 rfl rfl)
theorem dX1_asks_18 : decode cX1_asks 18 = .ok (.iconst 0, 1) := dk_3 (dk_at dksX1_asks_0 18 rfl rfl)
theorem dX1_asks_19 : decode cX1_asks 19 = .ok (.istore 4, 2) := dk_54 4 (dk_at dksX1_asks_0 19 rfl rfl)
theorem dX1_asks_21 : decode cX1_asks 21 = .ok (.iload 4, 2) := dk_21 4 (dk_at dksX1_asks_0 21 rfl rfl)
theorem dX1_asks_23 : decode cX1_asks 23 = .ok (.iconst 3, 1) := dk_6 (dk_at dksX1_asks_0 23 rfl rfl)
theorem dX1_asks_24 : decode cX1_asks 24 = .ok (.if_icmp .gt 112, 3) := dk_163 0 112 (dk_at dksX1_asks_1 0 rfl rfl)
theorem dX1_asks_27 : decode cX1_asks 27 = .ok (.iconst 0, 1) := dk_3 (dk_at dksX1_asks_1 3 rfl rfl)
theorem dX1_asks_28 : decode cX1_asks 28 = .ok (.istore 5, 2) := dk_54 5 (dk_at dksX1_asks_1 4 rfl rfl)
theorem dX1_asks_30 : decode cX1_asks 30 = .ok (.iload 5, 2) := dk_21 5 (dk_at dksX1_asks_1 6 rfl rfl)
theorem dX1_asks_32 : decode cX1_asks 32 = .ok (.iload 4, 2) := dk_21 4 (dk_at dksX1_asks_1 8 rfl rfl)
theorem dX1_asks_34 : decode cX1_asks 34 = .ok (.invokestatic 522, 3) := dk_184 2 10 (dk_at dksX1_asks_1 10 rfl rfl)
theorem dX1_asks_37 : decode cX1_asks 37 = .ok (.if_icmp .gt 93, 3) := dk_163 0 93 (dk_at dksX1_asks_1 13 rfl rfl)
theorem dX1_asks_40 : decode cX1_asks 40 = .ok (.iconst 0, 1) := dk_3 (dk_at dksX1_asks_1 16 rfl rfl)
theorem dX1_asks_41 : decode cX1_asks 41 = .ok (.istore 6, 2) := dk_54 6 (dk_at dksX1_asks_1 17 rfl rfl)
theorem dX1_asks_43 : decode cX1_asks 43 = .ok (.iconst 0, 1) := dk_3 (dk_at dksX1_asks_1 19 rfl rfl)
theorem dX1_asks_44 : decode cX1_asks 44 = .ok (.istore 7, 2) := dk_54 7 (dk_at dksX1_asks_1 20 rfl rfl)
theorem dX1_asks_46 : decode cX1_asks 46 = .ok (.iload 7, 2) := dk_21 7 (dk_at dksX1_asks_1 22 rfl rfl)
theorem dX1_asks_48 : decode cX1_asks 48 = .ok (.bipush 80, 2) := dk_16 80 (dk_at dksX1_asks_2 0 rfl rfl)
theorem dX1_asks_50 : decode cX1_asks 50 = .ok (.if_icmp .ge 42, 3) := dk_162 0 42 (dk_at dksX1_asks_2 2 rfl rfl)
theorem dX1_asks_53 : decode cX1_asks 53 = .ok (.iload 6, 2) := dk_21 6 (dk_at dksX1_asks_2 5 rfl rfl)
theorem dX1_asks_55 : decode cX1_asks 55 = .ok (.aload_n 0, 1) := dk_42 (dk_at dksX1_asks_2 7 rfl rfl)
theorem dX1_asks_56 : decode cX1_asks 56 = .ok (.getfield 43, 3) := dk_180 0 43 (dk_at dksX1_asks_2 8 rfl rfl)
theorem dX1_asks_59 : decode cX1_asks 59 = .ok (.iload 7, 2) := dk_21 7 (dk_at dksX1_asks_2 11 rfl rfl)
theorem dX1_asks_61 : decode cX1_asks 61 = .ok (.aaload, 1) := dk_50 (dk_at dksX1_asks_2 13 rfl rfl)
theorem dX1_asks_62 : decode cX1_asks 62 = .ok (.ifnull 20, 3) := dk_198 0 20 (dk_at dksX1_asks_2 14 rfl rfl)
theorem dX1_asks_65 : decode cX1_asks 65 = .ok (.aload_n 0, 1) := dk_42 (dk_at dksX1_asks_2 17 rfl rfl)
theorem dX1_asks_66 : decode cX1_asks 66 = .ok (.iload 7, 2) := dk_21 7 (dk_at dksX1_asks_2 18 rfl rfl)
theorem dX1_asks_68 : decode cX1_asks 68 = .ok (.iload 4, 2) := dk_21 4 (dk_at dksX1_asks_2 20 rfl rfl)
theorem dX1_asks_70 : decode cX1_asks 70 = .ok (.iload 5, 2) := dk_21 5 (dk_at dksX1_asks_2 22 rfl rfl)
theorem dX1_asks_72 : decode cX1_asks 72 = .ok (.invokevirtual 538, 3) := dk_182 2 26 (dk_at dksX1_asks_3 0 rfl rfl)
theorem dX1_asks_75 : decode cX1_asks 75 = .ok (.ifCond .eq 7, 3) := dk_153 0 7 (dk_at dksX1_asks_3 3 rfl rfl)
theorem dX1_asks_78 : decode cX1_asks 78 = .ok (.iconst 1, 1) := dk_4 (dk_at dksX1_asks_3 6 rfl rfl)
theorem dX1_asks_79 : decode cX1_asks 79 = .ok (.goto 4, 3) := dk_167 0 4 (dk_at dksX1_asks_3 7 rfl rfl)
theorem dX1_asks_82 : decode cX1_asks 82 = .ok (.iconst 0, 1) := dk_3 (dk_at dksX1_asks_3 10 rfl rfl)
theorem dX1_asks_83 : decode cX1_asks 83 = .ok (.iadd, 1) := dk_96 (dk_at dksX1_asks_3 11 rfl rfl)
theorem dX1_asks_84 : decode cX1_asks 84 = .ok (.istore 6, 2) := dk_54 6 (dk_at dksX1_asks_3 12 rfl rfl)
theorem dX1_asks_86 : decode cX1_asks 86 = .ok (.iinc 7 1, 3) := dk_132 7 1 (dk_at dksX1_asks_3 14 rfl rfl)
theorem dX1_asks_89 : decode cX1_asks 89 = .ok (.goto (-43), 3) := dk_167 255 213 (dk_at dksX1_asks_3 17 rfl rfl)
theorem dX1_asks_92 : decode cX1_asks 92 = .ok (.iload 6, 2) := dk_21 6 (dk_at dksX1_asks_3 20 rfl rfl)
theorem dX1_asks_94 : decode cX1_asks 94 = .ok (.iload_n 1, 1) := dk_27 (dk_at dksX1_asks_3 22 rfl rfl)
theorem dX1_asks_95 : decode cX1_asks 95 = .ok (.iload 6, 2) := dk_21 6 (dk_at dksX1_asks_4 0 rfl rfl)
theorem dX1_asks_97 : decode cX1_asks 97 = .ok (.isub, 1) := dk_100 (dk_at dksX1_asks_4 2 rfl rfl)
theorem dX1_asks_98 : decode cX1_asks 98 = .ok (.invokestatic 217, 3) := dk_184 0 217 (dk_at dksX1_asks_4 3 rfl rfl)
theorem dX1_asks_101 : decode cX1_asks 101 = .ok (.istore 7, 2) := dk_54 7 (dk_at dksX1_asks_4 6 rfl rfl)
theorem dX1_asks_103 : decode cX1_asks 103 = .ok (.iload 7, 2) := dk_21 7 (dk_at dksX1_asks_4 8 rfl rfl)
theorem dX1_asks_105 : decode cX1_asks 105 = .ok (.iload_n 3, 1) := dk_29 (dk_at dksX1_asks_4 10 rfl rfl)
theorem dX1_asks_106 : decode cX1_asks 106 = .ok (.if_icmp .lt 6, 3) := dk_161 0 6 (dk_at dksX1_asks_4 11 rfl rfl)
theorem dX1_asks_109 : decode cX1_asks 109 = .ok (.goto 15, 3) := dk_167 0 15 (dk_at dksX1_asks_4 14 rfl rfl)
theorem dX1_asks_112 : decode cX1_asks 112 = .ok (.bipush 10, 2) := dk_16 10 (dk_at dksX1_asks_4 17 rfl rfl)
theorem dX1_asks_114 : decode cX1_asks 114 = .ok (.iload 4, 2) := dk_21 4 (dk_at dksX1_asks_4 19 rfl rfl)
theorem dX1_asks_116 : decode cX1_asks 116 = .ok (.imul, 1) := dk_104 (dk_at dksX1_asks_4 21 rfl rfl)
theorem dX1_asks_117 : decode cX1_asks 117 = .ok (.iload 5, 2) := dk_21 5 (dk_at dksX1_asks_4 22 rfl rfl)
theorem dX1_asks_119 : decode cX1_asks 119 = .ok (.iadd, 1) := dk_96 (dk_at dksX1_asks_5 0 rfl rfl)
theorem dX1_asks_120 : decode cX1_asks 120 = .ok (.istore_n 2, 1) := dk_61 (dk_at dksX1_asks_5 1 rfl rfl)
theorem dX1_asks_121 : decode cX1_asks 121 = .ok (.iload 7, 2) := dk_21 7 (dk_at dksX1_asks_5 2 rfl rfl)
theorem dX1_asks_123 : decode cX1_asks 123 = .ok (.istore_n 3, 1) := dk_62 (dk_at dksX1_asks_5 4 rfl rfl)
theorem dX1_asks_124 : decode cX1_asks 124 = .ok (.iinc 5 1, 3) := dk_132 5 1 (dk_at dksX1_asks_5 5 rfl rfl)
theorem dX1_asks_127 : decode cX1_asks 127 = .ok (.goto (-97), 3) := dk_167 255 159 (dk_at dksX1_asks_5 8 rfl rfl)
theorem dX1_asks_130 : decode cX1_asks 130 = .ok (.iinc 4 1, 3) := dk_132 4 1 (dk_at dksX1_asks_5 11 rfl rfl)
theorem dX1_asks_133 : decode cX1_asks 133 = .ok (.goto (-112), 3) := dk_167 255 144 (dk_at dksX1_asks_5 14 rfl rfl)
theorem dX1_asks_136 : decode cX1_asks 136 = .ok (.aload_n 0, 1) := dk_42 (dk_at dksX1_asks_5 17 rfl rfl)
theorem dX1_asks_137 : decode cX1_asks 137 = .ok (.iconst 0, 1) := dk_3 (dk_at dksX1_asks_5 18 rfl rfl)
theorem dX1_asks_138 : decode cX1_asks 138 = .ok (.putfield 57, 3) := dk_181 0 57 (dk_at dksX1_asks_5 19 rfl rfl)
theorem dX1_asks_141 : decode cX1_asks 141 = .ok (.aload_n 0, 1) := dk_42 (dk_at dksX1_asks_5 22 rfl rfl)
theorem dX1_asks_142 : decode cX1_asks 142 = .ok (.iload_n 3, 1) := dk_29 (dk_at dksX1_asks_5 23 rfl rfl)
theorem dX1_asks_143 : decode cX1_asks 143 = .ok (.i2l, 1) := dk_133 (dk_at dksX1_asks_6 0 rfl rfl)
theorem dX1_asks_144 : decode cX1_asks 144 = .ok (.invokevirtual 310, 3) := dk_182 1 54 (dk_at dksX1_asks_6 1 rfl rfl)
theorem dX1_asks_147 : decode cX1_asks 147 = .ok (.iload_n 2, 1) := dk_28 (dk_at dksX1_asks_6 4 rfl rfl)
theorem dX1_asks_148 : decode cX1_asks 148 = .ok (.ireturn, 1) := dk_172 (dk_at dksX1_asks_6 5 rfl rfl)
abbrev cX1_laps : ByteArray := prog_1_method_58_code
def yX1_laps : MethodName := ⟨RX1, "laps", "(III)I"⟩
def dkwX1_laps_4 : List UInt8 := [167, 255, 230, 132, 5, 255, 167, 255, 206, 25, 4, 28, 46, 172]
abbrev dktX1_laps_4 : List UInt8 := dkwX1_laps_4 ++ []
def dkwX1_laps_3 : List UInt8 := [158, 0, 27, 25, 4, 21, 5, 21, 6, 96, 46, 154, 0, 10, 25, 4, 21, 5, 21, 6, 79, 132, 6, 255]
abbrev dktX1_laps_3 : List UInt8 := dkwX1_laps_3 ++ dktX1_laps_4
def dkwX1_laps_2 : List UInt8 := [100, 54, 5, 21, 5, 28, 161, 0, 50, 29, 27, 4, 100, 21, 5, 100, 184, 0, 211, 54, 6, 21, 6]
abbrev dktX1_laps_2 : List UInt8 := dkwX1_laps_2 ++ dktX1_laps_3
def dkwX1_laps_1 : List UInt8 := [153, 0, 15, 29, 133, 10, 20, 0, 235, 184, 0, 64, 154, 0, 5, 2, 172, 27, 188, 10, 58, 4, 27, 5]
abbrev dktX1_laps_1 : List UInt8 := dkwX1_laps_1 ++ dktX1_laps_2
def dkwX1_laps_0 : List UInt8 := [27, 133, 20, 2, 34, 20, 2, 36, 184, 0, 64, 153, 0, 28, 28, 133, 9, 27, 4, 100, 133, 184, 0, 64]
abbrev dktX1_laps_0 : List UInt8 := dkwX1_laps_0 ++ dktX1_laps_1
theorem dksX1_laps_0 : cX1_laps.data.toList.drop 0 = dktX1_laps_0 := by decide +kernel
theorem dksX1_laps_1 : cX1_laps.data.toList.drop 24 = dktX1_laps_1 := dk_seg dksX1_laps_0 24 rfl rfl
theorem dksX1_laps_2 : cX1_laps.data.toList.drop 48 = dktX1_laps_2 := dk_seg dksX1_laps_1 24 rfl rfl
theorem dksX1_laps_3 : cX1_laps.data.toList.drop 71 = dktX1_laps_3 := dk_seg dksX1_laps_2 23 rfl rfl
theorem dksX1_laps_4 : cX1_laps.data.toList.drop 95 = dktX1_laps_4 := dk_seg dksX1_laps_3 24 rfl rfl
theorem dX1_laps_0 : decode cX1_laps 0 = .ok (.iload_n 1, 1) := dk_27 (dk_at dksX1_laps_0 0 rfl rfl)
theorem dX1_laps_1 : decode cX1_laps 1 = .ok (.i2l, 1) := dk_133 (dk_at dksX1_laps_0 1 rfl rfl)
theorem dX1_laps_2 : decode cX1_laps 2 = .ok (.ldc2_w 546, 3) := dk_20 2 34 (dk_at dksX1_laps_0 2 rfl rfl)
theorem dX1_laps_5 : decode cX1_laps 5 = .ok (.ldc2_w 548, 3) := dk_20 2 36 (dk_at dksX1_laps_0 5 rfl rfl)
theorem dX1_laps_8 : decode cX1_laps 8 = .ok (.invokestatic 64, 3) := dk_184 0 64 (dk_at dksX1_laps_0 8 rfl rfl)
theorem dX1_laps_11 : decode cX1_laps 11 = .ok (.ifCond .eq 28, 3) := dk_153 0 28 (dk_at dksX1_laps_0 11 rfl rfl)
theorem dX1_laps_14 : decode cX1_laps 14 = .ok (.iload_n 2, 1) := dk_28 (dk_at dksX1_laps_0 14 rfl rfl)
theorem dX1_laps_15 : decode cX1_laps 15 = .ok (.i2l, 1) := dk_133 (dk_at dksX1_laps_0 15 rfl rfl)
theorem dX1_laps_16 : decode cX1_laps 16 = .ok (.lconst 0, 1) := dk_9 (dk_at dksX1_laps_0 16 rfl rfl)
theorem dX1_laps_17 : decode cX1_laps 17 = .ok (.iload_n 1, 1) := dk_27 (dk_at dksX1_laps_0 17 rfl rfl)
theorem dX1_laps_18 : decode cX1_laps 18 = .ok (.iconst 1, 1) := dk_4 (dk_at dksX1_laps_0 18 rfl rfl)
theorem dX1_laps_19 : decode cX1_laps 19 = .ok (.isub, 1) := dk_100 (dk_at dksX1_laps_0 19 rfl rfl)
theorem dX1_laps_20 : decode cX1_laps 20 = .ok (.i2l, 1) := dk_133 (dk_at dksX1_laps_0 20 rfl rfl)
theorem dX1_laps_21 : decode cX1_laps 21 = .ok (.invokestatic 64, 3) := dk_184 0 64 (dk_at dksX1_laps_0 21 rfl rfl)
theorem dX1_laps_24 : decode cX1_laps 24 = .ok (.ifCond .eq 15, 3) := dk_153 0 15 (dk_at dksX1_laps_1 0 rfl rfl)
theorem dX1_laps_27 : decode cX1_laps 27 = .ok (.iload_n 3, 1) := dk_29 (dk_at dksX1_laps_1 3 rfl rfl)
theorem dX1_laps_28 : decode cX1_laps 28 = .ok (.i2l, 1) := dk_133 (dk_at dksX1_laps_1 4 rfl rfl)
theorem dX1_laps_29 : decode cX1_laps 29 = .ok (.lconst 1, 1) := dk_10 (dk_at dksX1_laps_1 5 rfl rfl)
theorem dX1_laps_30 : decode cX1_laps 30 = .ok (.ldc2_w 235, 3) := dk_20 0 235 (dk_at dksX1_laps_1 6 rfl rfl)
theorem dX1_laps_33 : decode cX1_laps 33 = .ok (.invokestatic 64, 3) := dk_184 0 64 (dk_at dksX1_laps_1 9 rfl rfl)
theorem dX1_laps_36 : decode cX1_laps 36 = .ok (.ifCond .ne 5, 3) := dk_154 0 5 (dk_at dksX1_laps_1 12 rfl rfl)
theorem dX1_laps_39 : decode cX1_laps 39 = .ok (.iconst (-1), 1) := dk_2 (dk_at dksX1_laps_1 15 rfl rfl)
theorem dX1_laps_40 : decode cX1_laps 40 = .ok (.ireturn, 1) := dk_172 (dk_at dksX1_laps_1 16 rfl rfl)
theorem dX1_laps_41 : decode cX1_laps 41 = .ok (.iload_n 1, 1) := dk_27 (dk_at dksX1_laps_1 17 rfl rfl)
theorem dX1_laps_42 : decode cX1_laps 42 = .ok (.newarray .int, 2) := dk_188_10 (dk_at dksX1_laps_1 18 rfl rfl)
theorem dX1_laps_44 : decode cX1_laps 44 = .ok (.astore 4, 2) := dk_58 4 (dk_at dksX1_laps_1 20 rfl rfl)
theorem dX1_laps_46 : decode cX1_laps 46 = .ok (.iload_n 1, 1) := dk_27 (dk_at dksX1_laps_1 22 rfl rfl)
theorem dX1_laps_47 : decode cX1_laps 47 = .ok (.iconst 2, 1) := dk_5 (dk_at dksX1_laps_1 23 rfl rfl)
theorem dX1_laps_48 : decode cX1_laps 48 = .ok (.isub, 1) := dk_100 (dk_at dksX1_laps_2 0 rfl rfl)
theorem dX1_laps_49 : decode cX1_laps 49 = .ok (.istore 5, 2) := dk_54 5 (dk_at dksX1_laps_2 1 rfl rfl)
theorem dX1_laps_51 : decode cX1_laps 51 = .ok (.iload 5, 2) := dk_21 5 (dk_at dksX1_laps_2 3 rfl rfl)
theorem dX1_laps_53 : decode cX1_laps 53 = .ok (.iload_n 2, 1) := dk_28 (dk_at dksX1_laps_2 5 rfl rfl)
theorem dX1_laps_54 : decode cX1_laps 54 = .ok (.if_icmp .lt 50, 3) := dk_161 0 50 (dk_at dksX1_laps_2 6 rfl rfl)
theorem dX1_laps_57 : decode cX1_laps 57 = .ok (.iload_n 3, 1) := dk_29 (dk_at dksX1_laps_2 9 rfl rfl)
theorem dX1_laps_58 : decode cX1_laps 58 = .ok (.iload_n 1, 1) := dk_27 (dk_at dksX1_laps_2 10 rfl rfl)
theorem dX1_laps_59 : decode cX1_laps 59 = .ok (.iconst 1, 1) := dk_4 (dk_at dksX1_laps_2 11 rfl rfl)
theorem dX1_laps_60 : decode cX1_laps 60 = .ok (.isub, 1) := dk_100 (dk_at dksX1_laps_2 12 rfl rfl)
theorem dX1_laps_61 : decode cX1_laps 61 = .ok (.iload 5, 2) := dk_21 5 (dk_at dksX1_laps_2 13 rfl rfl)
theorem dX1_laps_63 : decode cX1_laps 63 = .ok (.isub, 1) := dk_100 (dk_at dksX1_laps_2 15 rfl rfl)
theorem dX1_laps_64 : decode cX1_laps 64 = .ok (.invokestatic 211, 3) := dk_184 0 211 (dk_at dksX1_laps_2 16 rfl rfl)
theorem dX1_laps_67 : decode cX1_laps 67 = .ok (.istore 6, 2) := dk_54 6 (dk_at dksX1_laps_2 19 rfl rfl)
theorem dX1_laps_69 : decode cX1_laps 69 = .ok (.iload 6, 2) := dk_21 6 (dk_at dksX1_laps_2 21 rfl rfl)
theorem dX1_laps_71 : decode cX1_laps 71 = .ok (.ifCond .le 27, 3) := dk_158 0 27 (dk_at dksX1_laps_3 0 rfl rfl)
theorem dX1_laps_74 : decode cX1_laps 74 = .ok (.aload 4, 2) := dk_25 4 (dk_at dksX1_laps_3 3 rfl rfl)
theorem dX1_laps_76 : decode cX1_laps 76 = .ok (.iload 5, 2) := dk_21 5 (dk_at dksX1_laps_3 5 rfl rfl)
theorem dX1_laps_78 : decode cX1_laps 78 = .ok (.iload 6, 2) := dk_21 6 (dk_at dksX1_laps_3 7 rfl rfl)
theorem dX1_laps_80 : decode cX1_laps 80 = .ok (.iadd, 1) := dk_96 (dk_at dksX1_laps_3 9 rfl rfl)
theorem dX1_laps_81 : decode cX1_laps 81 = .ok (.iaload, 1) := dk_46 (dk_at dksX1_laps_3 10 rfl rfl)
theorem dX1_laps_82 : decode cX1_laps 82 = .ok (.ifCond .ne 10, 3) := dk_154 0 10 (dk_at dksX1_laps_3 11 rfl rfl)
theorem dX1_laps_85 : decode cX1_laps 85 = .ok (.aload 4, 2) := dk_25 4 (dk_at dksX1_laps_3 14 rfl rfl)
theorem dX1_laps_87 : decode cX1_laps 87 = .ok (.iload 5, 2) := dk_21 5 (dk_at dksX1_laps_3 16 rfl rfl)
theorem dX1_laps_89 : decode cX1_laps 89 = .ok (.iload 6, 2) := dk_21 6 (dk_at dksX1_laps_3 18 rfl rfl)
theorem dX1_laps_91 : decode cX1_laps 91 = .ok (.iastore, 1) := dk_79 (dk_at dksX1_laps_3 20 rfl rfl)
theorem dX1_laps_92 : decode cX1_laps 92 = .ok (.iinc 6 (-1), 3) := dk_132 6 255 (dk_at dksX1_laps_3 21 rfl rfl)
theorem dX1_laps_95 : decode cX1_laps 95 = .ok (.goto (-26), 3) := dk_167 255 230 (dk_at dksX1_laps_4 0 rfl rfl)
theorem dX1_laps_98 : decode cX1_laps 98 = .ok (.iinc 5 (-1), 3) := dk_132 5 255 (dk_at dksX1_laps_4 3 rfl rfl)
theorem dX1_laps_101 : decode cX1_laps 101 = .ok (.goto (-50), 3) := dk_167 255 206 (dk_at dksX1_laps_4 6 rfl rfl)
theorem dX1_laps_104 : decode cX1_laps 104 = .ok (.aload 4, 2) := dk_25 4 (dk_at dksX1_laps_4 9 rfl rfl)
theorem dX1_laps_106 : decode cX1_laps 106 = .ok (.iload_n 2, 1) := dk_28 (dk_at dksX1_laps_4 11 rfl rfl)
theorem dX1_laps_107 : decode cX1_laps 107 = .ok (.iaload, 1) := dk_46 (dk_at dksX1_laps_4 12 rfl rfl)
theorem dX1_laps_108 : decode cX1_laps 108 = .ok (.ireturn, 1) := dk_172 (dk_at dksX1_laps_4 13 rfl rfl)
abbrev cX1_law : ByteArray := prog_1_method_60_code
def yX1_law : MethodName := ⟨RX1, "law", "()I"⟩
def dkwX1_law_5 : List UInt8 := [182, 1, 54, 21, 5, 21, 4, 100, 172]
abbrev dktX1_law_5 : List UInt8 := dkwX1_law_5 ++ []
def dkwX1_law_4 : List UInt8 := [43, 181, 0, 146, 25, 8, 191, 42, 3, 181, 0, 57, 42, 21, 5, 133, 182, 1, 54, 42, 21, 4, 133]
abbrev dktX1_law_4 : List UInt8 := dkwX1_law_4 ++ dktX1_law_5
def dkwX1_law_3 : List UInt8 := [58, 6, 17, 252, 24, 25, 6, 180, 0, 112, 100, 54, 7, 42, 43, 181, 0, 146, 21, 7, 172, 58, 8, 42]
abbrev dktX1_law_3 : List UInt8 := dkwX1_law_3 ++ dktX1_law_4
def dkwX1_law_2 : List UInt8 := [183, 0, 152, 182, 0, 155, 181, 0, 146, 42, 182, 2, 38, 54, 5, 42, 43, 181, 0, 146, 167, 0, 34]
abbrev dktX1_law_2 : List UInt8 := dkwX1_law_2 ++ dktX1_law_3
def dkwX1_law_1 : List UInt8 := [181, 0, 70, 42, 182, 2, 38, 54, 4, 42, 29, 154, 0, 7, 1, 167, 0, 15, 187, 0, 150, 89, 44, 29]
abbrev dktX1_law_1 : List UInt8 := dkwX1_law_1 ++ dktX1_law_2
def dkwX1_law_0 : List UInt8 := [42, 180, 0, 146, 76, 42, 180, 0, 26, 182, 0, 141, 192, 0, 142, 77, 42, 180, 0, 70, 62, 42, 3]
abbrev dktX1_law_0 : List UInt8 := dkwX1_law_0 ++ dktX1_law_1
theorem dksX1_law_0 : cX1_law.data.toList.drop 0 = dktX1_law_0 := by decide +kernel
theorem dksX1_law_1 : cX1_law.data.toList.drop 23 = dktX1_law_1 := dk_seg dksX1_law_0 23 rfl rfl
theorem dksX1_law_2 : cX1_law.data.toList.drop 47 = dktX1_law_2 := dk_seg dksX1_law_1 24 rfl rfl
theorem dksX1_law_3 : cX1_law.data.toList.drop 70 = dktX1_law_3 := dk_seg dksX1_law_2 23 rfl rfl
theorem dksX1_law_4 : cX1_law.data.toList.drop 94 = dktX1_law_4 := dk_seg dksX1_law_3 24 rfl rfl
theorem dksX1_law_5 : cX1_law.data.toList.drop 117 = dktX1_law_5 := dk_seg dksX1_law_4 23 rfl rfl
theorem dX1_law_0 : decode cX1_law 0 = .ok (.aload_n 0, 1) := dk_42 (dk_at dksX1_law_0 0 rfl rfl)
theorem dX1_law_1 : decode cX1_law 1 = .ok (.getfield 146, 3) := dk_180 0 146 (dk_at dksX1_law_0 1 rfl rfl)
theorem dX1_law_4 : decode cX1_law 4 = .ok (.astore_n 1, 1) := dk_76 (dk_at dksX1_law_0 4 rfl rfl)
theorem dX1_law_5 : decode cX1_law 5 = .ok (.aload_n 0, 1) := dk_42 (dk_at dksX1_law_0 5 rfl rfl)
theorem dX1_law_6 : decode cX1_law 6 = .ok (.getfield 26, 3) := dk_180 0 26 (dk_at dksX1_law_0 6 rfl rfl)
theorem dX1_law_9 : decode cX1_law 9 = .ok (.invokevirtual 141, 3) := dk_182 0 141 (dk_at dksX1_law_0 9 rfl rfl)
theorem dX1_law_12 : decode cX1_law 12 = .ok (.checkcast 142, 3) := dk_192 0 142 (dk_at dksX1_law_0 12 rfl rfl)
theorem dX1_law_15 : decode cX1_law 15 = .ok (.astore_n 2, 1) := dk_77 (dk_at dksX1_law_0 15 rfl rfl)
theorem dX1_law_16 : decode cX1_law 16 = .ok (.aload_n 0, 1) := dk_42 (dk_at dksX1_law_0 16 rfl rfl)
theorem dX1_law_17 : decode cX1_law 17 = .ok (.getfield 70, 3) := dk_180 0 70 (dk_at dksX1_law_0 17 rfl rfl)
theorem dX1_law_20 : decode cX1_law 20 = .ok (.istore_n 3, 1) := dk_62 (dk_at dksX1_law_0 20 rfl rfl)
theorem dX1_law_21 : decode cX1_law 21 = .ok (.aload_n 0, 1) := dk_42 (dk_at dksX1_law_0 21 rfl rfl)
theorem dX1_law_22 : decode cX1_law 22 = .ok (.iconst 0, 1) := dk_3 (dk_at dksX1_law_0 22 rfl rfl)
theorem dX1_law_23 : decode cX1_law 23 = .ok (.putfield 70, 3) := dk_181 0 70 (dk_at dksX1_law_1 0 rfl rfl)
theorem dX1_law_26 : decode cX1_law 26 = .ok (.aload_n 0, 1) := dk_42 (dk_at dksX1_law_1 3 rfl rfl)
theorem dX1_law_27 : decode cX1_law 27 = .ok (.invokevirtual 550, 3) := dk_182 2 38 (dk_at dksX1_law_1 4 rfl rfl)
theorem dX1_law_30 : decode cX1_law 30 = .ok (.istore 4, 2) := dk_54 4 (dk_at dksX1_law_1 7 rfl rfl)
theorem dX1_law_32 : decode cX1_law 32 = .ok (.aload_n 0, 1) := dk_42 (dk_at dksX1_law_1 9 rfl rfl)
theorem dX1_law_33 : decode cX1_law 33 = .ok (.iload_n 3, 1) := dk_29 (dk_at dksX1_law_1 10 rfl rfl)
theorem dX1_law_34 : decode cX1_law 34 = .ok (.ifCond .ne 7, 3) := dk_154 0 7 (dk_at dksX1_law_1 11 rfl rfl)
theorem dX1_law_37 : decode cX1_law 37 = .ok (.aconst_null, 1) := dk_1 (dk_at dksX1_law_1 14 rfl rfl)
theorem dX1_law_38 : decode cX1_law 38 = .ok (.goto 15, 3) := dk_167 0 15 (dk_at dksX1_law_1 15 rfl rfl)
theorem dX1_law_41 : decode cX1_law 41 = .ok (.new 150, 3) := dk_187 0 150 (dk_at dksX1_law_1 18 rfl rfl)
theorem dX1_law_44 : decode cX1_law 44 = .ok (.dup, 1) := dk_89 (dk_at dksX1_law_1 21 rfl rfl)
theorem dX1_law_45 : decode cX1_law 45 = .ok (.aload_n 2, 1) := dk_44 (dk_at dksX1_law_1 22 rfl rfl)
theorem dX1_law_46 : decode cX1_law 46 = .ok (.iload_n 3, 1) := dk_29 (dk_at dksX1_law_1 23 rfl rfl)
theorem dX1_law_47 : decode cX1_law 47 = .ok (.invokespecial 152, 3) := dk_183 0 152 (dk_at dksX1_law_2 0 rfl rfl)
theorem dX1_law_50 : decode cX1_law 50 = .ok (.invokevirtual 155, 3) := dk_182 0 155 (dk_at dksX1_law_2 3 rfl rfl)
theorem dX1_law_53 : decode cX1_law 53 = .ok (.putfield 146, 3) := dk_181 0 146 (dk_at dksX1_law_2 6 rfl rfl)
theorem dX1_law_56 : decode cX1_law 56 = .ok (.aload_n 0, 1) := dk_42 (dk_at dksX1_law_2 9 rfl rfl)
theorem dX1_law_57 : decode cX1_law 57 = .ok (.invokevirtual 550, 3) := dk_182 2 38 (dk_at dksX1_law_2 10 rfl rfl)
theorem dX1_law_60 : decode cX1_law 60 = .ok (.istore 5, 2) := dk_54 5 (dk_at dksX1_law_2 13 rfl rfl)
theorem dX1_law_62 : decode cX1_law 62 = .ok (.aload_n 0, 1) := dk_42 (dk_at dksX1_law_2 15 rfl rfl)
theorem dX1_law_63 : decode cX1_law 63 = .ok (.aload_n 1, 1) := dk_43 (dk_at dksX1_law_2 16 rfl rfl)
theorem dX1_law_64 : decode cX1_law 64 = .ok (.putfield 146, 3) := dk_181 0 146 (dk_at dksX1_law_2 17 rfl rfl)
theorem dX1_law_67 : decode cX1_law 67 = .ok (.goto 34, 3) := dk_167 0 34 (dk_at dksX1_law_2 20 rfl rfl)
theorem dX1_law_70 : decode cX1_law 70 = .ok (.astore 6, 2) := dk_58 6 (dk_at dksX1_law_3 0 rfl rfl)
theorem dX1_law_72 : decode cX1_law 72 = .ok (.sipush (-1000), 3) := dk_17 252 24 (dk_at dksX1_law_3 2 rfl rfl)
theorem dX1_law_75 : decode cX1_law 75 = .ok (.aload 6, 2) := dk_25 6 (dk_at dksX1_law_3 5 rfl rfl)
theorem dX1_law_77 : decode cX1_law 77 = .ok (.getfield 112, 3) := dk_180 0 112 (dk_at dksX1_law_3 7 rfl rfl)
theorem dX1_law_80 : decode cX1_law 80 = .ok (.isub, 1) := dk_100 (dk_at dksX1_law_3 10 rfl rfl)
theorem dX1_law_81 : decode cX1_law 81 = .ok (.istore 7, 2) := dk_54 7 (dk_at dksX1_law_3 11 rfl rfl)
theorem dX1_law_83 : decode cX1_law 83 = .ok (.aload_n 0, 1) := dk_42 (dk_at dksX1_law_3 13 rfl rfl)
theorem dX1_law_84 : decode cX1_law 84 = .ok (.aload_n 1, 1) := dk_43 (dk_at dksX1_law_3 14 rfl rfl)
theorem dX1_law_85 : decode cX1_law 85 = .ok (.putfield 146, 3) := dk_181 0 146 (dk_at dksX1_law_3 15 rfl rfl)
theorem dX1_law_88 : decode cX1_law 88 = .ok (.iload 7, 2) := dk_21 7 (dk_at dksX1_law_3 18 rfl rfl)
theorem dX1_law_90 : decode cX1_law 90 = .ok (.ireturn, 1) := dk_172 (dk_at dksX1_law_3 20 rfl rfl)
theorem dX1_law_91 : decode cX1_law 91 = .ok (.astore 8, 2) := dk_58 8 (dk_at dksX1_law_3 21 rfl rfl)
theorem dX1_law_93 : decode cX1_law 93 = .ok (.aload_n 0, 1) := dk_42 (dk_at dksX1_law_3 23 rfl rfl)
theorem dX1_law_94 : decode cX1_law 94 = .ok (.aload_n 1, 1) := dk_43 (dk_at dksX1_law_4 0 rfl rfl)
theorem dX1_law_95 : decode cX1_law 95 = .ok (.putfield 146, 3) := dk_181 0 146 (dk_at dksX1_law_4 1 rfl rfl)
theorem dX1_law_98 : decode cX1_law 98 = .ok (.aload 8, 2) := dk_25 8 (dk_at dksX1_law_4 4 rfl rfl)
theorem dX1_law_100 : decode cX1_law 100 = .ok (.athrow, 1) := dk_191 (dk_at dksX1_law_4 6 rfl rfl)
theorem dX1_law_101 : decode cX1_law 101 = .ok (.aload_n 0, 1) := dk_42 (dk_at dksX1_law_4 7 rfl rfl)
theorem dX1_law_102 : decode cX1_law 102 = .ok (.iconst 0, 1) := dk_3 (dk_at dksX1_law_4 8 rfl rfl)
theorem dX1_law_103 : decode cX1_law 103 = .ok (.putfield 57, 3) := dk_181 0 57 (dk_at dksX1_law_4 9 rfl rfl)
theorem dX1_law_106 : decode cX1_law 106 = .ok (.aload_n 0, 1) := dk_42 (dk_at dksX1_law_4 12 rfl rfl)
theorem dX1_law_107 : decode cX1_law 107 = .ok (.iload 5, 2) := dk_21 5 (dk_at dksX1_law_4 13 rfl rfl)
theorem dX1_law_109 : decode cX1_law 109 = .ok (.i2l, 1) := dk_133 (dk_at dksX1_law_4 15 rfl rfl)
theorem dX1_law_110 : decode cX1_law 110 = .ok (.invokevirtual 310, 3) := dk_182 1 54 (dk_at dksX1_law_4 16 rfl rfl)
theorem dX1_law_113 : decode cX1_law 113 = .ok (.aload_n 0, 1) := dk_42 (dk_at dksX1_law_4 19 rfl rfl)
theorem dX1_law_114 : decode cX1_law 114 = .ok (.iload 4, 2) := dk_21 4 (dk_at dksX1_law_4 20 rfl rfl)
theorem dX1_law_116 : decode cX1_law 116 = .ok (.i2l, 1) := dk_133 (dk_at dksX1_law_4 22 rfl rfl)
theorem dX1_law_117 : decode cX1_law 117 = .ok (.invokevirtual 310, 3) := dk_182 1 54 (dk_at dksX1_law_5 0 rfl rfl)
theorem dX1_law_120 : decode cX1_law 120 = .ok (.iload 5, 2) := dk_21 5 (dk_at dksX1_law_5 3 rfl rfl)
theorem dX1_law_122 : decode cX1_law 122 = .ok (.iload 4, 2) := dk_21 4 (dk_at dksX1_law_5 5 rfl rfl)
theorem dX1_law_124 : decode cX1_law 124 = .ok (.isub, 1) := dk_100 (dk_at dksX1_law_5 7 rfl rfl)
theorem dX1_law_125 : decode cX1_law 125 = .ok (.ireturn, 1) := dk_172 (dk_at dksX1_law_5 8 rfl rfl)
abbrev cX1_drainedBy : ByteArray := prog_1_method_59_code
def yX1_drainedBy : MethodName := ⟨RX1, "drainedBy", "()I"⟩
def dkwX1_drainedBy_1 : List UInt8 := [167, 0, 4, 27, 172]
abbrev dktX1_drainedBy_1 : List UInt8 := dkwX1_drainedBy_1 ++ []
def dkwX1_drainedBy_0 : List UInt8 := [42, 180, 0, 19, 42, 180, 0, 10, 182, 0, 229, 42, 182, 1, 254, 60, 27, 156, 0, 8, 16, 100]
abbrev dktX1_drainedBy_0 : List UInt8 := dkwX1_drainedBy_0 ++ dktX1_drainedBy_1
theorem dksX1_drainedBy_0 : cX1_drainedBy.data.toList.drop 0 = dktX1_drainedBy_0 := by decide +kernel
theorem dksX1_drainedBy_1 : cX1_drainedBy.data.toList.drop 22 = dktX1_drainedBy_1 := dk_seg dksX1_drainedBy_0 22 rfl rfl
theorem dX1_drainedBy_0 : decode cX1_drainedBy 0 = .ok (.aload_n 0, 1) := dk_42 (dk_at dksX1_drainedBy_0 0 rfl rfl)
theorem dX1_drainedBy_1 : decode cX1_drainedBy 1 = .ok (.getfield 19, 3) := dk_180 0 19 (dk_at dksX1_drainedBy_0 1 rfl rfl)
theorem dX1_drainedBy_4 : decode cX1_drainedBy 4 = .ok (.aload_n 0, 1) := dk_42 (dk_at dksX1_drainedBy_0 4 rfl rfl)
theorem dX1_drainedBy_5 : decode cX1_drainedBy 5 = .ok (.getfield 10, 3) := dk_180 0 10 (dk_at dksX1_drainedBy_0 5 rfl rfl)
theorem dX1_drainedBy_8 : decode cX1_drainedBy 8 = .ok (.invokevirtual 229, 3) := dk_182 0 229 (dk_at dksX1_drainedBy_0 8 rfl rfl)
theorem dX1_drainedBy_11 : decode cX1_drainedBy 11 = .ok (.aload_n 0, 1) := dk_42 (dk_at dksX1_drainedBy_0 11 rfl rfl)
theorem dX1_drainedBy_12 : decode cX1_drainedBy 12 = .ok (.invokevirtual 510, 3) := dk_182 1 254 (dk_at dksX1_drainedBy_0 12 rfl rfl)
theorem dX1_drainedBy_15 : decode cX1_drainedBy 15 = .ok (.istore_n 1, 1) := dk_60 (dk_at dksX1_drainedBy_0 15 rfl rfl)
theorem dX1_drainedBy_16 : decode cX1_drainedBy 16 = .ok (.iload_n 1, 1) := dk_27 (dk_at dksX1_drainedBy_0 16 rfl rfl)
theorem dX1_drainedBy_17 : decode cX1_drainedBy 17 = .ok (.ifCond .ge 8, 3) := dk_156 0 8 (dk_at dksX1_drainedBy_0 17 rfl rfl)
theorem dX1_drainedBy_20 : decode cX1_drainedBy 20 = .ok (.bipush 100, 2) := dk_16 100 (dk_at dksX1_drainedBy_0 20 rfl rfl)
theorem dX1_drainedBy_22 : decode cX1_drainedBy 22 = .ok (.goto 4, 3) := dk_167 0 4 (dk_at dksX1_drainedBy_1 0 rfl rfl)
theorem dX1_drainedBy_25 : decode cX1_drainedBy 25 = .ok (.iload_n 1, 1) := dk_27 (dk_at dksX1_drainedBy_1 3 rfl rfl)
theorem dX1_drainedBy_26 : decode cX1_drainedBy 26 = .ok (.ireturn, 1) := dk_172 (dk_at dksX1_drainedBy_1 4 rfl rfl)
abbrev cX1_years : ByteArray := prog_1_method_63_code
def yX1_years : MethodName := ⟨RX1, "years", "(II)I"⟩
def dkwX1_years_6 : List UInt8 := [172]
abbrev dktX1_years_6 : List UInt8 := dkwX1_years_6 ++ []
def dkwX1_years_5 : List UInt8 := [42, 180, 0, 19, 182, 0, 220, 133, 182, 1, 54, 42, 42, 180, 0, 19, 180, 1, 195, 133, 182, 1, 54, 29]
abbrev dktX1_years_5 : List UInt8 := dkwX1_years_5 ++ dktX1_years_6
def dkwX1_years_4 : List UInt8 := [181, 0, 57, 42, 42, 180, 0, 19, 182, 2, 51, 42, 180, 0, 10, 182, 2, 51, 100, 133, 182, 1, 54, 42]
abbrev dktX1_years_4 : List UInt8 := dkwX1_years_4 ++ dktX1_years_5
def dkwX1_years_3 : List UInt8 := [180, 0, 19, 180, 0, 61, 182, 2, 45, 182, 2, 48, 96, 62, 132, 4, 1, 167, 255, 205, 42, 3]
abbrev dktX1_years_3 : List UInt8 := dkwX1_years_3 ++ dktX1_years_4
def dkwX1_years_2 : List UInt8 := [54, 5, 42, 180, 0, 19, 180, 0, 61, 158, 0, 27, 29, 42, 42, 180, 0, 19, 21, 5, 42, 42]
abbrev dktX1_years_2 : List UInt8 := dkwX1_years_2 ++ dktX1_years_3
def dkwX1_years_1 : List UInt8 := [180, 0, 10, 182, 0, 229, 3, 62, 3, 54, 4, 21, 4, 28, 162, 0, 51, 42, 16, 6, 182, 2, 45]
abbrev dktX1_years_1 : List UInt8 := dkwX1_years_1 ++ dktX1_years_2
def dkwX1_years_0 : List UInt8 := [28, 133, 10, 20, 2, 36, 184, 0, 64, 154, 0, 5, 2, 172, 42, 27, 181, 2, 41, 42, 180, 0, 19, 42]
abbrev dktX1_years_0 : List UInt8 := dkwX1_years_0 ++ dktX1_years_1
theorem dksX1_years_0 : cX1_years.data.toList.drop 0 = dktX1_years_0 := by decide +kernel
theorem dksX1_years_1 : cX1_years.data.toList.drop 24 = dktX1_years_1 := dk_seg dksX1_years_0 24 rfl rfl
theorem dksX1_years_2 : cX1_years.data.toList.drop 47 = dktX1_years_2 := dk_seg dksX1_years_1 23 rfl rfl
theorem dksX1_years_3 : cX1_years.data.toList.drop 69 = dktX1_years_3 := dk_seg dksX1_years_2 22 rfl rfl
theorem dksX1_years_4 : cX1_years.data.toList.drop 91 = dktX1_years_4 := dk_seg dksX1_years_3 22 rfl rfl
theorem dksX1_years_5 : cX1_years.data.toList.drop 115 = dktX1_years_5 := dk_seg dksX1_years_4 24 rfl rfl
theorem dksX1_years_6 : cX1_years.data.toList.drop 139 = dktX1_years_6 := dk_seg dksX1_years_5 24 rfl rfl
theorem dX1_years_0 : decode cX1_years 0 = .ok (.iload_n 2, 1) := dk_28 (dk_at dksX1_years_0 0 rfl rfl)
theorem dX1_years_1 : decode cX1_years 1 = .ok (.i2l, 1) := dk_133 (dk_at dksX1_years_0 1 rfl rfl)
theorem dX1_years_2 : decode cX1_years 2 = .ok (.lconst 1, 1) := dk_10 (dk_at dksX1_years_0 2 rfl rfl)
theorem dX1_years_3 : decode cX1_years 3 = .ok (.ldc2_w 548, 3) := dk_20 2 36 (dk_at dksX1_years_0 3 rfl rfl)
theorem dX1_years_6 : decode cX1_years 6 = .ok (.invokestatic 64, 3) := dk_184 0 64 (dk_at dksX1_years_0 6 rfl rfl)
theorem dX1_years_9 : decode cX1_years 9 = .ok (.ifCond .ne 5, 3) := dk_154 0 5 (dk_at dksX1_years_0 9 rfl rfl)
theorem dX1_years_12 : decode cX1_years 12 = .ok (.iconst (-1), 1) := dk_2 (dk_at dksX1_years_0 12 rfl rfl)
theorem dX1_years_13 : decode cX1_years 13 = .ok (.ireturn, 1) := dk_172 (dk_at dksX1_years_0 13 rfl rfl)
theorem dX1_years_14 : decode cX1_years 14 = .ok (.aload_n 0, 1) := dk_42 (dk_at dksX1_years_0 14 rfl rfl)
theorem dX1_years_15 : decode cX1_years 15 = .ok (.iload_n 1, 1) := dk_27 (dk_at dksX1_years_0 15 rfl rfl)
theorem dX1_years_16 : decode cX1_years 16 = .ok (.putfield 553, 3) := dk_181 2 41 (dk_at dksX1_years_0 16 rfl rfl)
theorem dX1_years_19 : decode cX1_years 19 = .ok (.aload_n 0, 1) := dk_42 (dk_at dksX1_years_0 19 rfl rfl)
theorem dX1_years_20 : decode cX1_years 20 = .ok (.getfield 19, 3) := dk_180 0 19 (dk_at dksX1_years_0 20 rfl rfl)
theorem dX1_years_23 : decode cX1_years 23 = .ok (.aload_n 0, 1) := dk_42 (dk_at dksX1_years_0 23 rfl rfl)
theorem dX1_years_24 : decode cX1_years 24 = .ok (.getfield 10, 3) := dk_180 0 10 (dk_at dksX1_years_1 0 rfl rfl)
theorem dX1_years_27 : decode cX1_years 27 = .ok (.invokevirtual 229, 3) := dk_182 0 229 (dk_at dksX1_years_1 3 rfl rfl)
theorem dX1_years_30 : decode cX1_years 30 = .ok (.iconst 0, 1) := dk_3 (dk_at dksX1_years_1 6 rfl rfl)
theorem dX1_years_31 : decode cX1_years 31 = .ok (.istore_n 3, 1) := dk_62 (dk_at dksX1_years_1 7 rfl rfl)
theorem dX1_years_32 : decode cX1_years 32 = .ok (.iconst 0, 1) := dk_3 (dk_at dksX1_years_1 8 rfl rfl)
theorem dX1_years_33 : decode cX1_years 33 = .ok (.istore 4, 2) := dk_54 4 (dk_at dksX1_years_1 9 rfl rfl)
theorem dX1_years_35 : decode cX1_years 35 = .ok (.iload 4, 2) := dk_21 4 (dk_at dksX1_years_1 11 rfl rfl)
theorem dX1_years_37 : decode cX1_years 37 = .ok (.iload_n 2, 1) := dk_28 (dk_at dksX1_years_1 13 rfl rfl)
theorem dX1_years_38 : decode cX1_years 38 = .ok (.if_icmp .ge 51, 3) := dk_162 0 51 (dk_at dksX1_years_1 14 rfl rfl)
theorem dX1_years_41 : decode cX1_years 41 = .ok (.aload_n 0, 1) := dk_42 (dk_at dksX1_years_1 17 rfl rfl)
theorem dX1_years_42 : decode cX1_years 42 = .ok (.bipush 6, 2) := dk_16 6 (dk_at dksX1_years_1 18 rfl rfl)
theorem dX1_years_44 : decode cX1_years 44 = .ok (.invokevirtual 557, 3) := dk_182 2 45 (dk_at dksX1_years_1 20 rfl rfl)
theorem dX1_years_47 : decode cX1_years 47 = .ok (.istore 5, 2) := dk_54 5 (dk_at dksX1_years_2 0 rfl rfl)
theorem dX1_years_49 : decode cX1_years 49 = .ok (.aload_n 0, 1) := dk_42 (dk_at dksX1_years_2 2 rfl rfl)
theorem dX1_years_50 : decode cX1_years 50 = .ok (.getfield 19, 3) := dk_180 0 19 (dk_at dksX1_years_2 3 rfl rfl)
theorem dX1_years_53 : decode cX1_years 53 = .ok (.getfield 61, 3) := dk_180 0 61 (dk_at dksX1_years_2 6 rfl rfl)
theorem dX1_years_56 : decode cX1_years 56 = .ok (.ifCond .le 27, 3) := dk_158 0 27 (dk_at dksX1_years_2 9 rfl rfl)
theorem dX1_years_59 : decode cX1_years 59 = .ok (.iload_n 3, 1) := dk_29 (dk_at dksX1_years_2 12 rfl rfl)
theorem dX1_years_60 : decode cX1_years 60 = .ok (.aload_n 0, 1) := dk_42 (dk_at dksX1_years_2 13 rfl rfl)
theorem dX1_years_61 : decode cX1_years 61 = .ok (.aload_n 0, 1) := dk_42 (dk_at dksX1_years_2 14 rfl rfl)
theorem dX1_years_62 : decode cX1_years 62 = .ok (.getfield 19, 3) := dk_180 0 19 (dk_at dksX1_years_2 15 rfl rfl)
theorem dX1_years_65 : decode cX1_years 65 = .ok (.iload 5, 2) := dk_21 5 (dk_at dksX1_years_2 18 rfl rfl)
theorem dX1_years_67 : decode cX1_years 67 = .ok (.aload_n 0, 1) := dk_42 (dk_at dksX1_years_2 20 rfl rfl)
theorem dX1_years_68 : decode cX1_years 68 = .ok (.aload_n 0, 1) := dk_42 (dk_at dksX1_years_2 21 rfl rfl)
theorem dX1_years_69 : decode cX1_years 69 = .ok (.getfield 19, 3) := dk_180 0 19 (dk_at dksX1_years_3 0 rfl rfl)
theorem dX1_years_72 : decode cX1_years 72 = .ok (.getfield 61, 3) := dk_180 0 61 (dk_at dksX1_years_3 3 rfl rfl)
theorem dX1_years_75 : decode cX1_years 75 = .ok (.invokevirtual 557, 3) := dk_182 2 45 (dk_at dksX1_years_3 6 rfl rfl)
theorem dX1_years_78 : decode cX1_years 78 = .ok (.invokevirtual 560, 3) := dk_182 2 48 (dk_at dksX1_years_3 9 rfl rfl)
theorem dX1_years_81 : decode cX1_years 81 = .ok (.iadd, 1) := dk_96 (dk_at dksX1_years_3 12 rfl rfl)
theorem dX1_years_82 : decode cX1_years 82 = .ok (.istore_n 3, 1) := dk_62 (dk_at dksX1_years_3 13 rfl rfl)
theorem dX1_years_83 : decode cX1_years 83 = .ok (.iinc 4 1, 3) := dk_132 4 1 (dk_at dksX1_years_3 14 rfl rfl)
theorem dX1_years_86 : decode cX1_years 86 = .ok (.goto (-51), 3) := dk_167 255 205 (dk_at dksX1_years_3 17 rfl rfl)
theorem dX1_years_89 : decode cX1_years 89 = .ok (.aload_n 0, 1) := dk_42 (dk_at dksX1_years_3 20 rfl rfl)
theorem dX1_years_90 : decode cX1_years 90 = .ok (.iconst 0, 1) := dk_3 (dk_at dksX1_years_3 21 rfl rfl)
theorem dX1_years_91 : decode cX1_years 91 = .ok (.putfield 57, 3) := dk_181 0 57 (dk_at dksX1_years_4 0 rfl rfl)
theorem dX1_years_94 : decode cX1_years 94 = .ok (.aload_n 0, 1) := dk_42 (dk_at dksX1_years_4 3 rfl rfl)
theorem dX1_years_95 : decode cX1_years 95 = .ok (.aload_n 0, 1) := dk_42 (dk_at dksX1_years_4 4 rfl rfl)
theorem dX1_years_96 : decode cX1_years 96 = .ok (.getfield 19, 3) := dk_180 0 19 (dk_at dksX1_years_4 5 rfl rfl)
theorem dX1_years_99 : decode cX1_years 99 = .ok (.invokevirtual 563, 3) := dk_182 2 51 (dk_at dksX1_years_4 8 rfl rfl)
theorem dX1_years_102 : decode cX1_years 102 = .ok (.aload_n 0, 1) := dk_42 (dk_at dksX1_years_4 11 rfl rfl)
theorem dX1_years_103 : decode cX1_years 103 = .ok (.getfield 10, 3) := dk_180 0 10 (dk_at dksX1_years_4 12 rfl rfl)
theorem dX1_years_106 : decode cX1_years 106 = .ok (.invokevirtual 563, 3) := dk_182 2 51 (dk_at dksX1_years_4 15 rfl rfl)
theorem dX1_years_109 : decode cX1_years 109 = .ok (.isub, 1) := dk_100 (dk_at dksX1_years_4 18 rfl rfl)
theorem dX1_years_110 : decode cX1_years 110 = .ok (.i2l, 1) := dk_133 (dk_at dksX1_years_4 19 rfl rfl)
theorem dX1_years_111 : decode cX1_years 111 = .ok (.invokevirtual 310, 3) := dk_182 1 54 (dk_at dksX1_years_4 20 rfl rfl)
theorem dX1_years_114 : decode cX1_years 114 = .ok (.aload_n 0, 1) := dk_42 (dk_at dksX1_years_4 23 rfl rfl)
theorem dX1_years_115 : decode cX1_years 115 = .ok (.aload_n 0, 1) := dk_42 (dk_at dksX1_years_5 0 rfl rfl)
theorem dX1_years_116 : decode cX1_years 116 = .ok (.getfield 19, 3) := dk_180 0 19 (dk_at dksX1_years_5 1 rfl rfl)
theorem dX1_years_119 : decode cX1_years 119 = .ok (.invokevirtual 220, 3) := dk_182 0 220 (dk_at dksX1_years_5 4 rfl rfl)
theorem dX1_years_122 : decode cX1_years 122 = .ok (.i2l, 1) := dk_133 (dk_at dksX1_years_5 7 rfl rfl)
theorem dX1_years_123 : decode cX1_years 123 = .ok (.invokevirtual 310, 3) := dk_182 1 54 (dk_at dksX1_years_5 8 rfl rfl)
theorem dX1_years_126 : decode cX1_years 126 = .ok (.aload_n 0, 1) := dk_42 (dk_at dksX1_years_5 11 rfl rfl)
theorem dX1_years_127 : decode cX1_years 127 = .ok (.aload_n 0, 1) := dk_42 (dk_at dksX1_years_5 12 rfl rfl)
theorem dX1_years_128 : decode cX1_years 128 = .ok (.getfield 19, 3) := dk_180 0 19 (dk_at dksX1_years_5 13 rfl rfl)
theorem dX1_years_131 : decode cX1_years 131 = .ok (.getfield 451, 3) := dk_180 1 195 (dk_at dksX1_years_5 16 rfl rfl)
theorem dX1_years_134 : decode cX1_years 134 = .ok (.i2l, 1) := dk_133 (dk_at dksX1_years_5 19 rfl rfl)
theorem dX1_years_135 : decode cX1_years 135 = .ok (.invokevirtual 310, 3) := dk_182 1 54 (dk_at dksX1_years_5 20 rfl rfl)
theorem dX1_years_138 : decode cX1_years 138 = .ok (.iload_n 3, 1) := dk_29 (dk_at dksX1_years_5 23 rfl rfl)
theorem dX1_years_139 : decode cX1_years 139 = .ok (.ireturn, 1) := dk_172 (dk_at dksX1_years_6 0 rfl rfl)
abbrev cX1_draw : ByteArray := prog_1_method_61_code
def yX1_draw : MethodName := ⟨RX1, "draw", "(I)I"⟩
def dkwX1_draw_1 : List UInt8 := [112, 172]
abbrev dktX1_draw_1 : List UInt8 := dkwX1_draw_1 ++ []
def dkwX1_draw_0 : List UInt8 := [42, 42, 180, 2, 41, 19, 2, 44, 104, 17, 48, 57, 96, 181, 2, 41, 42, 180, 2, 41, 16, 16, 124, 27]
abbrev dktX1_draw_0 : List UInt8 := dkwX1_draw_0 ++ dktX1_draw_1
theorem dksX1_draw_0 : cX1_draw.data.toList.drop 0 = dktX1_draw_0 := by decide +kernel
theorem dksX1_draw_1 : cX1_draw.data.toList.drop 24 = dktX1_draw_1 := dk_seg dksX1_draw_0 24 rfl rfl
theorem dX1_draw_0 : decode cX1_draw 0 = .ok (.aload_n 0, 1) := dk_42 (dk_at dksX1_draw_0 0 rfl rfl)
theorem dX1_draw_1 : decode cX1_draw 1 = .ok (.aload_n 0, 1) := dk_42 (dk_at dksX1_draw_0 1 rfl rfl)
theorem dX1_draw_2 : decode cX1_draw 2 = .ok (.getfield 553, 3) := dk_180 2 41 (dk_at dksX1_draw_0 2 rfl rfl)
theorem dX1_draw_5 : decode cX1_draw 5 = .ok (.ldc_w 556, 3) := dk_19 2 44 (dk_at dksX1_draw_0 5 rfl rfl)
theorem dX1_draw_8 : decode cX1_draw 8 = .ok (.imul, 1) := dk_104 (dk_at dksX1_draw_0 8 rfl rfl)
theorem dX1_draw_9 : decode cX1_draw 9 = .ok (.sipush 12345, 3) := dk_17 48 57 (dk_at dksX1_draw_0 9 rfl rfl)
theorem dX1_draw_12 : decode cX1_draw 12 = .ok (.iadd, 1) := dk_96 (dk_at dksX1_draw_0 12 rfl rfl)
theorem dX1_draw_13 : decode cX1_draw 13 = .ok (.putfield 553, 3) := dk_181 2 41 (dk_at dksX1_draw_0 13 rfl rfl)
theorem dX1_draw_16 : decode cX1_draw 16 = .ok (.aload_n 0, 1) := dk_42 (dk_at dksX1_draw_0 16 rfl rfl)
theorem dX1_draw_17 : decode cX1_draw 17 = .ok (.getfield 553, 3) := dk_180 2 41 (dk_at dksX1_draw_0 17 rfl rfl)
theorem dX1_draw_20 : decode cX1_draw 20 = .ok (.bipush 16, 2) := dk_16 16 (dk_at dksX1_draw_0 20 rfl rfl)
theorem dX1_draw_22 : decode cX1_draw 22 = .ok (.iushr, 1) := dk_124 (dk_at dksX1_draw_0 22 rfl rfl)
theorem dX1_draw_23 : decode cX1_draw 23 = .ok (.iload_n 1, 1) := dk_27 (dk_at dksX1_draw_0 23 rfl rfl)
theorem dX1_draw_24 : decode cX1_draw 24 = .ok (.irem, 1) := dk_112 (dk_at dksX1_draw_1 0 rfl rfl)
theorem dX1_draw_25 : decode cX1_draw 25 = .ok (.ireturn, 1) := dk_172 (dk_at dksX1_draw_1 1 rfl rfl)
abbrev cX1_goDrawn : ByteArray := prog_1_method_62_code
def yX1_goDrawn : MethodName := ⟨RX1, "goDrawn", "(LQueueDrive$Drive;II)I"⟩
def dkwX1_goDrawn_7 : List UInt8 := [184, 1, 161, 3, 172]
abbrev dktX1_goDrawn_7 : List UInt8 := dkwX1_goDrawn_7 ++ []
def dkwX1_goDrawn_6 : List UInt8 := [42, 16, 16, 182, 2, 45, 54, 4, 42, 43, 29, 21, 4, 182, 1, 157, 155, 0, 10, 43, 29, 21, 4]
abbrev dktX1_goDrawn_6 : List UInt8 := dkwX1_goDrawn_6 ++ dktX1_goDrawn_7
def dkwX1_goDrawn_5 : List UInt8 := [3, 172, 43, 29, 184, 1, 61, 156, 0, 5, 3, 172, 43, 180, 0, 113, 29, 50, 182, 1, 65, 87, 4, 172]
abbrev dktX1_goDrawn_5 : List UInt8 := dkwX1_goDrawn_5 ++ dktX1_goDrawn_6
def dkwX1_goDrawn_4 : List UInt8 := [87, 3, 172, 43, 43, 180, 0, 113, 29, 50, 182, 1, 28, 87, 3, 172, 43, 42, 180, 0, 146, 182, 1, 40]
abbrev dktX1_goDrawn_4 : List UInt8 := dkwX1_goDrawn_4 ++ dktX1_goDrawn_5
def dkwX1_goDrawn_3 : List UInt8 := [29, 21, 4, 21, 5, 21, 6, 184, 1, 15, 154, 0, 15, 43, 29, 21, 4, 21, 5, 21, 6, 184, 1, 22]
abbrev dktX1_goDrawn_3 : List UInt8 := dkwX1_goDrawn_3 ++ dktX1_goDrawn_4
def dkwX1_goDrawn_2 : List UInt8 := [42, 8, 182, 2, 45, 54, 4, 42, 16, 10, 182, 2, 45, 54, 5, 42, 16, 100, 182, 2, 45, 54, 6, 43]
abbrev dktX1_goDrawn_2 : List UInt8 := dkwX1_goDrawn_2 ++ dktX1_goDrawn_3
def dkwX1_goDrawn_1 : List UInt8 := [170, 0, 0, 0, 0, 0, 131, 0, 0, 0, 0, 0, 0, 0, 4, 0, 0, 0, 35, 0, 0, 0, 35, 0, 0, 0, 86, 0, 0, 0, 99, 0, 0, 0, 109]
abbrev dktX1_goDrawn_1 : List UInt8 := dkwX1_goDrawn_1 ++ dktX1_goDrawn_2
def dkwX1_goDrawn_0 : List UInt8 := [28]
abbrev dktX1_goDrawn_0 : List UInt8 := dkwX1_goDrawn_0 ++ dktX1_goDrawn_1
theorem dksX1_goDrawn_0 : cX1_goDrawn.data.toList.drop 0 = dktX1_goDrawn_0 := by decide +kernel
theorem dksX1_goDrawn_1 : cX1_goDrawn.data.toList.drop 1 = dktX1_goDrawn_1 := dk_seg dksX1_goDrawn_0 1 rfl rfl
theorem dksX1_goDrawn_2 : cX1_goDrawn.data.toList.drop 36 = dktX1_goDrawn_2 := dk_seg dksX1_goDrawn_1 35 rfl rfl
theorem dksX1_goDrawn_3 : cX1_goDrawn.data.toList.drop 60 = dktX1_goDrawn_3 := dk_seg dksX1_goDrawn_2 24 rfl rfl
theorem dksX1_goDrawn_4 : cX1_goDrawn.data.toList.drop 84 = dktX1_goDrawn_4 := dk_seg dksX1_goDrawn_3 24 rfl rfl
theorem dksX1_goDrawn_5 : cX1_goDrawn.data.toList.drop 108 = dktX1_goDrawn_5 := dk_seg dksX1_goDrawn_4 24 rfl rfl
theorem dksX1_goDrawn_6 : cX1_goDrawn.data.toList.drop 132 = dktX1_goDrawn_6 := dk_seg dksX1_goDrawn_5 24 rfl rfl
theorem dksX1_goDrawn_7 : cX1_goDrawn.data.toList.drop 155 = dktX1_goDrawn_7 := dk_seg dksX1_goDrawn_6 23 rfl rfl
theorem dX1_goDrawn_0 : decode cX1_goDrawn 0 = .ok (.iload_n 2, 1) := dk_28 (dk_at dksX1_goDrawn_0 0 rfl rfl)
theorem dX1_goDrawn_1 : decode cX1_goDrawn 1 = .ok (.tableswitch 131 0 4 #[35, 35, 86, 99, 109], 35) := by decide +kernel
theorem dX1_goDrawn_36 : decode cX1_goDrawn 36 = .ok (.aload_n 0, 1) := dk_42 (dk_at dksX1_goDrawn_2 0 rfl rfl)
theorem dX1_goDrawn_37 : decode cX1_goDrawn 37 = .ok (.iconst 5, 1) := dk_8 (dk_at dksX1_goDrawn_2 1 rfl rfl)
theorem dX1_goDrawn_38 : decode cX1_goDrawn 38 = .ok (.invokevirtual 557, 3) := dk_182 2 45 (dk_at dksX1_goDrawn_2 2 rfl rfl)
theorem dX1_goDrawn_41 : decode cX1_goDrawn 41 = .ok (.istore 4, 2) := dk_54 4 (dk_at dksX1_goDrawn_2 5 rfl rfl)
theorem dX1_goDrawn_43 : decode cX1_goDrawn 43 = .ok (.aload_n 0, 1) := dk_42 (dk_at dksX1_goDrawn_2 7 rfl rfl)
theorem dX1_goDrawn_44 : decode cX1_goDrawn 44 = .ok (.bipush 10, 2) := dk_16 10 (dk_at dksX1_goDrawn_2 8 rfl rfl)
theorem dX1_goDrawn_46 : decode cX1_goDrawn 46 = .ok (.invokevirtual 557, 3) := dk_182 2 45 (dk_at dksX1_goDrawn_2 10 rfl rfl)
theorem dX1_goDrawn_49 : decode cX1_goDrawn 49 = .ok (.istore 5, 2) := dk_54 5 (dk_at dksX1_goDrawn_2 13 rfl rfl)
theorem dX1_goDrawn_51 : decode cX1_goDrawn 51 = .ok (.aload_n 0, 1) := dk_42 (dk_at dksX1_goDrawn_2 15 rfl rfl)
theorem dX1_goDrawn_52 : decode cX1_goDrawn 52 = .ok (.bipush 100, 2) := dk_16 100 (dk_at dksX1_goDrawn_2 16 rfl rfl)
theorem dX1_goDrawn_54 : decode cX1_goDrawn 54 = .ok (.invokevirtual 557, 3) := dk_182 2 45 (dk_at dksX1_goDrawn_2 18 rfl rfl)
theorem dX1_goDrawn_57 : decode cX1_goDrawn 57 = .ok (.istore 6, 2) := dk_54 6 (dk_at dksX1_goDrawn_2 21 rfl rfl)
theorem dX1_goDrawn_59 : decode cX1_goDrawn 59 = .ok (.aload_n 1, 1) := dk_43 (dk_at dksX1_goDrawn_2 23 rfl rfl)
theorem dX1_goDrawn_60 : decode cX1_goDrawn 60 = .ok (.iload_n 3, 1) := dk_29 (dk_at dksX1_goDrawn_3 0 rfl rfl)
theorem dX1_goDrawn_61 : decode cX1_goDrawn 61 = .ok (.iload 4, 2) := dk_21 4 (dk_at dksX1_goDrawn_3 1 rfl rfl)
theorem dX1_goDrawn_63 : decode cX1_goDrawn 63 = .ok (.iload 5, 2) := dk_21 5 (dk_at dksX1_goDrawn_3 3 rfl rfl)
theorem dX1_goDrawn_65 : decode cX1_goDrawn 65 = .ok (.iload 6, 2) := dk_21 6 (dk_at dksX1_goDrawn_3 5 rfl rfl)
theorem dX1_goDrawn_67 : decode cX1_goDrawn 67 = .ok (.invokestatic 271, 3) := dk_184 1 15 (dk_at dksX1_goDrawn_3 7 rfl rfl)
theorem dX1_goDrawn_70 : decode cX1_goDrawn 70 = .ok (.ifCond .ne 15, 3) := dk_154 0 15 (dk_at dksX1_goDrawn_3 10 rfl rfl)
theorem dX1_goDrawn_73 : decode cX1_goDrawn 73 = .ok (.aload_n 1, 1) := dk_43 (dk_at dksX1_goDrawn_3 13 rfl rfl)
theorem dX1_goDrawn_74 : decode cX1_goDrawn 74 = .ok (.iload_n 3, 1) := dk_29 (dk_at dksX1_goDrawn_3 14 rfl rfl)
theorem dX1_goDrawn_75 : decode cX1_goDrawn 75 = .ok (.iload 4, 2) := dk_21 4 (dk_at dksX1_goDrawn_3 15 rfl rfl)
theorem dX1_goDrawn_77 : decode cX1_goDrawn 77 = .ok (.iload 5, 2) := dk_21 5 (dk_at dksX1_goDrawn_3 17 rfl rfl)
theorem dX1_goDrawn_79 : decode cX1_goDrawn 79 = .ok (.iload 6, 2) := dk_21 6 (dk_at dksX1_goDrawn_3 19 rfl rfl)
theorem dX1_goDrawn_81 : decode cX1_goDrawn 81 = .ok (.invokestatic 278, 3) := dk_184 1 22 (dk_at dksX1_goDrawn_3 21 rfl rfl)
theorem dX1_goDrawn_84 : decode cX1_goDrawn 84 = .ok (.pop, 1) := dk_87 (dk_at dksX1_goDrawn_4 0 rfl rfl)
theorem dX1_goDrawn_85 : decode cX1_goDrawn 85 = .ok (.iconst 0, 1) := dk_3 (dk_at dksX1_goDrawn_4 1 rfl rfl)
theorem dX1_goDrawn_86 : decode cX1_goDrawn 86 = .ok (.ireturn, 1) := dk_172 (dk_at dksX1_goDrawn_4 2 rfl rfl)
theorem dX1_goDrawn_87 : decode cX1_goDrawn 87 = .ok (.aload_n 1, 1) := dk_43 (dk_at dksX1_goDrawn_4 3 rfl rfl)
theorem dX1_goDrawn_88 : decode cX1_goDrawn 88 = .ok (.aload_n 1, 1) := dk_43 (dk_at dksX1_goDrawn_4 4 rfl rfl)
theorem dX1_goDrawn_89 : decode cX1_goDrawn 89 = .ok (.getfield 113, 3) := dk_180 0 113 (dk_at dksX1_goDrawn_4 5 rfl rfl)
theorem dX1_goDrawn_92 : decode cX1_goDrawn 92 = .ok (.iload_n 3, 1) := dk_29 (dk_at dksX1_goDrawn_4 8 rfl rfl)
theorem dX1_goDrawn_93 : decode cX1_goDrawn 93 = .ok (.aaload, 1) := dk_50 (dk_at dksX1_goDrawn_4 9 rfl rfl)
theorem dX1_goDrawn_94 : decode cX1_goDrawn 94 = .ok (.invokevirtual 284, 3) := dk_182 1 28 (dk_at dksX1_goDrawn_4 10 rfl rfl)
theorem dX1_goDrawn_97 : decode cX1_goDrawn 97 = .ok (.pop, 1) := dk_87 (dk_at dksX1_goDrawn_4 13 rfl rfl)
theorem dX1_goDrawn_98 : decode cX1_goDrawn 98 = .ok (.iconst 0, 1) := dk_3 (dk_at dksX1_goDrawn_4 14 rfl rfl)
theorem dX1_goDrawn_99 : decode cX1_goDrawn 99 = .ok (.ireturn, 1) := dk_172 (dk_at dksX1_goDrawn_4 15 rfl rfl)
theorem dX1_goDrawn_100 : decode cX1_goDrawn 100 = .ok (.aload_n 1, 1) := dk_43 (dk_at dksX1_goDrawn_4 16 rfl rfl)
theorem dX1_goDrawn_101 : decode cX1_goDrawn 101 = .ok (.aload_n 0, 1) := dk_42 (dk_at dksX1_goDrawn_4 17 rfl rfl)
theorem dX1_goDrawn_102 : decode cX1_goDrawn 102 = .ok (.getfield 146, 3) := dk_180 0 146 (dk_at dksX1_goDrawn_4 18 rfl rfl)
theorem dX1_goDrawn_105 : decode cX1_goDrawn 105 = .ok (.invokevirtual 296, 3) := dk_182 1 40 (dk_at dksX1_goDrawn_4 21 rfl rfl)
theorem dX1_goDrawn_108 : decode cX1_goDrawn 108 = .ok (.iconst 0, 1) := dk_3 (dk_at dksX1_goDrawn_5 0 rfl rfl)
theorem dX1_goDrawn_109 : decode cX1_goDrawn 109 = .ok (.ireturn, 1) := dk_172 (dk_at dksX1_goDrawn_5 1 rfl rfl)
theorem dX1_goDrawn_110 : decode cX1_goDrawn 110 = .ok (.aload_n 1, 1) := dk_43 (dk_at dksX1_goDrawn_5 2 rfl rfl)
theorem dX1_goDrawn_111 : decode cX1_goDrawn 111 = .ok (.iload_n 3, 1) := dk_29 (dk_at dksX1_goDrawn_5 3 rfl rfl)
theorem dX1_goDrawn_112 : decode cX1_goDrawn 112 = .ok (.invokestatic 317, 3) := dk_184 1 61 (dk_at dksX1_goDrawn_5 4 rfl rfl)
theorem dX1_goDrawn_115 : decode cX1_goDrawn 115 = .ok (.ifCond .ge 5, 3) := dk_156 0 5 (dk_at dksX1_goDrawn_5 7 rfl rfl)
theorem dX1_goDrawn_118 : decode cX1_goDrawn 118 = .ok (.iconst 0, 1) := dk_3 (dk_at dksX1_goDrawn_5 10 rfl rfl)
theorem dX1_goDrawn_119 : decode cX1_goDrawn 119 = .ok (.ireturn, 1) := dk_172 (dk_at dksX1_goDrawn_5 11 rfl rfl)
theorem dX1_goDrawn_120 : decode cX1_goDrawn 120 = .ok (.aload_n 1, 1) := dk_43 (dk_at dksX1_goDrawn_5 12 rfl rfl)
theorem dX1_goDrawn_121 : decode cX1_goDrawn 121 = .ok (.getfield 113, 3) := dk_180 0 113 (dk_at dksX1_goDrawn_5 13 rfl rfl)
theorem dX1_goDrawn_124 : decode cX1_goDrawn 124 = .ok (.iload_n 3, 1) := dk_29 (dk_at dksX1_goDrawn_5 16 rfl rfl)
theorem dX1_goDrawn_125 : decode cX1_goDrawn 125 = .ok (.aaload, 1) := dk_50 (dk_at dksX1_goDrawn_5 17 rfl rfl)
theorem dX1_goDrawn_126 : decode cX1_goDrawn 126 = .ok (.invokevirtual 321, 3) := dk_182 1 65 (dk_at dksX1_goDrawn_5 18 rfl rfl)
theorem dX1_goDrawn_129 : decode cX1_goDrawn 129 = .ok (.pop, 1) := dk_87 (dk_at dksX1_goDrawn_5 21 rfl rfl)
theorem dX1_goDrawn_130 : decode cX1_goDrawn 130 = .ok (.iconst 1, 1) := dk_4 (dk_at dksX1_goDrawn_5 22 rfl rfl)
theorem dX1_goDrawn_131 : decode cX1_goDrawn 131 = .ok (.ireturn, 1) := dk_172 (dk_at dksX1_goDrawn_5 23 rfl rfl)
theorem dX1_goDrawn_132 : decode cX1_goDrawn 132 = .ok (.aload_n 0, 1) := dk_42 (dk_at dksX1_goDrawn_6 0 rfl rfl)
theorem dX1_goDrawn_133 : decode cX1_goDrawn 133 = .ok (.bipush 16, 2) := dk_16 16 (dk_at dksX1_goDrawn_6 1 rfl rfl)
theorem dX1_goDrawn_135 : decode cX1_goDrawn 135 = .ok (.invokevirtual 557, 3) := dk_182 2 45 (dk_at dksX1_goDrawn_6 3 rfl rfl)
theorem dX1_goDrawn_138 : decode cX1_goDrawn 138 = .ok (.istore 4, 2) := dk_54 4 (dk_at dksX1_goDrawn_6 6 rfl rfl)
theorem dX1_goDrawn_140 : decode cX1_goDrawn 140 = .ok (.aload_n 0, 1) := dk_42 (dk_at dksX1_goDrawn_6 8 rfl rfl)
theorem dX1_goDrawn_141 : decode cX1_goDrawn 141 = .ok (.aload_n 1, 1) := dk_43 (dk_at dksX1_goDrawn_6 9 rfl rfl)
theorem dX1_goDrawn_142 : decode cX1_goDrawn 142 = .ok (.iload_n 3, 1) := dk_29 (dk_at dksX1_goDrawn_6 10 rfl rfl)
theorem dX1_goDrawn_143 : decode cX1_goDrawn 143 = .ok (.iload 4, 2) := dk_21 4 (dk_at dksX1_goDrawn_6 11 rfl rfl)
theorem dX1_goDrawn_145 : decode cX1_goDrawn 145 = .ok (.invokevirtual 413, 3) := dk_182 1 157 (dk_at dksX1_goDrawn_6 13 rfl rfl)
theorem dX1_goDrawn_148 : decode cX1_goDrawn 148 = .ok (.ifCond .lt 10, 3) := dk_155 0 10 (dk_at dksX1_goDrawn_6 16 rfl rfl)
theorem dX1_goDrawn_151 : decode cX1_goDrawn 151 = .ok (.aload_n 1, 1) := dk_43 (dk_at dksX1_goDrawn_6 19 rfl rfl)
theorem dX1_goDrawn_152 : decode cX1_goDrawn 152 = .ok (.iload_n 3, 1) := dk_29 (dk_at dksX1_goDrawn_6 20 rfl rfl)
theorem dX1_goDrawn_153 : decode cX1_goDrawn 153 = .ok (.iload 4, 2) := dk_21 4 (dk_at dksX1_goDrawn_6 21 rfl rfl)
theorem dX1_goDrawn_155 : decode cX1_goDrawn 155 = .ok (.invokestatic 417, 3) := dk_184 1 161 (dk_at dksX1_goDrawn_7 0 rfl rfl)
theorem dX1_goDrawn_158 : decode cX1_goDrawn 158 = .ok (.iconst 0, 1) := dk_3 (dk_at dksX1_goDrawn_7 3 rfl rfl)
theorem dX1_goDrawn_159 : decode cX1_goDrawn 159 = .ok (.ireturn, 1) := dk_172 (dk_at dksX1_goDrawn_7 4 rfl rfl)
abbrev cX1_keep : ByteArray := prog_1_method_64_code
def yX1_keep : MethodName := ⟨RX1, "keep", "(I)Z"⟩
def dkwX1_keep_2 : List UInt8 := [182, 0, 229, 42, 180, 0, 54, 27, 42, 180, 0, 138, 79, 4, 172]
abbrev dktX1_keep_2 : List UInt8 := dkwX1_keep_2 ++ []
def dkwX1_keep_1 : List UInt8 := [180, 0, 51, 27, 187, 0, 7, 89, 183, 0, 9, 83, 42, 180, 0, 51, 27, 50, 42, 180, 0, 10]
abbrev dktX1_keep_1 : List UInt8 := dkwX1_keep_1 ++ dktX1_keep_2
def dkwX1_keep_0 : List UInt8 := [27, 133, 9, 10, 184, 0, 64, 154, 0, 5, 3, 172, 42, 180, 0, 51, 27, 50, 199, 0, 16, 42]
abbrev dktX1_keep_0 : List UInt8 := dkwX1_keep_0 ++ dktX1_keep_1
theorem dksX1_keep_0 : cX1_keep.data.toList.drop 0 = dktX1_keep_0 := by decide +kernel
theorem dksX1_keep_1 : cX1_keep.data.toList.drop 22 = dktX1_keep_1 := dk_seg dksX1_keep_0 22 rfl rfl
theorem dksX1_keep_2 : cX1_keep.data.toList.drop 44 = dktX1_keep_2 := dk_seg dksX1_keep_1 22 rfl rfl
theorem dX1_keep_0 : decode cX1_keep 0 = .ok (.iload_n 1, 1) := dk_27 (dk_at dksX1_keep_0 0 rfl rfl)
theorem dX1_keep_1 : decode cX1_keep 1 = .ok (.i2l, 1) := dk_133 (dk_at dksX1_keep_0 1 rfl rfl)
theorem dX1_keep_2 : decode cX1_keep 2 = .ok (.lconst 0, 1) := dk_9 (dk_at dksX1_keep_0 2 rfl rfl)
theorem dX1_keep_3 : decode cX1_keep 3 = .ok (.lconst 1, 1) := dk_10 (dk_at dksX1_keep_0 3 rfl rfl)
theorem dX1_keep_4 : decode cX1_keep 4 = .ok (.invokestatic 64, 3) := dk_184 0 64 (dk_at dksX1_keep_0 4 rfl rfl)
theorem dX1_keep_7 : decode cX1_keep 7 = .ok (.ifCond .ne 5, 3) := dk_154 0 5 (dk_at dksX1_keep_0 7 rfl rfl)
theorem dX1_keep_10 : decode cX1_keep 10 = .ok (.iconst 0, 1) := dk_3 (dk_at dksX1_keep_0 10 rfl rfl)
theorem dX1_keep_11 : decode cX1_keep 11 = .ok (.ireturn, 1) := dk_172 (dk_at dksX1_keep_0 11 rfl rfl)
theorem dX1_keep_12 : decode cX1_keep 12 = .ok (.aload_n 0, 1) := dk_42 (dk_at dksX1_keep_0 12 rfl rfl)
theorem dX1_keep_13 : decode cX1_keep 13 = .ok (.getfield 51, 3) := dk_180 0 51 (dk_at dksX1_keep_0 13 rfl rfl)
theorem dX1_keep_16 : decode cX1_keep 16 = .ok (.iload_n 1, 1) := dk_27 (dk_at dksX1_keep_0 16 rfl rfl)
theorem dX1_keep_17 : decode cX1_keep 17 = .ok (.aaload, 1) := dk_50 (dk_at dksX1_keep_0 17 rfl rfl)
theorem dX1_keep_18 : decode cX1_keep 18 = .ok (.ifnonnull 16, 3) := dk_199 0 16 (dk_at dksX1_keep_0 18 rfl rfl)
theorem dX1_keep_21 : decode cX1_keep 21 = .ok (.aload_n 0, 1) := dk_42 (dk_at dksX1_keep_0 21 rfl rfl)
theorem dX1_keep_22 : decode cX1_keep 22 = .ok (.getfield 51, 3) := dk_180 0 51 (dk_at dksX1_keep_1 0 rfl rfl)
theorem dX1_keep_25 : decode cX1_keep 25 = .ok (.iload_n 1, 1) := dk_27 (dk_at dksX1_keep_1 3 rfl rfl)
theorem dX1_keep_26 : decode cX1_keep 26 = .ok (.new 7, 3) := dk_187 0 7 (dk_at dksX1_keep_1 4 rfl rfl)
theorem dX1_keep_29 : decode cX1_keep 29 = .ok (.dup, 1) := dk_89 (dk_at dksX1_keep_1 7 rfl rfl)
theorem dX1_keep_30 : decode cX1_keep 30 = .ok (.invokespecial 9, 3) := dk_183 0 9 (dk_at dksX1_keep_1 8 rfl rfl)
theorem dX1_keep_33 : decode cX1_keep 33 = .ok (.aastore, 1) := dk_83 (dk_at dksX1_keep_1 11 rfl rfl)
theorem dX1_keep_34 : decode cX1_keep 34 = .ok (.aload_n 0, 1) := dk_42 (dk_at dksX1_keep_1 12 rfl rfl)
theorem dX1_keep_35 : decode cX1_keep 35 = .ok (.getfield 51, 3) := dk_180 0 51 (dk_at dksX1_keep_1 13 rfl rfl)
theorem dX1_keep_38 : decode cX1_keep 38 = .ok (.iload_n 1, 1) := dk_27 (dk_at dksX1_keep_1 16 rfl rfl)
theorem dX1_keep_39 : decode cX1_keep 39 = .ok (.aaload, 1) := dk_50 (dk_at dksX1_keep_1 17 rfl rfl)
theorem dX1_keep_40 : decode cX1_keep 40 = .ok (.aload_n 0, 1) := dk_42 (dk_at dksX1_keep_1 18 rfl rfl)
theorem dX1_keep_41 : decode cX1_keep 41 = .ok (.getfield 10, 3) := dk_180 0 10 (dk_at dksX1_keep_1 19 rfl rfl)
theorem dX1_keep_44 : decode cX1_keep 44 = .ok (.invokevirtual 229, 3) := dk_182 0 229 (dk_at dksX1_keep_2 0 rfl rfl)
theorem dX1_keep_47 : decode cX1_keep 47 = .ok (.aload_n 0, 1) := dk_42 (dk_at dksX1_keep_2 3 rfl rfl)
theorem dX1_keep_48 : decode cX1_keep 48 = .ok (.getfield 54, 3) := dk_180 0 54 (dk_at dksX1_keep_2 4 rfl rfl)
theorem dX1_keep_51 : decode cX1_keep 51 = .ok (.iload_n 1, 1) := dk_27 (dk_at dksX1_keep_2 7 rfl rfl)
theorem dX1_keep_52 : decode cX1_keep 52 = .ok (.aload_n 0, 1) := dk_42 (dk_at dksX1_keep_2 8 rfl rfl)
theorem dX1_keep_53 : decode cX1_keep 53 = .ok (.getfield 138, 3) := dk_180 0 138 (dk_at dksX1_keep_2 9 rfl rfl)
theorem dX1_keep_56 : decode cX1_keep 56 = .ok (.iastore, 1) := dk_79 (dk_at dksX1_keep_2 12 rfl rfl)
theorem dX1_keep_57 : decode cX1_keep 57 = .ok (.iconst 1, 1) := dk_4 (dk_at dksX1_keep_2 13 rfl rfl)
theorem dX1_keep_58 : decode cX1_keep 58 = .ok (.ireturn, 1) := dk_172 (dk_at dksX1_keep_2 14 rfl rfl)
abbrev cX1_again : ByteArray := prog_1_method_65_code
def yX1_again : MethodName := ⟨RX1, "again", "(I)Z"⟩
def dkwX1_again_2 : List UInt8 := [3, 181, 0, 135, 4, 172]
abbrev dktX1_again_2 : List UInt8 := dkwX1_again_2 ++ []
def dkwX1_again_1 : List UInt8 := [46, 42, 180, 0, 138, 159, 0, 5, 3, 172, 42, 180, 0, 10, 42, 180, 0, 51, 27, 50, 182, 0, 229, 42]
abbrev dktX1_again_1 : List UInt8 := dkwX1_again_1 ++ dktX1_again_2
def dkwX1_again_0 : List UInt8 := [27, 133, 9, 10, 184, 0, 64, 153, 0, 25, 42, 180, 0, 51, 27, 50, 198, 0, 16, 42, 180, 0, 54, 27]
abbrev dktX1_again_0 : List UInt8 := dkwX1_again_0 ++ dktX1_again_1
theorem dksX1_again_0 : cX1_again.data.toList.drop 0 = dktX1_again_0 := by decide +kernel
theorem dksX1_again_1 : cX1_again.data.toList.drop 24 = dktX1_again_1 := dk_seg dksX1_again_0 24 rfl rfl
theorem dksX1_again_2 : cX1_again.data.toList.drop 48 = dktX1_again_2 := dk_seg dksX1_again_1 24 rfl rfl
theorem dX1_again_0 : decode cX1_again 0 = .ok (.iload_n 1, 1) := dk_27 (dk_at dksX1_again_0 0 rfl rfl)
theorem dX1_again_1 : decode cX1_again 1 = .ok (.i2l, 1) := dk_133 (dk_at dksX1_again_0 1 rfl rfl)
theorem dX1_again_2 : decode cX1_again 2 = .ok (.lconst 0, 1) := dk_9 (dk_at dksX1_again_0 2 rfl rfl)
theorem dX1_again_3 : decode cX1_again 3 = .ok (.lconst 1, 1) := dk_10 (dk_at dksX1_again_0 3 rfl rfl)
theorem dX1_again_4 : decode cX1_again 4 = .ok (.invokestatic 64, 3) := dk_184 0 64 (dk_at dksX1_again_0 4 rfl rfl)
theorem dX1_again_7 : decode cX1_again 7 = .ok (.ifCond .eq 25, 3) := dk_153 0 25 (dk_at dksX1_again_0 7 rfl rfl)
theorem dX1_again_10 : decode cX1_again 10 = .ok (.aload_n 0, 1) := dk_42 (dk_at dksX1_again_0 10 rfl rfl)
theorem dX1_again_11 : decode cX1_again 11 = .ok (.getfield 51, 3) := dk_180 0 51 (dk_at dksX1_again_0 11 rfl rfl)
theorem dX1_again_14 : decode cX1_again 14 = .ok (.iload_n 1, 1) := dk_27 (dk_at dksX1_again_0 14 rfl rfl)
theorem dX1_again_15 : decode cX1_again 15 = .ok (.aaload, 1) := dk_50 (dk_at dksX1_again_0 15 rfl rfl)
theorem dX1_again_16 : decode cX1_again 16 = .ok (.ifnull 16, 3) := dk_198 0 16 (dk_at dksX1_again_0 16 rfl rfl)
theorem dX1_again_19 : decode cX1_again 19 = .ok (.aload_n 0, 1) := dk_42 (dk_at dksX1_again_0 19 rfl rfl)
theorem dX1_again_20 : decode cX1_again 20 = .ok (.getfield 54, 3) := dk_180 0 54 (dk_at dksX1_again_0 20 rfl rfl)
theorem dX1_again_23 : decode cX1_again 23 = .ok (.iload_n 1, 1) := dk_27 (dk_at dksX1_again_0 23 rfl rfl)
theorem dX1_again_24 : decode cX1_again 24 = .ok (.iaload, 1) := dk_46 (dk_at dksX1_again_1 0 rfl rfl)
theorem dX1_again_25 : decode cX1_again 25 = .ok (.aload_n 0, 1) := dk_42 (dk_at dksX1_again_1 1 rfl rfl)
theorem dX1_again_26 : decode cX1_again 26 = .ok (.getfield 138, 3) := dk_180 0 138 (dk_at dksX1_again_1 2 rfl rfl)
theorem dX1_again_29 : decode cX1_again 29 = .ok (.if_icmp .eq 5, 3) := dk_159 0 5 (dk_at dksX1_again_1 5 rfl rfl)
theorem dX1_again_32 : decode cX1_again 32 = .ok (.iconst 0, 1) := dk_3 (dk_at dksX1_again_1 8 rfl rfl)
theorem dX1_again_33 : decode cX1_again 33 = .ok (.ireturn, 1) := dk_172 (dk_at dksX1_again_1 9 rfl rfl)
theorem dX1_again_34 : decode cX1_again 34 = .ok (.aload_n 0, 1) := dk_42 (dk_at dksX1_again_1 10 rfl rfl)
theorem dX1_again_35 : decode cX1_again 35 = .ok (.getfield 10, 3) := dk_180 0 10 (dk_at dksX1_again_1 11 rfl rfl)
theorem dX1_again_38 : decode cX1_again 38 = .ok (.aload_n 0, 1) := dk_42 (dk_at dksX1_again_1 14 rfl rfl)
theorem dX1_again_39 : decode cX1_again 39 = .ok (.getfield 51, 3) := dk_180 0 51 (dk_at dksX1_again_1 15 rfl rfl)
theorem dX1_again_42 : decode cX1_again 42 = .ok (.iload_n 1, 1) := dk_27 (dk_at dksX1_again_1 18 rfl rfl)
theorem dX1_again_43 : decode cX1_again 43 = .ok (.aaload, 1) := dk_50 (dk_at dksX1_again_1 19 rfl rfl)
theorem dX1_again_44 : decode cX1_again 44 = .ok (.invokevirtual 229, 3) := dk_182 0 229 (dk_at dksX1_again_1 20 rfl rfl)
theorem dX1_again_47 : decode cX1_again 47 = .ok (.aload_n 0, 1) := dk_42 (dk_at dksX1_again_1 23 rfl rfl)
theorem dX1_again_48 : decode cX1_again 48 = .ok (.iconst 0, 1) := dk_3 (dk_at dksX1_again_2 0 rfl rfl)
theorem dX1_again_49 : decode cX1_again 49 = .ok (.putfield 135, 3) := dk_181 0 135 (dk_at dksX1_again_2 1 rfl rfl)
theorem dX1_again_52 : decode cX1_again 52 = .ok (.iconst 1, 1) := dk_4 (dk_at dksX1_again_2 4 rfl rfl)
theorem dX1_again_53 : decode cX1_again 53 = .ok (.ireturn, 1) := dk_172 (dk_at dksX1_again_2 5 rfl rfl)
abbrev cX1_count : ByteArray := prog_1_method_66_code
def yX1_count : MethodName := ⟨RX1, "count", "(I)I"⟩
def dkwX1_count_5 : List UInt8 := [180, 2, 13, 172, 42, 180, 0, 135, 172, 42, 180, 0, 57, 172, 42, 180, 0, 70, 172, 16, 156, 172]
abbrev dktX1_count_5 : List UInt8 := dkwX1_count_5 ++ []
def dkwX1_count_4 : List UInt8 := [180, 0, 10, 180, 1, 195, 172, 42, 180, 0, 10, 180, 1, 182, 172, 42, 180, 0, 10, 182, 0, 220, 172, 42]
abbrev dktX1_count_4 : List UInt8 := dkwX1_count_4 ++ dktX1_count_5
def dkwX1_count_3 : List UInt8 := [182, 1, 171, 172, 42, 180, 0, 10, 180, 1, 143, 182, 1, 171, 172, 42, 180, 0, 10, 182, 1, 172, 172, 42]
abbrev dktX1_count_3 : List UInt8 := dkwX1_count_3 ++ dktX1_count_4
def dkwX1_count_2 : List UInt8 := [42, 180, 0, 10, 180, 0, 61, 172, 42, 180, 0, 10, 182, 1, 165, 172, 42, 180, 0, 10, 180, 1, 44]
abbrev dktX1_count_2 : List UInt8 := dkwX1_count_2 ++ dktX1_count_3
def dkwX1_count_1 : List UInt8 := [170, 0, 0, 0, 0, 0, 153, 0, 0, 0, 0, 0, 0, 0, 11, 0, 0, 0, 63, 0, 0, 0, 71, 0, 0, 0, 79, 0, 0, 0, 90, 0, 0, 0, 101, 0, 0, 0, 109, 0, 0, 0, 117, 0, 0, 0, 125, 0, 0, 0, 133, 0, 0, 0, 138, 0, 0, 0, 143, 0, 0, 0, 148]
abbrev dktX1_count_1 : List UInt8 := dkwX1_count_1 ++ dktX1_count_2
def dkwX1_count_0 : List UInt8 := [27]
abbrev dktX1_count_0 : List UInt8 := dkwX1_count_0 ++ dktX1_count_1
theorem dksX1_count_0 : cX1_count.data.toList.drop 0 = dktX1_count_0 := by decide +kernel
theorem dksX1_count_1 : cX1_count.data.toList.drop 1 = dktX1_count_1 := dk_seg dksX1_count_0 1 rfl rfl
theorem dksX1_count_2 : cX1_count.data.toList.drop 64 = dktX1_count_2 := dk_seg dksX1_count_1 63 rfl rfl
theorem dksX1_count_3 : cX1_count.data.toList.drop 87 = dktX1_count_3 := dk_seg dksX1_count_2 23 rfl rfl
theorem dksX1_count_4 : cX1_count.data.toList.drop 111 = dktX1_count_4 := dk_seg dksX1_count_3 24 rfl rfl
theorem dksX1_count_5 : cX1_count.data.toList.drop 135 = dktX1_count_5 := dk_seg dksX1_count_4 24 rfl rfl
theorem dX1_count_0 : decode cX1_count 0 = .ok (.iload_n 1, 1) := dk_27 (dk_at dksX1_count_0 0 rfl rfl)
theorem dX1_count_1 : decode cX1_count 1 = .ok (.tableswitch 153 0 11 #[63, 71, 79, 90, 101, 109, 117, 125, 133, 138, 143, 148], 63) := by decide +kernel
theorem dX1_count_64 : decode cX1_count 64 = .ok (.aload_n 0, 1) := dk_42 (dk_at dksX1_count_2 0 rfl rfl)
theorem dX1_count_65 : decode cX1_count 65 = .ok (.getfield 10, 3) := dk_180 0 10 (dk_at dksX1_count_2 1 rfl rfl)
theorem dX1_count_68 : decode cX1_count 68 = .ok (.getfield 61, 3) := dk_180 0 61 (dk_at dksX1_count_2 4 rfl rfl)
theorem dX1_count_71 : decode cX1_count 71 = .ok (.ireturn, 1) := dk_172 (dk_at dksX1_count_2 7 rfl rfl)
theorem dX1_count_72 : decode cX1_count 72 = .ok (.aload_n 0, 1) := dk_42 (dk_at dksX1_count_2 8 rfl rfl)
theorem dX1_count_73 : decode cX1_count 73 = .ok (.getfield 10, 3) := dk_180 0 10 (dk_at dksX1_count_2 9 rfl rfl)
theorem dX1_count_76 : decode cX1_count 76 = .ok (.invokevirtual 421, 3) := dk_182 1 165 (dk_at dksX1_count_2 12 rfl rfl)
theorem dX1_count_79 : decode cX1_count 79 = .ok (.ireturn, 1) := dk_172 (dk_at dksX1_count_2 15 rfl rfl)
theorem dX1_count_80 : decode cX1_count 80 = .ok (.aload_n 0, 1) := dk_42 (dk_at dksX1_count_2 16 rfl rfl)
theorem dX1_count_81 : decode cX1_count 81 = .ok (.getfield 10, 3) := dk_180 0 10 (dk_at dksX1_count_2 17 rfl rfl)
theorem dX1_count_84 : decode cX1_count 84 = .ok (.getfield 300, 3) := dk_180 1 44 (dk_at dksX1_count_2 20 rfl rfl)
theorem dX1_count_87 : decode cX1_count 87 = .ok (.invokevirtual 427, 3) := dk_182 1 171 (dk_at dksX1_count_3 0 rfl rfl)
theorem dX1_count_90 : decode cX1_count 90 = .ok (.ireturn, 1) := dk_172 (dk_at dksX1_count_3 3 rfl rfl)
theorem dX1_count_91 : decode cX1_count 91 = .ok (.aload_n 0, 1) := dk_42 (dk_at dksX1_count_3 4 rfl rfl)
theorem dX1_count_92 : decode cX1_count 92 = .ok (.getfield 10, 3) := dk_180 0 10 (dk_at dksX1_count_3 5 rfl rfl)
theorem dX1_count_95 : decode cX1_count 95 = .ok (.getfield 399, 3) := dk_180 1 143 (dk_at dksX1_count_3 8 rfl rfl)
theorem dX1_count_98 : decode cX1_count 98 = .ok (.invokevirtual 427, 3) := dk_182 1 171 (dk_at dksX1_count_3 11 rfl rfl)
theorem dX1_count_101 : decode cX1_count 101 = .ok (.ireturn, 1) := dk_172 (dk_at dksX1_count_3 14 rfl rfl)
theorem dX1_count_102 : decode cX1_count 102 = .ok (.aload_n 0, 1) := dk_42 (dk_at dksX1_count_3 15 rfl rfl)
theorem dX1_count_103 : decode cX1_count 103 = .ok (.getfield 10, 3) := dk_180 0 10 (dk_at dksX1_count_3 16 rfl rfl)
theorem dX1_count_106 : decode cX1_count 106 = .ok (.invokevirtual 428, 3) := dk_182 1 172 (dk_at dksX1_count_3 19 rfl rfl)
theorem dX1_count_109 : decode cX1_count 109 = .ok (.ireturn, 1) := dk_172 (dk_at dksX1_count_3 22 rfl rfl)
theorem dX1_count_110 : decode cX1_count 110 = .ok (.aload_n 0, 1) := dk_42 (dk_at dksX1_count_3 23 rfl rfl)
theorem dX1_count_111 : decode cX1_count 111 = .ok (.getfield 10, 3) := dk_180 0 10 (dk_at dksX1_count_4 0 rfl rfl)
theorem dX1_count_114 : decode cX1_count 114 = .ok (.getfield 451, 3) := dk_180 1 195 (dk_at dksX1_count_4 3 rfl rfl)
theorem dX1_count_117 : decode cX1_count 117 = .ok (.ireturn, 1) := dk_172 (dk_at dksX1_count_4 6 rfl rfl)
theorem dX1_count_118 : decode cX1_count 118 = .ok (.aload_n 0, 1) := dk_42 (dk_at dksX1_count_4 7 rfl rfl)
theorem dX1_count_119 : decode cX1_count 119 = .ok (.getfield 10, 3) := dk_180 0 10 (dk_at dksX1_count_4 8 rfl rfl)
theorem dX1_count_122 : decode cX1_count 122 = .ok (.getfield 438, 3) := dk_180 1 182 (dk_at dksX1_count_4 11 rfl rfl)
theorem dX1_count_125 : decode cX1_count 125 = .ok (.ireturn, 1) := dk_172 (dk_at dksX1_count_4 14 rfl rfl)
theorem dX1_count_126 : decode cX1_count 126 = .ok (.aload_n 0, 1) := dk_42 (dk_at dksX1_count_4 15 rfl rfl)
theorem dX1_count_127 : decode cX1_count 127 = .ok (.getfield 10, 3) := dk_180 0 10 (dk_at dksX1_count_4 16 rfl rfl)
theorem dX1_count_130 : decode cX1_count 130 = .ok (.invokevirtual 220, 3) := dk_182 0 220 (dk_at dksX1_count_4 19 rfl rfl)
theorem dX1_count_133 : decode cX1_count 133 = .ok (.ireturn, 1) := dk_172 (dk_at dksX1_count_4 22 rfl rfl)
theorem dX1_count_134 : decode cX1_count 134 = .ok (.aload_n 0, 1) := dk_42 (dk_at dksX1_count_4 23 rfl rfl)
theorem dX1_count_135 : decode cX1_count 135 = .ok (.getfield 525, 3) := dk_180 2 13 (dk_at dksX1_count_5 0 rfl rfl)
theorem dX1_count_138 : decode cX1_count 138 = .ok (.ireturn, 1) := dk_172 (dk_at dksX1_count_5 3 rfl rfl)
theorem dX1_count_139 : decode cX1_count 139 = .ok (.aload_n 0, 1) := dk_42 (dk_at dksX1_count_5 4 rfl rfl)
theorem dX1_count_140 : decode cX1_count 140 = .ok (.getfield 135, 3) := dk_180 0 135 (dk_at dksX1_count_5 5 rfl rfl)
theorem dX1_count_143 : decode cX1_count 143 = .ok (.ireturn, 1) := dk_172 (dk_at dksX1_count_5 8 rfl rfl)
theorem dX1_count_144 : decode cX1_count 144 = .ok (.aload_n 0, 1) := dk_42 (dk_at dksX1_count_5 9 rfl rfl)
theorem dX1_count_145 : decode cX1_count 145 = .ok (.getfield 57, 3) := dk_180 0 57 (dk_at dksX1_count_5 10 rfl rfl)
theorem dX1_count_148 : decode cX1_count 148 = .ok (.ireturn, 1) := dk_172 (dk_at dksX1_count_5 13 rfl rfl)
theorem dX1_count_149 : decode cX1_count 149 = .ok (.aload_n 0, 1) := dk_42 (dk_at dksX1_count_5 14 rfl rfl)
theorem dX1_count_150 : decode cX1_count 150 = .ok (.getfield 70, 3) := dk_180 0 70 (dk_at dksX1_count_5 15 rfl rfl)
theorem dX1_count_153 : decode cX1_count 153 = .ok (.ireturn, 1) := dk_172 (dk_at dksX1_count_5 18 rfl rfl)
theorem dX1_count_154 : decode cX1_count 154 = .ok (.bipush (-100), 2) := dk_16 156 (dk_at dksX1_count_5 19 rfl rfl)
theorem dX1_count_156 : decode cX1_count 156 = .ok (.ireturn, 1) := dk_172 (dk_at dksX1_count_5 21 rfl rfl)
abbrev cX1_queue : ByteArray := prog_1_method_11_code
def yX1_queue : MethodName := ⟨RX1, "queue", "(II)I"⟩
def dkwX1_queue_6 : List UInt8 := [180, 0, 190, 153, 0, 7, 4, 167, 0, 4, 3, 172, 187, 0, 163, 89, 183, 0, 165, 191]
abbrev dktX1_queue_6 : List UInt8 := dkwX1_queue_6 ++ []
def dkwX1_queue_5 : List UInt8 := [172, 45, 180, 0, 178, 172, 45, 180, 0, 181, 172, 45, 180, 0, 184, 172, 45, 180, 0, 187, 172, 45]
abbrev dktX1_queue_5 : List UInt8 := dkwX1_queue_5 ++ dktX1_queue_6
def dkwX1_queue_4 : List UInt8 := [167, 0, 4, 3, 172, 45, 180, 0, 166, 172, 45, 180, 0, 169, 172, 45, 180, 0, 172, 172, 45, 180, 0, 175]
abbrev dktX1_queue_4 : List UInt8 := dkwX1_queue_4 ++ dktX1_queue_5
def dkwX1_queue_3 : List UInt8 := [45, 180, 0, 122, 172, 45, 180, 0, 125, 172, 45, 180, 0, 128, 172, 45, 180, 0, 131, 153, 0, 7, 4]
abbrev dktX1_queue_3 : List UInt8 := dkwX1_queue_3 ++ dktX1_queue_4
def dkwX1_queue_2 : List UInt8 := [170, 0, 0, 0, 146, 0, 0, 0, 0, 0, 0, 0, 12, 0, 0, 0, 65, 0, 0, 0, 70, 0, 0, 0, 75, 0, 0, 0, 80, 0, 0, 0, 93, 0, 0, 0, 98, 0, 0, 0, 103, 0, 0, 0, 108, 0, 0, 0, 113, 0, 0, 0, 118, 0, 0, 0, 123, 0, 0, 0, 128, 0, 0, 0, 133]
abbrev dktX1_queue_2 : List UInt8 := dkwX1_queue_2 ++ dktX1_queue_3
def dkwX1_queue_1 : List UInt8 := [50, 78, 28]
abbrev dktX1_queue_1 : List UInt8 := dkwX1_queue_1 ++ dktX1_queue_2
def dkwX1_queue_0 : List UInt8 := [42, 27, 182, 0, 159, 154, 0, 11, 187, 0, 163, 89, 183, 0, 165, 191, 42, 180, 0, 10, 180, 0, 113, 27]
abbrev dktX1_queue_0 : List UInt8 := dkwX1_queue_0 ++ dktX1_queue_1
theorem dksX1_queue_0 : cX1_queue.data.toList.drop 0 = dktX1_queue_0 := by decide +kernel
theorem dksX1_queue_1 : cX1_queue.data.toList.drop 24 = dktX1_queue_1 := dk_seg dksX1_queue_0 24 rfl rfl
theorem dksX1_queue_2 : cX1_queue.data.toList.drop 27 = dktX1_queue_2 := dk_seg dksX1_queue_1 3 rfl rfl
theorem dksX1_queue_3 : cX1_queue.data.toList.drop 92 = dktX1_queue_3 := dk_seg dksX1_queue_2 65 rfl rfl
theorem dksX1_queue_4 : cX1_queue.data.toList.drop 115 = dktX1_queue_4 := dk_seg dksX1_queue_3 23 rfl rfl
theorem dksX1_queue_5 : cX1_queue.data.toList.drop 139 = dktX1_queue_5 := dk_seg dksX1_queue_4 24 rfl rfl
theorem dksX1_queue_6 : cX1_queue.data.toList.drop 161 = dktX1_queue_6 := dk_seg dksX1_queue_5 22 rfl rfl
theorem dX1_queue_0 : decode cX1_queue 0 = .ok (.aload_n 0, 1) := dk_42 (dk_at dksX1_queue_0 0 rfl rfl)
theorem dX1_queue_1 : decode cX1_queue 1 = .ok (.iload_n 1, 1) := dk_27 (dk_at dksX1_queue_0 1 rfl rfl)
theorem dX1_queue_2 : decode cX1_queue 2 = .ok (.invokevirtual 159, 3) := dk_182 0 159 (dk_at dksX1_queue_0 2 rfl rfl)
theorem dX1_queue_5 : decode cX1_queue 5 = .ok (.ifCond .ne 11, 3) := dk_154 0 11 (dk_at dksX1_queue_0 5 rfl rfl)
theorem dX1_queue_8 : decode cX1_queue 8 = .ok (.new 163, 3) := dk_187 0 163 (dk_at dksX1_queue_0 8 rfl rfl)
theorem dX1_queue_11 : decode cX1_queue 11 = .ok (.dup, 1) := dk_89 (dk_at dksX1_queue_0 11 rfl rfl)
theorem dX1_queue_12 : decode cX1_queue 12 = .ok (.invokespecial 165, 3) := dk_183 0 165 (dk_at dksX1_queue_0 12 rfl rfl)
theorem dX1_queue_15 : decode cX1_queue 15 = .ok (.athrow, 1) := dk_191 (dk_at dksX1_queue_0 15 rfl rfl)
theorem dX1_queue_16 : decode cX1_queue 16 = .ok (.aload_n 0, 1) := dk_42 (dk_at dksX1_queue_0 16 rfl rfl)
theorem dX1_queue_17 : decode cX1_queue 17 = .ok (.getfield 10, 3) := dk_180 0 10 (dk_at dksX1_queue_0 17 rfl rfl)
theorem dX1_queue_20 : decode cX1_queue 20 = .ok (.getfield 113, 3) := dk_180 0 113 (dk_at dksX1_queue_0 20 rfl rfl)
theorem dX1_queue_23 : decode cX1_queue 23 = .ok (.iload_n 1, 1) := dk_27 (dk_at dksX1_queue_0 23 rfl rfl)
theorem dX1_queue_24 : decode cX1_queue 24 = .ok (.aaload, 1) := dk_50 (dk_at dksX1_queue_1 0 rfl rfl)
theorem dX1_queue_25 : decode cX1_queue 25 = .ok (.astore_n 3, 1) := dk_78 (dk_at dksX1_queue_1 1 rfl rfl)
theorem dX1_queue_26 : decode cX1_queue 26 = .ok (.iload_n 2, 1) := dk_28 (dk_at dksX1_queue_1 2 rfl rfl)
theorem dX1_queue_27 : decode cX1_queue 27 = .ok (.tableswitch 146 0 12 #[65, 70, 75, 80, 93, 98, 103, 108, 113, 118, 123, 128, 133], 65) := by decide +kernel
theorem dX1_queue_92 : decode cX1_queue 92 = .ok (.aload_n 3, 1) := dk_45 (dk_at dksX1_queue_3 0 rfl rfl)
theorem dX1_queue_93 : decode cX1_queue 93 = .ok (.getfield 122, 3) := dk_180 0 122 (dk_at dksX1_queue_3 1 rfl rfl)
theorem dX1_queue_96 : decode cX1_queue 96 = .ok (.ireturn, 1) := dk_172 (dk_at dksX1_queue_3 4 rfl rfl)
theorem dX1_queue_97 : decode cX1_queue 97 = .ok (.aload_n 3, 1) := dk_45 (dk_at dksX1_queue_3 5 rfl rfl)
theorem dX1_queue_98 : decode cX1_queue 98 = .ok (.getfield 125, 3) := dk_180 0 125 (dk_at dksX1_queue_3 6 rfl rfl)
theorem dX1_queue_101 : decode cX1_queue 101 = .ok (.ireturn, 1) := dk_172 (dk_at dksX1_queue_3 9 rfl rfl)
theorem dX1_queue_102 : decode cX1_queue 102 = .ok (.aload_n 3, 1) := dk_45 (dk_at dksX1_queue_3 10 rfl rfl)
theorem dX1_queue_103 : decode cX1_queue 103 = .ok (.getfield 128, 3) := dk_180 0 128 (dk_at dksX1_queue_3 11 rfl rfl)
theorem dX1_queue_106 : decode cX1_queue 106 = .ok (.ireturn, 1) := dk_172 (dk_at dksX1_queue_3 14 rfl rfl)
theorem dX1_queue_107 : decode cX1_queue 107 = .ok (.aload_n 3, 1) := dk_45 (dk_at dksX1_queue_3 15 rfl rfl)
theorem dX1_queue_108 : decode cX1_queue 108 = .ok (.getfield 131, 3) := dk_180 0 131 (dk_at dksX1_queue_3 16 rfl rfl)
theorem dX1_queue_111 : decode cX1_queue 111 = .ok (.ifCond .eq 7, 3) := dk_153 0 7 (dk_at dksX1_queue_3 19 rfl rfl)
theorem dX1_queue_114 : decode cX1_queue 114 = .ok (.iconst 1, 1) := dk_4 (dk_at dksX1_queue_3 22 rfl rfl)
theorem dX1_queue_115 : decode cX1_queue 115 = .ok (.goto 4, 3) := dk_167 0 4 (dk_at dksX1_queue_4 0 rfl rfl)
theorem dX1_queue_118 : decode cX1_queue 118 = .ok (.iconst 0, 1) := dk_3 (dk_at dksX1_queue_4 3 rfl rfl)
theorem dX1_queue_119 : decode cX1_queue 119 = .ok (.ireturn, 1) := dk_172 (dk_at dksX1_queue_4 4 rfl rfl)
theorem dX1_queue_120 : decode cX1_queue 120 = .ok (.aload_n 3, 1) := dk_45 (dk_at dksX1_queue_4 5 rfl rfl)
theorem dX1_queue_121 : decode cX1_queue 121 = .ok (.getfield 166, 3) := dk_180 0 166 (dk_at dksX1_queue_4 6 rfl rfl)
theorem dX1_queue_124 : decode cX1_queue 124 = .ok (.ireturn, 1) := dk_172 (dk_at dksX1_queue_4 9 rfl rfl)
theorem dX1_queue_125 : decode cX1_queue 125 = .ok (.aload_n 3, 1) := dk_45 (dk_at dksX1_queue_4 10 rfl rfl)
theorem dX1_queue_126 : decode cX1_queue 126 = .ok (.getfield 169, 3) := dk_180 0 169 (dk_at dksX1_queue_4 11 rfl rfl)
theorem dX1_queue_129 : decode cX1_queue 129 = .ok (.ireturn, 1) := dk_172 (dk_at dksX1_queue_4 14 rfl rfl)
theorem dX1_queue_130 : decode cX1_queue 130 = .ok (.aload_n 3, 1) := dk_45 (dk_at dksX1_queue_4 15 rfl rfl)
theorem dX1_queue_131 : decode cX1_queue 131 = .ok (.getfield 172, 3) := dk_180 0 172 (dk_at dksX1_queue_4 16 rfl rfl)
theorem dX1_queue_134 : decode cX1_queue 134 = .ok (.ireturn, 1) := dk_172 (dk_at dksX1_queue_4 19 rfl rfl)
theorem dX1_queue_135 : decode cX1_queue 135 = .ok (.aload_n 3, 1) := dk_45 (dk_at dksX1_queue_4 20 rfl rfl)
theorem dX1_queue_136 : decode cX1_queue 136 = .ok (.getfield 175, 3) := dk_180 0 175 (dk_at dksX1_queue_4 21 rfl rfl)
theorem dX1_queue_139 : decode cX1_queue 139 = .ok (.ireturn, 1) := dk_172 (dk_at dksX1_queue_5 0 rfl rfl)
theorem dX1_queue_140 : decode cX1_queue 140 = .ok (.aload_n 3, 1) := dk_45 (dk_at dksX1_queue_5 1 rfl rfl)
theorem dX1_queue_141 : decode cX1_queue 141 = .ok (.getfield 178, 3) := dk_180 0 178 (dk_at dksX1_queue_5 2 rfl rfl)
theorem dX1_queue_144 : decode cX1_queue 144 = .ok (.ireturn, 1) := dk_172 (dk_at dksX1_queue_5 5 rfl rfl)
theorem dX1_queue_145 : decode cX1_queue 145 = .ok (.aload_n 3, 1) := dk_45 (dk_at dksX1_queue_5 6 rfl rfl)
theorem dX1_queue_146 : decode cX1_queue 146 = .ok (.getfield 181, 3) := dk_180 0 181 (dk_at dksX1_queue_5 7 rfl rfl)
theorem dX1_queue_149 : decode cX1_queue 149 = .ok (.ireturn, 1) := dk_172 (dk_at dksX1_queue_5 10 rfl rfl)
theorem dX1_queue_150 : decode cX1_queue 150 = .ok (.aload_n 3, 1) := dk_45 (dk_at dksX1_queue_5 11 rfl rfl)
theorem dX1_queue_151 : decode cX1_queue 151 = .ok (.getfield 184, 3) := dk_180 0 184 (dk_at dksX1_queue_5 12 rfl rfl)
theorem dX1_queue_154 : decode cX1_queue 154 = .ok (.ireturn, 1) := dk_172 (dk_at dksX1_queue_5 15 rfl rfl)
theorem dX1_queue_155 : decode cX1_queue 155 = .ok (.aload_n 3, 1) := dk_45 (dk_at dksX1_queue_5 16 rfl rfl)
theorem dX1_queue_156 : decode cX1_queue 156 = .ok (.getfield 187, 3) := dk_180 0 187 (dk_at dksX1_queue_5 17 rfl rfl)
theorem dX1_queue_159 : decode cX1_queue 159 = .ok (.ireturn, 1) := dk_172 (dk_at dksX1_queue_5 20 rfl rfl)
theorem dX1_queue_160 : decode cX1_queue 160 = .ok (.aload_n 3, 1) := dk_45 (dk_at dksX1_queue_5 21 rfl rfl)
theorem dX1_queue_161 : decode cX1_queue 161 = .ok (.getfield 190, 3) := dk_180 0 190 (dk_at dksX1_queue_6 0 rfl rfl)
theorem dX1_queue_164 : decode cX1_queue 164 = .ok (.ifCond .eq 7, 3) := dk_153 0 7 (dk_at dksX1_queue_6 3 rfl rfl)
theorem dX1_queue_167 : decode cX1_queue 167 = .ok (.iconst 1, 1) := dk_4 (dk_at dksX1_queue_6 6 rfl rfl)
theorem dX1_queue_168 : decode cX1_queue 168 = .ok (.goto 4, 3) := dk_167 0 4 (dk_at dksX1_queue_6 7 rfl rfl)
theorem dX1_queue_171 : decode cX1_queue 171 = .ok (.iconst 0, 1) := dk_3 (dk_at dksX1_queue_6 10 rfl rfl)
theorem dX1_queue_172 : decode cX1_queue 172 = .ok (.ireturn, 1) := dk_172 (dk_at dksX1_queue_6 11 rfl rfl)
theorem dX1_queue_173 : decode cX1_queue 173 = .ok (.new 163, 3) := dk_187 0 163 (dk_at dksX1_queue_6 12 rfl rfl)
theorem dX1_queue_176 : decode cX1_queue 176 = .ok (.dup, 1) := dk_89 (dk_at dksX1_queue_6 15 rfl rfl)
theorem dX1_queue_177 : decode cX1_queue 177 = .ok (.invokespecial 165, 3) := dk_183 0 165 (dk_at dksX1_queue_6 16 rfl rfl)
theorem dX1_queue_180 : decode cX1_queue 180 = .ok (.athrow, 1) := dk_191 (dk_at dksX1_queue_6 19 rfl rfl)
abbrev cX1_row : ByteArray := prog_1_method_67_code
def yX1_row : MethodName := ⟨RX1, "row", "(I)J"⟩
def dkwX1_row_1 : List UInt8 := [42, 180, 0, 30, 27, 47, 173]
abbrev dktX1_row_1 : List UInt8 := dkwX1_row_1 ++ []
def dkwX1_row_0 : List UInt8 := [27, 133, 9, 42, 180, 0, 57, 4, 100, 133, 184, 0, 64, 154, 0, 11, 187, 0, 163, 89, 183, 0, 165, 191]
abbrev dktX1_row_0 : List UInt8 := dkwX1_row_0 ++ dktX1_row_1
theorem dksX1_row_0 : cX1_row.data.toList.drop 0 = dktX1_row_0 := by decide +kernel
theorem dksX1_row_1 : cX1_row.data.toList.drop 24 = dktX1_row_1 := dk_seg dksX1_row_0 24 rfl rfl
theorem dX1_row_0 : decode cX1_row 0 = .ok (.iload_n 1, 1) := dk_27 (dk_at dksX1_row_0 0 rfl rfl)
theorem dX1_row_1 : decode cX1_row 1 = .ok (.i2l, 1) := dk_133 (dk_at dksX1_row_0 1 rfl rfl)
theorem dX1_row_2 : decode cX1_row 2 = .ok (.lconst 0, 1) := dk_9 (dk_at dksX1_row_0 2 rfl rfl)
theorem dX1_row_3 : decode cX1_row 3 = .ok (.aload_n 0, 1) := dk_42 (dk_at dksX1_row_0 3 rfl rfl)
theorem dX1_row_4 : decode cX1_row 4 = .ok (.getfield 57, 3) := dk_180 0 57 (dk_at dksX1_row_0 4 rfl rfl)
theorem dX1_row_7 : decode cX1_row 7 = .ok (.iconst 1, 1) := dk_4 (dk_at dksX1_row_0 7 rfl rfl)
theorem dX1_row_8 : decode cX1_row 8 = .ok (.isub, 1) := dk_100 (dk_at dksX1_row_0 8 rfl rfl)
theorem dX1_row_9 : decode cX1_row 9 = .ok (.i2l, 1) := dk_133 (dk_at dksX1_row_0 9 rfl rfl)
theorem dX1_row_10 : decode cX1_row 10 = .ok (.invokestatic 64, 3) := dk_184 0 64 (dk_at dksX1_row_0 10 rfl rfl)
theorem dX1_row_13 : decode cX1_row 13 = .ok (.ifCond .ne 11, 3) := dk_154 0 11 (dk_at dksX1_row_0 13 rfl rfl)
theorem dX1_row_16 : decode cX1_row 16 = .ok (.new 163, 3) := dk_187 0 163 (dk_at dksX1_row_0 16 rfl rfl)
theorem dX1_row_19 : decode cX1_row 19 = .ok (.dup, 1) := dk_89 (dk_at dksX1_row_0 19 rfl rfl)
theorem dX1_row_20 : decode cX1_row 20 = .ok (.invokespecial 165, 3) := dk_183 0 165 (dk_at dksX1_row_0 20 rfl rfl)
theorem dX1_row_23 : decode cX1_row 23 = .ok (.athrow, 1) := dk_191 (dk_at dksX1_row_0 23 rfl rfl)
theorem dX1_row_24 : decode cX1_row 24 = .ok (.aload_n 0, 1) := dk_42 (dk_at dksX1_row_1 0 rfl rfl)
theorem dX1_row_25 : decode cX1_row 25 = .ok (.getfield 30, 3) := dk_180 0 30 (dk_at dksX1_row_1 1 rfl rfl)
theorem dX1_row_28 : decode cX1_row 28 = .ok (.iload_n 1, 1) := dk_27 (dk_at dksX1_row_1 4 rfl rfl)
theorem dX1_row_29 : decode cX1_row 29 = .ok (.laload, 1) := dk_47 (dk_at dksX1_row_1 5 rfl rfl)
theorem dX1_row_30 : decode cX1_row 30 = .ok (.lreturn, 1) := dk_173 (dk_at dksX1_row_1 6 rfl rfl)
theorem q92 : (Jvm.Cond.initialized "QueueDrive") ∈ lw_all := lw_g (lw_at lw_m1 1 rfl) rfl
theorem q137 : (Jvm.Cond.instantiable "QueueDrive" (22 : Nat)) ∈ lw_all := lw_g (lw_at lw_m1 46 rfl) rfl
theorem q139 : (Jvm.Cond.instanceMethod ({ cls := "QueueDrive", name := "<init>", desc := "()V" } : Jvm.MethodName)) ∈ lw_all := lw_g (lw_at lw_m1 48 rfl) rfl
theorem q140 : (Jvm.Cond.code ({ cls := "QueueDrive", name := "<init>", desc := "()V" } : Jvm.MethodName) prog_1_method_3_code (2 : Nat) (Option.none : Option Jvm.ClassFile.FieldType)) ∈ lw_all := lw_g (lw_at lw_m1 49 rfl) rfl
theorem q141 : (Jvm.Cond.methodLink "QueueDrive" (1 : Nat) ({ cls := "java/lang/Object", name := "<init>", desc := "()V" } : Jvm.MethodName)) ∈ lw_all := lw_g (lw_at lw_m1 50 rfl) rfl
theorem q144 : (Jvm.Cond.classLink "QueueDrive" (7 : Nat) "QueueDrive$Drive") ∈ lw_all := lw_g (lw_at lw_m1 53 rfl) rfl
theorem q146 : (Jvm.Cond.methodLink "QueueDrive" (9 : Nat) ({ cls := "QueueDrive$Drive", name := "<init>", desc := "()V" } : Jvm.MethodName)) ∈ lw_all := lw_g (lw_at lw_m1 55 rfl) rfl
theorem q555 : (Jvm.Cond.fieldLink "QueueDrive" (491 : Nat) "QueueDrive$Line" "number" "I") ∈ lw_all := lw_g (lw_at lw_m2 224 rfl) rfl
theorem q558 : (Jvm.Cond.fieldLink "QueueDrive" (258 : Nat) "QueueDrive$Line" "ring" "Ljava/util/ArrayDeque;") ∈ lw_all := lw_g (lw_at lw_m2 227 rfl) rfl
theorem q560 : (Jvm.Cond.fieldLink "QueueDrive" (314 : Nat) "QueueDrive$Line" "posts" "Ljava/util/ArrayDeque;") ∈ lw_all := lw_g (lw_at lw_m2 229 rfl) rfl
theorem q562 : (Jvm.Cond.fieldLink "QueueDrive" (245 : Nat) "QueueDrive$Line" "used" "Ljava/util/BitSet;") ∈ lw_all := lw_g (lw_at lw_m2 231 rfl) rfl
theorem q564 : (Jvm.Cond.fieldLink "QueueDrive" (122 : Nat) "QueueDrive$Line" "slots" "I") ∈ lw_all := lw_g (lw_at lw_m2 233 rfl) rfl
theorem q566 : (Jvm.Cond.fieldLink "QueueDrive" (125 : Nat) "QueueDrive$Line" "places" "I") ∈ lw_all := lw_g (lw_at lw_m2 235 rfl) rfl
theorem q570 : (Jvm.Cond.fieldLink "QueueDrive" (128 : Nat) "QueueDrive$Line" "kind" "I") ∈ lw_all := lw_g (lw_at lw_m2 239 rfl) rfl
theorem q572 : (Jvm.Cond.fieldLink "QueueDrive" (166 : Nat) "QueueDrive$Line" "written" "I") ∈ lw_all := lw_g (lw_at lw_m3 1 rfl) rfl
theorem q575 : (Jvm.Cond.fieldLink "QueueDrive" (169 : Nat) "QueueDrive$Line" "rung" "I") ∈ lw_all := lw_g (lw_at lw_m3 4 rfl) rfl
theorem q578 : (Jvm.Cond.fieldLink "QueueDrive" (172 : Nat) "QueueDrive$Line" "seen" "I") ∈ lw_all := lw_g (lw_at lw_m3 7 rfl) rfl
theorem q582 : (Jvm.Cond.fieldLink "QueueDrive" (175 : Nat) "QueueDrive$Line" "fetched" "I") ∈ lw_all := lw_g (lw_at lw_m3 11 rfl) rfl
theorem q584 : (Jvm.Cond.fieldLink "QueueDrive" (178 : Nat) "QueueDrive$Line" "told" "I") ∈ lw_all := lw_g (lw_at lw_m3 13 rfl) rfl
theorem q586 : (Jvm.Cond.fieldLink "QueueDrive" (181 : Nat) "QueueDrive$Line" "posted" "I") ∈ lw_all := lw_g (lw_at lw_m3 15 rfl) rfl
theorem q589 : (Jvm.Cond.fieldLink "QueueDrive" (184 : Nat) "QueueDrive$Line" "taken" "I") ∈ lw_all := lw_g (lw_at lw_m3 18 rfl) rfl
theorem q592 : (Jvm.Cond.fieldLink "QueueDrive" (187 : Nat) "QueueDrive$Line" "mark" "I") ∈ lw_all := lw_g (lw_at lw_m3 21 rfl) rfl
theorem q595 : (Jvm.Cond.fieldLink "QueueDrive" (131 : Nat) "QueueDrive$Line" "isShadowed" "Z") ∈ lw_all := lw_g (lw_at lw_m3 24 rfl) rfl
theorem q598 : (Jvm.Cond.fieldLink "QueueDrive" (190 : Nat) "QueueDrive$Line" "isAwake" "Z") ∈ lw_all := lw_g (lw_at lw_m3 27 rfl) rfl
theorem q636 : (Jvm.Cond.fieldLink "QueueDrive" (113 : Nat) "QueueDrive$Drive" "lines" "[LQueueDrive$Line;") ∈ lw_all := lw_g (lw_at lw_m3 65 rfl) rfl
theorem q639 : (Jvm.Cond.fieldLink "QueueDrive" (300 : Nat) "QueueDrive$Drive" "running" "Ljava/util/LinkedList;") ∈ lw_all := lw_g (lw_at lw_m3 68 rfl) rfl
theorem q641 : (Jvm.Cond.fieldLink "QueueDrive" (399 : Nat) "QueueDrive$Drive" "outbox" "Ljava/util/LinkedList;") ∈ lw_all := lw_g (lw_at lw_m3 70 rfl) rfl
theorem q643 : (Jvm.Cond.fieldLink "QueueDrive" (204 : Nat) "QueueDrive$Drive" "blocks" "[I") ∈ lw_all := lw_g (lw_at lw_m3 72 rfl) rfl
theorem q645 : (Jvm.Cond.fieldLink "QueueDrive" (432 : Nat) "QueueDrive$Drive" "weight" "[I") ∈ lw_all := lw_g (lw_at lw_m3 74 rfl) rfl
theorem q647 : (Jvm.Cond.fieldLink "QueueDrive" (435 : Nat) "QueueDrive$Drive" "credit" "[I") ∈ lw_all := lw_g (lw_at lw_m3 76 rfl) rfl
theorem q650 : (Jvm.Cond.fieldLink "QueueDrive" (519 : Nat) "QueueDrive$Drive" "served" "[I") ∈ lw_all := lw_g (lw_at lw_m3 79 rfl) rfl
theorem q652 : (Jvm.Cond.fieldLink "QueueDrive" (61 : Nat) "QueueDrive$Drive" "many" "I") ∈ lw_all := lw_g (lw_at lw_m3 81 rfl) rfl
theorem q654 : (Jvm.Cond.fieldLink "QueueDrive" (438 : Nat) "QueueDrive$Drive" "depth" "I") ∈ lw_all := lw_g (lw_at lw_m3 83 rfl) rfl
theorem q657 : (Jvm.Cond.fieldLink "QueueDrive" (451 : Nat) "QueueDrive$Drive" "tick" "I") ∈ lw_all := lw_g (lw_at lw_m3 86 rfl) rfl
theorem q659 : (Jvm.Cond.fieldLink "QueueDrive" (516 : Nat) "QueueDrive$Drive" "bells" "I") ∈ lw_all := lw_g (lw_at lw_m3 88 rfl) rfl
theorem q661 : (Jvm.Cond.fieldLink "QueueDrive" (513 : Nat) "QueueDrive$Drive" "spared" "I") ∈ lw_all := lw_g (lw_at lw_m3 90 rfl) rfl
theorem q663 : (Jvm.Cond.fieldLink "QueueDrive" (290 : Nat) "QueueDrive$Drive" "fetches" "I") ∈ lw_all := lw_g (lw_at lw_m3 92 rfl) rfl
theorem q665 : (Jvm.Cond.fieldLink "QueueDrive" (293 : Nat) "QueueDrive$Drive" "posts" "I") ∈ lw_all := lw_g (lw_at lw_m3 94 rfl) rfl
theorem q698 : (Jvm.Cond.classLink "QueueDrive" (41 : Nat) "QueueDrive$Command") ∈ lw_all := lw_g (lw_at lw_m3 127 rfl) rfl
theorem q700 : (Jvm.Cond.fieldLink "QueueDrive" (10 : Nat) "QueueDrive" "now" "LQueueDrive$Drive;") ∈ lw_all := lw_g (lw_at lw_m3 129 rfl) rfl
theorem q701 : (Jvm.Cond.fieldLink "QueueDrive" (16 : Nat) "QueueDrive" "aside" "LQueueDrive$Drive;") ∈ lw_all := lw_g (lw_at lw_m3 130 rfl) rfl
theorem q702 : (Jvm.Cond.fieldLink "QueueDrive" (19 : Nat) "QueueDrive" "tried" "LQueueDrive$Drive;") ∈ lw_all := lw_g (lw_at lw_m3 131 rfl) rfl
theorem q703 : (Jvm.Cond.fieldLink "QueueDrive" (22 : Nat) "QueueDrive" "ahead" "[LQueueDrive$Drive;") ∈ lw_all := lw_g (lw_at lw_m3 132 rfl) rfl
theorem q704 : (Jvm.Cond.fieldLink "QueueDrive" (135 : Nat) "QueueDrive" "undoMany" "I") ∈ lw_all := lw_g (lw_at lw_m3 133 rfl) rfl
theorem q705 : (Jvm.Cond.fieldLink "QueueDrive" (138 : Nat) "QueueDrive" "came" "I") ∈ lw_all := lw_g (lw_at lw_m3 134 rfl) rfl
theorem q706 : (Jvm.Cond.fieldLink "QueueDrive" (26 : Nat) "QueueDrive" "text" "[B") ∈ lw_all := lw_g (lw_at lw_m3 135 rfl) rfl
theorem q707 : (Jvm.Cond.fieldLink "QueueDrive" (70 : Nat) "QueueDrive" "typed" "I") ∈ lw_all := lw_g (lw_at lw_m3 136 rfl) rfl
theorem q708 : (Jvm.Cond.fieldLink "QueueDrive" (30 : Nat) "QueueDrive" "row" "[J") ∈ lw_all := lw_g (lw_at lw_m3 137 rfl) rfl
theorem q709 : (Jvm.Cond.fieldLink "QueueDrive" (57 : Nat) "QueueDrive" "rowMany" "I") ∈ lw_all := lw_g (lw_at lw_m3 138 rfl) rfl
theorem q710 : (Jvm.Cond.fieldLink "QueueDrive" (146 : Nat) "QueueDrive" "rule" "LQueueDrive$Rule;") ∈ lw_all := lw_g (lw_at lw_m3 139 rfl) rfl
theorem q711 : (Jvm.Cond.fieldLink "QueueDrive" (367 : Nat) "QueueDrive" "found" "I") ∈ lw_all := lw_g (lw_at lw_m3 140 rfl) rfl
theorem q712 : (Jvm.Cond.fieldLink "QueueDrive" (370 : Nat) "QueueDrive" "foundLeft" "I") ∈ lw_all := lw_g (lw_at lw_m3 141 rfl) rfl
theorem q713 : (Jvm.Cond.fieldLink "QueueDrive" (501 : Nat) "QueueDrive" "takenMany" "I") ∈ lw_all := lw_g (lw_at lw_m3 142 rfl) rfl
theorem q714 : (Jvm.Cond.fieldLink "QueueDrive" (34 : Nat) "QueueDrive" "heardOf" "[I") ∈ lw_all := lw_g (lw_at lw_m3 143 rfl) rfl
theorem q715 : (Jvm.Cond.fieldLink "QueueDrive" (38 : Nat) "QueueDrive" "heardAs" "[I") ∈ lw_all := lw_g (lw_at lw_m3 144 rfl) rfl
theorem q716 : (Jvm.Cond.fieldLink "QueueDrive" (525 : Nat) "QueueDrive" "heardMany" "I") ∈ lw_all := lw_g (lw_at lw_m3 145 rfl) rfl
theorem q717 : (Jvm.Cond.fieldLink "QueueDrive" (43 : Nat) "QueueDrive" "thought" "[LQueueDrive$Command;") ∈ lw_all := lw_g (lw_at lw_m3 146 rfl) rfl
theorem q718 : (Jvm.Cond.fieldLink "QueueDrive" (47 : Nat) "QueueDrive" "isRun" "[Z") ∈ lw_all := lw_g (lw_at lw_m3 147 rfl) rfl
theorem q719 : (Jvm.Cond.fieldLink "QueueDrive" (553 : Nat) "QueueDrive" "drawn" "I") ∈ lw_all := lw_g (lw_at lw_m3 148 rfl) rfl
theorem q720 : (Jvm.Cond.fieldLink "QueueDrive" (51 : Nat) "QueueDrive" "pages" "[LQueueDrive$Drive;") ∈ lw_all := lw_g (lw_at lw_m3 149 rfl) rfl
theorem q721 : (Jvm.Cond.fieldLink "QueueDrive" (54 : Nat) "QueueDrive" "since" "[I") ∈ lw_all := lw_g (lw_at lw_m3 150 rfl) rfl
theorem q722 : (Jvm.Cond.laysFinal "QueueDrive" "QueueDrive" "now" "LQueueDrive$Drive;") ∈ lw_all := lw_g (lw_at lw_m3 151 rfl) rfl
theorem q723 : (Jvm.Cond.soleField "QueueDrive" "now") ∈ lw_all := lw_g (lw_at lw_m3 152 rfl) rfl
theorem q724 : (Jvm.Cond.laysFinal "QueueDrive" "QueueDrive" "aside" "LQueueDrive$Drive;") ∈ lw_all := lw_g (lw_at lw_m3 153 rfl) rfl
theorem q725 : (Jvm.Cond.soleField "QueueDrive" "aside") ∈ lw_all := lw_g (lw_at lw_m3 154 rfl) rfl
theorem q726 : (Jvm.Cond.laysFinal "QueueDrive" "QueueDrive" "tried" "LQueueDrive$Drive;") ∈ lw_all := lw_g (lw_at lw_m3 155 rfl) rfl
theorem q727 : (Jvm.Cond.soleField "QueueDrive" "tried") ∈ lw_all := lw_g (lw_at lw_m3 156 rfl) rfl
theorem q728 : (Jvm.Cond.laysFinal "QueueDrive" "QueueDrive" "ahead" "[LQueueDrive$Drive;") ∈ lw_all := lw_g (lw_at lw_m3 157 rfl) rfl
theorem q729 : (Jvm.Cond.soleField "QueueDrive" "ahead") ∈ lw_all := lw_g (lw_at lw_m3 158 rfl) rfl
theorem q730 : (Jvm.Cond.lays "QueueDrive" "QueueDrive" "undoMany" "I") ∈ lw_all := lw_g (lw_at lw_m3 159 rfl) rfl
theorem q731 : (Jvm.Cond.soleField "QueueDrive" "undoMany") ∈ lw_all := lw_g (lw_at lw_m3 160 rfl) rfl
theorem q732 : (Jvm.Cond.lays "QueueDrive" "QueueDrive" "came" "I") ∈ lw_all := lw_g (lw_at lw_m3 161 rfl) rfl
theorem q733 : (Jvm.Cond.soleField "QueueDrive" "came") ∈ lw_all := lw_g (lw_at lw_m3 162 rfl) rfl
theorem q734 : (Jvm.Cond.laysFinal "QueueDrive" "QueueDrive" "text" "[B") ∈ lw_all := lw_g (lw_at lw_m3 163 rfl) rfl
theorem q735 : (Jvm.Cond.soleField "QueueDrive" "text") ∈ lw_all := lw_g (lw_at lw_m3 164 rfl) rfl
theorem q736 : (Jvm.Cond.lays "QueueDrive" "QueueDrive" "typed" "I") ∈ lw_all := lw_g (lw_at lw_m3 165 rfl) rfl
theorem q737 : (Jvm.Cond.soleField "QueueDrive" "typed") ∈ lw_all := lw_g (lw_at lw_m3 166 rfl) rfl
theorem q738 : (Jvm.Cond.laysFinal "QueueDrive" "QueueDrive" "row" "[J") ∈ lw_all := lw_g (lw_at lw_m3 167 rfl) rfl
theorem q739 : (Jvm.Cond.soleField "QueueDrive" "row") ∈ lw_all := lw_g (lw_at lw_m3 168 rfl) rfl
theorem q740 : (Jvm.Cond.lays "QueueDrive" "QueueDrive" "rowMany" "I") ∈ lw_all := lw_g (lw_at lw_m3 169 rfl) rfl
theorem q741 : (Jvm.Cond.soleField "QueueDrive" "rowMany") ∈ lw_all := lw_g (lw_at lw_m3 170 rfl) rfl
theorem q742 : (Jvm.Cond.lays "QueueDrive" "QueueDrive" "rule" "LQueueDrive$Rule;") ∈ lw_all := lw_g (lw_at lw_m3 171 rfl) rfl
theorem q743 : (Jvm.Cond.soleField "QueueDrive" "rule") ∈ lw_all := lw_g (lw_at lw_m3 172 rfl) rfl
theorem q744 : (Jvm.Cond.lays "QueueDrive" "QueueDrive" "found" "I") ∈ lw_all := lw_g (lw_at lw_m3 173 rfl) rfl
theorem q745 : (Jvm.Cond.soleField "QueueDrive" "found") ∈ lw_all := lw_g (lw_at lw_m3 174 rfl) rfl
theorem q746 : (Jvm.Cond.lays "QueueDrive" "QueueDrive" "foundLeft" "I") ∈ lw_all := lw_g (lw_at lw_m3 175 rfl) rfl
theorem q747 : (Jvm.Cond.soleField "QueueDrive" "foundLeft") ∈ lw_all := lw_g (lw_at lw_m3 176 rfl) rfl
theorem q748 : (Jvm.Cond.lays "QueueDrive" "QueueDrive" "takenMany" "I") ∈ lw_all := lw_g (lw_at lw_m3 177 rfl) rfl
theorem q749 : (Jvm.Cond.soleField "QueueDrive" "takenMany") ∈ lw_all := lw_g (lw_at lw_m3 178 rfl) rfl
theorem q750 : (Jvm.Cond.laysFinal "QueueDrive" "QueueDrive" "heardOf" "[I") ∈ lw_all := lw_g (lw_at lw_m3 179 rfl) rfl
theorem q751 : (Jvm.Cond.soleField "QueueDrive" "heardOf") ∈ lw_all := lw_g (lw_at lw_m3 180 rfl) rfl
theorem q752 : (Jvm.Cond.laysFinal "QueueDrive" "QueueDrive" "heardAs" "[I") ∈ lw_all := lw_g (lw_at lw_m3 181 rfl) rfl
theorem q753 : (Jvm.Cond.soleField "QueueDrive" "heardAs") ∈ lw_all := lw_g (lw_at lw_m3 182 rfl) rfl
theorem q754 : (Jvm.Cond.lays "QueueDrive" "QueueDrive" "heardMany" "I") ∈ lw_all := lw_g (lw_at lw_m3 183 rfl) rfl
theorem q755 : (Jvm.Cond.soleField "QueueDrive" "heardMany") ∈ lw_all := lw_g (lw_at lw_m3 184 rfl) rfl
theorem q756 : (Jvm.Cond.laysFinal "QueueDrive" "QueueDrive" "thought" "[LQueueDrive$Command;") ∈ lw_all := lw_g (lw_at lw_m3 185 rfl) rfl
theorem q757 : (Jvm.Cond.soleField "QueueDrive" "thought") ∈ lw_all := lw_g (lw_at lw_m3 186 rfl) rfl
theorem q758 : (Jvm.Cond.laysFinal "QueueDrive" "QueueDrive" "isRun" "[Z") ∈ lw_all := lw_g (lw_at lw_m3 187 rfl) rfl
theorem q759 : (Jvm.Cond.soleField "QueueDrive" "isRun") ∈ lw_all := lw_g (lw_at lw_m3 188 rfl) rfl
theorem q760 : (Jvm.Cond.lays "QueueDrive" "QueueDrive" "drawn" "I") ∈ lw_all := lw_g (lw_at lw_m3 189 rfl) rfl
theorem q761 : (Jvm.Cond.soleField "QueueDrive" "drawn") ∈ lw_all := lw_g (lw_at lw_m3 190 rfl) rfl
theorem q762 : (Jvm.Cond.laysFinal "QueueDrive" "QueueDrive" "pages" "[LQueueDrive$Drive;") ∈ lw_all := lw_g (lw_at lw_m3 191 rfl) rfl
theorem q763 : (Jvm.Cond.soleField "QueueDrive" "pages") ∈ lw_all := lw_g (lw_at lw_m3 192 rfl) rfl
theorem q764 : (Jvm.Cond.laysFinal "QueueDrive" "QueueDrive" "since" "[I") ∈ lw_all := lw_g (lw_at lw_m3 193 rfl) rfl
theorem q765 : (Jvm.Cond.soleField "QueueDrive" "since") ∈ lw_all := lw_g (lw_at lw_m3 194 rfl) rfl
theorem q766 : (Jvm.Cond.superclass "QueueDrive" "java/lang/Object") ∈ lw_all := lw_g (lw_at lw_m3 195 rfl) rfl
theorem q769 : (Jvm.Cond.instanceMethod ({ cls := "QueueDrive", name := "sign", desc := "(I)I" } : Jvm.MethodName)) ∈ lw_all := lw_g (lw_at lw_m3 198 rfl) rfl
theorem q770 : (Jvm.Cond.selects "QueueDrive" ({ cls := "QueueDrive", name := "sign", desc := "(I)I" } : Jvm.MethodName) ({ cls := "QueueDrive", name := "sign", desc := "(I)I" } : Jvm.MethodName)) ∈ lw_all := lw_g (lw_at lw_m3 199 rfl) rfl
theorem q771 : (Jvm.Cond.code ({ cls := "QueueDrive", name := "sign", desc := "(I)I" } : Jvm.MethodName) prog_1_method_7_code (3 : Nat) (Option.some Jvm.ClassFile.FieldType.int)) ∈ lw_all := lw_g (lw_at lw_m3 200 rfl) rfl
theorem q773 : (Jvm.Cond.instanceMethod ({ cls := "QueueDrive", name := "end", desc := "(I)Z" } : Jvm.MethodName)) ∈ lw_all := lw_g (lw_at lw_m3 202 rfl) rfl
theorem q774 : (Jvm.Cond.selects "QueueDrive" ({ cls := "QueueDrive", name := "end", desc := "(I)Z" } : Jvm.MethodName) ({ cls := "QueueDrive", name := "end", desc := "(I)Z" } : Jvm.MethodName)) ∈ lw_all := lw_g (lw_at lw_m3 203 rfl) rfl
theorem q775 : (Jvm.Cond.code ({ cls := "QueueDrive", name := "end", desc := "(I)Z" } : Jvm.MethodName) prog_1_method_8_code (2 : Nat) (Option.some Jvm.ClassFile.FieldType.boolean)) ∈ lw_all := lw_g (lw_at lw_m3 204 rfl) rfl
theorem q776 : (Jvm.Cond.methodLink "QueueDrive" (64 : Nat) ({ cls := "QueueDrive", name := "in", desc := "(JJJ)Z" } : Jvm.MethodName)) ∈ lw_all := lw_g (lw_at lw_m3 205 rfl) rfl
theorem q777 : (Jvm.Cond.static ({ cls := "QueueDrive", name := "in", desc := "(JJJ)Z" } : Jvm.MethodName)) ∈ lw_all := lw_g (lw_at lw_m3 206 rfl) rfl
theorem q778 : (Jvm.Cond.code ({ cls := "QueueDrive", name := "in", desc := "(JJJ)Z" } : Jvm.MethodName) prog_1_method_1_code (6 : Nat) (Option.some Jvm.ClassFile.FieldType.boolean)) ∈ lw_all := lw_g (lw_at lw_m3 207 rfl) rfl
theorem q780 : (Jvm.Cond.instanceMethod ({ cls := "QueueDrive", name := "queues", desc := "()I" } : Jvm.MethodName)) ∈ lw_all := lw_g (lw_at lw_m3 209 rfl) rfl
theorem q781 : (Jvm.Cond.selects "QueueDrive" ({ cls := "QueueDrive", name := "queues", desc := "()I" } : Jvm.MethodName) ({ cls := "QueueDrive", name := "queues", desc := "()I" } : Jvm.MethodName)) ∈ lw_all := lw_g (lw_at lw_m3 210 rfl) rfl
theorem q782 : (Jvm.Cond.codeWith ({ cls := "QueueDrive", name := "queues", desc := "()I" } : Jvm.MethodName) prog_1_method_9_code (7 : Nat) (Option.some Jvm.ClassFile.FieldType.int) [((7 : Nat), (88 : Nat), (91 : Nat), (110 : Nat))]) ∈ lw_all := lw_g (lw_at lw_m3 211 rfl) rfl
theorem q783 : (Jvm.Cond.classLink "QueueDrive" (110 : Nat) "QueueDrive$Fault") ∈ lw_all := lw_g (lw_at lw_m3 212 rfl) rfl
theorem q784 : (Jvm.Cond.methodLink "QueueDrive" (76 : Nat) ({ cls := "QueueDrive", name := "words", desc := "(I)LQueueDrive$Words;" } : Jvm.MethodName)) ∈ lw_all := lw_g (lw_at lw_m3 213 rfl) rfl
theorem q785 : (Jvm.Cond.privateMethod ({ cls := "QueueDrive", name := "words", desc := "(I)LQueueDrive$Words;" } : Jvm.MethodName)) ∈ lw_tbl := lw_at lw_m3 214 rfl
theorem q786 : (Jvm.Cond.instanceMethod ({ cls := "QueueDrive", name := "words", desc := "(I)LQueueDrive$Words;" } : Jvm.MethodName)) ∈ lw_all := lw_g (lw_at lw_m3 215 rfl) rfl
theorem q787 : (Jvm.Cond.code ({ cls := "QueueDrive", name := "words", desc := "(I)LQueueDrive$Words;" } : Jvm.MethodName) prog_1_method_6_code (3 : Nat) (Option.some (Jvm.ClassFile.FieldType.object "QueueDrive$Words"))) ∈ lw_all := lw_g (lw_at lw_m3 216 rfl) rfl
theorem q788 : (Jvm.Cond.classLink "QueueDrive" (68 : Nat) "QueueDrive$Words") ∈ lw_all := lw_g (lw_at lw_m3 217 rfl) rfl
theorem q790 : (Jvm.Cond.methodLink "QueueDrive" (73 : Nat) ({ cls := "QueueDrive$Words", name := "<init>", desc := "([BII)V" } : Jvm.MethodName)) ∈ lw_all := lw_g (lw_at lw_m3 219 rfl) rfl
theorem q805 : (Jvm.Cond.fieldLink "QueueDrive" (100 : Nat) "QueueDrive$Words" "at" "I") ∈ lw_all := lw_g (lw_at lw_m3 234 rfl) rfl
theorem q815 : (Jvm.Cond.methodLink "QueueDrive" (80 : Nat) ({ cls := "QueueDrive$Words", name := "digit", desc := "(CI)I" } : Jvm.MethodName)) ∈ lw_all := lw_g (lw_at lw_m4 4 rfl) rfl
theorem q851 : (Jvm.Cond.fieldLinkNest "QueueDrive" (112 : Nat) "QueueDrive$Fault" "at" "I" "QueueDrive") ∈ lw_tbl := lw_at lw_m4 40 rfl
theorem q856 : (Jvm.Cond.methodLink "QueueDrive" (84 : Nat) ({ cls := "QueueDrive$Words", name := "here", desc := "()I" } : Jvm.MethodName)) ∈ lw_all := lw_g (lw_at lw_m4 45 rfl) rfl
theorem q857 : (Jvm.Cond.stringRef "QueueDrive" (88 : Nat) "uhml") ∈ lw_tbl := lw_at lw_m4 46 rfl
theorem q858 : (Jvm.Cond.methodLink "QueueDrive" (90 : Nat) ({ cls := "java/lang/String", name := "indexOf", desc := "(I)I" } : Jvm.MethodName)) ∈ lw_all := lw_g (lw_at lw_m4 47 rfl) rfl
theorem q908 : (Jvm.Cond.methodLink "QueueDrive" (96 : Nat) ({ cls := "QueueDrive$Words", name := "need", desc := "(Z)V" } : Jvm.MethodName)) ∈ lw_all := lw_g (lw_at lw_m4 97 rfl) rfl
theorem q909 : (Jvm.Cond.methodLink "QueueDrive" (103 : Nat) ({ cls := "QueueDrive$Words", name := "passes", desc := "(C)Z" } : Jvm.MethodName)) ∈ lw_all := lw_g (lw_at lw_m4 98 rfl) rfl
theorem q916 : (Jvm.Cond.methodLink "QueueDrive" (107 : Nat) ({ cls := "QueueDrive$Words", name := "needEnd", desc := "()V" } : Jvm.MethodName)) ∈ lw_all := lw_g (lw_at lw_m4 105 rfl) rfl
theorem q923 : (Jvm.Cond.methodLink "QueueDrive" (117 : Nat) ({ cls := "QueueDrive$Line", name := "empty", desc := "()V" } : Jvm.MethodName)) ∈ lw_all := lw_g (lw_at lw_m4 112 rfl) rfl
theorem q939 : (Jvm.Cond.instanceMethod ({ cls := "QueueDrive", name := "rule", desc := "()I" } : Jvm.MethodName)) ∈ lw_all := lw_g (lw_at lw_m4 128 rfl) rfl
theorem q940 : (Jvm.Cond.selects "QueueDrive" ({ cls := "QueueDrive", name := "rule", desc := "()I" } : Jvm.MethodName) ({ cls := "QueueDrive", name := "rule", desc := "()I" } : Jvm.MethodName)) ∈ lw_all := lw_g (lw_at lw_m4 129 rfl) rfl
theorem q941 : (Jvm.Cond.codeWith ({ cls := "QueueDrive", name := "rule", desc := "()I" } : Jvm.MethodName) prog_1_method_10_code (4 : Nat) (Option.some Jvm.ClassFile.FieldType.int) [((32 : Nat), (49 : Nat), (50 : Nat), (110 : Nat))]) ∈ lw_all := lw_g (lw_at lw_m4 130 rfl) rfl
theorem q942 : (Jvm.Cond.methodLink "QueueDrive" (141 : Nat) ({ cls := "[B", name := "clone", desc := "()Ljava/lang/Object;" } : Jvm.MethodName)) ∈ lw_all := lw_g (lw_at lw_m4 131 rfl) rfl
theorem q943 : (Jvm.Cond.classLink "QueueDrive" (142 : Nat) "[B") ∈ lw_all := lw_g (lw_at lw_m4 132 rfl) rfl
theorem q944 : (Jvm.Cond.classLink "QueueDrive" (150 : Nat) "QueueDrive$Rule") ∈ lw_all := lw_g (lw_at lw_m4 133 rfl) rfl
theorem q946 : (Jvm.Cond.methodLink "QueueDrive" (152 : Nat) ({ cls := "QueueDrive$Rule", name := "<init>", desc := "([BI)V" } : Jvm.MethodName)) ∈ lw_all := lw_g (lw_at lw_m4 135 rfl) rfl
theorem q964 : (Jvm.Cond.methodLink "QueueDrive" (155 : Nat) ({ cls := "QueueDrive$Rule", name := "read", desc := "()LQueueDrive$Rule;" } : Jvm.MethodName)) ∈ lw_all := lw_g (lw_at lw_m4 153 rfl) rfl
theorem q1023 : (Jvm.Cond.instanceMethod ({ cls := "QueueDrive", name := "sheet", desc := "(IIII)I" } : Jvm.MethodName)) ∈ lw_all := lw_g (lw_at lw_m4 212 rfl) rfl
theorem q1024 : (Jvm.Cond.selects "QueueDrive" ({ cls := "QueueDrive", name := "sheet", desc := "(IIII)I" } : Jvm.MethodName) ({ cls := "QueueDrive", name := "sheet", desc := "(IIII)I" } : Jvm.MethodName)) ∈ lw_all := lw_g (lw_at lw_m4 213 rfl) rfl
theorem q1025 : (Jvm.Cond.codeWith ({ cls := "QueueDrive", name := "sheet", desc := "(IIII)I" } : Jvm.MethodName) prog_1_method_14_code (7 : Nat) (Option.some Jvm.ClassFile.FieldType.int) [((28 : Nat), (38 : Nat), (41 : Nat), (202 : Nat))]) ∈ lw_all := lw_g (lw_at lw_m4 214 rfl) rfl
theorem q1026 : (Jvm.Cond.classLink "QueueDrive" (202 : Nat) "java/lang/NegativeArraySizeException") ∈ lw_all := lw_g (lw_at lw_m4 215 rfl) rfl
theorem q1027 : (Jvm.Cond.constantLong "QueueDrive" (196 : Nat) (3 : Int64)) ∈ lw_all := lw_g (lw_at lw_m4 216 rfl) rfl
theorem q1028 : (Jvm.Cond.methodLink "QueueDrive" (198 : Nat) ({ cls := "QueueDrive", name := "rowOf", desc := "(IIII)Ljava/lang/Object;" } : Jvm.MethodName)) ∈ lw_all := lw_g (lw_at lw_m4 217 rfl) rfl
theorem q1029 : (Jvm.Cond.static ({ cls := "QueueDrive", name := "rowOf", desc := "(IIII)Ljava/lang/Object;" } : Jvm.MethodName)) ∈ lw_all := lw_g (lw_at lw_m4 218 rfl) rfl
theorem q1030 : (Jvm.Cond.code ({ cls := "QueueDrive", name := "rowOf", desc := "(IIII)Ljava/lang/Object;" } : Jvm.MethodName) prog_1_method_12_code (7 : Nat) (Option.some (Jvm.ClassFile.FieldType.object "java/lang/Object"))) ∈ lw_all := lw_g (lw_at lw_m4 219 rfl) rfl
theorem q1031 : (Jvm.Cond.methodLink "QueueDrive" (207 : Nat) ({ cls := "QueueDrive", name := "entry", desc := "(Ljava/lang/Object;I)I" } : Jvm.MethodName)) ∈ lw_all := lw_g (lw_at lw_m4 220 rfl) rfl
theorem q1032 : (Jvm.Cond.static ({ cls := "QueueDrive", name := "entry", desc := "(Ljava/lang/Object;I)I" } : Jvm.MethodName)) ∈ lw_all := lw_g (lw_at lw_m4 221 rfl) rfl
theorem q1033 : (Jvm.Cond.code ({ cls := "QueueDrive", name := "entry", desc := "(Ljava/lang/Object;I)I" } : Jvm.MethodName) prog_1_method_13_code (2 : Nat) (Option.some Jvm.ClassFile.FieldType.int)) ∈ lw_all := lw_g (lw_at lw_m4 222 rfl) rfl
theorem q1034 : (Jvm.Cond.classLink "QueueDrive" (193 : Nat) "[S") ∈ lw_all := lw_g (lw_at lw_m4 223 rfl) rfl
theorem q1035 : (Jvm.Cond.classLink "QueueDrive" (195 : Nat) "[I") ∈ lw_all := lw_g (lw_at lw_m4 224 rfl) rfl
theorem q1036 : (Jvm.Cond.methodLink "QueueDrive" (211 : Nat) ({ cls := "java/lang/Math", name := "min", desc := "(II)I" } : Jvm.MethodName)) ∈ lw_all := lw_g (lw_at lw_m4 225 rfl) rfl
theorem q1037 : (Jvm.Cond.methodLink "QueueDrive" (217 : Nat) ({ cls := "java/lang/Math", name := "max", desc := "(II)I" } : Jvm.MethodName)) ∈ lw_all := lw_g (lw_at lw_m4 226 rfl) rfl
theorem q1038 : (Jvm.Cond.methodLink "QueueDrive" (220 : Nat) ({ cls := "QueueDrive$Drive", name := "blocksSum", desc := "()I" } : Jvm.MethodName)) ∈ lw_all := lw_g (lw_at lw_m4 227 rfl) rfl
theorem q1044 : (Jvm.Cond.instanceMethod ({ cls := "QueueDrive", name := "puts", desc := "(IIII)I" } : Jvm.MethodName)) ∈ lw_all := lw_g (lw_at lw_m4 233 rfl) rfl
theorem q1045 : (Jvm.Cond.selects "QueueDrive" ({ cls := "QueueDrive", name := "puts", desc := "(IIII)I" } : Jvm.MethodName) ({ cls := "QueueDrive", name := "puts", desc := "(IIII)I" } : Jvm.MethodName)) ∈ lw_all := lw_g (lw_at lw_m4 234 rfl) rfl
theorem q1046 : (Jvm.Cond.code ({ cls := "QueueDrive", name := "puts", desc := "(IIII)I" } : Jvm.MethodName) prog_1_method_18_code (6 : Nat) (Option.some Jvm.ClassFile.FieldType.int)) ∈ lw_all := lw_g (lw_at lw_m4 235 rfl) rfl
theorem q1047 : (Jvm.Cond.methodLink "QueueDrive" (271 : Nat) ({ cls := "QueueDrive", name := "refusesPut", desc := "(LQueueDrive$Drive;IIII)I" } : Jvm.MethodName)) ∈ lw_all := lw_g (lw_at lw_m4 236 rfl) rfl
theorem q1048 : (Jvm.Cond.static ({ cls := "QueueDrive", name := "refusesPut", desc := "(LQueueDrive$Drive;IIII)I" } : Jvm.MethodName)) ∈ lw_all := lw_g (lw_at lw_m4 237 rfl) rfl
theorem q1049 : (Jvm.Cond.code ({ cls := "QueueDrive", name := "refusesPut", desc := "(LQueueDrive$Drive;IIII)I" } : Jvm.MethodName) prog_1_method_16_code (5 : Nat) (Option.some Jvm.ClassFile.FieldType.int)) ∈ lw_all := lw_g (lw_at lw_m4 238 rfl) rfl
theorem q1050 : (Jvm.Cond.constantLong "QueueDrive" (233 : Nat) (4 : Int64)) ∈ lw_all := lw_g (lw_at lw_m4 239 rfl) rfl
theorem q1051 : (Jvm.Cond.constantLong "QueueDrive" (235 : Nat) (9 : Int64)) ∈ lw_all := lw_g (lw_at lw_m5 0 rfl) rfl
theorem q1052 : (Jvm.Cond.constantLong "QueueDrive" (237 : Nat) (99 : Int64)) ∈ lw_all := lw_g (lw_at lw_m5 1 rfl) rfl
theorem q1053 : (Jvm.Cond.methodLink "QueueDrive" (239 : Nat) ({ cls := "QueueDrive$Line", name := "bySlots", desc := "()I" } : Jvm.MethodName)) ∈ lw_all := lw_g (lw_at lw_m5 2 rfl) rfl
theorem q1057 : (Jvm.Cond.methodLink "QueueDrive" (242 : Nat) ({ cls := "QueueDrive$Line", name := "byIds", desc := "()I" } : Jvm.MethodName)) ∈ lw_all := lw_g (lw_at lw_m5 6 rfl) rfl
theorem q1071 : (Jvm.Cond.methodLink "QueueDrive" (275 : Nat) ({ cls := "QueueDrive", name := "remember", desc := "(LQueueDrive$Drive;)V" } : Jvm.MethodName)) ∈ lw_all := lw_g (lw_at lw_m5 20 rfl) rfl
theorem q1072 : (Jvm.Cond.privateMethod ({ cls := "QueueDrive", name := "remember", desc := "(LQueueDrive$Drive;)V" } : Jvm.MethodName)) ∈ lw_tbl := lw_at lw_m5 21 rfl
theorem q1073 : (Jvm.Cond.instanceMethod ({ cls := "QueueDrive", name := "remember", desc := "(LQueueDrive$Drive;)V" } : Jvm.MethodName)) ∈ lw_all := lw_g (lw_at lw_m5 22 rfl) rfl
theorem q1074 : (Jvm.Cond.code ({ cls := "QueueDrive", name := "remember", desc := "(LQueueDrive$Drive;)V" } : Jvm.MethodName) prog_1_method_15_code (3 : Nat) (Option.none : Option Jvm.ClassFile.FieldType)) ∈ lw_all := lw_g (lw_at lw_m5 23 rfl) rfl
theorem q1075 : (Jvm.Cond.methodLink "QueueDrive" (223 : Nat) ({ cls := "java/lang/System", name := "arraycopy", desc := "(Ljava/lang/Object;ILjava/lang/Object;II)V" } : Jvm.MethodName)) ∈ lw_all := lw_g (lw_at lw_m5 24 rfl) rfl
theorem q1076 : (Jvm.Cond.methodLink "QueueDrive" (229 : Nat) ({ cls := "QueueDrive$Drive", name := "be", desc := "(LQueueDrive$Drive;)V" } : Jvm.MethodName)) ∈ lw_all := lw_g (lw_at lw_m5 25 rfl) rfl
theorem q1205 : (Jvm.Cond.selects "QueueDrive" ({ cls := "java/lang/Object", name := "getClass", desc := "()Ljava/lang/Class;" } : Jvm.MethodName) ({ cls := "java/lang/Object", name := "getClass", desc := "()Ljava/lang/Class;" } : Jvm.MethodName)) ∈ lw_all := lw_g (lw_at lw_m5 154 rfl) rfl
theorem q1430 : (Jvm.Cond.methodLink "QueueDrive" (278 : Nat) ({ cls := "QueueDrive", name := "goPut", desc := "(LQueueDrive$Drive;IIII)I" } : Jvm.MethodName)) ∈ lw_all := lw_g (lw_at lw_m6 139 rfl) rfl
theorem q1431 : (Jvm.Cond.static ({ cls := "QueueDrive", name := "goPut", desc := "(LQueueDrive$Drive;IIII)I" } : Jvm.MethodName)) ∈ lw_all := lw_g (lw_at lw_m6 140 rfl) rfl
theorem q1432 : (Jvm.Cond.code ({ cls := "QueueDrive", name := "goPut", desc := "(LQueueDrive$Drive;IIII)I" } : Jvm.MethodName) prog_1_method_17_code (7 : Nat) (Option.some Jvm.ClassFile.FieldType.int)) ∈ lw_all := lw_g (lw_at lw_m6 141 rfl) rfl
theorem q1433 : (Jvm.Cond.methodLink "QueueDrive" (249 : Nat) ({ cls := "java/util/BitSet", name := "nextClearBit", desc := "(I)I" } : Jvm.MethodName)) ∈ lw_all := lw_g (lw_at lw_m6 142 rfl) rfl
theorem q1445 : (Jvm.Cond.methodLink "QueueDrive" (254 : Nat) ({ cls := "java/util/BitSet", name := "set", desc := "(I)V" } : Jvm.MethodName)) ∈ lw_all := lw_g (lw_at lw_m6 154 rfl) rfl
theorem q1454 : (Jvm.Cond.methodLink "QueueDrive" (262 : Nat) ({ cls := "QueueDrive$Command", name := "<init>", desc := "(IIIIIZ)V" } : Jvm.MethodName)) ∈ lw_all := lw_g (lw_at lw_m6 163 rfl) rfl
theorem q1461 : (Jvm.Cond.fieldLink "QueueDrive" (472 : Nat) "QueueDrive$Command" "line" "I") ∈ lw_all := lw_g (lw_at lw_m6 170 rfl) rfl
theorem q1465 : (Jvm.Cond.fieldLink "QueueDrive" (360 : Nat) "QueueDrive$Command" "id" "I") ∈ lw_all := lw_g (lw_at lw_m6 174 rfl) rfl
theorem q1469 : (Jvm.Cond.fieldLink "QueueDrive" (470 : Nat) "QueueDrive$Command" "op" "I") ∈ lw_all := lw_g (lw_at lw_m6 178 rfl) rfl
theorem q1473 : (Jvm.Cond.fieldLink "QueueDrive" (479 : Nat) "QueueDrive$Command" "block" "I") ∈ lw_all := lw_g (lw_at lw_m6 182 rfl) rfl
theorem q1479 : (Jvm.Cond.fieldLink "QueueDrive" (373 : Nat) "QueueDrive$Command" "isCalled" "Z") ∈ lw_all := lw_g (lw_at lw_m6 188 rfl) rfl
theorem q1493 : (Jvm.Cond.methodLink "QueueDrive" (265 : Nat) ({ cls := "java/util/ArrayDeque", name := "addLast", desc := "(Ljava/lang/Object;)V" } : Jvm.MethodName)) ∈ lw_all := lw_g (lw_at lw_m6 202 rfl) rfl
theorem q1495 : (Jvm.Cond.instanceMethod ({ cls := "QueueDrive", name := "ring", desc := "(I)I" } : Jvm.MethodName)) ∈ lw_all := lw_g (lw_at lw_m6 204 rfl) rfl
theorem q1496 : (Jvm.Cond.selects "QueueDrive" ({ cls := "QueueDrive", name := "ring", desc := "(I)I" } : Jvm.MethodName) ({ cls := "QueueDrive", name := "ring", desc := "(I)I" } : Jvm.MethodName)) ∈ lw_all := lw_g (lw_at lw_m6 205 rfl) rfl
theorem q1497 : (Jvm.Cond.code ({ cls := "QueueDrive", name := "ring", desc := "(I)I" } : Jvm.MethodName) prog_1_method_19_code (2 : Nat) (Option.some Jvm.ClassFile.FieldType.int)) ∈ lw_all := lw_g (lw_at lw_m6 206 rfl) rfl
theorem q1498 : (Jvm.Cond.methodLink "QueueDrive" (159 : Nat) ({ cls := "QueueDrive", name := "isQueue", desc := "(I)Z" } : Jvm.MethodName)) ∈ lw_all := lw_g (lw_at lw_m6 207 rfl) rfl
theorem q1499 : (Jvm.Cond.privateMethod ({ cls := "QueueDrive", name := "isQueue", desc := "(I)Z" } : Jvm.MethodName)) ∈ lw_tbl := lw_at lw_m6 208 rfl
theorem q1500 : (Jvm.Cond.instanceMethod ({ cls := "QueueDrive", name := "isQueue", desc := "(I)Z" } : Jvm.MethodName)) ∈ lw_all := lw_g (lw_at lw_m6 209 rfl) rfl
theorem q1501 : (Jvm.Cond.code ({ cls := "QueueDrive", name := "isQueue", desc := "(I)Z" } : Jvm.MethodName) prog_1_method_5_code (2 : Nat) (Option.some Jvm.ClassFile.FieldType.boolean)) ∈ lw_all := lw_g (lw_at lw_m6 210 rfl) rfl
theorem q1502 : (Jvm.Cond.methodLink "QueueDrive" (281 : Nat) ({ cls := "QueueDrive$Line", name := "bell", desc := "()I" } : Jvm.MethodName)) ∈ lw_all := lw_g (lw_at lw_m6 211 rfl) rfl
theorem q1506 : (Jvm.Cond.methodLink "QueueDrive" (284 : Nat) ({ cls := "QueueDrive$Drive", name := "ringUp", desc := "(LQueueDrive$Line;)I" } : Jvm.MethodName)) ∈ lw_all := lw_g (lw_at lw_m6 215 rfl) rfl
theorem q1512 : (Jvm.Cond.instanceMethod ({ cls := "QueueDrive", name := "ticks", desc := "(I)I" } : Jvm.MethodName)) ∈ lw_all := lw_g (lw_at lw_m6 221 rfl) rfl
theorem q1513 : (Jvm.Cond.selects "QueueDrive" ({ cls := "QueueDrive", name := "ticks", desc := "(I)I" } : Jvm.MethodName) ({ cls := "QueueDrive", name := "ticks", desc := "(I)I" } : Jvm.MethodName)) ∈ lw_all := lw_g (lw_at lw_m6 222 rfl) rfl
theorem q1514 : (Jvm.Cond.code ({ cls := "QueueDrive", name := "ticks", desc := "(I)I" } : Jvm.MethodName) prog_1_method_20_code (4 : Nat) (Option.some Jvm.ClassFile.FieldType.int)) ∈ lw_all := lw_g (lw_at lw_m6 223 rfl) rfl
theorem q1515 : (Jvm.Cond.constantLong "QueueDrive" (288 : Nat) (60 : Int64)) ∈ lw_all := lw_g (lw_at lw_m6 224 rfl) rfl
theorem q1516 : (Jvm.Cond.methodLink "QueueDrive" (296 : Nat) ({ cls := "QueueDrive$Drive", name := "goTick", desc := "(LQueueDrive$Rule;)V" } : Jvm.MethodName)) ∈ lw_all := lw_g (lw_at lw_m6 225 rfl) rfl
theorem q1545 : (Jvm.Cond.fieldLink "QueueDrive" (402 : Nat) "QueueDrive$Work" "first" "LQueueDrive$Command;") ∈ lw_all := lw_g (lw_at lw_m7 14 rfl) rfl
theorem q1548 : (Jvm.Cond.fieldLink "QueueDrive" (410 : Nat) "QueueDrive$Work" "second" "LQueueDrive$Command;") ∈ lw_all := lw_g (lw_at lw_m7 17 rfl) rfl
theorem q1551 : (Jvm.Cond.fieldLink "QueueDrive" (383 : Nat) "QueueDrive$Work" "left" "I") ∈ lw_all := lw_g (lw_at lw_m7 20 rfl) rfl
theorem q1574 : (Jvm.Cond.fieldLink "QueueDrive" (475 : Nat) "QueueDrive$Word" "line" "I") ∈ lw_all := lw_g (lw_at lw_m7 43 rfl) rfl
theorem q1577 : (Jvm.Cond.fieldLink "QueueDrive" (342 : Nat) "QueueDrive$Word" "id" "I") ∈ lw_all := lw_g (lw_at lw_m7 46 rfl) rfl
theorem q1579 : (Jvm.Cond.fieldLink "QueueDrive" (345 : Nat) "QueueDrive$Word" "status" "I") ∈ lw_all := lw_g (lw_at lw_m7 48 rfl) rfl
theorem q1581 : (Jvm.Cond.fieldLink "QueueDrive" (331 : Nat) "QueueDrive$Word" "result" "I") ∈ lw_all := lw_g (lw_at lw_m7 50 rfl) rfl
theorem q1614 : (Jvm.Cond.fieldLink "QueueDrive" (325 : Nat) "QueueDrive$Post" "word" "LQueueDrive$Word;") ∈ lw_all := lw_g (lw_at lw_m7 83 rfl) rfl
theorem q1617 : (Jvm.Cond.fieldLink "QueueDrive" (336 : Nat) "QueueDrive$Post" "head" "I") ∈ lw_all := lw_g (lw_at lw_m7 86 rfl) rfl
theorem q1619 : (Jvm.Cond.fieldLink "QueueDrive" (339 : Nat) "QueueDrive$Post" "phase" "I") ∈ lw_all := lw_g (lw_at lw_m7 88 rfl) rfl
theorem q1754 : (Jvm.Cond.methodLink "QueueDrive" (304 : Nat) ({ cls := "java/util/LinkedList", name := "isEmpty", desc := "()Z" } : Jvm.MethodName)) ∈ lw_all := lw_g (lw_at lw_m7 223 rfl) rfl
theorem q1761 : (Jvm.Cond.methodLink "QueueDrive" (310 : Nat) ({ cls := "QueueDrive", name := "tell", desc := "(J)V" } : Jvm.MethodName)) ∈ lw_all := lw_g (lw_at lw_m7 230 rfl) rfl
theorem q1762 : (Jvm.Cond.privateMethod ({ cls := "QueueDrive", name := "tell", desc := "(J)V" } : Jvm.MethodName)) ∈ lw_tbl := lw_at lw_m7 231 rfl
theorem q1763 : (Jvm.Cond.instanceMethod ({ cls := "QueueDrive", name := "tell", desc := "(J)V" } : Jvm.MethodName)) ∈ lw_all := lw_g (lw_at lw_m7 232 rfl) rfl
theorem q1764 : (Jvm.Cond.code ({ cls := "QueueDrive", name := "tell", desc := "(J)V" } : Jvm.MethodName) prog_1_method_4_code (3 : Nat) (Option.none : Option Jvm.ClassFile.FieldType)) ∈ lw_all := lw_g (lw_at lw_m7 233 rfl) rfl
theorem q1766 : (Jvm.Cond.instanceMethod ({ cls := "QueueDrive", name := "takes", desc := "(I)I" } : Jvm.MethodName)) ∈ lw_all := lw_g (lw_at lw_m7 235 rfl) rfl
theorem q1767 : (Jvm.Cond.selects "QueueDrive" ({ cls := "QueueDrive", name := "takes", desc := "(I)I" } : Jvm.MethodName) ({ cls := "QueueDrive", name := "takes", desc := "(I)I" } : Jvm.MethodName)) ∈ lw_all := lw_g (lw_at lw_m7 236 rfl) rfl
theorem q1768 : (Jvm.Cond.code ({ cls := "QueueDrive", name := "takes", desc := "(I)I" } : Jvm.MethodName) prog_1_method_22_code (4 : Nat) (Option.some Jvm.ClassFile.FieldType.int)) ∈ lw_all := lw_g (lw_at lw_m7 237 rfl) rfl
theorem q1769 : (Jvm.Cond.methodLink "QueueDrive" (317 : Nat) ({ cls := "QueueDrive", name := "refusesTaking", desc := "(LQueueDrive$Drive;I)I" } : Jvm.MethodName)) ∈ lw_all := lw_g (lw_at lw_m7 238 rfl) rfl
theorem q1770 : (Jvm.Cond.static ({ cls := "QueueDrive", name := "refusesTaking", desc := "(LQueueDrive$Drive;I)I" } : Jvm.MethodName)) ∈ lw_all := lw_g (lw_at lw_m7 239 rfl) rfl
theorem q1771 : (Jvm.Cond.code ({ cls := "QueueDrive", name := "refusesTaking", desc := "(LQueueDrive$Drive;I)I" } : Jvm.MethodName) prog_1_method_21_code (2 : Nat) (Option.some Jvm.ClassFile.FieldType.int)) ∈ lw_all := lw_g (lw_at lw_m8 0 rfl) rfl
theorem q1772 : (Jvm.Cond.methodLink "QueueDrive" (316 : Nat) ({ cls := "java/util/ArrayDeque", name := "isEmpty", desc := "()Z" } : Jvm.MethodName)) ∈ lw_all := lw_g (lw_at lw_m8 1 rfl) rfl
theorem q1776 : (Jvm.Cond.methodLink "QueueDrive" (321 : Nat) ({ cls := "QueueDrive$Line", name := "take", desc := "()LQueueDrive$Post;" } : Jvm.MethodName)) ∈ lw_all := lw_g (lw_at lw_m8 5 rfl) rfl
theorem q1790 : (Jvm.Cond.instanceMethod ({ cls := "QueueDrive", name := "calls", desc := "(II)I" } : Jvm.MethodName)) ∈ lw_all := lw_g (lw_at lw_m8 19 rfl) rfl
theorem q1791 : (Jvm.Cond.selects "QueueDrive" ({ cls := "QueueDrive", name := "calls", desc := "(II)I" } : Jvm.MethodName) ({ cls := "QueueDrive", name := "calls", desc := "(II)I" } : Jvm.MethodName)) ∈ lw_all := lw_g (lw_at lw_m8 20 rfl) rfl
theorem q1792 : (Jvm.Cond.code ({ cls := "QueueDrive", name := "calls", desc := "(II)I" } : Jvm.MethodName) prog_1_method_26_code (4 : Nat) (Option.some Jvm.ClassFile.FieldType.int)) ∈ lw_all := lw_g (lw_at lw_m8 21 rfl) rfl
theorem q1793 : (Jvm.Cond.methodLink "QueueDrive" (413 : Nat) ({ cls := "QueueDrive", name := "recallOf", desc := "(LQueueDrive$Drive;II)I" } : Jvm.MethodName)) ∈ lw_all := lw_g (lw_at lw_m8 22 rfl) rfl
theorem q1794 : (Jvm.Cond.privateMethod ({ cls := "QueueDrive", name := "recallOf", desc := "(LQueueDrive$Drive;II)I" } : Jvm.MethodName)) ∈ lw_tbl := lw_at lw_m8 23 rfl
theorem q1795 : (Jvm.Cond.instanceMethod ({ cls := "QueueDrive", name := "recallOf", desc := "(LQueueDrive$Drive;II)I" } : Jvm.MethodName)) ∈ lw_all := lw_g (lw_at lw_m8 24 rfl) rfl
theorem q1796 : (Jvm.Cond.code ({ cls := "QueueDrive", name := "recallOf", desc := "(LQueueDrive$Drive;II)I" } : Jvm.MethodName) prog_1_method_24_code (7 : Nat) (Option.some Jvm.ClassFile.FieldType.int)) ∈ lw_all := lw_g (lw_at lw_m8 25 rfl) rfl
theorem q1797 : (Jvm.Cond.constantLong "QueueDrive" (361 : Nat) (15 : Int64)) ∈ lw_all := lw_g (lw_at lw_m8 26 rfl) rfl
theorem q1798 : (Jvm.Cond.methodLink "QueueDrive" (363 : Nat) ({ cls := "QueueDrive", name := "placeOf", desc := "(LQueueDrive$Line;I)I" } : Jvm.MethodName)) ∈ lw_all := lw_g (lw_at lw_m8 27 rfl) rfl
theorem q1799 : (Jvm.Cond.static ({ cls := "QueueDrive", name := "placeOf", desc := "(LQueueDrive$Line;I)I" } : Jvm.MethodName)) ∈ lw_all := lw_g (lw_at lw_m8 28 rfl) rfl
theorem q1800 : (Jvm.Cond.code ({ cls := "QueueDrive", name := "placeOf", desc := "(LQueueDrive$Line;I)I" } : Jvm.MethodName) prog_1_method_23_code (5 : Nat) (Option.some Jvm.ClassFile.FieldType.int)) ∈ lw_all := lw_g (lw_at lw_m8 29 rfl) rfl
theorem q1801 : (Jvm.Cond.methodLink "QueueDrive" (348 : Nat) ({ cls := "java/util/ArrayDeque", name := "iterator", desc := "()Ljava/util/Iterator;" } : Jvm.MethodName)) ∈ lw_all := lw_g (lw_at lw_m8 30 rfl) rfl
theorem q1802 : (Jvm.Cond.interfaceEntry "QueueDrive" (352 : Nat)) ∈ lw_tbl := lw_at lw_m8 31 rfl
theorem q1803 : (Jvm.Cond.methodLink "QueueDrive" (352 : Nat) ({ cls := "java/util/Iterator", name := "hasNext", desc := "()Z" } : Jvm.MethodName)) ∈ lw_all := lw_g (lw_at lw_m8 32 rfl) rfl
theorem q1804 : (Jvm.Cond.interfaceEntry "QueueDrive" (357 : Nat)) ∈ lw_tbl := lw_at lw_m8 33 rfl
theorem q1805 : (Jvm.Cond.methodLink "QueueDrive" (357 : Nat) ({ cls := "java/util/Iterator", name := "next", desc := "()Ljava/lang/Object;" } : Jvm.MethodName)) ∈ lw_all := lw_g (lw_at lw_m8 34 rfl) rfl
theorem q1806 : (Jvm.Cond.methodLink "QueueDrive" (376 : Nat) ({ cls := "java/util/LinkedList", name := "iterator", desc := "()Ljava/util/Iterator;" } : Jvm.MethodName)) ∈ lw_all := lw_g (lw_at lw_m8 35 rfl) rfl
theorem q1807 : (Jvm.Cond.classLink "QueueDrive" (377 : Nat) "QueueDrive$Work") ∈ lw_all := lw_g (lw_at lw_m8 36 rfl) rfl
theorem q1808 : (Jvm.Cond.methodLink "QueueDrive" (379 : Nat) ({ cls := "QueueDrive$Work", name := "hasId", desc := "(II)Z" } : Jvm.MethodName)) ∈ lw_all := lw_g (lw_at lw_m8 37 rfl) rfl
theorem q1812 : (Jvm.Cond.methodLink "QueueDrive" (417 : Nat) ({ cls := "QueueDrive", name := "goCall", desc := "(LQueueDrive$Drive;II)V" } : Jvm.MethodName)) ∈ lw_all := lw_g (lw_at lw_m8 41 rfl) rfl
theorem q1813 : (Jvm.Cond.static ({ cls := "QueueDrive", name := "goCall", desc := "(LQueueDrive$Drive;II)V" } : Jvm.MethodName)) ∈ lw_all := lw_g (lw_at lw_m8 42 rfl) rfl
theorem q1814 : (Jvm.Cond.code ({ cls := "QueueDrive", name := "goCall", desc := "(LQueueDrive$Drive;II)V" } : Jvm.MethodName) prog_1_method_25_code (7 : Nat) (Option.none : Option Jvm.ClassFile.FieldType)) ∈ lw_all := lw_g (lw_at lw_m8 43 rfl) rfl
theorem q1815 : (Jvm.Cond.methodLink "QueueDrive" (386 : Nat) ({ cls := "java/util/ArrayDeque", name := "size", desc := "()I" } : Jvm.MethodName)) ∈ lw_all := lw_g (lw_at lw_m8 44 rfl) rfl
theorem q1816 : (Jvm.Cond.methodLink "QueueDrive" (389 : Nat) ({ cls := "java/util/ArrayDeque", name := "pollFirst", desc := "()Ljava/lang/Object;" } : Jvm.MethodName)) ∈ lw_all := lw_g (lw_at lw_m8 45 rfl) rfl
theorem q1817 : (Jvm.Cond.methodLink "QueueDrive" (392 : Nat) ({ cls := "QueueDrive$Command", name := "calledBack", desc := "()LQueueDrive$Command;" } : Jvm.MethodName)) ∈ lw_all := lw_g (lw_at lw_m8 46 rfl) rfl
theorem q1823 : (Jvm.Cond.interfaceEntry "QueueDrive" (396 : Nat)) ∈ lw_tbl := lw_at lw_m8 52 rfl
theorem q1824 : (Jvm.Cond.methodLink "QueueDrive" (396 : Nat) ({ cls := "java/util/Iterator", name := "remove", desc := "()V" } : Jvm.MethodName)) ∈ lw_all := lw_g (lw_at lw_m8 53 rfl) rfl
theorem q1825 : (Jvm.Cond.classLink "QueueDrive" (332 : Nat) "QueueDrive$Word") ∈ lw_all := lw_g (lw_at lw_m8 54 rfl) rfl
theorem q1826 : (Jvm.Cond.methodLink "QueueDrive" (406 : Nat) ({ cls := "QueueDrive$Word", name := "<init>", desc := "(LQueueDrive$Command;II)V" } : Jvm.MethodName)) ∈ lw_all := lw_g (lw_at lw_m8 55 rfl) rfl
theorem q1827 : (Jvm.Cond.methodLink "QueueDrive" (409 : Nat) ({ cls := "java/util/LinkedList", name := "addLast", desc := "(Ljava/lang/Object;)V" } : Jvm.MethodName)) ∈ lw_all := lw_g (lw_at lw_m8 56 rfl) rfl
theorem q1829 : (Jvm.Cond.instanceMethod ({ cls := "QueueDrive", name := "resets", desc := "()I" } : Jvm.MethodName)) ∈ lw_all := lw_g (lw_at lw_m8 58 rfl) rfl
theorem q1830 : (Jvm.Cond.selects "QueueDrive" ({ cls := "QueueDrive", name := "resets", desc := "()I" } : Jvm.MethodName) ({ cls := "QueueDrive", name := "resets", desc := "()I" } : Jvm.MethodName)) ∈ lw_all := lw_g (lw_at lw_m8 59 rfl) rfl
theorem q1831 : (Jvm.Cond.code ({ cls := "QueueDrive", name := "resets", desc := "()I" } : Jvm.MethodName) prog_1_method_27_code (4 : Nat) (Option.some Jvm.ClassFile.FieldType.int)) ∈ lw_all := lw_g (lw_at lw_m8 60 rfl) rfl
theorem q1832 : (Jvm.Cond.methodLink "QueueDrive" (421 : Nat) ({ cls := "QueueDrive$Drive", name := "inRings", desc := "()I" } : Jvm.MethodName)) ∈ lw_all := lw_g (lw_at lw_m8 61 rfl) rfl
theorem q1837 : (Jvm.Cond.methodLink "QueueDrive" (424 : Nat) ({ cls := "QueueDrive$Drive", name := "inWork", desc := "()I" } : Jvm.MethodName)) ∈ lw_all := lw_g (lw_at lw_m8 66 rfl) rfl
theorem q1841 : (Jvm.Cond.methodLink "QueueDrive" (427 : Nat) ({ cls := "java/util/LinkedList", name := "size", desc := "()I" } : Jvm.MethodName)) ∈ lw_all := lw_g (lw_at lw_m8 70 rfl) rfl
theorem q1842 : (Jvm.Cond.methodLink "QueueDrive" (428 : Nat) ({ cls := "QueueDrive$Drive", name := "notTaken", desc := "()I" } : Jvm.MethodName)) ∈ lw_all := lw_g (lw_at lw_m8 71 rfl) rfl
theorem q1846 : (Jvm.Cond.methodLink "QueueDrive" (431 : Nat) ({ cls := "QueueDrive$Drive", name := "empty", desc := "()V" } : Jvm.MethodName)) ∈ lw_all := lw_g (lw_at lw_m8 75 rfl) rfl
theorem q1855 : (Jvm.Cond.instanceMethod ({ cls := "QueueDrive", name := "weighs", desc := "(II)I" } : Jvm.MethodName)) ∈ lw_all := lw_g (lw_at lw_m8 84 rfl) rfl
theorem q1856 : (Jvm.Cond.selects "QueueDrive" ({ cls := "QueueDrive", name := "weighs", desc := "(II)I" } : Jvm.MethodName) ({ cls := "QueueDrive", name := "weighs", desc := "(II)I" } : Jvm.MethodName)) ∈ lw_all := lw_g (lw_at lw_m8 85 rfl) rfl
theorem q1857 : (Jvm.Cond.code ({ cls := "QueueDrive", name := "weighs", desc := "(II)I" } : Jvm.MethodName) prog_1_method_28_code (4 : Nat) (Option.some Jvm.ClassFile.FieldType.int)) ∈ lw_all := lw_g (lw_at lw_m8 86 rfl) rfl
theorem q1859 : (Jvm.Cond.instanceMethod ({ cls := "QueueDrive", name := "depth", desc := "(I)I" } : Jvm.MethodName)) ∈ lw_all := lw_g (lw_at lw_m8 88 rfl) rfl
theorem q1860 : (Jvm.Cond.selects "QueueDrive" ({ cls := "QueueDrive", name := "depth", desc := "(I)I" } : Jvm.MethodName) ({ cls := "QueueDrive", name := "depth", desc := "(I)I" } : Jvm.MethodName)) ∈ lw_all := lw_g (lw_at lw_m8 89 rfl) rfl
theorem q1861 : (Jvm.Cond.code ({ cls := "QueueDrive", name := "depth", desc := "(I)I" } : Jvm.MethodName) prog_1_method_29_code (3 : Nat) (Option.some Jvm.ClassFile.FieldType.int)) ∈ lw_all := lw_g (lw_at lw_m8 90 rfl) rfl
theorem q1863 : (Jvm.Cond.instanceMethod ({ cls := "QueueDrive", name := "day", desc := "()I" } : Jvm.MethodName)) ∈ lw_all := lw_g (lw_at lw_m8 92 rfl) rfl
theorem q1864 : (Jvm.Cond.selects "QueueDrive" ({ cls := "QueueDrive", name := "day", desc := "()I" } : Jvm.MethodName) ({ cls := "QueueDrive", name := "day", desc := "()I" } : Jvm.MethodName)) ∈ lw_all := lw_g (lw_at lw_m8 93 rfl) rfl
theorem q1865 : (Jvm.Cond.codeWith ({ cls := "QueueDrive", name := "day", desc := "()I" } : Jvm.MethodName) prog_1_method_30_code (3 : Nat) (Option.some Jvm.ClassFile.FieldType.int) [((21 : Nat), (25 : Nat), (28 : Nat), (110 : Nat))]) ∈ lw_all := lw_g (lw_at lw_m8 94 rfl) rfl
theorem q1866 : (Jvm.Cond.classLink "QueueDrive" (441 : Nat) "QueueDrive$Order") ∈ lw_all := lw_g (lw_at lw_m8 95 rfl) rfl
theorem q1868 : (Jvm.Cond.methodLink "QueueDrive" (443 : Nat) ({ cls := "QueueDrive$Order", name := "<init>", desc := "([BI)V" } : Jvm.MethodName)) ∈ lw_all := lw_g (lw_at lw_m8 97 rfl) rfl
theorem q1873 : (Jvm.Cond.fieldLink "QueueDrive" (457 : Nat) "QueueDrive$Order" "acts" "[C") ∈ lw_all := lw_g (lw_at lw_m8 102 rfl) rfl
theorem q1875 : (Jvm.Cond.fieldLink "QueueDrive" (454 : Nat) "QueueDrive$Order" "queue" "[I") ∈ lw_all := lw_g (lw_at lw_m8 104 rfl) rfl
theorem q1877 : (Jvm.Cond.fieldLink "QueueDrive" (461 : Nat) "QueueDrive$Order" "op" "[I") ∈ lw_all := lw_g (lw_at lw_m8 106 rfl) rfl
theorem q1879 : (Jvm.Cond.fieldLink "QueueDrive" (464 : Nat) "QueueDrive$Order" "block" "[I") ∈ lw_all := lw_g (lw_at lw_m8 108 rfl) rfl
theorem q1881 : (Jvm.Cond.fieldLink "QueueDrive" (467 : Nat) "QueueDrive$Order" "value" "[I") ∈ lw_all := lw_g (lw_at lw_m8 110 rfl) rfl
theorem q1883 : (Jvm.Cond.fieldLink "QueueDrive" (446 : Nat) "QueueDrive$Order" "many" "I") ∈ lw_all := lw_g (lw_at lw_m8 112 rfl) rfl
theorem q1902 : (Jvm.Cond.methodLink "QueueDrive" (444 : Nat) ({ cls := "QueueDrive$Order", name := "read", desc := "()V" } : Jvm.MethodName)) ∈ lw_all := lw_g (lw_at lw_m8 131 rfl) rfl
theorem q1929 : (Jvm.Cond.methodLink "QueueDrive" (447 : Nat) ({ cls := "QueueDrive", name := "act", desc := "(LQueueDrive$Order;I)Z" } : Jvm.MethodName)) ∈ lw_all := lw_g (lw_at lw_m8 158 rfl) rfl
theorem q1930 : (Jvm.Cond.privateMethod ({ cls := "QueueDrive", name := "act", desc := "(LQueueDrive$Order;I)Z" } : Jvm.MethodName)) ∈ lw_tbl := lw_at lw_m8 159 rfl
theorem q1931 : (Jvm.Cond.instanceMethod ({ cls := "QueueDrive", name := "act", desc := "(LQueueDrive$Order;I)Z" } : Jvm.MethodName)) ∈ lw_all := lw_g (lw_at lw_m8 160 rfl) rfl
theorem q1932 : (Jvm.Cond.code ({ cls := "QueueDrive", name := "act", desc := "(LQueueDrive$Order;I)Z" } : Jvm.MethodName) prog_1_method_31_code (5 : Nat) (Option.some Jvm.ClassFile.FieldType.boolean)) ∈ lw_all := lw_g (lw_at lw_m8 161 rfl) rfl
theorem q1934 : (Jvm.Cond.instanceMethod ({ cls := "QueueDrive", name := "undo", desc := "()I" } : Jvm.MethodName)) ∈ lw_all := lw_g (lw_at lw_m8 163 rfl) rfl
theorem q1935 : (Jvm.Cond.selects "QueueDrive" ({ cls := "QueueDrive", name := "undo", desc := "()I" } : Jvm.MethodName) ({ cls := "QueueDrive", name := "undo", desc := "()I" } : Jvm.MethodName)) ∈ lw_all := lw_g (lw_at lw_m8 164 rfl) rfl
theorem q1936 : (Jvm.Cond.code ({ cls := "QueueDrive", name := "undo", desc := "()I" } : Jvm.MethodName) prog_1_method_32_code (1 : Nat) (Option.some Jvm.ClassFile.FieldType.int)) ∈ lw_all := lw_g (lw_at lw_m8 165 rfl) rfl
theorem q1938 : (Jvm.Cond.instanceMethod ({ cls := "QueueDrive", name := "waiting", desc := "(I)I" } : Jvm.MethodName)) ∈ lw_all := lw_g (lw_at lw_m8 167 rfl) rfl
theorem q1939 : (Jvm.Cond.selects "QueueDrive" ({ cls := "QueueDrive", name := "waiting", desc := "(I)I" } : Jvm.MethodName) ({ cls := "QueueDrive", name := "waiting", desc := "(I)I" } : Jvm.MethodName)) ∈ lw_all := lw_g (lw_at lw_m8 168 rfl) rfl
theorem q1940 : (Jvm.Cond.code ({ cls := "QueueDrive", name := "waiting", desc := "(I)I" } : Jvm.MethodName) prog_1_method_33_code (4 : Nat) (Option.some Jvm.ClassFile.FieldType.int)) ∈ lw_all := lw_g (lw_at lw_m8 169 rfl) rfl
theorem q1942 : (Jvm.Cond.instanceMethod ({ cls := "QueueDrive", name := "running", desc := "()I" } : Jvm.MethodName)) ∈ lw_all := lw_g (lw_at lw_m8 171 rfl) rfl
theorem q1943 : (Jvm.Cond.selects "QueueDrive" ({ cls := "QueueDrive", name := "running", desc := "()I" } : Jvm.MethodName) ({ cls := "QueueDrive", name := "running", desc := "()I" } : Jvm.MethodName)) ∈ lw_all := lw_g (lw_at lw_m8 172 rfl) rfl
theorem q1944 : (Jvm.Cond.code ({ cls := "QueueDrive", name := "running", desc := "()I" } : Jvm.MethodName) prog_1_method_34_code (3 : Nat) (Option.some Jvm.ClassFile.FieldType.int)) ∈ lw_all := lw_g (lw_at lw_m8 173 rfl) rfl
theorem q1946 : (Jvm.Cond.instanceMethod ({ cls := "QueueDrive", name := "outbox", desc := "()I" } : Jvm.MethodName)) ∈ lw_all := lw_g (lw_at lw_m8 175 rfl) rfl
theorem q1947 : (Jvm.Cond.selects "QueueDrive" ({ cls := "QueueDrive", name := "outbox", desc := "()I" } : Jvm.MethodName) ({ cls := "QueueDrive", name := "outbox", desc := "()I" } : Jvm.MethodName)) ∈ lw_all := lw_g (lw_at lw_m8 176 rfl) rfl
theorem q1948 : (Jvm.Cond.code ({ cls := "QueueDrive", name := "outbox", desc := "()I" } : Jvm.MethodName) prog_1_method_35_code (3 : Nat) (Option.some Jvm.ClassFile.FieldType.int)) ∈ lw_all := lw_g (lw_at lw_m8 177 rfl) rfl
theorem q1950 : (Jvm.Cond.instanceMethod ({ cls := "QueueDrive", name := "phases", desc := "(I)I" } : Jvm.MethodName)) ∈ lw_all := lw_g (lw_at lw_m8 179 rfl) rfl
theorem q1951 : (Jvm.Cond.selects "QueueDrive" ({ cls := "QueueDrive", name := "phases", desc := "(I)I" } : Jvm.MethodName) ({ cls := "QueueDrive", name := "phases", desc := "(I)I" } : Jvm.MethodName)) ∈ lw_all := lw_g (lw_at lw_m8 180 rfl) rfl
theorem q1952 : (Jvm.Cond.code ({ cls := "QueueDrive", name := "phases", desc := "(I)I" } : Jvm.MethodName) prog_1_method_36_code (5 : Nat) (Option.some Jvm.ClassFile.FieldType.int)) ∈ lw_all := lw_g (lw_at lw_m8 181 rfl) rfl
theorem q1953 : (Jvm.Cond.methodLink "QueueDrive" (476 : Nat) ({ cls := "QueueDrive$Line", name := "phaseOf", desc := "(I)I" } : Jvm.MethodName)) ∈ lw_all := lw_g (lw_at lw_m8 182 rfl) rfl
theorem q1955 : (Jvm.Cond.instanceMethod ({ cls := "QueueDrive", name := "room", desc := "(I)I" } : Jvm.MethodName)) ∈ lw_all := lw_g (lw_at lw_m8 184 rfl) rfl
theorem q1956 : (Jvm.Cond.selects "QueueDrive" ({ cls := "QueueDrive", name := "room", desc := "(I)I" } : Jvm.MethodName) ({ cls := "QueueDrive", name := "room", desc := "(I)I" } : Jvm.MethodName)) ∈ lw_all := lw_g (lw_at lw_m8 185 rfl) rfl
theorem q1957 : (Jvm.Cond.code ({ cls := "QueueDrive", name := "room", desc := "(I)I" } : Jvm.MethodName) prog_1_method_37_code (3 : Nat) (Option.some Jvm.ClassFile.FieldType.int)) ∈ lw_all := lw_g (lw_at lw_m8 186 rfl) rfl
theorem q1959 : (Jvm.Cond.instanceMethod ({ cls := "QueueDrive", name := "block", desc := "(I)I" } : Jvm.MethodName)) ∈ lw_all := lw_g (lw_at lw_m8 188 rfl) rfl
theorem q1960 : (Jvm.Cond.selects "QueueDrive" ({ cls := "QueueDrive", name := "block", desc := "(I)I" } : Jvm.MethodName) ({ cls := "QueueDrive", name := "block", desc := "(I)I" } : Jvm.MethodName)) ∈ lw_all := lw_g (lw_at lw_m8 189 rfl) rfl
theorem q1961 : (Jvm.Cond.code ({ cls := "QueueDrive", name := "block", desc := "(I)I" } : Jvm.MethodName) prog_1_method_38_code (7 : Nat) (Option.some Jvm.ClassFile.FieldType.int)) ∈ lw_all := lw_g (lw_at lw_m8 190 rfl) rfl
theorem q1962 : (Jvm.Cond.methodLink "QueueDrive" (481 : Nat) ({ cls := "QueueDrive$Command", name := "isWrite", desc := "()Z" } : Jvm.MethodName)) ∈ lw_all := lw_g (lw_at lw_m8 191 rfl) rfl
theorem q1967 : (Jvm.Cond.instanceMethod ({ cls := "QueueDrive", name := "next", desc := "()I" } : Jvm.MethodName)) ∈ lw_all := lw_g (lw_at lw_m8 196 rfl) rfl
theorem q1968 : (Jvm.Cond.selects "QueueDrive" ({ cls := "QueueDrive", name := "next", desc := "()I" } : Jvm.MethodName) ({ cls := "QueueDrive", name := "next", desc := "()I" } : Jvm.MethodName)) ∈ lw_all := lw_g (lw_at lw_m8 197 rfl) rfl
theorem q1969 : (Jvm.Cond.code ({ cls := "QueueDrive", name := "next", desc := "()I" } : Jvm.MethodName) prog_1_method_39_code (2 : Nat) (Option.some Jvm.ClassFile.FieldType.int)) ∈ lw_all := lw_g (lw_at lw_m8 198 rfl) rfl
theorem q1970 : (Jvm.Cond.methodLink "QueueDrive" (484 : Nat) ({ cls := "QueueDrive$Drive", name := "hasWork", desc := "()Z" } : Jvm.MethodName)) ∈ lw_all := lw_g (lw_at lw_m8 199 rfl) rfl
theorem q1971 : (Jvm.Cond.methodLink "QueueDrive" (487 : Nat) ({ cls := "QueueDrive$Drive", name := "chosen", desc := "()LQueueDrive$Line;" } : Jvm.MethodName)) ∈ lw_all := lw_g (lw_at lw_m8 200 rfl) rfl
theorem q1973 : (Jvm.Cond.instanceMethod ({ cls := "QueueDrive", name := "deals", desc := "(I)I" } : Jvm.MethodName)) ∈ lw_all := lw_g (lw_at lw_m8 202 rfl) rfl
theorem q1974 : (Jvm.Cond.selects "QueueDrive" ({ cls := "QueueDrive", name := "deals", desc := "(I)I" } : Jvm.MethodName) ({ cls := "QueueDrive", name := "deals", desc := "(I)I" } : Jvm.MethodName)) ∈ lw_all := lw_g (lw_at lw_m8 203 rfl) rfl
theorem q1975 : (Jvm.Cond.code ({ cls := "QueueDrive", name := "deals", desc := "(I)I" } : Jvm.MethodName) prog_1_method_40_code (8 : Nat) (Option.some Jvm.ClassFile.FieldType.int)) ∈ lw_all := lw_g (lw_at lw_m8 204 rfl) rfl
theorem q1977 : (Jvm.Cond.instanceMethod ({ cls := "QueueDrive", name := "when", desc := "(II)I" } : Jvm.MethodName)) ∈ lw_all := lw_g (lw_at lw_m8 206 rfl) rfl
theorem q1978 : (Jvm.Cond.selects "QueueDrive" ({ cls := "QueueDrive", name := "when", desc := "(II)I" } : Jvm.MethodName) ({ cls := "QueueDrive", name := "when", desc := "(II)I" } : Jvm.MethodName)) ∈ lw_all := lw_g (lw_at lw_m8 207 rfl) rfl
theorem q1979 : (Jvm.Cond.code ({ cls := "QueueDrive", name := "when", desc := "(II)I" } : Jvm.MethodName) prog_1_method_42_code (5 : Nat) (Option.some Jvm.ClassFile.FieldType.int)) ∈ lw_all := lw_g (lw_at lw_m8 208 rfl) rfl
theorem q1980 : (Jvm.Cond.methodLink "QueueDrive" (494 : Nat) ({ cls := "java/util/BitSet", name := "get", desc := "(I)Z" } : Jvm.MethodName)) ∈ lw_all := lw_g (lw_at lw_m8 209 rfl) rfl
theorem q1984 : (Jvm.Cond.methodLink "QueueDrive" (497 : Nat) ({ cls := "QueueDrive", name := "postOf", desc := "(LQueueDrive$Line;I)LQueueDrive$Post;" } : Jvm.MethodName)) ∈ lw_all := lw_g (lw_at lw_m8 213 rfl) rfl
theorem q1985 : (Jvm.Cond.static ({ cls := "QueueDrive", name := "postOf", desc := "(LQueueDrive$Line;I)LQueueDrive$Post;" } : Jvm.MethodName)) ∈ lw_all := lw_g (lw_at lw_m8 214 rfl) rfl
theorem q1986 : (Jvm.Cond.code ({ cls := "QueueDrive", name := "postOf", desc := "(LQueueDrive$Line;I)LQueueDrive$Post;" } : Jvm.MethodName) prog_1_method_41_code (4 : Nat) (Option.some (Jvm.ClassFile.FieldType.object "QueueDrive$Post"))) ∈ lw_all := lw_g (lw_at lw_m8 215 rfl) rfl
theorem q1987 : (Jvm.Cond.classLink "QueueDrive" (326 : Nat) "QueueDrive$Post") ∈ lw_all := lw_g (lw_at lw_m8 216 rfl) rfl
theorem q1989 : (Jvm.Cond.instanceMethod ({ cls := "QueueDrive", name := "drains", desc := "()I" } : Jvm.MethodName)) ∈ lw_all := lw_g (lw_at lw_m8 218 rfl) rfl
theorem q1990 : (Jvm.Cond.selects "QueueDrive" ({ cls := "QueueDrive", name := "drains", desc := "()I" } : Jvm.MethodName) ({ cls := "QueueDrive", name := "drains", desc := "()I" } : Jvm.MethodName)) ∈ lw_all := lw_g (lw_at lw_m8 219 rfl) rfl
theorem q1991 : (Jvm.Cond.code ({ cls := "QueueDrive", name := "drains", desc := "()I" } : Jvm.MethodName) prog_1_method_44_code (2 : Nat) (Option.some Jvm.ClassFile.FieldType.int)) ∈ lw_all := lw_g (lw_at lw_m8 220 rfl) rfl
theorem q1992 : (Jvm.Cond.methodLink "QueueDrive" (510 : Nat) ({ cls := "QueueDrive", name := "drained", desc := "()I" } : Jvm.MethodName)) ∈ lw_all := lw_g (lw_at lw_m8 221 rfl) rfl
theorem q1993 : (Jvm.Cond.privateMethod ({ cls := "QueueDrive", name := "drained", desc := "()I" } : Jvm.MethodName)) ∈ lw_tbl := lw_at lw_m8 222 rfl
theorem q1994 : (Jvm.Cond.instanceMethod ({ cls := "QueueDrive", name := "drained", desc := "()I" } : Jvm.MethodName)) ∈ lw_all := lw_g (lw_at lw_m8 223 rfl) rfl
theorem q1995 : (Jvm.Cond.code ({ cls := "QueueDrive", name := "drained", desc := "()I" } : Jvm.MethodName) prog_1_method_43_code (2 : Nat) (Option.some Jvm.ClassFile.FieldType.int)) ∈ lw_all := lw_g (lw_at lw_m8 224 rfl) rfl
theorem q1996 : (Jvm.Cond.methodLink "QueueDrive" (504 : Nat) ({ cls := "QueueDrive$Drive", name := "isDrained", desc := "()Z" } : Jvm.MethodName)) ∈ lw_all := lw_g (lw_at lw_m8 225 rfl) rfl
theorem q2001 : (Jvm.Cond.methodLink "QueueDrive" (507 : Nat) ({ cls := "QueueDrive$Drive", name := "takeAll", desc := "()I" } : Jvm.MethodName)) ∈ lw_all := lw_g (lw_at lw_m8 230 rfl) rfl
theorem q2007 : (Jvm.Cond.instanceMethod ({ cls := "QueueDrive", name := "would", desc := "(I)I" } : Jvm.MethodName)) ∈ lw_all := lw_g (lw_at lw_m8 236 rfl) rfl
theorem q2008 : (Jvm.Cond.selects "QueueDrive" ({ cls := "QueueDrive", name := "would", desc := "(I)I" } : Jvm.MethodName) ({ cls := "QueueDrive", name := "would", desc := "(I)I" } : Jvm.MethodName)) ∈ lw_all := lw_g (lw_at lw_m8 237 rfl) rfl
theorem q2009 : (Jvm.Cond.code ({ cls := "QueueDrive", name := "would", desc := "(I)I" } : Jvm.MethodName) prog_1_method_45_code (3 : Nat) (Option.some Jvm.ClassFile.FieldType.int)) ∈ lw_all := lw_g (lw_at lw_m8 238 rfl) rfl
theorem q2011 : (Jvm.Cond.instanceMethod ({ cls := "QueueDrive", name := "needs", desc := "(I)I" } : Jvm.MethodName)) ∈ lw_all := lw_g (lw_at lw_m9 0 rfl) rfl
theorem q2012 : (Jvm.Cond.selects "QueueDrive" ({ cls := "QueueDrive", name := "needs", desc := "(I)I" } : Jvm.MethodName) ({ cls := "QueueDrive", name := "needs", desc := "(I)I" } : Jvm.MethodName)) ∈ lw_all := lw_g (lw_at lw_m9 1 rfl) rfl
theorem q2013 : (Jvm.Cond.code ({ cls := "QueueDrive", name := "needs", desc := "(I)I" } : Jvm.MethodName) prog_1_method_46_code (4 : Nat) (Option.some Jvm.ClassFile.FieldType.int)) ∈ lw_all := lw_g (lw_at lw_m9 2 rfl) rfl
theorem q2015 : (Jvm.Cond.instanceMethod ({ cls := "QueueDrive", name := "bells", desc := "()I" } : Jvm.MethodName)) ∈ lw_all := lw_g (lw_at lw_m9 4 rfl) rfl
theorem q2016 : (Jvm.Cond.selects "QueueDrive" ({ cls := "QueueDrive", name := "bells", desc := "()I" } : Jvm.MethodName) ({ cls := "QueueDrive", name := "bells", desc := "()I" } : Jvm.MethodName)) ∈ lw_all := lw_g (lw_at lw_m9 5 rfl) rfl
theorem q2017 : (Jvm.Cond.code ({ cls := "QueueDrive", name := "bells", desc := "()I" } : Jvm.MethodName) prog_1_method_47_code (1 : Nat) (Option.some Jvm.ClassFile.FieldType.int)) ∈ lw_all := lw_g (lw_at lw_m9 6 rfl) rfl
theorem q2019 : (Jvm.Cond.instanceMethod ({ cls := "QueueDrive", name := "recall", desc := "(II)I" } : Jvm.MethodName)) ∈ lw_all := lw_g (lw_at lw_m9 8 rfl) rfl
theorem q2020 : (Jvm.Cond.selects "QueueDrive" ({ cls := "QueueDrive", name := "recall", desc := "(II)I" } : Jvm.MethodName) ({ cls := "QueueDrive", name := "recall", desc := "(II)I" } : Jvm.MethodName)) ∈ lw_all := lw_g (lw_at lw_m9 9 rfl) rfl
theorem q2021 : (Jvm.Cond.code ({ cls := "QueueDrive", name := "recall", desc := "(II)I" } : Jvm.MethodName) prog_1_method_48_code (4 : Nat) (Option.some Jvm.ClassFile.FieldType.int)) ∈ lw_all := lw_g (lw_at lw_m9 10 rfl) rfl
theorem q2023 : (Jvm.Cond.instanceMethod ({ cls := "QueueDrive", name := "served", desc := "()I" } : Jvm.MethodName)) ∈ lw_all := lw_g (lw_at lw_m9 12 rfl) rfl
theorem q2024 : (Jvm.Cond.selects "QueueDrive" ({ cls := "QueueDrive", name := "served", desc := "()I" } : Jvm.MethodName) ({ cls := "QueueDrive", name := "served", desc := "()I" } : Jvm.MethodName)) ∈ lw_all := lw_g (lw_at lw_m9 13 rfl) rfl
theorem q2025 : (Jvm.Cond.code ({ cls := "QueueDrive", name := "served", desc := "()I" } : Jvm.MethodName) prog_1_method_49_code (3 : Nat) (Option.some Jvm.ClassFile.FieldType.int)) ∈ lw_all := lw_g (lw_at lw_m9 14 rfl) rfl
theorem q2027 : (Jvm.Cond.instanceMethod ({ cls := "QueueDrive", name := "heard", desc := "(II)I" } : Jvm.MethodName)) ∈ lw_all := lw_g (lw_at lw_m9 16 rfl) rfl
theorem q2028 : (Jvm.Cond.selects "QueueDrive" ({ cls := "QueueDrive", name := "heard", desc := "(II)I" } : Jvm.MethodName) ({ cls := "QueueDrive", name := "heard", desc := "(II)I" } : Jvm.MethodName)) ∈ lw_all := lw_g (lw_at lw_m9 17 rfl) rfl
theorem q2029 : (Jvm.Cond.code ({ cls := "QueueDrive", name := "heard", desc := "(II)I" } : Jvm.MethodName) prog_1_method_51_code (3 : Nat) (Option.some Jvm.ClassFile.FieldType.int)) ∈ lw_all := lw_g (lw_at lw_m9 18 rfl) rfl
theorem q2030 : (Jvm.Cond.methodLink "QueueDrive" (522 : Nat) ({ cls := "QueueDrive", name := "highOf", desc := "(I)I" } : Jvm.MethodName)) ∈ lw_all := lw_g (lw_at lw_m9 19 rfl) rfl
theorem q2031 : (Jvm.Cond.static ({ cls := "QueueDrive", name := "highOf", desc := "(I)I" } : Jvm.MethodName)) ∈ lw_all := lw_g (lw_at lw_m9 20 rfl) rfl
theorem q2032 : (Jvm.Cond.code ({ cls := "QueueDrive", name := "highOf", desc := "(I)I" } : Jvm.MethodName) prog_1_method_50_code (1 : Nat) (Option.some Jvm.ClassFile.FieldType.int)) ∈ lw_all := lw_g (lw_at lw_m9 21 rfl) rfl
theorem q2034 : (Jvm.Cond.instanceMethod ({ cls := "QueueDrive", name := "denies", desc := "()I" } : Jvm.MethodName)) ∈ lw_all := lw_g (lw_at lw_m9 23 rfl) rfl
theorem q2035 : (Jvm.Cond.selects "QueueDrive" ({ cls := "QueueDrive", name := "denies", desc := "()I" } : Jvm.MethodName) ({ cls := "QueueDrive", name := "denies", desc := "()I" } : Jvm.MethodName)) ∈ lw_all := lw_g (lw_at lw_m9 24 rfl) rfl
theorem q2036 : (Jvm.Cond.code ({ cls := "QueueDrive", name := "denies", desc := "()I" } : Jvm.MethodName) prog_1_method_52_code (2 : Nat) (Option.some Jvm.ClassFile.FieldType.int)) ∈ lw_all := lw_g (lw_at lw_m9 25 rfl) rfl
theorem q2038 : (Jvm.Cond.instanceMethod ({ cls := "QueueDrive", name := "fits", desc := "()I" } : Jvm.MethodName)) ∈ lw_all := lw_g (lw_at lw_m9 27 rfl) rfl
theorem q2039 : (Jvm.Cond.selects "QueueDrive" ({ cls := "QueueDrive", name := "fits", desc := "()I" } : Jvm.MethodName) ({ cls := "QueueDrive", name := "fits", desc := "()I" } : Jvm.MethodName)) ∈ lw_all := lw_g (lw_at lw_m9 28 rfl) rfl
theorem q2040 : (Jvm.Cond.code ({ cls := "QueueDrive", name := "fits", desc := "()I" } : Jvm.MethodName) prog_1_method_56_code (3 : Nat) (Option.some Jvm.ClassFile.FieldType.int)) ∈ lw_all := lw_g (lw_at lw_m9 29 rfl) rfl
theorem q2041 : (Jvm.Cond.methodLink "QueueDrive" (542 : Nat) ({ cls := "QueueDrive", name := "layThought", desc := "()I" } : Jvm.MethodName)) ∈ lw_all := lw_g (lw_at lw_m9 30 rfl) rfl
theorem q2042 : (Jvm.Cond.privateMethod ({ cls := "QueueDrive", name := "layThought", desc := "()I" } : Jvm.MethodName)) ∈ lw_tbl := lw_at lw_m9 31 rfl
theorem q2043 : (Jvm.Cond.instanceMethod ({ cls := "QueueDrive", name := "layThought", desc := "()I" } : Jvm.MethodName)) ∈ lw_all := lw_g (lw_at lw_m9 32 rfl) rfl
theorem q2044 : (Jvm.Cond.code ({ cls := "QueueDrive", name := "layThought", desc := "()I" } : Jvm.MethodName) prog_1_method_55_code (4 : Nat) (Option.some Jvm.ClassFile.FieldType.int)) ∈ lw_all := lw_g (lw_at lw_m9 33 rfl) rfl
theorem q2045 : (Jvm.Cond.methodLink "QueueDrive" (528 : Nat) ({ cls := "java/util/Arrays", name := "fill", desc := "([Ljava/lang/Object;Ljava/lang/Object;)V" } : Jvm.MethodName)) ∈ lw_all := lw_g (lw_at lw_m9 34 rfl) rfl
theorem q2048 : (Jvm.Cond.methodLink "QueueDrive" (534 : Nat) ({ cls := "QueueDrive", name := "think", desc := "(LQueueDrive$Command;Z)V" } : Jvm.MethodName)) ∈ lw_all := lw_g (lw_at lw_m9 37 rfl) rfl
theorem q2049 : (Jvm.Cond.privateMethod ({ cls := "QueueDrive", name := "think", desc := "(LQueueDrive$Command;Z)V" } : Jvm.MethodName)) ∈ lw_tbl := lw_at lw_m9 38 rfl
theorem q2050 : (Jvm.Cond.instanceMethod ({ cls := "QueueDrive", name := "think", desc := "(LQueueDrive$Command;Z)V" } : Jvm.MethodName)) ∈ lw_all := lw_g (lw_at lw_m9 39 rfl) rfl
theorem q2051 : (Jvm.Cond.code ({ cls := "QueueDrive", name := "think", desc := "(LQueueDrive$Command;Z)V" } : Jvm.MethodName) prog_1_method_53_code (3 : Nat) (Option.none : Option Jvm.ClassFile.FieldType)) ∈ lw_all := lw_g (lw_at lw_m9 40 rfl) rfl
theorem q2052 : (Jvm.Cond.methodLink "QueueDrive" (538 : Nat) ({ cls := "QueueDrive", name := "isSo", desc := "(III)Z" } : Jvm.MethodName)) ∈ lw_all := lw_g (lw_at lw_m9 41 rfl) rfl
theorem q2053 : (Jvm.Cond.privateMethod ({ cls := "QueueDrive", name := "isSo", desc := "(III)Z" } : Jvm.MethodName)) ∈ lw_tbl := lw_at lw_m9 42 rfl
theorem q2054 : (Jvm.Cond.instanceMethod ({ cls := "QueueDrive", name := "isSo", desc := "(III)Z" } : Jvm.MethodName)) ∈ lw_all := lw_g (lw_at lw_m9 43 rfl) rfl
theorem q2055 : (Jvm.Cond.code ({ cls := "QueueDrive", name := "isSo", desc := "(III)Z" } : Jvm.MethodName) prog_1_method_54_code (5 : Nat) (Option.some Jvm.ClassFile.FieldType.boolean)) ∈ lw_all := lw_g (lw_at lw_m9 44 rfl) rfl
theorem q2057 : (Jvm.Cond.instanceMethod ({ cls := "QueueDrive", name := "asks", desc := "()I" } : Jvm.MethodName)) ∈ lw_all := lw_g (lw_at lw_m9 46 rfl) rfl
theorem q2058 : (Jvm.Cond.selects "QueueDrive" ({ cls := "QueueDrive", name := "asks", desc := "()I" } : Jvm.MethodName) ({ cls := "QueueDrive", name := "asks", desc := "()I" } : Jvm.MethodName)) ∈ lw_all := lw_g (lw_at lw_m9 47 rfl) rfl
theorem q2059 : (Jvm.Cond.code ({ cls := "QueueDrive", name := "asks", desc := "()I" } : Jvm.MethodName) prog_1_method_57_code (8 : Nat) (Option.some Jvm.ClassFile.FieldType.int)) ∈ lw_all := lw_g (lw_at lw_m9 48 rfl) rfl
theorem q2060 : (Jvm.Cond.constant "QueueDrive" (545 : Nat) (1000000 : Int32)) ∈ lw_all := lw_g (lw_at lw_m9 49 rfl) rfl
theorem q2062 : (Jvm.Cond.instanceMethod ({ cls := "QueueDrive", name := "laps", desc := "(III)I" } : Jvm.MethodName)) ∈ lw_all := lw_g (lw_at lw_m9 51 rfl) rfl
theorem q2063 : (Jvm.Cond.selects "QueueDrive" ({ cls := "QueueDrive", name := "laps", desc := "(III)I" } : Jvm.MethodName) ({ cls := "QueueDrive", name := "laps", desc := "(III)I" } : Jvm.MethodName)) ∈ lw_all := lw_g (lw_at lw_m9 52 rfl) rfl
theorem q2064 : (Jvm.Cond.code ({ cls := "QueueDrive", name := "laps", desc := "(III)I" } : Jvm.MethodName) prog_1_method_58_code (7 : Nat) (Option.some Jvm.ClassFile.FieldType.int)) ∈ lw_all := lw_g (lw_at lw_m9 53 rfl) rfl
theorem q2065 : (Jvm.Cond.constantLong "QueueDrive" (546 : Nat) (2 : Int64)) ∈ lw_all := lw_g (lw_at lw_m9 54 rfl) rfl
theorem q2066 : (Jvm.Cond.constantLong "QueueDrive" (548 : Nat) (40 : Int64)) ∈ lw_all := lw_g (lw_at lw_m9 55 rfl) rfl
theorem q2068 : (Jvm.Cond.instanceMethod ({ cls := "QueueDrive", name := "law", desc := "()I" } : Jvm.MethodName)) ∈ lw_all := lw_g (lw_at lw_m9 57 rfl) rfl
theorem q2069 : (Jvm.Cond.selects "QueueDrive" ({ cls := "QueueDrive", name := "law", desc := "()I" } : Jvm.MethodName) ({ cls := "QueueDrive", name := "law", desc := "()I" } : Jvm.MethodName)) ∈ lw_all := lw_g (lw_at lw_m9 58 rfl) rfl
theorem q2070 : (Jvm.Cond.codeWith ({ cls := "QueueDrive", name := "law", desc := "()I" } : Jvm.MethodName) prog_1_method_60_code (9 : Nat) (Option.some Jvm.ClassFile.FieldType.int) [((32 : Nat), (62 : Nat), (70 : Nat), (110 : Nat)), ((32 : Nat), (62 : Nat), (91 : Nat), (0 : Nat)), ((70 : Nat), (83 : Nat), (91 : Nat), (0 : Nat)), ((91 : Nat), (93 : Nat), (91 : Nat), (0 : Nat))]) ∈ lw_all := lw_g (lw_at lw_m9 59 rfl) rfl
theorem q2071 : (Jvm.Cond.methodLink "QueueDrive" (550 : Nat) ({ cls := "QueueDrive", name := "drainedBy", desc := "()I" } : Jvm.MethodName)) ∈ lw_all := lw_g (lw_at lw_m9 60 rfl) rfl
theorem q2072 : (Jvm.Cond.privateMethod ({ cls := "QueueDrive", name := "drainedBy", desc := "()I" } : Jvm.MethodName)) ∈ lw_tbl := lw_at lw_m9 61 rfl
theorem q2073 : (Jvm.Cond.instanceMethod ({ cls := "QueueDrive", name := "drainedBy", desc := "()I" } : Jvm.MethodName)) ∈ lw_all := lw_g (lw_at lw_m9 62 rfl) rfl
theorem q2074 : (Jvm.Cond.code ({ cls := "QueueDrive", name := "drainedBy", desc := "()I" } : Jvm.MethodName) prog_1_method_59_code (2 : Nat) (Option.some Jvm.ClassFile.FieldType.int)) ∈ lw_all := lw_g (lw_at lw_m9 63 rfl) rfl
theorem q2076 : (Jvm.Cond.instanceMethod ({ cls := "QueueDrive", name := "years", desc := "(II)I" } : Jvm.MethodName)) ∈ lw_all := lw_g (lw_at lw_m9 65 rfl) rfl
theorem q2077 : (Jvm.Cond.selects "QueueDrive" ({ cls := "QueueDrive", name := "years", desc := "(II)I" } : Jvm.MethodName) ({ cls := "QueueDrive", name := "years", desc := "(II)I" } : Jvm.MethodName)) ∈ lw_all := lw_g (lw_at lw_m9 66 rfl) rfl
theorem q2078 : (Jvm.Cond.code ({ cls := "QueueDrive", name := "years", desc := "(II)I" } : Jvm.MethodName) prog_1_method_63_code (6 : Nat) (Option.some Jvm.ClassFile.FieldType.int)) ∈ lw_all := lw_g (lw_at lw_m9 67 rfl) rfl
theorem q2079 : (Jvm.Cond.methodLink "QueueDrive" (557 : Nat) ({ cls := "QueueDrive", name := "draw", desc := "(I)I" } : Jvm.MethodName)) ∈ lw_all := lw_g (lw_at lw_m9 68 rfl) rfl
theorem q2080 : (Jvm.Cond.privateMethod ({ cls := "QueueDrive", name := "draw", desc := "(I)I" } : Jvm.MethodName)) ∈ lw_tbl := lw_at lw_m9 69 rfl
theorem q2081 : (Jvm.Cond.instanceMethod ({ cls := "QueueDrive", name := "draw", desc := "(I)I" } : Jvm.MethodName)) ∈ lw_all := lw_g (lw_at lw_m9 70 rfl) rfl
theorem q2082 : (Jvm.Cond.code ({ cls := "QueueDrive", name := "draw", desc := "(I)I" } : Jvm.MethodName) prog_1_method_61_code (2 : Nat) (Option.some Jvm.ClassFile.FieldType.int)) ∈ lw_all := lw_g (lw_at lw_m9 71 rfl) rfl
theorem q2083 : (Jvm.Cond.constant "QueueDrive" (556 : Nat) (1103515245 : Int32)) ∈ lw_all := lw_g (lw_at lw_m9 72 rfl) rfl
theorem q2084 : (Jvm.Cond.methodLink "QueueDrive" (560 : Nat) ({ cls := "QueueDrive", name := "goDrawn", desc := "(LQueueDrive$Drive;II)I" } : Jvm.MethodName)) ∈ lw_all := lw_g (lw_at lw_m9 73 rfl) rfl
theorem q2085 : (Jvm.Cond.privateMethod ({ cls := "QueueDrive", name := "goDrawn", desc := "(LQueueDrive$Drive;II)I" } : Jvm.MethodName)) ∈ lw_tbl := lw_at lw_m9 74 rfl
theorem q2086 : (Jvm.Cond.instanceMethod ({ cls := "QueueDrive", name := "goDrawn", desc := "(LQueueDrive$Drive;II)I" } : Jvm.MethodName)) ∈ lw_all := lw_g (lw_at lw_m9 75 rfl) rfl
theorem q2087 : (Jvm.Cond.code ({ cls := "QueueDrive", name := "goDrawn", desc := "(LQueueDrive$Drive;II)I" } : Jvm.MethodName) prog_1_method_62_code (7 : Nat) (Option.some Jvm.ClassFile.FieldType.int)) ∈ lw_all := lw_g (lw_at lw_m9 76 rfl) rfl
theorem q2088 : (Jvm.Cond.methodLink "QueueDrive" (563 : Nat) ({ cls := "QueueDrive$Drive", name := "fetched", desc := "()I" } : Jvm.MethodName)) ∈ lw_all := lw_g (lw_at lw_m9 77 rfl) rfl
theorem q2093 : (Jvm.Cond.instanceMethod ({ cls := "QueueDrive", name := "keep", desc := "(I)Z" } : Jvm.MethodName)) ∈ lw_all := lw_g (lw_at lw_m9 82 rfl) rfl
theorem q2094 : (Jvm.Cond.selects "QueueDrive" ({ cls := "QueueDrive", name := "keep", desc := "(I)Z" } : Jvm.MethodName) ({ cls := "QueueDrive", name := "keep", desc := "(I)Z" } : Jvm.MethodName)) ∈ lw_all := lw_g (lw_at lw_m9 83 rfl) rfl
theorem q2095 : (Jvm.Cond.code ({ cls := "QueueDrive", name := "keep", desc := "(I)Z" } : Jvm.MethodName) prog_1_method_64_code (2 : Nat) (Option.some Jvm.ClassFile.FieldType.boolean)) ∈ lw_all := lw_g (lw_at lw_m9 84 rfl) rfl
theorem q2097 : (Jvm.Cond.instanceMethod ({ cls := "QueueDrive", name := "again", desc := "(I)Z" } : Jvm.MethodName)) ∈ lw_all := lw_g (lw_at lw_m9 86 rfl) rfl
theorem q2098 : (Jvm.Cond.selects "QueueDrive" ({ cls := "QueueDrive", name := "again", desc := "(I)Z" } : Jvm.MethodName) ({ cls := "QueueDrive", name := "again", desc := "(I)Z" } : Jvm.MethodName)) ∈ lw_all := lw_g (lw_at lw_m9 87 rfl) rfl
theorem q2099 : (Jvm.Cond.code ({ cls := "QueueDrive", name := "again", desc := "(I)Z" } : Jvm.MethodName) prog_1_method_65_code (2 : Nat) (Option.some Jvm.ClassFile.FieldType.boolean)) ∈ lw_all := lw_g (lw_at lw_m9 88 rfl) rfl
theorem q2101 : (Jvm.Cond.instanceMethod ({ cls := "QueueDrive", name := "count", desc := "(I)I" } : Jvm.MethodName)) ∈ lw_all := lw_g (lw_at lw_m9 90 rfl) rfl
theorem q2102 : (Jvm.Cond.selects "QueueDrive" ({ cls := "QueueDrive", name := "count", desc := "(I)I" } : Jvm.MethodName) ({ cls := "QueueDrive", name := "count", desc := "(I)I" } : Jvm.MethodName)) ∈ lw_all := lw_g (lw_at lw_m9 91 rfl) rfl
theorem q2103 : (Jvm.Cond.code ({ cls := "QueueDrive", name := "count", desc := "(I)I" } : Jvm.MethodName) prog_1_method_66_code (2 : Nat) (Option.some Jvm.ClassFile.FieldType.int)) ∈ lw_all := lw_g (lw_at lw_m9 92 rfl) rfl
theorem q2109 : (Jvm.Cond.instanceMethod ({ cls := "QueueDrive", name := "queue", desc := "(II)I" } : Jvm.MethodName)) ∈ lw_all := lw_g (lw_at lw_m9 98 rfl) rfl
theorem q2110 : (Jvm.Cond.selects "QueueDrive" ({ cls := "QueueDrive", name := "queue", desc := "(II)I" } : Jvm.MethodName) ({ cls := "QueueDrive", name := "queue", desc := "(II)I" } : Jvm.MethodName)) ∈ lw_all := lw_g (lw_at lw_m9 99 rfl) rfl
theorem q2111 : (Jvm.Cond.code ({ cls := "QueueDrive", name := "queue", desc := "(II)I" } : Jvm.MethodName) prog_1_method_11_code (4 : Nat) (Option.some Jvm.ClassFile.FieldType.int)) ∈ lw_all := lw_g (lw_at lw_m9 100 rfl) rfl
theorem q2112 : (Jvm.Cond.classLink "QueueDrive" (163 : Nat) "java/util/NoSuchElementException") ∈ lw_all := lw_g (lw_at lw_m9 101 rfl) rfl
theorem q2113 : (Jvm.Cond.methodLink "QueueDrive" (165 : Nat) ({ cls := "java/util/NoSuchElementException", name := "<init>", desc := "()V" } : Jvm.MethodName)) ∈ lw_all := lw_g (lw_at lw_m9 102 rfl) rfl
theorem q2118 : (Jvm.Cond.instanceMethod ({ cls := "QueueDrive", name := "row", desc := "(I)J" } : Jvm.MethodName)) ∈ lw_all := lw_g (lw_at lw_m9 107 rfl) rfl
theorem q2119 : (Jvm.Cond.selects "QueueDrive" ({ cls := "QueueDrive", name := "row", desc := "(I)J" } : Jvm.MethodName) ({ cls := "QueueDrive", name := "row", desc := "(I)J" } : Jvm.MethodName)) ∈ lw_all := lw_g (lw_at lw_m9 108 rfl) rfl
theorem q2120 : (Jvm.Cond.code ({ cls := "QueueDrive", name := "row", desc := "(I)J" } : Jvm.MethodName) prog_1_method_67_code (2 : Nat) (Option.some Jvm.ClassFile.FieldType.long)) ∈ lw_all := lw_g (lw_at lw_m9 109 rfl) rfl
theorem q2778 : (Jvm.Cond.castable "QueueDrive" "java/lang/Object") ∈ lw_tbl := lw_at lw_m12 47 rfl
theorem in_X1 : ∀ w ∈ wsX10, w ∈ lw_all := lw_in wsX10 [722, 724, 726, 728, 730, 732, 734, 736, 738, 740, 742, 744, 746, 748, 750, 752, 754, 756, 758, 760, 762, 764] (by decide +kernel) (by decide +kernel)
