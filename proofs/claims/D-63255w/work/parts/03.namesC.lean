/-! PageServer -/
set_option maxRecDepth 100000
def RX1 : String := "PageServer"
def TX1 : u_T := fun k => match k with
  | 0 => ("PageServer", "pages", "Ljava/util/ArrayList;", true)
  | 1 => ("PageServer", "streams", "Ljava/util/ArrayList;", true)
  | 2 => ("PageServer", "spares", "Ljava/util/ArrayList;", true)
  | 3 => ("PageServer", "table", "LPageServer$Table;", true)
  | 4 => ("PageServer", "block", "LPageServer$Reader;", true)
  | 5 => ("PageServer", "fields", "Ljava/util/ArrayList;", true)
  | 6 => ("PageServer", "frame", "[B", true)
  | 7 => ("PageServer", "came", "I", false)
  | 8 => ("PageServer", "preface", "I", false)
  | 9 => ("PageServer", "type", "I", false)
  | 10 => ("PageServer", "flags", "I", false)
  | 11 => ("PageServer", "number", "I", false)
  | 12 => ("PageServer", "length", "I", false)
  | 13 => ("PageServer", "from", "I", false)
  | 14 => ("PageServer", "to", "I", false)
  | 15 => ("PageServer", "first", "Z", false)
  | 16 => ("PageServer", "blockOf", "I", false)
  | 17 => ("PageServer", "blockEnds", "Z", false)
  | 18 => ("PageServer", "highest", "I", false)
  | 19 => ("PageServer", "away", "I", false)
  | 20 => ("PageServer", "code", "I", false)
  | 21 => ("PageServer", "last", "I", false)
  | 22 => ("PageServer", "window", "I", false)
  | 23 => ("PageServer", "initial", "I", false)
  | 24 => ("PageServer", "longest", "I", false)
  | 25 => ("PageServer", "output", "[B", true)
  | _ => ("PageServer", "high", "I", false)
def tyX1 : Nat → FieldType := fun k => match k with
  | 0 => .object "java/util/ArrayList"
  | 1 => .object "java/util/ArrayList"
  | 2 => .object "java/util/ArrayList"
  | 3 => .object "PageServer$Table"
  | 4 => .object "PageServer$Reader"
  | 5 => .object "java/util/ArrayList"
  | 6 => .array .byte
  | 7 => .int
  | 8 => .int
  | 9 => .int
  | 10 => .int
  | 11 => .int
  | 12 => .int
  | 13 => .int
  | 14 => .int
  | 15 => .boolean
  | 16 => .int
  | 17 => .boolean
  | 18 => .int
  | 19 => .int
  | 20 => .int
  | 21 => .int
  | 22 => .int
  | 23 => .int
  | 24 => .int
  | 25 => .array .byte
  | _ => .int
abbrev wsX10 : List Cond := u_ws RX1 TX1 27
set_option maxRecDepth 100000 in
theorem nmX1 : ∀ a, a < 27 → ∀ b, b < 27 → a ≠ b → (TX1 a).2.1 ≠ (TX1 b).2.1 := by decide +kernel
set_option maxRecDepth 100000 in
theorem tyX1_ok : ∀ k, k < 27 → parseFieldDescriptor (TX1 k).2.2.1 = some (tyX1 k) := by decide +kernel
abbrev cX1_init : ByteArray := prog_1_method_3_code
def yX1_init : MethodName := ⟨RX1, "<init>", "()V"⟩
def dkwX1_init_5 : List UInt8 := [167, 255, 233, 42, 182, 0, 57, 177]
abbrev dktX1_init_5 : List UInt8 := dkwX1_init_5 ++ []
def dkwX1_init_4 : List UInt8 := [7, 162, 0, 24, 42, 180, 0, 23, 187, 0, 50, 89, 183, 0, 52, 182, 0, 53, 87, 132, 1, 1]
abbrev dktX1_init_4 : List UInt8 := dkwX1_init_4 ++ dktX1_init_5
def dkwX1_init_3 : List UInt8 := [181, 0, 40, 42, 17, 0, 204, 188, 8, 181, 0, 43, 42, 17, 4, 176, 188, 8, 181, 0, 47, 3, 60, 27]
abbrev dktX1_init_3 : List UInt8 := dkwX1_init_3 ++ dktX1_init_4
def dkwX1_init_2 : List UInt8 := [181, 0, 29, 42, 187, 0, 33, 89, 183, 0, 35, 181, 0, 36, 42, 187, 0, 13, 89, 183, 0, 15]
abbrev dktX1_init_2 : List UInt8 := dkwX1_init_2 ++ dktX1_init_3
def dkwX1_init_1 : List UInt8 := [181, 0, 20, 42, 187, 0, 13, 89, 183, 0, 15, 181, 0, 23, 42, 187, 0, 26, 89, 183, 0, 28]
abbrev dktX1_init_1 : List UInt8 := dkwX1_init_1 ++ dktX1_init_2
def dkwX1_init_0 : List UInt8 := [42, 183, 0, 7, 42, 187, 0, 13, 89, 183, 0, 15, 181, 0, 16, 42, 187, 0, 13, 89, 183, 0, 15]
abbrev dktX1_init_0 : List UInt8 := dkwX1_init_0 ++ dktX1_init_1
theorem dksX1_init_0 : cX1_init.data.toList.drop 0 = dktX1_init_0 := by decide +kernel
theorem dksX1_init_1 : cX1_init.data.toList.drop 23 = dktX1_init_1 := dk_seg dksX1_init_0 23 rfl rfl
theorem dksX1_init_2 : cX1_init.data.toList.drop 45 = dktX1_init_2 := dk_seg dksX1_init_1 22 rfl rfl
theorem dksX1_init_3 : cX1_init.data.toList.drop 67 = dktX1_init_3 := dk_seg dksX1_init_2 22 rfl rfl
theorem dksX1_init_4 : cX1_init.data.toList.drop 91 = dktX1_init_4 := dk_seg dksX1_init_3 24 rfl rfl
theorem dksX1_init_5 : cX1_init.data.toList.drop 113 = dktX1_init_5 := dk_seg dksX1_init_4 22 rfl rfl
theorem dX1_init_0 : decode cX1_init 0 = .ok (.aload_n 0, 1) := dk_42 (dk_at dksX1_init_0 0 rfl rfl)
theorem dX1_init_1 : decode cX1_init 1 = .ok (.invokespecial 7, 3) := dk_183 0 7 (dk_at dksX1_init_0 1 rfl rfl)
theorem dX1_init_4 : decode cX1_init 4 = .ok (.aload_n 0, 1) := dk_42 (dk_at dksX1_init_0 4 rfl rfl)
theorem dX1_init_5 : decode cX1_init 5 = .ok (.new 13, 3) := dk_187 0 13 (dk_at dksX1_init_0 5 rfl rfl)
theorem dX1_init_8 : decode cX1_init 8 = .ok (.dup, 1) := dk_89 (dk_at dksX1_init_0 8 rfl rfl)
theorem dX1_init_9 : decode cX1_init 9 = .ok (.invokespecial 15, 3) := dk_183 0 15 (dk_at dksX1_init_0 9 rfl rfl)
theorem dX1_init_12 : decode cX1_init 12 = .ok (.putfield 16, 3) := dk_181 0 16 (dk_at dksX1_init_0 12 rfl rfl)
theorem dX1_init_15 : decode cX1_init 15 = .ok (.aload_n 0, 1) := dk_42 (dk_at dksX1_init_0 15 rfl rfl)
theorem dX1_init_16 : decode cX1_init 16 = .ok (.new 13, 3) := dk_187 0 13 (dk_at dksX1_init_0 16 rfl rfl)
theorem dX1_init_19 : decode cX1_init 19 = .ok (.dup, 1) := dk_89 (dk_at dksX1_init_0 19 rfl rfl)
theorem dX1_init_20 : decode cX1_init 20 = .ok (.invokespecial 15, 3) := dk_183 0 15 (dk_at dksX1_init_0 20 rfl rfl)
theorem dX1_init_23 : decode cX1_init 23 = .ok (.putfield 20, 3) := dk_181 0 20 (dk_at dksX1_init_1 0 rfl rfl)
theorem dX1_init_26 : decode cX1_init 26 = .ok (.aload_n 0, 1) := dk_42 (dk_at dksX1_init_1 3 rfl rfl)
theorem dX1_init_27 : decode cX1_init 27 = .ok (.new 13, 3) := dk_187 0 13 (dk_at dksX1_init_1 4 rfl rfl)
theorem dX1_init_30 : decode cX1_init 30 = .ok (.dup, 1) := dk_89 (dk_at dksX1_init_1 7 rfl rfl)
theorem dX1_init_31 : decode cX1_init 31 = .ok (.invokespecial 15, 3) := dk_183 0 15 (dk_at dksX1_init_1 8 rfl rfl)
theorem dX1_init_34 : decode cX1_init 34 = .ok (.putfield 23, 3) := dk_181 0 23 (dk_at dksX1_init_1 11 rfl rfl)
theorem dX1_init_37 : decode cX1_init 37 = .ok (.aload_n 0, 1) := dk_42 (dk_at dksX1_init_1 14 rfl rfl)
theorem dX1_init_38 : decode cX1_init 38 = .ok (.new 26, 3) := dk_187 0 26 (dk_at dksX1_init_1 15 rfl rfl)
theorem dX1_init_41 : decode cX1_init 41 = .ok (.dup, 1) := dk_89 (dk_at dksX1_init_1 18 rfl rfl)
theorem dX1_init_42 : decode cX1_init 42 = .ok (.invokespecial 28, 3) := dk_183 0 28 (dk_at dksX1_init_1 19 rfl rfl)
theorem dX1_init_45 : decode cX1_init 45 = .ok (.putfield 29, 3) := dk_181 0 29 (dk_at dksX1_init_2 0 rfl rfl)
theorem dX1_init_48 : decode cX1_init 48 = .ok (.aload_n 0, 1) := dk_42 (dk_at dksX1_init_2 3 rfl rfl)
theorem dX1_init_49 : decode cX1_init 49 = .ok (.new 33, 3) := dk_187 0 33 (dk_at dksX1_init_2 4 rfl rfl)
theorem dX1_init_52 : decode cX1_init 52 = .ok (.dup, 1) := dk_89 (dk_at dksX1_init_2 7 rfl rfl)
theorem dX1_init_53 : decode cX1_init 53 = .ok (.invokespecial 35, 3) := dk_183 0 35 (dk_at dksX1_init_2 8 rfl rfl)
theorem dX1_init_56 : decode cX1_init 56 = .ok (.putfield 36, 3) := dk_181 0 36 (dk_at dksX1_init_2 11 rfl rfl)
theorem dX1_init_59 : decode cX1_init 59 = .ok (.aload_n 0, 1) := dk_42 (dk_at dksX1_init_2 14 rfl rfl)
theorem dX1_init_60 : decode cX1_init 60 = .ok (.new 13, 3) := dk_187 0 13 (dk_at dksX1_init_2 15 rfl rfl)
theorem dX1_init_63 : decode cX1_init 63 = .ok (.dup, 1) := dk_89 (dk_at dksX1_init_2 18 rfl rfl)
theorem dX1_init_64 : decode cX1_init 64 = .ok (.invokespecial 15, 3) := dk_183 0 15 (dk_at dksX1_init_2 19 rfl rfl)
theorem dX1_init_67 : decode cX1_init 67 = .ok (.putfield 40, 3) := dk_181 0 40 (dk_at dksX1_init_3 0 rfl rfl)
theorem dX1_init_70 : decode cX1_init 70 = .ok (.aload_n 0, 1) := dk_42 (dk_at dksX1_init_3 3 rfl rfl)
theorem dX1_init_71 : decode cX1_init 71 = .ok (.sipush 204, 3) := dk_17 0 204 (dk_at dksX1_init_3 4 rfl rfl)
theorem dX1_init_74 : decode cX1_init 74 = .ok (.newarray .byte, 2) := dk_188_8 (dk_at dksX1_init_3 7 rfl rfl)
theorem dX1_init_76 : decode cX1_init 76 = .ok (.putfield 43, 3) := dk_181 0 43 (dk_at dksX1_init_3 9 rfl rfl)
theorem dX1_init_79 : decode cX1_init 79 = .ok (.aload_n 0, 1) := dk_42 (dk_at dksX1_init_3 12 rfl rfl)
theorem dX1_init_80 : decode cX1_init 80 = .ok (.sipush 1200, 3) := dk_17 4 176 (dk_at dksX1_init_3 13 rfl rfl)
theorem dX1_init_83 : decode cX1_init 83 = .ok (.newarray .byte, 2) := dk_188_8 (dk_at dksX1_init_3 16 rfl rfl)
theorem dX1_init_85 : decode cX1_init 85 = .ok (.putfield 47, 3) := dk_181 0 47 (dk_at dksX1_init_3 18 rfl rfl)
theorem dX1_init_88 : decode cX1_init 88 = .ok (.iconst 0, 1) := dk_3 (dk_at dksX1_init_3 21 rfl rfl)
theorem dX1_init_89 : decode cX1_init 89 = .ok (.istore_n 1, 1) := dk_60 (dk_at dksX1_init_3 22 rfl rfl)
theorem dX1_init_90 : decode cX1_init 90 = .ok (.iload_n 1, 1) := dk_27 (dk_at dksX1_init_3 23 rfl rfl)
theorem dX1_init_91 : decode cX1_init 91 = .ok (.iconst 4, 1) := dk_7 (dk_at dksX1_init_4 0 rfl rfl)
theorem dX1_init_92 : decode cX1_init 92 = .ok (.if_icmp .ge 24, 3) := dk_162 0 24 (dk_at dksX1_init_4 1 rfl rfl)
theorem dX1_init_95 : decode cX1_init 95 = .ok (.aload_n 0, 1) := dk_42 (dk_at dksX1_init_4 4 rfl rfl)
theorem dX1_init_96 : decode cX1_init 96 = .ok (.getfield 23, 3) := dk_180 0 23 (dk_at dksX1_init_4 5 rfl rfl)
theorem dX1_init_99 : decode cX1_init 99 = .ok (.new 50, 3) := dk_187 0 50 (dk_at dksX1_init_4 8 rfl rfl)
theorem dX1_init_102 : decode cX1_init 102 = .ok (.dup, 1) := dk_89 (dk_at dksX1_init_4 11 rfl rfl)
theorem dX1_init_103 : decode cX1_init 103 = .ok (.invokespecial 52, 3) := dk_183 0 52 (dk_at dksX1_init_4 12 rfl rfl)
theorem dX1_init_106 : decode cX1_init 106 = .ok (.invokevirtual 53, 3) := dk_182 0 53 (dk_at dksX1_init_4 15 rfl rfl)
theorem dX1_init_109 : decode cX1_init 109 = .ok (.pop, 1) := dk_87 (dk_at dksX1_init_4 18 rfl rfl)
theorem dX1_init_110 : decode cX1_init 110 = .ok (.iinc 1 1, 3) := dk_132 1 1 (dk_at dksX1_init_4 19 rfl rfl)
theorem dX1_init_113 : decode cX1_init 113 = .ok (.goto (-23), 3) := dk_167 255 233 (dk_at dksX1_init_5 0 rfl rfl)
theorem dX1_init_116 : decode cX1_init 116 = .ok (.aload_n 0, 1) := dk_42 (dk_at dksX1_init_5 3 rfl rfl)
theorem dX1_init_117 : decode cX1_init 117 = .ok (.invokevirtual 57, 3) := dk_182 0 57 (dk_at dksX1_init_5 4 rfl rfl)
theorem dX1_init_120 : decode cX1_init 120 = .ok (.return_, 1) := dk_177 (dk_at dksX1_init_5 7 rfl rfl)
abbrev cX1_restart : ByteArray := prog_1_method_6_code
def yX1_restart : MethodName := ⟨RX1, "restart", "()V"⟩
def dkwX1_restart_5 : List UInt8 := [182, 0, 118, 42, 7, 182, 0, 118, 177]
abbrev dktX1_restart_5 : List UInt8 := dkwX1_restart_5 ++ []
def dkwX1_restart_4 : List UInt8 := [181, 0, 105, 42, 16, 64, 181, 0, 108, 42, 3, 181, 0, 111, 42, 5, 7, 3, 3, 182, 0, 114, 42, 6]
abbrev dktX1_restart_4 : List UInt8 := dkwX1_restart_4 ++ dktX1_restart_5
def dkwX1_restart_3 : List UInt8 := [181, 0, 93, 42, 3, 181, 0, 96, 42, 3, 181, 0, 99, 42, 16, 100, 181, 0, 102, 42, 16, 40]
abbrev dktX1_restart_3 : List UInt8 := dkwX1_restart_3 ++ dktX1_restart_4
def dkwX1_restart_2 : List UInt8 := [181, 0, 81, 42, 4, 181, 0, 84, 42, 2, 181, 0, 88, 42, 180, 0, 36, 3, 181, 0, 91, 42, 3]
abbrev dktX1_restart_2 : List UInt8 := dkwX1_restart_2 ++ dktX1_restart_3
def dkwX1_restart_1 : List UInt8 := [192, 0, 50, 182, 0, 53, 87, 167, 255, 227, 42, 180, 0, 29, 182, 0, 74, 42, 3, 181, 0, 77, 42, 3]
abbrev dktX1_restart_1 : List UInt8 := dkwX1_restart_1 ++ dktX1_restart_2
def dkwX1_restart_0 : List UInt8 := [42, 180, 0, 20, 182, 0, 66, 158, 0, 25, 42, 180, 0, 23, 42, 180, 0, 20, 3, 182, 0, 70]
abbrev dktX1_restart_0 : List UInt8 := dkwX1_restart_0 ++ dktX1_restart_1
theorem dksX1_restart_0 : cX1_restart.data.toList.drop 0 = dktX1_restart_0 := by decide +kernel
theorem dksX1_restart_1 : cX1_restart.data.toList.drop 22 = dktX1_restart_1 := dk_seg dksX1_restart_0 22 rfl rfl
theorem dksX1_restart_2 : cX1_restart.data.toList.drop 46 = dktX1_restart_2 := dk_seg dksX1_restart_1 24 rfl rfl
theorem dksX1_restart_3 : cX1_restart.data.toList.drop 69 = dktX1_restart_3 := dk_seg dksX1_restart_2 23 rfl rfl
theorem dksX1_restart_4 : cX1_restart.data.toList.drop 91 = dktX1_restart_4 := dk_seg dksX1_restart_3 22 rfl rfl
theorem dksX1_restart_5 : cX1_restart.data.toList.drop 115 = dktX1_restart_5 := dk_seg dksX1_restart_4 24 rfl rfl
theorem dX1_restart_0 : decode cX1_restart 0 = .ok (.aload_n 0, 1) := dk_42 (dk_at dksX1_restart_0 0 rfl rfl)
theorem dX1_restart_1 : decode cX1_restart 1 = .ok (.getfield 20, 3) := dk_180 0 20 (dk_at dksX1_restart_0 1 rfl rfl)
theorem dX1_restart_4 : decode cX1_restart 4 = .ok (.invokevirtual 66, 3) := dk_182 0 66 (dk_at dksX1_restart_0 4 rfl rfl)
theorem dX1_restart_7 : decode cX1_restart 7 = .ok (.ifCond .le 25, 3) := dk_158 0 25 (dk_at dksX1_restart_0 7 rfl rfl)
theorem dX1_restart_10 : decode cX1_restart 10 = .ok (.aload_n 0, 1) := dk_42 (dk_at dksX1_restart_0 10 rfl rfl)
theorem dX1_restart_11 : decode cX1_restart 11 = .ok (.getfield 23, 3) := dk_180 0 23 (dk_at dksX1_restart_0 11 rfl rfl)
theorem dX1_restart_14 : decode cX1_restart 14 = .ok (.aload_n 0, 1) := dk_42 (dk_at dksX1_restart_0 14 rfl rfl)
theorem dX1_restart_15 : decode cX1_restart 15 = .ok (.getfield 20, 3) := dk_180 0 20 (dk_at dksX1_restart_0 15 rfl rfl)
theorem dX1_restart_18 : decode cX1_restart 18 = .ok (.iconst 0, 1) := dk_3 (dk_at dksX1_restart_0 18 rfl rfl)
theorem dX1_restart_19 : decode cX1_restart 19 = .ok (.invokevirtual 70, 3) := dk_182 0 70 (dk_at dksX1_restart_0 19 rfl rfl)
theorem dX1_restart_22 : decode cX1_restart 22 = .ok (.checkcast 50, 3) := dk_192 0 50 (dk_at dksX1_restart_1 0 rfl rfl)
theorem dX1_restart_25 : decode cX1_restart 25 = .ok (.invokevirtual 53, 3) := dk_182 0 53 (dk_at dksX1_restart_1 3 rfl rfl)
theorem dX1_restart_28 : decode cX1_restart 28 = .ok (.pop, 1) := dk_87 (dk_at dksX1_restart_1 6 rfl rfl)
theorem dX1_restart_29 : decode cX1_restart 29 = .ok (.goto (-29), 3) := dk_167 255 227 (dk_at dksX1_restart_1 7 rfl rfl)
theorem dX1_restart_32 : decode cX1_restart 32 = .ok (.aload_n 0, 1) := dk_42 (dk_at dksX1_restart_1 10 rfl rfl)
theorem dX1_restart_33 : decode cX1_restart 33 = .ok (.getfield 29, 3) := dk_180 0 29 (dk_at dksX1_restart_1 11 rfl rfl)
theorem dX1_restart_36 : decode cX1_restart 36 = .ok (.invokevirtual 74, 3) := dk_182 0 74 (dk_at dksX1_restart_1 14 rfl rfl)
theorem dX1_restart_39 : decode cX1_restart 39 = .ok (.aload_n 0, 1) := dk_42 (dk_at dksX1_restart_1 17 rfl rfl)
theorem dX1_restart_40 : decode cX1_restart 40 = .ok (.iconst 0, 1) := dk_3 (dk_at dksX1_restart_1 18 rfl rfl)
theorem dX1_restart_41 : decode cX1_restart 41 = .ok (.putfield 77, 3) := dk_181 0 77 (dk_at dksX1_restart_1 19 rfl rfl)
theorem dX1_restart_44 : decode cX1_restart 44 = .ok (.aload_n 0, 1) := dk_42 (dk_at dksX1_restart_1 22 rfl rfl)
theorem dX1_restart_45 : decode cX1_restart 45 = .ok (.iconst 0, 1) := dk_3 (dk_at dksX1_restart_1 23 rfl rfl)
theorem dX1_restart_46 : decode cX1_restart 46 = .ok (.putfield 81, 3) := dk_181 0 81 (dk_at dksX1_restart_2 0 rfl rfl)
theorem dX1_restart_49 : decode cX1_restart 49 = .ok (.aload_n 0, 1) := dk_42 (dk_at dksX1_restart_2 3 rfl rfl)
theorem dX1_restart_50 : decode cX1_restart 50 = .ok (.iconst 1, 1) := dk_4 (dk_at dksX1_restart_2 4 rfl rfl)
theorem dX1_restart_51 : decode cX1_restart 51 = .ok (.putfield 84, 3) := dk_181 0 84 (dk_at dksX1_restart_2 5 rfl rfl)
theorem dX1_restart_54 : decode cX1_restart 54 = .ok (.aload_n 0, 1) := dk_42 (dk_at dksX1_restart_2 8 rfl rfl)
theorem dX1_restart_55 : decode cX1_restart 55 = .ok (.iconst (-1), 1) := dk_2 (dk_at dksX1_restart_2 9 rfl rfl)
theorem dX1_restart_56 : decode cX1_restart 56 = .ok (.putfield 88, 3) := dk_181 0 88 (dk_at dksX1_restart_2 10 rfl rfl)
theorem dX1_restart_59 : decode cX1_restart 59 = .ok (.aload_n 0, 1) := dk_42 (dk_at dksX1_restart_2 13 rfl rfl)
theorem dX1_restart_60 : decode cX1_restart 60 = .ok (.getfield 36, 3) := dk_180 0 36 (dk_at dksX1_restart_2 14 rfl rfl)
theorem dX1_restart_63 : decode cX1_restart 63 = .ok (.iconst 0, 1) := dk_3 (dk_at dksX1_restart_2 17 rfl rfl)
theorem dX1_restart_64 : decode cX1_restart 64 = .ok (.putfield 91, 3) := dk_181 0 91 (dk_at dksX1_restart_2 18 rfl rfl)
theorem dX1_restart_67 : decode cX1_restart 67 = .ok (.aload_n 0, 1) := dk_42 (dk_at dksX1_restart_2 21 rfl rfl)
theorem dX1_restart_68 : decode cX1_restart 68 = .ok (.iconst 0, 1) := dk_3 (dk_at dksX1_restart_2 22 rfl rfl)
theorem dX1_restart_69 : decode cX1_restart 69 = .ok (.putfield 93, 3) := dk_181 0 93 (dk_at dksX1_restart_3 0 rfl rfl)
theorem dX1_restart_72 : decode cX1_restart 72 = .ok (.aload_n 0, 1) := dk_42 (dk_at dksX1_restart_3 3 rfl rfl)
theorem dX1_restart_73 : decode cX1_restart 73 = .ok (.iconst 0, 1) := dk_3 (dk_at dksX1_restart_3 4 rfl rfl)
theorem dX1_restart_74 : decode cX1_restart 74 = .ok (.putfield 96, 3) := dk_181 0 96 (dk_at dksX1_restart_3 5 rfl rfl)
theorem dX1_restart_77 : decode cX1_restart 77 = .ok (.aload_n 0, 1) := dk_42 (dk_at dksX1_restart_3 8 rfl rfl)
theorem dX1_restart_78 : decode cX1_restart 78 = .ok (.iconst 0, 1) := dk_3 (dk_at dksX1_restart_3 9 rfl rfl)
theorem dX1_restart_79 : decode cX1_restart 79 = .ok (.putfield 99, 3) := dk_181 0 99 (dk_at dksX1_restart_3 10 rfl rfl)
theorem dX1_restart_82 : decode cX1_restart 82 = .ok (.aload_n 0, 1) := dk_42 (dk_at dksX1_restart_3 13 rfl rfl)
theorem dX1_restart_83 : decode cX1_restart 83 = .ok (.bipush 100, 2) := dk_16 100 (dk_at dksX1_restart_3 14 rfl rfl)
theorem dX1_restart_85 : decode cX1_restart 85 = .ok (.putfield 102, 3) := dk_181 0 102 (dk_at dksX1_restart_3 16 rfl rfl)
theorem dX1_restart_88 : decode cX1_restart 88 = .ok (.aload_n 0, 1) := dk_42 (dk_at dksX1_restart_3 19 rfl rfl)
theorem dX1_restart_89 : decode cX1_restart 89 = .ok (.bipush 40, 2) := dk_16 40 (dk_at dksX1_restart_3 20 rfl rfl)
theorem dX1_restart_91 : decode cX1_restart 91 = .ok (.putfield 105, 3) := dk_181 0 105 (dk_at dksX1_restart_4 0 rfl rfl)
theorem dX1_restart_94 : decode cX1_restart 94 = .ok (.aload_n 0, 1) := dk_42 (dk_at dksX1_restart_4 3 rfl rfl)
theorem dX1_restart_95 : decode cX1_restart 95 = .ok (.bipush 64, 2) := dk_16 64 (dk_at dksX1_restart_4 4 rfl rfl)
theorem dX1_restart_97 : decode cX1_restart 97 = .ok (.putfield 108, 3) := dk_181 0 108 (dk_at dksX1_restart_4 6 rfl rfl)
theorem dX1_restart_100 : decode cX1_restart 100 = .ok (.aload_n 0, 1) := dk_42 (dk_at dksX1_restart_4 9 rfl rfl)
theorem dX1_restart_101 : decode cX1_restart 101 = .ok (.iconst 0, 1) := dk_3 (dk_at dksX1_restart_4 10 rfl rfl)
theorem dX1_restart_102 : decode cX1_restart 102 = .ok (.putfield 111, 3) := dk_181 0 111 (dk_at dksX1_restart_4 11 rfl rfl)
theorem dX1_restart_105 : decode cX1_restart 105 = .ok (.aload_n 0, 1) := dk_42 (dk_at dksX1_restart_4 14 rfl rfl)
theorem dX1_restart_106 : decode cX1_restart 106 = .ok (.iconst 2, 1) := dk_5 (dk_at dksX1_restart_4 15 rfl rfl)
theorem dX1_restart_107 : decode cX1_restart 107 = .ok (.iconst 4, 1) := dk_7 (dk_at dksX1_restart_4 16 rfl rfl)
theorem dX1_restart_108 : decode cX1_restart 108 = .ok (.iconst 0, 1) := dk_3 (dk_at dksX1_restart_4 17 rfl rfl)
theorem dX1_restart_109 : decode cX1_restart 109 = .ok (.iconst 0, 1) := dk_3 (dk_at dksX1_restart_4 18 rfl rfl)
theorem dX1_restart_110 : decode cX1_restart 110 = .ok (.invokevirtual 114, 3) := dk_182 0 114 (dk_at dksX1_restart_4 19 rfl rfl)
theorem dX1_restart_113 : decode cX1_restart 113 = .ok (.aload_n 0, 1) := dk_42 (dk_at dksX1_restart_4 22 rfl rfl)
theorem dX1_restart_114 : decode cX1_restart 114 = .ok (.iconst 3, 1) := dk_6 (dk_at dksX1_restart_4 23 rfl rfl)
theorem dX1_restart_115 : decode cX1_restart 115 = .ok (.invokevirtual 118, 3) := dk_182 0 118 (dk_at dksX1_restart_5 0 rfl rfl)
theorem dX1_restart_118 : decode cX1_restart 118 = .ok (.aload_n 0, 1) := dk_42 (dk_at dksX1_restart_5 3 rfl rfl)
theorem dX1_restart_119 : decode cX1_restart 119 = .ok (.iconst 4, 1) := dk_7 (dk_at dksX1_restart_5 4 rfl rfl)
theorem dX1_restart_120 : decode cX1_restart 120 = .ok (.invokevirtual 118, 3) := dk_182 0 118 (dk_at dksX1_restart_5 5 rfl rfl)
theorem dX1_restart_123 : decode cX1_restart 123 = .ok (.return_, 1) := dk_177 (dk_at dksX1_restart_5 8 rfl rfl)
abbrev cX1_head : ByteArray := prog_1_method_12_code
def yX1_head : MethodName := ⟨RX1, "head", "(IIII)V"⟩
def dkwX1_head_0 : List UInt8 := [42, 27, 182, 0, 118, 42, 28, 182, 0, 118, 42, 29, 182, 0, 118, 42, 21, 4, 182, 0, 118, 177]
abbrev dktX1_head_0 : List UInt8 := dkwX1_head_0 ++ []
theorem dksX1_head_0 : cX1_head.data.toList.drop 0 = dktX1_head_0 := by decide +kernel
theorem dX1_head_0 : decode cX1_head 0 = .ok (.aload_n 0, 1) := dk_42 (dk_at dksX1_head_0 0 rfl rfl)
theorem dX1_head_1 : decode cX1_head 1 = .ok (.iload_n 1, 1) := dk_27 (dk_at dksX1_head_0 1 rfl rfl)
theorem dX1_head_2 : decode cX1_head 2 = .ok (.invokevirtual 118, 3) := dk_182 0 118 (dk_at dksX1_head_0 2 rfl rfl)
theorem dX1_head_5 : decode cX1_head 5 = .ok (.aload_n 0, 1) := dk_42 (dk_at dksX1_head_0 5 rfl rfl)
theorem dX1_head_6 : decode cX1_head 6 = .ok (.iload_n 2, 1) := dk_28 (dk_at dksX1_head_0 6 rfl rfl)
theorem dX1_head_7 : decode cX1_head 7 = .ok (.invokevirtual 118, 3) := dk_182 0 118 (dk_at dksX1_head_0 7 rfl rfl)
theorem dX1_head_10 : decode cX1_head 10 = .ok (.aload_n 0, 1) := dk_42 (dk_at dksX1_head_0 10 rfl rfl)
theorem dX1_head_11 : decode cX1_head 11 = .ok (.iload_n 3, 1) := dk_29 (dk_at dksX1_head_0 11 rfl rfl)
theorem dX1_head_12 : decode cX1_head 12 = .ok (.invokevirtual 118, 3) := dk_182 0 118 (dk_at dksX1_head_0 12 rfl rfl)
theorem dX1_head_15 : decode cX1_head 15 = .ok (.aload_n 0, 1) := dk_42 (dk_at dksX1_head_0 15 rfl rfl)
theorem dX1_head_16 : decode cX1_head 16 = .ok (.iload 4, 2) := dk_21 4 (dk_at dksX1_head_0 16 rfl rfl)
theorem dX1_head_18 : decode cX1_head 18 = .ok (.invokevirtual 118, 3) := dk_182 0 118 (dk_at dksX1_head_0 18 rfl rfl)
theorem dX1_head_21 : decode cX1_head 21 = .ok (.return_, 1) := dk_177 (dk_at dksX1_head_0 21 rfl rfl)
abbrev cX1_say : ByteArray := prog_1_method_11_code
def yX1_say : MethodName := ⟨RX1, "say", "(I)V"⟩
def dkwX1_say_0 : List UInt8 := [42, 180, 0, 47, 42, 180, 0, 111, 27, 145, 84, 42, 89, 180, 0, 111, 4, 96, 181, 0, 111, 177]
abbrev dktX1_say_0 : List UInt8 := dkwX1_say_0 ++ []
theorem dksX1_say_0 : cX1_say.data.toList.drop 0 = dktX1_say_0 := by decide +kernel
theorem dX1_say_0 : decode cX1_say 0 = .ok (.aload_n 0, 1) := dk_42 (dk_at dksX1_say_0 0 rfl rfl)
theorem dX1_say_1 : decode cX1_say 1 = .ok (.getfield 47, 3) := dk_180 0 47 (dk_at dksX1_say_0 1 rfl rfl)
theorem dX1_say_4 : decode cX1_say 4 = .ok (.aload_n 0, 1) := dk_42 (dk_at dksX1_say_0 4 rfl rfl)
theorem dX1_say_5 : decode cX1_say 5 = .ok (.getfield 111, 3) := dk_180 0 111 (dk_at dksX1_say_0 5 rfl rfl)
theorem dX1_say_8 : decode cX1_say 8 = .ok (.iload_n 1, 1) := dk_27 (dk_at dksX1_say_0 8 rfl rfl)
theorem dX1_say_9 : decode cX1_say 9 = .ok (.i2b, 1) := dk_145 (dk_at dksX1_say_0 9 rfl rfl)
theorem dX1_say_10 : decode cX1_say 10 = .ok (.bastore, 1) := dk_84 (dk_at dksX1_say_0 10 rfl rfl)
theorem dX1_say_11 : decode cX1_say 11 = .ok (.aload_n 0, 1) := dk_42 (dk_at dksX1_say_0 11 rfl rfl)
theorem dX1_say_12 : decode cX1_say 12 = .ok (.dup, 1) := dk_89 (dk_at dksX1_say_0 12 rfl rfl)
theorem dX1_say_13 : decode cX1_say 13 = .ok (.getfield 111, 3) := dk_180 0 111 (dk_at dksX1_say_0 13 rfl rfl)
theorem dX1_say_16 : decode cX1_say 16 = .ok (.iconst 1, 1) := dk_4 (dk_at dksX1_say_0 16 rfl rfl)
theorem dX1_say_17 : decode cX1_say 17 = .ok (.iadd, 1) := dk_96 (dk_at dksX1_say_0 17 rfl rfl)
theorem dX1_say_18 : decode cX1_say 18 = .ok (.putfield 111, 3) := dk_181 0 111 (dk_at dksX1_say_0 18 rfl rfl)
theorem dX1_say_21 : decode cX1_say 21 = .ok (.return_, 1) := dk_177 (dk_at dksX1_say_0 21 rfl rfl)
abbrev cX1_feed : ByteArray := prog_1_method_42_code
def yX1_feed : MethodName := ⟨RX1, "feed", "(II)Z"⟩
def dkwX1_feed_2 : List UInt8 := [182, 1, 97, 132, 3, 255, 167, 255, 228, 4, 172]
abbrev dktX1_feed_2 : List UInt8 := dkwX1_feed_2 ++ []
def dkwX1_feed_1 : List UInt8 := [62, 29, 155, 0, 30, 42, 180, 0, 96, 154, 0, 23, 42, 27, 16, 8, 29, 104, 122, 17, 0, 255, 126]
abbrev dktX1_feed_1 : List UInt8 := dkwX1_feed_1 ++ dktX1_feed_2
def dkwX1_feed_0 : List UInt8 := [28, 4, 7, 184, 0, 1, 154, 0, 13, 42, 180, 0, 111, 17, 1, 44, 164, 0, 5, 3, 172, 28, 4, 100]
abbrev dktX1_feed_0 : List UInt8 := dkwX1_feed_0 ++ dktX1_feed_1
theorem dksX1_feed_0 : cX1_feed.data.toList.drop 0 = dktX1_feed_0 := by decide +kernel
theorem dksX1_feed_1 : cX1_feed.data.toList.drop 24 = dktX1_feed_1 := dk_seg dksX1_feed_0 24 rfl rfl
theorem dksX1_feed_2 : cX1_feed.data.toList.drop 47 = dktX1_feed_2 := dk_seg dksX1_feed_1 23 rfl rfl
theorem dX1_feed_0 : decode cX1_feed 0 = .ok (.iload_n 2, 1) := dk_28 (dk_at dksX1_feed_0 0 rfl rfl)
theorem dX1_feed_1 : decode cX1_feed 1 = .ok (.iconst 1, 1) := dk_4 (dk_at dksX1_feed_0 1 rfl rfl)
theorem dX1_feed_2 : decode cX1_feed 2 = .ok (.iconst 4, 1) := dk_7 (dk_at dksX1_feed_0 2 rfl rfl)
theorem dX1_feed_3 : decode cX1_feed 3 = .ok (.invokestatic 1, 3) := dk_184 0 1 (dk_at dksX1_feed_0 3 rfl rfl)
theorem dX1_feed_6 : decode cX1_feed 6 = .ok (.ifCond .ne 13, 3) := dk_154 0 13 (dk_at dksX1_feed_0 6 rfl rfl)
theorem dX1_feed_9 : decode cX1_feed 9 = .ok (.aload_n 0, 1) := dk_42 (dk_at dksX1_feed_0 9 rfl rfl)
theorem dX1_feed_10 : decode cX1_feed 10 = .ok (.getfield 111, 3) := dk_180 0 111 (dk_at dksX1_feed_0 10 rfl rfl)
theorem dX1_feed_13 : decode cX1_feed 13 = .ok (.sipush 300, 3) := dk_17 1 44 (dk_at dksX1_feed_0 13 rfl rfl)
theorem dX1_feed_16 : decode cX1_feed 16 = .ok (.if_icmp .le 5, 3) := dk_164 0 5 (dk_at dksX1_feed_0 16 rfl rfl)
theorem dX1_feed_19 : decode cX1_feed 19 = .ok (.iconst 0, 1) := dk_3 (dk_at dksX1_feed_0 19 rfl rfl)
theorem dX1_feed_20 : decode cX1_feed 20 = .ok (.ireturn, 1) := dk_172 (dk_at dksX1_feed_0 20 rfl rfl)
theorem dX1_feed_21 : decode cX1_feed 21 = .ok (.iload_n 2, 1) := dk_28 (dk_at dksX1_feed_0 21 rfl rfl)
theorem dX1_feed_22 : decode cX1_feed 22 = .ok (.iconst 1, 1) := dk_4 (dk_at dksX1_feed_0 22 rfl rfl)
theorem dX1_feed_23 : decode cX1_feed 23 = .ok (.isub, 1) := dk_100 (dk_at dksX1_feed_0 23 rfl rfl)
theorem dX1_feed_24 : decode cX1_feed 24 = .ok (.istore_n 3, 1) := dk_62 (dk_at dksX1_feed_1 0 rfl rfl)
theorem dX1_feed_25 : decode cX1_feed 25 = .ok (.iload_n 3, 1) := dk_29 (dk_at dksX1_feed_1 1 rfl rfl)
theorem dX1_feed_26 : decode cX1_feed 26 = .ok (.ifCond .lt 30, 3) := dk_155 0 30 (dk_at dksX1_feed_1 2 rfl rfl)
theorem dX1_feed_29 : decode cX1_feed 29 = .ok (.aload_n 0, 1) := dk_42 (dk_at dksX1_feed_1 5 rfl rfl)
theorem dX1_feed_30 : decode cX1_feed 30 = .ok (.getfield 96, 3) := dk_180 0 96 (dk_at dksX1_feed_1 6 rfl rfl)
theorem dX1_feed_33 : decode cX1_feed 33 = .ok (.ifCond .ne 23, 3) := dk_154 0 23 (dk_at dksX1_feed_1 9 rfl rfl)
theorem dX1_feed_36 : decode cX1_feed 36 = .ok (.aload_n 0, 1) := dk_42 (dk_at dksX1_feed_1 12 rfl rfl)
theorem dX1_feed_37 : decode cX1_feed 37 = .ok (.iload_n 1, 1) := dk_27 (dk_at dksX1_feed_1 13 rfl rfl)
theorem dX1_feed_38 : decode cX1_feed 38 = .ok (.bipush 8, 2) := dk_16 8 (dk_at dksX1_feed_1 14 rfl rfl)
theorem dX1_feed_40 : decode cX1_feed 40 = .ok (.iload_n 3, 1) := dk_29 (dk_at dksX1_feed_1 16 rfl rfl)
theorem dX1_feed_41 : decode cX1_feed 41 = .ok (.imul, 1) := dk_104 (dk_at dksX1_feed_1 17 rfl rfl)
theorem dX1_feed_42 : decode cX1_feed 42 = .ok (.ishr, 1) := dk_122 (dk_at dksX1_feed_1 18 rfl rfl)
theorem dX1_feed_43 : decode cX1_feed 43 = .ok (.sipush 255, 3) := dk_17 0 255 (dk_at dksX1_feed_1 19 rfl rfl)
theorem dX1_feed_46 : decode cX1_feed 46 = .ok (.iand, 1) := dk_126 (dk_at dksX1_feed_1 22 rfl rfl)
theorem dX1_feed_47 : decode cX1_feed 47 = .ok (.invokevirtual 353, 3) := dk_182 1 97 (dk_at dksX1_feed_2 0 rfl rfl)
theorem dX1_feed_50 : decode cX1_feed 50 = .ok (.iinc 3 (-1), 3) := dk_132 3 255 (dk_at dksX1_feed_2 3 rfl rfl)
theorem dX1_feed_53 : decode cX1_feed 53 = .ok (.goto (-28), 3) := dk_167 255 228 (dk_at dksX1_feed_2 6 rfl rfl)
theorem dX1_feed_56 : decode cX1_feed 56 = .ok (.iconst 1, 1) := dk_4 (dk_at dksX1_feed_2 9 rfl rfl)
theorem dX1_feed_57 : decode cX1_feed 57 = .ok (.ireturn, 1) := dk_172 (dk_at dksX1_feed_2 10 rfl rfl)
abbrev cX1_outside : ByteArray := prog_1_method_1_code
def yX1_outside : MethodName := ⟨RX1, "outside", "(III)Z"⟩
def dkwX1_outside_0 : List UInt8 := [26, 27, 161, 0, 8, 26, 28, 164, 0, 7, 4, 167, 0, 4, 3, 172]
abbrev dktX1_outside_0 : List UInt8 := dkwX1_outside_0 ++ []
theorem dksX1_outside_0 : cX1_outside.data.toList.drop 0 = dktX1_outside_0 := by decide +kernel
theorem dX1_outside_0 : decode cX1_outside 0 = .ok (.iload_n 0, 1) := dk_26 (dk_at dksX1_outside_0 0 rfl rfl)
theorem dX1_outside_1 : decode cX1_outside 1 = .ok (.iload_n 1, 1) := dk_27 (dk_at dksX1_outside_0 1 rfl rfl)
theorem dX1_outside_2 : decode cX1_outside 2 = .ok (.if_icmp .lt 8, 3) := dk_161 0 8 (dk_at dksX1_outside_0 2 rfl rfl)
theorem dX1_outside_5 : decode cX1_outside 5 = .ok (.iload_n 0, 1) := dk_26 (dk_at dksX1_outside_0 5 rfl rfl)
theorem dX1_outside_6 : decode cX1_outside 6 = .ok (.iload_n 2, 1) := dk_28 (dk_at dksX1_outside_0 6 rfl rfl)
theorem dX1_outside_7 : decode cX1_outside 7 = .ok (.if_icmp .le 7, 3) := dk_164 0 7 (dk_at dksX1_outside_0 7 rfl rfl)
theorem dX1_outside_10 : decode cX1_outside 10 = .ok (.iconst 1, 1) := dk_4 (dk_at dksX1_outside_0 10 rfl rfl)
theorem dX1_outside_11 : decode cX1_outside 11 = .ok (.goto 4, 3) := dk_167 0 4 (dk_at dksX1_outside_0 11 rfl rfl)
theorem dX1_outside_14 : decode cX1_outside 14 = .ok (.iconst 0, 1) := dk_3 (dk_at dksX1_outside_0 14 rfl rfl)
theorem dX1_outside_15 : decode cX1_outside 15 = .ok (.ireturn, 1) := dk_172 (dk_at dksX1_outside_0 15 rfl rfl)
abbrev cX1_byteCame : ByteArray := prog_1_method_41_code
def yX1_byteCame : MethodName := ⟨RX1, "byteCame", "(I)V"⟩
def dkwX1_byteCame_7 : List UInt8 := [51, 17, 0, 255, 126, 181, 0, 203, 42, 3, 181, 0, 77, 42, 182, 1, 94, 177]
abbrev dktX1_byteCame_7 : List UInt8 := dkwX1_byteCame_7 ++ []
def dkwX1_byteCame_6 : List UInt8 := [126, 181, 1, 50, 42, 42, 180, 0, 43, 5, 51, 17, 0, 255, 126, 181, 0, 180, 42, 42, 180, 0, 43, 6]
abbrev dktX1_byteCame_6 : List UInt8 := dkwX1_byteCame_6 ++ dktX1_byteCame_7
def dkwX1_byteCame_5 : List UInt8 := [42, 180, 0, 77, 7, 42, 180, 0, 189, 96, 162, 0, 4, 177, 42, 42, 180, 0, 43, 4, 51, 17, 0, 255]
abbrev dktX1_byteCame_5 : List UInt8 := dkwX1_byteCame_5 ++ dktX1_byteCame_6
def dkwX1_byteCame_4 : List UInt8 := [181, 0, 189, 42, 180, 0, 189, 17, 0, 200, 164, 0, 14, 42, 16, 6, 181, 0, 170, 42, 182, 1, 74, 177]
abbrev dktX1_byteCame_4 : List UInt8 := dkwX1_byteCame_4 ++ dktX1_byteCame_5
def dkwX1_byteCame_3 : List UInt8 := [181, 0, 77, 42, 180, 0, 77, 7, 162, 0, 4, 177, 42, 42, 180, 0, 43, 3, 51, 17, 0, 255, 126]
abbrev dktX1_byteCame_3 : List UInt8 := dkwX1_byteCame_3 ++ dktX1_byteCame_4
def dkwX1_byteCame_2 : List UInt8 := [42, 182, 1, 74, 177, 42, 180, 0, 43, 42, 180, 0, 77, 27, 145, 84, 42, 89, 180, 0, 77, 4, 96]
abbrev dktX1_byteCame_2 : List UInt8 := dkwX1_byteCame_2 ++ dktX1_byteCame_3
def dkwX1_byteCame_1 : List UInt8 := [167, 0, 4, 3, 61, 42, 89, 180, 0, 81, 4, 96, 181, 0, 81, 42, 4, 181, 0, 170, 28, 154, 0, 7]
abbrev dktX1_byteCame_1 : List UInt8 := dkwX1_byteCame_1 ++ dktX1_byteCame_2
def dkwX1_byteCame_0 : List UInt8 := [42, 180, 0, 81, 178, 1, 90, 190, 162, 0, 45, 27, 178, 1, 90, 42, 180, 0, 81, 46, 160, 0, 7, 4]
abbrev dktX1_byteCame_0 : List UInt8 := dkwX1_byteCame_0 ++ dktX1_byteCame_1
theorem dksX1_byteCame_0 : cX1_byteCame.data.toList.drop 0 = dktX1_byteCame_0 := by decide +kernel
theorem dksX1_byteCame_1 : cX1_byteCame.data.toList.drop 24 = dktX1_byteCame_1 := dk_seg dksX1_byteCame_0 24 rfl rfl
theorem dksX1_byteCame_2 : cX1_byteCame.data.toList.drop 48 = dktX1_byteCame_2 := dk_seg dksX1_byteCame_1 24 rfl rfl
theorem dksX1_byteCame_3 : cX1_byteCame.data.toList.drop 71 = dktX1_byteCame_3 := dk_seg dksX1_byteCame_2 23 rfl rfl
theorem dksX1_byteCame_4 : cX1_byteCame.data.toList.drop 94 = dktX1_byteCame_4 := dk_seg dksX1_byteCame_3 23 rfl rfl
theorem dksX1_byteCame_5 : cX1_byteCame.data.toList.drop 118 = dktX1_byteCame_5 := dk_seg dksX1_byteCame_4 24 rfl rfl
theorem dksX1_byteCame_6 : cX1_byteCame.data.toList.drop 142 = dktX1_byteCame_6 := dk_seg dksX1_byteCame_5 24 rfl rfl
theorem dksX1_byteCame_7 : cX1_byteCame.data.toList.drop 166 = dktX1_byteCame_7 := dk_seg dksX1_byteCame_6 24 rfl rfl
theorem dX1_byteCame_0 : decode cX1_byteCame 0 = .ok (.aload_n 0, 1) := dk_42 (dk_at dksX1_byteCame_0 0 rfl rfl)
theorem dX1_byteCame_1 : decode cX1_byteCame 1 = .ok (.getfield 81, 3) := dk_180 0 81 (dk_at dksX1_byteCame_0 1 rfl rfl)
theorem dX1_byteCame_4 : decode cX1_byteCame 4 = .ok (.getstatic 346, 3) := dk_178 1 90 (dk_at dksX1_byteCame_0 4 rfl rfl)
theorem dX1_byteCame_7 : decode cX1_byteCame 7 = .ok (.arraylength, 1) := dk_190 (dk_at dksX1_byteCame_0 7 rfl rfl)
theorem dX1_byteCame_8 : decode cX1_byteCame 8 = .ok (.if_icmp .ge 45, 3) := dk_162 0 45 (dk_at dksX1_byteCame_0 8 rfl rfl)
theorem dX1_byteCame_11 : decode cX1_byteCame 11 = .ok (.iload_n 1, 1) := dk_27 (dk_at dksX1_byteCame_0 11 rfl rfl)
theorem dX1_byteCame_12 : decode cX1_byteCame 12 = .ok (.getstatic 346, 3) := dk_178 1 90 (dk_at dksX1_byteCame_0 12 rfl rfl)
theorem dX1_byteCame_15 : decode cX1_byteCame 15 = .ok (.aload_n 0, 1) := dk_42 (dk_at dksX1_byteCame_0 15 rfl rfl)
theorem dX1_byteCame_16 : decode cX1_byteCame 16 = .ok (.getfield 81, 3) := dk_180 0 81 (dk_at dksX1_byteCame_0 16 rfl rfl)
theorem dX1_byteCame_19 : decode cX1_byteCame 19 = .ok (.iaload, 1) := dk_46 (dk_at dksX1_byteCame_0 19 rfl rfl)
theorem dX1_byteCame_20 : decode cX1_byteCame 20 = .ok (.if_icmp .ne 7, 3) := dk_160 0 7 (dk_at dksX1_byteCame_0 20 rfl rfl)
theorem dX1_byteCame_23 : decode cX1_byteCame 23 = .ok (.iconst 1, 1) := dk_4 (dk_at dksX1_byteCame_0 23 rfl rfl)
theorem dX1_byteCame_24 : decode cX1_byteCame 24 = .ok (.goto 4, 3) := dk_167 0 4 (dk_at dksX1_byteCame_1 0 rfl rfl)
theorem dX1_byteCame_27 : decode cX1_byteCame 27 = .ok (.iconst 0, 1) := dk_3 (dk_at dksX1_byteCame_1 3 rfl rfl)
theorem dX1_byteCame_28 : decode cX1_byteCame 28 = .ok (.istore_n 2, 1) := dk_61 (dk_at dksX1_byteCame_1 4 rfl rfl)
theorem dX1_byteCame_29 : decode cX1_byteCame 29 = .ok (.aload_n 0, 1) := dk_42 (dk_at dksX1_byteCame_1 5 rfl rfl)
theorem dX1_byteCame_30 : decode cX1_byteCame 30 = .ok (.dup, 1) := dk_89 (dk_at dksX1_byteCame_1 6 rfl rfl)
theorem dX1_byteCame_31 : decode cX1_byteCame 31 = .ok (.getfield 81, 3) := dk_180 0 81 (dk_at dksX1_byteCame_1 7 rfl rfl)
theorem dX1_byteCame_34 : decode cX1_byteCame 34 = .ok (.iconst 1, 1) := dk_4 (dk_at dksX1_byteCame_1 10 rfl rfl)
theorem dX1_byteCame_35 : decode cX1_byteCame 35 = .ok (.iadd, 1) := dk_96 (dk_at dksX1_byteCame_1 11 rfl rfl)
theorem dX1_byteCame_36 : decode cX1_byteCame 36 = .ok (.putfield 81, 3) := dk_181 0 81 (dk_at dksX1_byteCame_1 12 rfl rfl)
theorem dX1_byteCame_39 : decode cX1_byteCame 39 = .ok (.aload_n 0, 1) := dk_42 (dk_at dksX1_byteCame_1 15 rfl rfl)
theorem dX1_byteCame_40 : decode cX1_byteCame 40 = .ok (.iconst 1, 1) := dk_4 (dk_at dksX1_byteCame_1 16 rfl rfl)
theorem dX1_byteCame_41 : decode cX1_byteCame 41 = .ok (.putfield 170, 3) := dk_181 0 170 (dk_at dksX1_byteCame_1 17 rfl rfl)
theorem dX1_byteCame_44 : decode cX1_byteCame 44 = .ok (.iload_n 2, 1) := dk_28 (dk_at dksX1_byteCame_1 20 rfl rfl)
theorem dX1_byteCame_45 : decode cX1_byteCame 45 = .ok (.ifCond .ne 7, 3) := dk_154 0 7 (dk_at dksX1_byteCame_1 21 rfl rfl)
theorem dX1_byteCame_48 : decode cX1_byteCame 48 = .ok (.aload_n 0, 1) := dk_42 (dk_at dksX1_byteCame_2 0 rfl rfl)
theorem dX1_byteCame_49 : decode cX1_byteCame 49 = .ok (.invokevirtual 330, 3) := dk_182 1 74 (dk_at dksX1_byteCame_2 1 rfl rfl)
theorem dX1_byteCame_52 : decode cX1_byteCame 52 = .ok (.return_, 1) := dk_177 (dk_at dksX1_byteCame_2 4 rfl rfl)
theorem dX1_byteCame_53 : decode cX1_byteCame 53 = .ok (.aload_n 0, 1) := dk_42 (dk_at dksX1_byteCame_2 5 rfl rfl)
theorem dX1_byteCame_54 : decode cX1_byteCame 54 = .ok (.getfield 43, 3) := dk_180 0 43 (dk_at dksX1_byteCame_2 6 rfl rfl)
theorem dX1_byteCame_57 : decode cX1_byteCame 57 = .ok (.aload_n 0, 1) := dk_42 (dk_at dksX1_byteCame_2 9 rfl rfl)
theorem dX1_byteCame_58 : decode cX1_byteCame 58 = .ok (.getfield 77, 3) := dk_180 0 77 (dk_at dksX1_byteCame_2 10 rfl rfl)
theorem dX1_byteCame_61 : decode cX1_byteCame 61 = .ok (.iload_n 1, 1) := dk_27 (dk_at dksX1_byteCame_2 13 rfl rfl)
theorem dX1_byteCame_62 : decode cX1_byteCame 62 = .ok (.i2b, 1) := dk_145 (dk_at dksX1_byteCame_2 14 rfl rfl)
theorem dX1_byteCame_63 : decode cX1_byteCame 63 = .ok (.bastore, 1) := dk_84 (dk_at dksX1_byteCame_2 15 rfl rfl)
theorem dX1_byteCame_64 : decode cX1_byteCame 64 = .ok (.aload_n 0, 1) := dk_42 (dk_at dksX1_byteCame_2 16 rfl rfl)
theorem dX1_byteCame_65 : decode cX1_byteCame 65 = .ok (.dup, 1) := dk_89 (dk_at dksX1_byteCame_2 17 rfl rfl)
theorem dX1_byteCame_66 : decode cX1_byteCame 66 = .ok (.getfield 77, 3) := dk_180 0 77 (dk_at dksX1_byteCame_2 18 rfl rfl)
theorem dX1_byteCame_69 : decode cX1_byteCame 69 = .ok (.iconst 1, 1) := dk_4 (dk_at dksX1_byteCame_2 21 rfl rfl)
theorem dX1_byteCame_70 : decode cX1_byteCame 70 = .ok (.iadd, 1) := dk_96 (dk_at dksX1_byteCame_2 22 rfl rfl)
theorem dX1_byteCame_71 : decode cX1_byteCame 71 = .ok (.putfield 77, 3) := dk_181 0 77 (dk_at dksX1_byteCame_3 0 rfl rfl)
theorem dX1_byteCame_74 : decode cX1_byteCame 74 = .ok (.aload_n 0, 1) := dk_42 (dk_at dksX1_byteCame_3 3 rfl rfl)
theorem dX1_byteCame_75 : decode cX1_byteCame 75 = .ok (.getfield 77, 3) := dk_180 0 77 (dk_at dksX1_byteCame_3 4 rfl rfl)
theorem dX1_byteCame_78 : decode cX1_byteCame 78 = .ok (.iconst 4, 1) := dk_7 (dk_at dksX1_byteCame_3 7 rfl rfl)
theorem dX1_byteCame_79 : decode cX1_byteCame 79 = .ok (.if_icmp .ge 4, 3) := dk_162 0 4 (dk_at dksX1_byteCame_3 8 rfl rfl)
theorem dX1_byteCame_82 : decode cX1_byteCame 82 = .ok (.return_, 1) := dk_177 (dk_at dksX1_byteCame_3 11 rfl rfl)
theorem dX1_byteCame_83 : decode cX1_byteCame 83 = .ok (.aload_n 0, 1) := dk_42 (dk_at dksX1_byteCame_3 12 rfl rfl)
theorem dX1_byteCame_84 : decode cX1_byteCame 84 = .ok (.aload_n 0, 1) := dk_42 (dk_at dksX1_byteCame_3 13 rfl rfl)
theorem dX1_byteCame_85 : decode cX1_byteCame 85 = .ok (.getfield 43, 3) := dk_180 0 43 (dk_at dksX1_byteCame_3 14 rfl rfl)
theorem dX1_byteCame_88 : decode cX1_byteCame 88 = .ok (.iconst 0, 1) := dk_3 (dk_at dksX1_byteCame_3 17 rfl rfl)
theorem dX1_byteCame_89 : decode cX1_byteCame 89 = .ok (.baload, 1) := dk_51 (dk_at dksX1_byteCame_3 18 rfl rfl)
theorem dX1_byteCame_90 : decode cX1_byteCame 90 = .ok (.sipush 255, 3) := dk_17 0 255 (dk_at dksX1_byteCame_3 19 rfl rfl)
theorem dX1_byteCame_93 : decode cX1_byteCame 93 = .ok (.iand, 1) := dk_126 (dk_at dksX1_byteCame_3 22 rfl rfl)
theorem dX1_byteCame_94 : decode cX1_byteCame 94 = .ok (.putfield 189, 3) := dk_181 0 189 (dk_at dksX1_byteCame_4 0 rfl rfl)
theorem dX1_byteCame_97 : decode cX1_byteCame 97 = .ok (.aload_n 0, 1) := dk_42 (dk_at dksX1_byteCame_4 3 rfl rfl)
theorem dX1_byteCame_98 : decode cX1_byteCame 98 = .ok (.getfield 189, 3) := dk_180 0 189 (dk_at dksX1_byteCame_4 4 rfl rfl)
theorem dX1_byteCame_101 : decode cX1_byteCame 101 = .ok (.sipush 200, 3) := dk_17 0 200 (dk_at dksX1_byteCame_4 7 rfl rfl)
theorem dX1_byteCame_104 : decode cX1_byteCame 104 = .ok (.if_icmp .le 14, 3) := dk_164 0 14 (dk_at dksX1_byteCame_4 10 rfl rfl)
theorem dX1_byteCame_107 : decode cX1_byteCame 107 = .ok (.aload_n 0, 1) := dk_42 (dk_at dksX1_byteCame_4 13 rfl rfl)
theorem dX1_byteCame_108 : decode cX1_byteCame 108 = .ok (.bipush 6, 2) := dk_16 6 (dk_at dksX1_byteCame_4 14 rfl rfl)
theorem dX1_byteCame_110 : decode cX1_byteCame 110 = .ok (.putfield 170, 3) := dk_181 0 170 (dk_at dksX1_byteCame_4 16 rfl rfl)
theorem dX1_byteCame_113 : decode cX1_byteCame 113 = .ok (.aload_n 0, 1) := dk_42 (dk_at dksX1_byteCame_4 19 rfl rfl)
theorem dX1_byteCame_114 : decode cX1_byteCame 114 = .ok (.invokevirtual 330, 3) := dk_182 1 74 (dk_at dksX1_byteCame_4 20 rfl rfl)
theorem dX1_byteCame_117 : decode cX1_byteCame 117 = .ok (.return_, 1) := dk_177 (dk_at dksX1_byteCame_4 23 rfl rfl)
theorem dX1_byteCame_118 : decode cX1_byteCame 118 = .ok (.aload_n 0, 1) := dk_42 (dk_at dksX1_byteCame_5 0 rfl rfl)
theorem dX1_byteCame_119 : decode cX1_byteCame 119 = .ok (.getfield 77, 3) := dk_180 0 77 (dk_at dksX1_byteCame_5 1 rfl rfl)
theorem dX1_byteCame_122 : decode cX1_byteCame 122 = .ok (.iconst 4, 1) := dk_7 (dk_at dksX1_byteCame_5 4 rfl rfl)
theorem dX1_byteCame_123 : decode cX1_byteCame 123 = .ok (.aload_n 0, 1) := dk_42 (dk_at dksX1_byteCame_5 5 rfl rfl)
theorem dX1_byteCame_124 : decode cX1_byteCame 124 = .ok (.getfield 189, 3) := dk_180 0 189 (dk_at dksX1_byteCame_5 6 rfl rfl)
theorem dX1_byteCame_127 : decode cX1_byteCame 127 = .ok (.iadd, 1) := dk_96 (dk_at dksX1_byteCame_5 9 rfl rfl)
theorem dX1_byteCame_128 : decode cX1_byteCame 128 = .ok (.if_icmp .ge 4, 3) := dk_162 0 4 (dk_at dksX1_byteCame_5 10 rfl rfl)
theorem dX1_byteCame_131 : decode cX1_byteCame 131 = .ok (.return_, 1) := dk_177 (dk_at dksX1_byteCame_5 13 rfl rfl)
theorem dX1_byteCame_132 : decode cX1_byteCame 132 = .ok (.aload_n 0, 1) := dk_42 (dk_at dksX1_byteCame_5 14 rfl rfl)
theorem dX1_byteCame_133 : decode cX1_byteCame 133 = .ok (.aload_n 0, 1) := dk_42 (dk_at dksX1_byteCame_5 15 rfl rfl)
theorem dX1_byteCame_134 : decode cX1_byteCame 134 = .ok (.getfield 43, 3) := dk_180 0 43 (dk_at dksX1_byteCame_5 16 rfl rfl)
theorem dX1_byteCame_137 : decode cX1_byteCame 137 = .ok (.iconst 1, 1) := dk_4 (dk_at dksX1_byteCame_5 19 rfl rfl)
theorem dX1_byteCame_138 : decode cX1_byteCame 138 = .ok (.baload, 1) := dk_51 (dk_at dksX1_byteCame_5 20 rfl rfl)
theorem dX1_byteCame_139 : decode cX1_byteCame 139 = .ok (.sipush 255, 3) := dk_17 0 255 (dk_at dksX1_byteCame_5 21 rfl rfl)
theorem dX1_byteCame_142 : decode cX1_byteCame 142 = .ok (.iand, 1) := dk_126 (dk_at dksX1_byteCame_6 0 rfl rfl)
theorem dX1_byteCame_143 : decode cX1_byteCame 143 = .ok (.putfield 306, 3) := dk_181 1 50 (dk_at dksX1_byteCame_6 1 rfl rfl)
theorem dX1_byteCame_146 : decode cX1_byteCame 146 = .ok (.aload_n 0, 1) := dk_42 (dk_at dksX1_byteCame_6 4 rfl rfl)
theorem dX1_byteCame_147 : decode cX1_byteCame 147 = .ok (.aload_n 0, 1) := dk_42 (dk_at dksX1_byteCame_6 5 rfl rfl)
theorem dX1_byteCame_148 : decode cX1_byteCame 148 = .ok (.getfield 43, 3) := dk_180 0 43 (dk_at dksX1_byteCame_6 6 rfl rfl)
theorem dX1_byteCame_151 : decode cX1_byteCame 151 = .ok (.iconst 2, 1) := dk_5 (dk_at dksX1_byteCame_6 9 rfl rfl)
theorem dX1_byteCame_152 : decode cX1_byteCame 152 = .ok (.baload, 1) := dk_51 (dk_at dksX1_byteCame_6 10 rfl rfl)
theorem dX1_byteCame_153 : decode cX1_byteCame 153 = .ok (.sipush 255, 3) := dk_17 0 255 (dk_at dksX1_byteCame_6 11 rfl rfl)
theorem dX1_byteCame_156 : decode cX1_byteCame 156 = .ok (.iand, 1) := dk_126 (dk_at dksX1_byteCame_6 14 rfl rfl)
theorem dX1_byteCame_157 : decode cX1_byteCame 157 = .ok (.putfield 180, 3) := dk_181 0 180 (dk_at dksX1_byteCame_6 15 rfl rfl)
theorem dX1_byteCame_160 : decode cX1_byteCame 160 = .ok (.aload_n 0, 1) := dk_42 (dk_at dksX1_byteCame_6 18 rfl rfl)
theorem dX1_byteCame_161 : decode cX1_byteCame 161 = .ok (.aload_n 0, 1) := dk_42 (dk_at dksX1_byteCame_6 19 rfl rfl)
theorem dX1_byteCame_162 : decode cX1_byteCame 162 = .ok (.getfield 43, 3) := dk_180 0 43 (dk_at dksX1_byteCame_6 20 rfl rfl)
theorem dX1_byteCame_165 : decode cX1_byteCame 165 = .ok (.iconst 3, 1) := dk_6 (dk_at dksX1_byteCame_6 23 rfl rfl)
theorem dX1_byteCame_166 : decode cX1_byteCame 166 = .ok (.baload, 1) := dk_51 (dk_at dksX1_byteCame_7 0 rfl rfl)
theorem dX1_byteCame_167 : decode cX1_byteCame 167 = .ok (.sipush 255, 3) := dk_17 0 255 (dk_at dksX1_byteCame_7 1 rfl rfl)
theorem dX1_byteCame_170 : decode cX1_byteCame 170 = .ok (.iand, 1) := dk_126 (dk_at dksX1_byteCame_7 4 rfl rfl)
theorem dX1_byteCame_171 : decode cX1_byteCame 171 = .ok (.putfield 203, 3) := dk_181 0 203 (dk_at dksX1_byteCame_7 5 rfl rfl)
theorem dX1_byteCame_174 : decode cX1_byteCame 174 = .ok (.aload_n 0, 1) := dk_42 (dk_at dksX1_byteCame_7 8 rfl rfl)
theorem dX1_byteCame_175 : decode cX1_byteCame 175 = .ok (.iconst 0, 1) := dk_3 (dk_at dksX1_byteCame_7 9 rfl rfl)
theorem dX1_byteCame_176 : decode cX1_byteCame 176 = .ok (.putfield 77, 3) := dk_181 0 77 (dk_at dksX1_byteCame_7 10 rfl rfl)
theorem dX1_byteCame_179 : decode cX1_byteCame 179 = .ok (.aload_n 0, 1) := dk_42 (dk_at dksX1_byteCame_7 13 rfl rfl)
theorem dX1_byteCame_180 : decode cX1_byteCame 180 = .ok (.invokevirtual 350, 3) := dk_182 1 94 (dk_at dksX1_byteCame_7 14 rfl rfl)
theorem dX1_byteCame_183 : decode cX1_byteCame 183 = .ok (.return_, 1) := dk_177 (dk_at dksX1_byteCame_7 17 rfl rfl)
abbrev cX1_goAway : ByteArray := prog_1_method_36_code
def yX1_goAway : MethodName := ⟨RX1, "goAway", "()V"⟩
def dkwX1_goAway_1 : List UInt8 := [182, 0, 118, 42, 42, 180, 0, 170, 181, 0, 96, 177]
abbrev dktX1_goAway_1 : List UInt8 := dkwX1_goAway_1 ++ []
def dkwX1_goAway_0 : List UInt8 := [42, 5, 16, 7, 3, 3, 182, 0, 114, 42, 42, 180, 0, 93, 182, 0, 118, 42, 42, 180, 0, 170]
abbrev dktX1_goAway_0 : List UInt8 := dkwX1_goAway_0 ++ dktX1_goAway_1
theorem dksX1_goAway_0 : cX1_goAway.data.toList.drop 0 = dktX1_goAway_0 := by decide +kernel
theorem dksX1_goAway_1 : cX1_goAway.data.toList.drop 22 = dktX1_goAway_1 := dk_seg dksX1_goAway_0 22 rfl rfl
theorem dX1_goAway_0 : decode cX1_goAway 0 = .ok (.aload_n 0, 1) := dk_42 (dk_at dksX1_goAway_0 0 rfl rfl)
theorem dX1_goAway_1 : decode cX1_goAway 1 = .ok (.iconst 2, 1) := dk_5 (dk_at dksX1_goAway_0 1 rfl rfl)
theorem dX1_goAway_2 : decode cX1_goAway 2 = .ok (.bipush 7, 2) := dk_16 7 (dk_at dksX1_goAway_0 2 rfl rfl)
theorem dX1_goAway_4 : decode cX1_goAway 4 = .ok (.iconst 0, 1) := dk_3 (dk_at dksX1_goAway_0 4 rfl rfl)
theorem dX1_goAway_5 : decode cX1_goAway 5 = .ok (.iconst 0, 1) := dk_3 (dk_at dksX1_goAway_0 5 rfl rfl)
theorem dX1_goAway_6 : decode cX1_goAway 6 = .ok (.invokevirtual 114, 3) := dk_182 0 114 (dk_at dksX1_goAway_0 6 rfl rfl)
theorem dX1_goAway_9 : decode cX1_goAway 9 = .ok (.aload_n 0, 1) := dk_42 (dk_at dksX1_goAway_0 9 rfl rfl)
theorem dX1_goAway_10 : decode cX1_goAway 10 = .ok (.aload_n 0, 1) := dk_42 (dk_at dksX1_goAway_0 10 rfl rfl)
theorem dX1_goAway_11 : decode cX1_goAway 11 = .ok (.getfield 93, 3) := dk_180 0 93 (dk_at dksX1_goAway_0 11 rfl rfl)
theorem dX1_goAway_14 : decode cX1_goAway 14 = .ok (.invokevirtual 118, 3) := dk_182 0 118 (dk_at dksX1_goAway_0 14 rfl rfl)
theorem dX1_goAway_17 : decode cX1_goAway 17 = .ok (.aload_n 0, 1) := dk_42 (dk_at dksX1_goAway_0 17 rfl rfl)
theorem dX1_goAway_18 : decode cX1_goAway 18 = .ok (.aload_n 0, 1) := dk_42 (dk_at dksX1_goAway_0 18 rfl rfl)
theorem dX1_goAway_19 : decode cX1_goAway 19 = .ok (.getfield 170, 3) := dk_180 0 170 (dk_at dksX1_goAway_0 19 rfl rfl)
theorem dX1_goAway_22 : decode cX1_goAway 22 = .ok (.invokevirtual 118, 3) := dk_182 0 118 (dk_at dksX1_goAway_1 0 rfl rfl)
theorem dX1_goAway_25 : decode cX1_goAway 25 = .ok (.aload_n 0, 1) := dk_42 (dk_at dksX1_goAway_1 3 rfl rfl)
theorem dX1_goAway_26 : decode cX1_goAway 26 = .ok (.aload_n 0, 1) := dk_42 (dk_at dksX1_goAway_1 4 rfl rfl)
theorem dX1_goAway_27 : decode cX1_goAway 27 = .ok (.getfield 170, 3) := dk_180 0 170 (dk_at dksX1_goAway_1 5 rfl rfl)
theorem dX1_goAway_30 : decode cX1_goAway 30 = .ok (.putfield 96, 3) := dk_181 0 96 (dk_at dksX1_goAway_1 8 rfl rfl)
theorem dX1_goAway_33 : decode cX1_goAway 33 = .ok (.return_, 1) := dk_177 (dk_at dksX1_goAway_1 11 rfl rfl)
abbrev cX1_whole : ByteArray := prog_1_method_38_code
def yX1_whole : MethodName := ⟨RX1, "whole", "()V"⟩
def dkwX1_whole_1 : List UInt8 := [154, 0, 7, 42, 182, 1, 77, 177]
abbrev dktX1_whole_1 : List UInt8 := dkwX1_whole_1 ++ []
def dkwX1_whole_0 : List UInt8 := [42, 182, 1, 68, 167, 0, 16, 76, 42, 182, 1, 71, 167, 0, 8, 76, 42, 182, 1, 74, 42, 180, 0, 96]
abbrev dktX1_whole_0 : List UInt8 := dkwX1_whole_0 ++ dktX1_whole_1
theorem dksX1_whole_0 : cX1_whole.data.toList.drop 0 = dktX1_whole_0 := by decide +kernel
theorem dksX1_whole_1 : cX1_whole.data.toList.drop 24 = dktX1_whole_1 := dk_seg dksX1_whole_0 24 rfl rfl
theorem dX1_whole_0 : decode cX1_whole 0 = .ok (.aload_n 0, 1) := dk_42 (dk_at dksX1_whole_0 0 rfl rfl)
theorem dX1_whole_1 : decode cX1_whole 1 = .ok (.invokevirtual 324, 3) := dk_182 1 68 (dk_at dksX1_whole_0 1 rfl rfl)
theorem dX1_whole_4 : decode cX1_whole 4 = .ok (.goto 16, 3) := dk_167 0 16 (dk_at dksX1_whole_0 4 rfl rfl)
theorem dX1_whole_7 : decode cX1_whole 7 = .ok (.astore_n 1, 1) := dk_76 (dk_at dksX1_whole_0 7 rfl rfl)
theorem dX1_whole_8 : decode cX1_whole 8 = .ok (.aload_n 0, 1) := dk_42 (dk_at dksX1_whole_0 8 rfl rfl)
theorem dX1_whole_9 : decode cX1_whole 9 = .ok (.invokevirtual 327, 3) := dk_182 1 71 (dk_at dksX1_whole_0 9 rfl rfl)
theorem dX1_whole_12 : decode cX1_whole 12 = .ok (.goto 8, 3) := dk_167 0 8 (dk_at dksX1_whole_0 12 rfl rfl)
theorem dX1_whole_15 : decode cX1_whole 15 = .ok (.astore_n 1, 1) := dk_76 (dk_at dksX1_whole_0 15 rfl rfl)
theorem dX1_whole_16 : decode cX1_whole 16 = .ok (.aload_n 0, 1) := dk_42 (dk_at dksX1_whole_0 16 rfl rfl)
theorem dX1_whole_17 : decode cX1_whole 17 = .ok (.invokevirtual 330, 3) := dk_182 1 74 (dk_at dksX1_whole_0 17 rfl rfl)
theorem dX1_whole_20 : decode cX1_whole 20 = .ok (.aload_n 0, 1) := dk_42 (dk_at dksX1_whole_0 20 rfl rfl)
theorem dX1_whole_21 : decode cX1_whole 21 = .ok (.getfield 96, 3) := dk_180 0 96 (dk_at dksX1_whole_0 21 rfl rfl)
theorem dX1_whole_24 : decode cX1_whole 24 = .ok (.ifCond .ne 7, 3) := dk_154 0 7 (dk_at dksX1_whole_1 0 rfl rfl)
theorem dX1_whole_27 : decode cX1_whole 27 = .ok (.aload_n 0, 1) := dk_42 (dk_at dksX1_whole_1 3 rfl rfl)
theorem dX1_whole_28 : decode cX1_whole 28 = .ok (.invokevirtual 333, 3) := dk_182 1 77 (dk_at dksX1_whole_1 4 rfl rfl)
theorem dX1_whole_31 : decode cX1_whole 31 = .ok (.return_, 1) := dk_177 (dk_at dksX1_whole_1 7 rfl rfl)
abbrev cX1_look : ByteArray := prog_1_method_35_code
def yX1_look : MethodName := ⟨RX1, "look", "()V"⟩
def dkwX1_look_11 : List UInt8 := [160, 0, 7, 4, 167, 0, 4, 3, 16, 6, 182, 0, 196, 167, 0, 10, 42, 182, 1, 65, 167, 0, 3, 177]
abbrev dktX1_look_11 : List UInt8 := dkwX1_look_11 ++ []
def dkwX1_look_10 : List UInt8 := [42, 42, 180, 0, 203, 154, 0, 7, 4, 167, 0, 4, 3, 4, 182, 0, 196, 42, 42, 180, 0, 189, 5]
abbrev dktX1_look_10 : List UInt8 := dkwX1_look_10 ++ dktX1_look_11
def dkwX1_look_9 : List UInt8 := [42, 180, 0, 203, 182, 1, 46, 167, 0, 63, 42, 182, 1, 59, 167, 0, 56, 42, 182, 1, 62, 167, 0, 49]
abbrev dktX1_look_9 : List UInt8 := dkwX1_look_9 ++ dktX1_look_10
def dkwX1_look_8 : List UInt8 := [153, 0, 18, 42, 42, 180, 0, 203, 182, 0, 204, 154, 0, 7, 4, 167, 0, 4, 3, 4, 182, 0, 196, 42]
abbrev dktX1_look_8 : List UInt8 := dkwX1_look_8 ++ dktX1_look_9
def dkwX1_look_7 : List UInt8 := [180, 0, 189, 4, 160, 0, 7, 4, 167, 0, 4, 3, 16, 6, 182, 0, 196, 42, 42, 180, 0, 203]
abbrev dktX1_look_7 : List UInt8 := dkwX1_look_7 ++ dktX1_look_8
def dkwX1_look_6 : List UInt8 := [42, 182, 1, 53, 167, 0, 135, 42, 182, 1, 56, 167, 0, 128, 42, 182, 0, 234, 167, 0, 121, 42, 42]
abbrev dktX1_look_6 : List UInt8 := dkwX1_look_6 ++ dktX1_look_7
def dkwX1_look_5 : List UInt8 := [170, 0, 0, 0, 0, 193, 0, 0, 0, 0, 0, 0, 0, 9, 0, 0, 0, 54, 0, 0, 0, 61, 0, 0, 0, 193, 0, 0, 0, 75, 0, 0, 0, 133, 0, 0, 0, 193, 0, 0, 0, 140, 0, 0, 0, 147, 0, 0, 0, 186, 0, 0, 0, 68]
abbrev dktX1_look_5 : List UInt8 := dkwX1_look_5 ++ dktX1_look_6
def dkwX1_look_4 : List UInt8 := [3, 181, 0, 186, 42, 42, 180, 0, 189, 181, 0, 200, 42, 180, 1, 50]
abbrev dktX1_look_4 : List UInt8 := dkwX1_look_4 ++ dktX1_look_5
def dkwX1_look_3 : List UInt8 := [160, 0, 18, 42, 180, 0, 203, 42, 180, 0, 88, 160, 0, 7, 4, 167, 0, 4, 3, 4, 182, 0, 196, 42]
abbrev dktX1_look_3 : List UInt8 := dkwX1_look_3 ++ dktX1_look_4
def dkwX1_look_2 : List UInt8 := [180, 1, 50, 16, 9, 159, 0, 7, 4, 167, 0, 32, 3, 167, 0, 28, 42, 180, 1, 50, 16, 9]
abbrev dktX1_look_2 : List UInt8 := dkwX1_look_2 ++ dktX1_look_3
def dkwX1_look_1 : List UInt8 := [4, 167, 0, 4, 3, 4, 182, 0, 196, 42, 3, 181, 0, 84, 42, 42, 180, 0, 88, 2, 160, 0, 20, 42]
abbrev dktX1_look_1 : List UInt8 := dkwX1_look_1 ++ dktX1_look_2
def dkwX1_look_0 : List UInt8 := [42, 42, 180, 0, 84, 153, 0, 19, 42, 180, 1, 50, 7, 160, 0, 15, 42, 4, 182, 0, 183, 154, 0, 7]
abbrev dktX1_look_0 : List UInt8 := dkwX1_look_0 ++ dktX1_look_1
theorem dksX1_look_0 : cX1_look.data.toList.drop 0 = dktX1_look_0 := by decide +kernel
theorem dksX1_look_1 : cX1_look.data.toList.drop 24 = dktX1_look_1 := dk_seg dksX1_look_0 24 rfl rfl
theorem dksX1_look_2 : cX1_look.data.toList.drop 48 = dktX1_look_2 := dk_seg dksX1_look_1 24 rfl rfl
theorem dksX1_look_3 : cX1_look.data.toList.drop 70 = dktX1_look_3 := dk_seg dksX1_look_2 22 rfl rfl
theorem dksX1_look_4 : cX1_look.data.toList.drop 94 = dktX1_look_4 := dk_seg dksX1_look_3 24 rfl rfl
theorem dksX1_look_5 : cX1_look.data.toList.drop 110 = dktX1_look_5 := dk_seg dksX1_look_4 16 rfl rfl
theorem dksX1_look_6 : cX1_look.data.toList.drop 164 = dktX1_look_6 := dk_seg dksX1_look_5 54 rfl rfl
theorem dksX1_look_7 : cX1_look.data.toList.drop 187 = dktX1_look_7 := dk_seg dksX1_look_6 23 rfl rfl
theorem dksX1_look_8 : cX1_look.data.toList.drop 209 = dktX1_look_8 := dk_seg dksX1_look_7 22 rfl rfl
theorem dksX1_look_9 : cX1_look.data.toList.drop 233 = dktX1_look_9 := dk_seg dksX1_look_8 24 rfl rfl
theorem dksX1_look_10 : cX1_look.data.toList.drop 257 = dktX1_look_10 := dk_seg dksX1_look_9 24 rfl rfl
theorem dksX1_look_11 : cX1_look.data.toList.drop 280 = dktX1_look_11 := dk_seg dksX1_look_10 23 rfl rfl
theorem dX1_look_0 : decode cX1_look 0 = .ok (.aload_n 0, 1) := dk_42 (dk_at dksX1_look_0 0 rfl rfl)
theorem dX1_look_1 : decode cX1_look 1 = .ok (.aload_n 0, 1) := dk_42 (dk_at dksX1_look_0 1 rfl rfl)
theorem dX1_look_2 : decode cX1_look 2 = .ok (.getfield 84, 3) := dk_180 0 84 (dk_at dksX1_look_0 2 rfl rfl)
theorem dX1_look_5 : decode cX1_look 5 = .ok (.ifCond .eq 19, 3) := dk_153 0 19 (dk_at dksX1_look_0 5 rfl rfl)
theorem dX1_look_8 : decode cX1_look 8 = .ok (.aload_n 0, 1) := dk_42 (dk_at dksX1_look_0 8 rfl rfl)
theorem dX1_look_9 : decode cX1_look 9 = .ok (.getfield 306, 3) := dk_180 1 50 (dk_at dksX1_look_0 9 rfl rfl)
theorem dX1_look_12 : decode cX1_look 12 = .ok (.iconst 4, 1) := dk_7 (dk_at dksX1_look_0 12 rfl rfl)
theorem dX1_look_13 : decode cX1_look 13 = .ok (.if_icmp .ne 15, 3) := dk_160 0 15 (dk_at dksX1_look_0 13 rfl rfl)
theorem dX1_look_16 : decode cX1_look 16 = .ok (.aload_n 0, 1) := dk_42 (dk_at dksX1_look_0 16 rfl rfl)
theorem dX1_look_17 : decode cX1_look 17 = .ok (.iconst 1, 1) := dk_4 (dk_at dksX1_look_0 17 rfl rfl)
theorem dX1_look_18 : decode cX1_look 18 = .ok (.invokevirtual 183, 3) := dk_182 0 183 (dk_at dksX1_look_0 18 rfl rfl)
theorem dX1_look_21 : decode cX1_look 21 = .ok (.ifCond .ne 7, 3) := dk_154 0 7 (dk_at dksX1_look_0 21 rfl rfl)
theorem dX1_look_24 : decode cX1_look 24 = .ok (.iconst 1, 1) := dk_4 (dk_at dksX1_look_1 0 rfl rfl)
theorem dX1_look_25 : decode cX1_look 25 = .ok (.goto 4, 3) := dk_167 0 4 (dk_at dksX1_look_1 1 rfl rfl)
theorem dX1_look_28 : decode cX1_look 28 = .ok (.iconst 0, 1) := dk_3 (dk_at dksX1_look_1 4 rfl rfl)
theorem dX1_look_29 : decode cX1_look 29 = .ok (.iconst 1, 1) := dk_4 (dk_at dksX1_look_1 5 rfl rfl)
theorem dX1_look_30 : decode cX1_look 30 = .ok (.invokevirtual 196, 3) := dk_182 0 196 (dk_at dksX1_look_1 6 rfl rfl)
theorem dX1_look_33 : decode cX1_look 33 = .ok (.aload_n 0, 1) := dk_42 (dk_at dksX1_look_1 9 rfl rfl)
theorem dX1_look_34 : decode cX1_look 34 = .ok (.iconst 0, 1) := dk_3 (dk_at dksX1_look_1 10 rfl rfl)
theorem dX1_look_35 : decode cX1_look 35 = .ok (.putfield 84, 3) := dk_181 0 84 (dk_at dksX1_look_1 11 rfl rfl)
theorem dX1_look_38 : decode cX1_look 38 = .ok (.aload_n 0, 1) := dk_42 (dk_at dksX1_look_1 14 rfl rfl)
theorem dX1_look_39 : decode cX1_look 39 = .ok (.aload_n 0, 1) := dk_42 (dk_at dksX1_look_1 15 rfl rfl)
theorem dX1_look_40 : decode cX1_look 40 = .ok (.getfield 88, 3) := dk_180 0 88 (dk_at dksX1_look_1 16 rfl rfl)
theorem dX1_look_43 : decode cX1_look 43 = .ok (.iconst (-1), 1) := dk_2 (dk_at dksX1_look_1 19 rfl rfl)
theorem dX1_look_44 : decode cX1_look 44 = .ok (.if_icmp .ne 20, 3) := dk_160 0 20 (dk_at dksX1_look_1 20 rfl rfl)
theorem dX1_look_47 : decode cX1_look 47 = .ok (.aload_n 0, 1) := dk_42 (dk_at dksX1_look_1 23 rfl rfl)
theorem dX1_look_48 : decode cX1_look 48 = .ok (.getfield 306, 3) := dk_180 1 50 (dk_at dksX1_look_2 0 rfl rfl)
theorem dX1_look_51 : decode cX1_look 51 = .ok (.bipush 9, 2) := dk_16 9 (dk_at dksX1_look_2 3 rfl rfl)
theorem dX1_look_53 : decode cX1_look 53 = .ok (.if_icmp .eq 7, 3) := dk_159 0 7 (dk_at dksX1_look_2 5 rfl rfl)
theorem dX1_look_56 : decode cX1_look 56 = .ok (.iconst 1, 1) := dk_4 (dk_at dksX1_look_2 8 rfl rfl)
theorem dX1_look_57 : decode cX1_look 57 = .ok (.goto 32, 3) := dk_167 0 32 (dk_at dksX1_look_2 9 rfl rfl)
theorem dX1_look_60 : decode cX1_look 60 = .ok (.iconst 0, 1) := dk_3 (dk_at dksX1_look_2 12 rfl rfl)
theorem dX1_look_61 : decode cX1_look 61 = .ok (.goto 28, 3) := dk_167 0 28 (dk_at dksX1_look_2 13 rfl rfl)
theorem dX1_look_64 : decode cX1_look 64 = .ok (.aload_n 0, 1) := dk_42 (dk_at dksX1_look_2 16 rfl rfl)
theorem dX1_look_65 : decode cX1_look 65 = .ok (.getfield 306, 3) := dk_180 1 50 (dk_at dksX1_look_2 17 rfl rfl)
theorem dX1_look_68 : decode cX1_look 68 = .ok (.bipush 9, 2) := dk_16 9 (dk_at dksX1_look_2 20 rfl rfl)
theorem dX1_look_70 : decode cX1_look 70 = .ok (.if_icmp .ne 18, 3) := dk_160 0 18 (dk_at dksX1_look_3 0 rfl rfl)
theorem dX1_look_73 : decode cX1_look 73 = .ok (.aload_n 0, 1) := dk_42 (dk_at dksX1_look_3 3 rfl rfl)
theorem dX1_look_74 : decode cX1_look 74 = .ok (.getfield 203, 3) := dk_180 0 203 (dk_at dksX1_look_3 4 rfl rfl)
theorem dX1_look_77 : decode cX1_look 77 = .ok (.aload_n 0, 1) := dk_42 (dk_at dksX1_look_3 7 rfl rfl)
theorem dX1_look_78 : decode cX1_look 78 = .ok (.getfield 88, 3) := dk_180 0 88 (dk_at dksX1_look_3 8 rfl rfl)
theorem dX1_look_81 : decode cX1_look 81 = .ok (.if_icmp .ne 7, 3) := dk_160 0 7 (dk_at dksX1_look_3 11 rfl rfl)
theorem dX1_look_84 : decode cX1_look 84 = .ok (.iconst 1, 1) := dk_4 (dk_at dksX1_look_3 14 rfl rfl)
theorem dX1_look_85 : decode cX1_look 85 = .ok (.goto 4, 3) := dk_167 0 4 (dk_at dksX1_look_3 15 rfl rfl)
theorem dX1_look_88 : decode cX1_look 88 = .ok (.iconst 0, 1) := dk_3 (dk_at dksX1_look_3 18 rfl rfl)
theorem dX1_look_89 : decode cX1_look 89 = .ok (.iconst 1, 1) := dk_4 (dk_at dksX1_look_3 19 rfl rfl)
theorem dX1_look_90 : decode cX1_look 90 = .ok (.invokevirtual 196, 3) := dk_182 0 196 (dk_at dksX1_look_3 20 rfl rfl)
theorem dX1_look_93 : decode cX1_look 93 = .ok (.aload_n 0, 1) := dk_42 (dk_at dksX1_look_3 23 rfl rfl)
theorem dX1_look_94 : decode cX1_look 94 = .ok (.iconst 0, 1) := dk_3 (dk_at dksX1_look_4 0 rfl rfl)
theorem dX1_look_95 : decode cX1_look 95 = .ok (.putfield 186, 3) := dk_181 0 186 (dk_at dksX1_look_4 1 rfl rfl)
theorem dX1_look_98 : decode cX1_look 98 = .ok (.aload_n 0, 1) := dk_42 (dk_at dksX1_look_4 4 rfl rfl)
theorem dX1_look_99 : decode cX1_look 99 = .ok (.aload_n 0, 1) := dk_42 (dk_at dksX1_look_4 5 rfl rfl)
theorem dX1_look_100 : decode cX1_look 100 = .ok (.getfield 189, 3) := dk_180 0 189 (dk_at dksX1_look_4 6 rfl rfl)
theorem dX1_look_103 : decode cX1_look 103 = .ok (.putfield 200, 3) := dk_181 0 200 (dk_at dksX1_look_4 9 rfl rfl)
theorem dX1_look_106 : decode cX1_look 106 = .ok (.aload_n 0, 1) := dk_42 (dk_at dksX1_look_4 12 rfl rfl)
theorem dX1_look_107 : decode cX1_look 107 = .ok (.getfield 306, 3) := dk_180 1 50 (dk_at dksX1_look_4 13 rfl rfl)
theorem dX1_look_110 : decode cX1_look 110 = .ok (.tableswitch 193 0 9 #[54, 61, 193, 75, 133, 193, 140, 147, 186, 68], 54) := by decide +kernel
theorem dX1_look_164 : decode cX1_look 164 = .ok (.aload_n 0, 1) := dk_42 (dk_at dksX1_look_6 0 rfl rfl)
theorem dX1_look_165 : decode cX1_look 165 = .ok (.invokevirtual 309, 3) := dk_182 1 53 (dk_at dksX1_look_6 1 rfl rfl)
theorem dX1_look_168 : decode cX1_look 168 = .ok (.goto 135, 3) := dk_167 0 135 (dk_at dksX1_look_6 4 rfl rfl)
theorem dX1_look_171 : decode cX1_look 171 = .ok (.aload_n 0, 1) := dk_42 (dk_at dksX1_look_6 7 rfl rfl)
theorem dX1_look_172 : decode cX1_look 172 = .ok (.invokevirtual 312, 3) := dk_182 1 56 (dk_at dksX1_look_6 8 rfl rfl)
theorem dX1_look_175 : decode cX1_look 175 = .ok (.goto 128, 3) := dk_167 0 128 (dk_at dksX1_look_6 11 rfl rfl)
theorem dX1_look_178 : decode cX1_look 178 = .ok (.aload_n 0, 1) := dk_42 (dk_at dksX1_look_6 14 rfl rfl)
theorem dX1_look_179 : decode cX1_look 179 = .ok (.invokevirtual 234, 3) := dk_182 0 234 (dk_at dksX1_look_6 15 rfl rfl)
theorem dX1_look_182 : decode cX1_look 182 = .ok (.goto 121, 3) := dk_167 0 121 (dk_at dksX1_look_6 18 rfl rfl)
theorem dX1_look_185 : decode cX1_look 185 = .ok (.aload_n 0, 1) := dk_42 (dk_at dksX1_look_6 21 rfl rfl)
theorem dX1_look_186 : decode cX1_look 186 = .ok (.aload_n 0, 1) := dk_42 (dk_at dksX1_look_6 22 rfl rfl)
theorem dX1_look_187 : decode cX1_look 187 = .ok (.getfield 189, 3) := dk_180 0 189 (dk_at dksX1_look_7 0 rfl rfl)
theorem dX1_look_190 : decode cX1_look 190 = .ok (.iconst 1, 1) := dk_4 (dk_at dksX1_look_7 3 rfl rfl)
theorem dX1_look_191 : decode cX1_look 191 = .ok (.if_icmp .ne 7, 3) := dk_160 0 7 (dk_at dksX1_look_7 4 rfl rfl)
theorem dX1_look_194 : decode cX1_look 194 = .ok (.iconst 1, 1) := dk_4 (dk_at dksX1_look_7 7 rfl rfl)
theorem dX1_look_195 : decode cX1_look 195 = .ok (.goto 4, 3) := dk_167 0 4 (dk_at dksX1_look_7 8 rfl rfl)
theorem dX1_look_198 : decode cX1_look 198 = .ok (.iconst 0, 1) := dk_3 (dk_at dksX1_look_7 11 rfl rfl)
theorem dX1_look_199 : decode cX1_look 199 = .ok (.bipush 6, 2) := dk_16 6 (dk_at dksX1_look_7 12 rfl rfl)
theorem dX1_look_201 : decode cX1_look 201 = .ok (.invokevirtual 196, 3) := dk_182 0 196 (dk_at dksX1_look_7 14 rfl rfl)
theorem dX1_look_204 : decode cX1_look 204 = .ok (.aload_n 0, 1) := dk_42 (dk_at dksX1_look_7 17 rfl rfl)
theorem dX1_look_205 : decode cX1_look 205 = .ok (.aload_n 0, 1) := dk_42 (dk_at dksX1_look_7 18 rfl rfl)
theorem dX1_look_206 : decode cX1_look 206 = .ok (.getfield 203, 3) := dk_180 0 203 (dk_at dksX1_look_7 19 rfl rfl)
theorem dX1_look_209 : decode cX1_look 209 = .ok (.ifCond .eq 18, 3) := dk_153 0 18 (dk_at dksX1_look_8 0 rfl rfl)
theorem dX1_look_212 : decode cX1_look 212 = .ok (.aload_n 0, 1) := dk_42 (dk_at dksX1_look_8 3 rfl rfl)
theorem dX1_look_213 : decode cX1_look 213 = .ok (.aload_n 0, 1) := dk_42 (dk_at dksX1_look_8 4 rfl rfl)
theorem dX1_look_214 : decode cX1_look 214 = .ok (.getfield 203, 3) := dk_180 0 203 (dk_at dksX1_look_8 5 rfl rfl)
theorem dX1_look_217 : decode cX1_look 217 = .ok (.invokevirtual 204, 3) := dk_182 0 204 (dk_at dksX1_look_8 8 rfl rfl)
theorem dX1_look_220 : decode cX1_look 220 = .ok (.ifCond .ne 7, 3) := dk_154 0 7 (dk_at dksX1_look_8 11 rfl rfl)
theorem dX1_look_223 : decode cX1_look 223 = .ok (.iconst 1, 1) := dk_4 (dk_at dksX1_look_8 14 rfl rfl)
theorem dX1_look_224 : decode cX1_look 224 = .ok (.goto 4, 3) := dk_167 0 4 (dk_at dksX1_look_8 15 rfl rfl)
theorem dX1_look_227 : decode cX1_look 227 = .ok (.iconst 0, 1) := dk_3 (dk_at dksX1_look_8 18 rfl rfl)
theorem dX1_look_228 : decode cX1_look 228 = .ok (.iconst 1, 1) := dk_4 (dk_at dksX1_look_8 19 rfl rfl)
theorem dX1_look_229 : decode cX1_look 229 = .ok (.invokevirtual 196, 3) := dk_182 0 196 (dk_at dksX1_look_8 20 rfl rfl)
theorem dX1_look_232 : decode cX1_look 232 = .ok (.aload_n 0, 1) := dk_42 (dk_at dksX1_look_8 23 rfl rfl)
theorem dX1_look_233 : decode cX1_look 233 = .ok (.aload_n 0, 1) := dk_42 (dk_at dksX1_look_9 0 rfl rfl)
theorem dX1_look_234 : decode cX1_look 234 = .ok (.getfield 203, 3) := dk_180 0 203 (dk_at dksX1_look_9 1 rfl rfl)
theorem dX1_look_237 : decode cX1_look 237 = .ok (.invokevirtual 302, 3) := dk_182 1 46 (dk_at dksX1_look_9 4 rfl rfl)
theorem dX1_look_240 : decode cX1_look 240 = .ok (.goto 63, 3) := dk_167 0 63 (dk_at dksX1_look_9 7 rfl rfl)
theorem dX1_look_243 : decode cX1_look 243 = .ok (.aload_n 0, 1) := dk_42 (dk_at dksX1_look_9 10 rfl rfl)
theorem dX1_look_244 : decode cX1_look 244 = .ok (.invokevirtual 315, 3) := dk_182 1 59 (dk_at dksX1_look_9 11 rfl rfl)
theorem dX1_look_247 : decode cX1_look 247 = .ok (.goto 56, 3) := dk_167 0 56 (dk_at dksX1_look_9 14 rfl rfl)
theorem dX1_look_250 : decode cX1_look 250 = .ok (.aload_n 0, 1) := dk_42 (dk_at dksX1_look_9 17 rfl rfl)
theorem dX1_look_251 : decode cX1_look 251 = .ok (.invokevirtual 318, 3) := dk_182 1 62 (dk_at dksX1_look_9 18 rfl rfl)
theorem dX1_look_254 : decode cX1_look 254 = .ok (.goto 49, 3) := dk_167 0 49 (dk_at dksX1_look_9 21 rfl rfl)
theorem dX1_look_257 : decode cX1_look 257 = .ok (.aload_n 0, 1) := dk_42 (dk_at dksX1_look_10 0 rfl rfl)
theorem dX1_look_258 : decode cX1_look 258 = .ok (.aload_n 0, 1) := dk_42 (dk_at dksX1_look_10 1 rfl rfl)
theorem dX1_look_259 : decode cX1_look 259 = .ok (.getfield 203, 3) := dk_180 0 203 (dk_at dksX1_look_10 2 rfl rfl)
theorem dX1_look_262 : decode cX1_look 262 = .ok (.ifCond .ne 7, 3) := dk_154 0 7 (dk_at dksX1_look_10 5 rfl rfl)
theorem dX1_look_265 : decode cX1_look 265 = .ok (.iconst 1, 1) := dk_4 (dk_at dksX1_look_10 8 rfl rfl)
theorem dX1_look_266 : decode cX1_look 266 = .ok (.goto 4, 3) := dk_167 0 4 (dk_at dksX1_look_10 9 rfl rfl)
theorem dX1_look_269 : decode cX1_look 269 = .ok (.iconst 0, 1) := dk_3 (dk_at dksX1_look_10 12 rfl rfl)
theorem dX1_look_270 : decode cX1_look 270 = .ok (.iconst 1, 1) := dk_4 (dk_at dksX1_look_10 13 rfl rfl)
theorem dX1_look_271 : decode cX1_look 271 = .ok (.invokevirtual 196, 3) := dk_182 0 196 (dk_at dksX1_look_10 14 rfl rfl)
theorem dX1_look_274 : decode cX1_look 274 = .ok (.aload_n 0, 1) := dk_42 (dk_at dksX1_look_10 17 rfl rfl)
theorem dX1_look_275 : decode cX1_look 275 = .ok (.aload_n 0, 1) := dk_42 (dk_at dksX1_look_10 18 rfl rfl)
theorem dX1_look_276 : decode cX1_look 276 = .ok (.getfield 189, 3) := dk_180 0 189 (dk_at dksX1_look_10 19 rfl rfl)
theorem dX1_look_279 : decode cX1_look 279 = .ok (.iconst 2, 1) := dk_5 (dk_at dksX1_look_10 22 rfl rfl)
theorem dX1_look_280 : decode cX1_look 280 = .ok (.if_icmp .ne 7, 3) := dk_160 0 7 (dk_at dksX1_look_11 0 rfl rfl)
theorem dX1_look_283 : decode cX1_look 283 = .ok (.iconst 1, 1) := dk_4 (dk_at dksX1_look_11 3 rfl rfl)
theorem dX1_look_284 : decode cX1_look 284 = .ok (.goto 4, 3) := dk_167 0 4 (dk_at dksX1_look_11 4 rfl rfl)
theorem dX1_look_287 : decode cX1_look 287 = .ok (.iconst 0, 1) := dk_3 (dk_at dksX1_look_11 7 rfl rfl)
theorem dX1_look_288 : decode cX1_look 288 = .ok (.bipush 6, 2) := dk_16 6 (dk_at dksX1_look_11 8 rfl rfl)
theorem dX1_look_290 : decode cX1_look 290 = .ok (.invokevirtual 196, 3) := dk_182 0 196 (dk_at dksX1_look_11 10 rfl rfl)
theorem dX1_look_293 : decode cX1_look 293 = .ok (.goto 10, 3) := dk_167 0 10 (dk_at dksX1_look_11 13 rfl rfl)
theorem dX1_look_296 : decode cX1_look 296 = .ok (.aload_n 0, 1) := dk_42 (dk_at dksX1_look_11 16 rfl rfl)
theorem dX1_look_297 : decode cX1_look 297 = .ok (.invokevirtual 321, 3) := dk_182 1 65 (dk_at dksX1_look_11 17 rfl rfl)
theorem dX1_look_300 : decode cX1_look 300 = .ok (.goto 3, 3) := dk_167 0 3 (dk_at dksX1_look_11 20 rfl rfl)
theorem dX1_look_303 : decode cX1_look 303 = .ok (.return_, 1) := dk_177 (dk_at dksX1_look_11 23 rfl rfl)
abbrev cX1_has : ByteArray := prog_1_method_19_code
def yX1_has : MethodName := ⟨RX1, "has", "(I)Z"⟩
def dkwX1_has_0 : List UInt8 := [42, 180, 0, 180, 27, 126, 153, 0, 7, 4, 167, 0, 4, 3, 172]
abbrev dktX1_has_0 : List UInt8 := dkwX1_has_0 ++ []
theorem dksX1_has_0 : cX1_has.data.toList.drop 0 = dktX1_has_0 := by decide +kernel
theorem dX1_has_0 : decode cX1_has 0 = .ok (.aload_n 0, 1) := dk_42 (dk_at dksX1_has_0 0 rfl rfl)
theorem dX1_has_1 : decode cX1_has 1 = .ok (.getfield 180, 3) := dk_180 0 180 (dk_at dksX1_has_0 1 rfl rfl)
theorem dX1_has_4 : decode cX1_has 4 = .ok (.iload_n 1, 1) := dk_27 (dk_at dksX1_has_0 4 rfl rfl)
theorem dX1_has_5 : decode cX1_has 5 = .ok (.iand, 1) := dk_126 (dk_at dksX1_has_0 5 rfl rfl)
theorem dX1_has_6 : decode cX1_has 6 = .ok (.ifCond .eq 7, 3) := dk_153 0 7 (dk_at dksX1_has_0 6 rfl rfl)
theorem dX1_has_9 : decode cX1_has 9 = .ok (.iconst 1, 1) := dk_4 (dk_at dksX1_has_0 9 rfl rfl)
theorem dX1_has_10 : decode cX1_has 10 = .ok (.goto 4, 3) := dk_167 0 4 (dk_at dksX1_has_0 10 rfl rfl)
theorem dX1_has_13 : decode cX1_has 13 = .ok (.iconst 0, 1) := dk_3 (dk_at dksX1_has_0 13 rfl rfl)
theorem dX1_has_14 : decode cX1_has 14 = .ok (.ireturn, 1) := dk_172 (dk_at dksX1_has_0 14 rfl rfl)
abbrev cX1_must : ByteArray := prog_1_method_14_code
def yX1_must : MethodName := ⟨RX1, "must", "(ZI)V"⟩
def dkwX1_must_0 : List UInt8 := [27, 153, 0, 4, 177, 42, 28, 181, 0, 170, 187, 0, 164, 89, 183, 0, 166, 191]
abbrev dktX1_must_0 : List UInt8 := dkwX1_must_0 ++ []
theorem dksX1_must_0 : cX1_must.data.toList.drop 0 = dktX1_must_0 := by decide +kernel
theorem dX1_must_0 : decode cX1_must 0 = .ok (.iload_n 1, 1) := dk_27 (dk_at dksX1_must_0 0 rfl rfl)
theorem dX1_must_1 : decode cX1_must 1 = .ok (.ifCond .eq 4, 3) := dk_153 0 4 (dk_at dksX1_must_0 1 rfl rfl)
theorem dX1_must_4 : decode cX1_must 4 = .ok (.return_, 1) := dk_177 (dk_at dksX1_must_0 4 rfl rfl)
theorem dX1_must_5 : decode cX1_must 5 = .ok (.aload_n 0, 1) := dk_42 (dk_at dksX1_must_0 5 rfl rfl)
theorem dX1_must_6 : decode cX1_must 6 = .ok (.iload_n 2, 1) := dk_28 (dk_at dksX1_must_0 6 rfl rfl)
theorem dX1_must_7 : decode cX1_must 7 = .ok (.putfield 170, 3) := dk_181 0 170 (dk_at dksX1_must_0 7 rfl rfl)
theorem dX1_must_10 : decode cX1_must 10 = .ok (.new 164, 3) := dk_187 0 164 (dk_at dksX1_must_0 10 rfl rfl)
theorem dX1_must_13 : decode cX1_must 13 = .ok (.dup, 1) := dk_89 (dk_at dksX1_must_0 13 rfl rfl)
theorem dX1_must_14 : decode cX1_must 14 = .ok (.invokespecial 166, 3) := dk_183 0 166 (dk_at dksX1_must_0 14 rfl rfl)
theorem dX1_must_17 : decode cX1_must 17 = .ok (.athrow, 1) := dk_191 (dk_at dksX1_must_0 17 rfl rfl)
abbrev cX1_data : ByteArray := prog_1_method_22_code
def yX1_data : MethodName := ⟨RX1, "data", "()V"⟩
def dkwX1_data_7 : List UInt8 := [182, 0, 210, 177]
abbrev dktX1_data_7 : List UInt8 := dkwX1_data_7 ++ []
def dkwX1_data_6 : List UInt8 := [42, 43, 182, 0, 223, 167, 0, 22, 42, 180, 0, 189, 158, 0, 15, 42, 42, 180, 0, 203, 42, 180, 0, 189]
abbrev dktX1_data_6 : List UInt8 := dkwX1_data_6 ++ dktX1_data_7
def dkwX1_data_5 : List UInt8 := [180, 0, 220, 42, 180, 0, 200, 42, 180, 0, 186, 100, 96, 181, 0, 220, 42, 4, 182, 0, 183, 153, 0, 11]
abbrev dktX1_data_5 : List UInt8 := dkwX1_data_5 ++ dktX1_data_6
def dkwX1_data_4 : List UInt8 := [182, 0, 217, 42, 42, 180, 0, 189, 16, 50, 163, 0, 7, 4, 167, 0, 4, 3, 6, 182, 0, 217, 43, 89]
abbrev dktX1_data_4 : List UInt8 := dkwX1_data_4 ++ dktX1_data_5
def dkwX1_data_3 : List UInt8 := [182, 0, 176, 76, 42, 43, 198, 0, 14, 43, 180, 0, 214, 154, 0, 7, 4, 167, 0, 4, 3, 8]
abbrev dktX1_data_3 : List UInt8 := dkwX1_data_3 ++ dktX1_data_4
def dkwX1_data_2 : List UInt8 := [182, 0, 196, 42, 180, 0, 189, 158, 0, 12, 42, 3, 42, 180, 0, 189, 182, 0, 210, 42, 42, 180, 0, 203]
abbrev dktX1_data_2 : List UInt8 := dkwX1_data_2 ++ dktX1_data_3
def dkwX1_data_1 : List UInt8 := [4, 182, 0, 196, 42, 182, 0, 207, 42, 42, 180, 0, 189, 16, 80, 163, 0, 7, 4, 167, 0, 4, 3, 6]
abbrev dktX1_data_1 : List UInt8 := dkwX1_data_1 ++ dktX1_data_2
def dkwX1_data_0 : List UInt8 := [42, 42, 180, 0, 203, 153, 0, 18, 42, 42, 180, 0, 203, 182, 0, 204, 154, 0, 7, 4, 167, 0, 4, 3]
abbrev dktX1_data_0 : List UInt8 := dkwX1_data_0 ++ dktX1_data_1
theorem dksX1_data_0 : cX1_data.data.toList.drop 0 = dktX1_data_0 := by decide +kernel
theorem dksX1_data_1 : cX1_data.data.toList.drop 24 = dktX1_data_1 := dk_seg dksX1_data_0 24 rfl rfl
theorem dksX1_data_2 : cX1_data.data.toList.drop 48 = dktX1_data_2 := dk_seg dksX1_data_1 24 rfl rfl
theorem dksX1_data_3 : cX1_data.data.toList.drop 72 = dktX1_data_3 := dk_seg dksX1_data_2 24 rfl rfl
theorem dksX1_data_4 : cX1_data.data.toList.drop 94 = dktX1_data_4 := dk_seg dksX1_data_3 22 rfl rfl
theorem dksX1_data_5 : cX1_data.data.toList.drop 118 = dktX1_data_5 := dk_seg dksX1_data_4 24 rfl rfl
theorem dksX1_data_6 : cX1_data.data.toList.drop 142 = dktX1_data_6 := dk_seg dksX1_data_5 24 rfl rfl
theorem dksX1_data_7 : cX1_data.data.toList.drop 166 = dktX1_data_7 := dk_seg dksX1_data_6 24 rfl rfl
theorem dX1_data_0 : decode cX1_data 0 = .ok (.aload_n 0, 1) := dk_42 (dk_at dksX1_data_0 0 rfl rfl)
theorem dX1_data_1 : decode cX1_data 1 = .ok (.aload_n 0, 1) := dk_42 (dk_at dksX1_data_0 1 rfl rfl)
theorem dX1_data_2 : decode cX1_data 2 = .ok (.getfield 203, 3) := dk_180 0 203 (dk_at dksX1_data_0 2 rfl rfl)
theorem dX1_data_5 : decode cX1_data 5 = .ok (.ifCond .eq 18, 3) := dk_153 0 18 (dk_at dksX1_data_0 5 rfl rfl)
theorem dX1_data_8 : decode cX1_data 8 = .ok (.aload_n 0, 1) := dk_42 (dk_at dksX1_data_0 8 rfl rfl)
theorem dX1_data_9 : decode cX1_data 9 = .ok (.aload_n 0, 1) := dk_42 (dk_at dksX1_data_0 9 rfl rfl)
theorem dX1_data_10 : decode cX1_data 10 = .ok (.getfield 203, 3) := dk_180 0 203 (dk_at dksX1_data_0 10 rfl rfl)
theorem dX1_data_13 : decode cX1_data 13 = .ok (.invokevirtual 204, 3) := dk_182 0 204 (dk_at dksX1_data_0 13 rfl rfl)
theorem dX1_data_16 : decode cX1_data 16 = .ok (.ifCond .ne 7, 3) := dk_154 0 7 (dk_at dksX1_data_0 16 rfl rfl)
theorem dX1_data_19 : decode cX1_data 19 = .ok (.iconst 1, 1) := dk_4 (dk_at dksX1_data_0 19 rfl rfl)
theorem dX1_data_20 : decode cX1_data 20 = .ok (.goto 4, 3) := dk_167 0 4 (dk_at dksX1_data_0 20 rfl rfl)
theorem dX1_data_23 : decode cX1_data 23 = .ok (.iconst 0, 1) := dk_3 (dk_at dksX1_data_0 23 rfl rfl)
theorem dX1_data_24 : decode cX1_data 24 = .ok (.iconst 1, 1) := dk_4 (dk_at dksX1_data_1 0 rfl rfl)
theorem dX1_data_25 : decode cX1_data 25 = .ok (.invokevirtual 196, 3) := dk_182 0 196 (dk_at dksX1_data_1 1 rfl rfl)
theorem dX1_data_28 : decode cX1_data 28 = .ok (.aload_n 0, 1) := dk_42 (dk_at dksX1_data_1 4 rfl rfl)
theorem dX1_data_29 : decode cX1_data 29 = .ok (.invokevirtual 207, 3) := dk_182 0 207 (dk_at dksX1_data_1 5 rfl rfl)
theorem dX1_data_32 : decode cX1_data 32 = .ok (.aload_n 0, 1) := dk_42 (dk_at dksX1_data_1 8 rfl rfl)
theorem dX1_data_33 : decode cX1_data 33 = .ok (.aload_n 0, 1) := dk_42 (dk_at dksX1_data_1 9 rfl rfl)
theorem dX1_data_34 : decode cX1_data 34 = .ok (.getfield 189, 3) := dk_180 0 189 (dk_at dksX1_data_1 10 rfl rfl)
theorem dX1_data_37 : decode cX1_data 37 = .ok (.bipush 80, 2) := dk_16 80 (dk_at dksX1_data_1 13 rfl rfl)
theorem dX1_data_39 : decode cX1_data 39 = .ok (.if_icmp .gt 7, 3) := dk_163 0 7 (dk_at dksX1_data_1 15 rfl rfl)
theorem dX1_data_42 : decode cX1_data 42 = .ok (.iconst 1, 1) := dk_4 (dk_at dksX1_data_1 18 rfl rfl)
theorem dX1_data_43 : decode cX1_data 43 = .ok (.goto 4, 3) := dk_167 0 4 (dk_at dksX1_data_1 19 rfl rfl)
theorem dX1_data_46 : decode cX1_data 46 = .ok (.iconst 0, 1) := dk_3 (dk_at dksX1_data_1 22 rfl rfl)
theorem dX1_data_47 : decode cX1_data 47 = .ok (.iconst 3, 1) := dk_6 (dk_at dksX1_data_1 23 rfl rfl)
theorem dX1_data_48 : decode cX1_data 48 = .ok (.invokevirtual 196, 3) := dk_182 0 196 (dk_at dksX1_data_2 0 rfl rfl)
theorem dX1_data_51 : decode cX1_data 51 = .ok (.aload_n 0, 1) := dk_42 (dk_at dksX1_data_2 3 rfl rfl)
theorem dX1_data_52 : decode cX1_data 52 = .ok (.getfield 189, 3) := dk_180 0 189 (dk_at dksX1_data_2 4 rfl rfl)
theorem dX1_data_55 : decode cX1_data 55 = .ok (.ifCond .le 12, 3) := dk_158 0 12 (dk_at dksX1_data_2 7 rfl rfl)
theorem dX1_data_58 : decode cX1_data 58 = .ok (.aload_n 0, 1) := dk_42 (dk_at dksX1_data_2 10 rfl rfl)
theorem dX1_data_59 : decode cX1_data 59 = .ok (.iconst 0, 1) := dk_3 (dk_at dksX1_data_2 11 rfl rfl)
theorem dX1_data_60 : decode cX1_data 60 = .ok (.aload_n 0, 1) := dk_42 (dk_at dksX1_data_2 12 rfl rfl)
theorem dX1_data_61 : decode cX1_data 61 = .ok (.getfield 189, 3) := dk_180 0 189 (dk_at dksX1_data_2 13 rfl rfl)
theorem dX1_data_64 : decode cX1_data 64 = .ok (.invokevirtual 210, 3) := dk_182 0 210 (dk_at dksX1_data_2 16 rfl rfl)
theorem dX1_data_67 : decode cX1_data 67 = .ok (.aload_n 0, 1) := dk_42 (dk_at dksX1_data_2 19 rfl rfl)
theorem dX1_data_68 : decode cX1_data 68 = .ok (.aload_n 0, 1) := dk_42 (dk_at dksX1_data_2 20 rfl rfl)
theorem dX1_data_69 : decode cX1_data 69 = .ok (.getfield 203, 3) := dk_180 0 203 (dk_at dksX1_data_2 21 rfl rfl)
theorem dX1_data_72 : decode cX1_data 72 = .ok (.invokevirtual 176, 3) := dk_182 0 176 (dk_at dksX1_data_3 0 rfl rfl)
theorem dX1_data_75 : decode cX1_data 75 = .ok (.astore_n 1, 1) := dk_76 (dk_at dksX1_data_3 3 rfl rfl)
theorem dX1_data_76 : decode cX1_data 76 = .ok (.aload_n 0, 1) := dk_42 (dk_at dksX1_data_3 4 rfl rfl)
theorem dX1_data_77 : decode cX1_data 77 = .ok (.aload_n 1, 1) := dk_43 (dk_at dksX1_data_3 5 rfl rfl)
theorem dX1_data_78 : decode cX1_data 78 = .ok (.ifnull 14, 3) := dk_198 0 14 (dk_at dksX1_data_3 6 rfl rfl)
theorem dX1_data_81 : decode cX1_data 81 = .ok (.aload_n 1, 1) := dk_43 (dk_at dksX1_data_3 9 rfl rfl)
theorem dX1_data_82 : decode cX1_data 82 = .ok (.getfield 214, 3) := dk_180 0 214 (dk_at dksX1_data_3 10 rfl rfl)
theorem dX1_data_85 : decode cX1_data 85 = .ok (.ifCond .ne 7, 3) := dk_154 0 7 (dk_at dksX1_data_3 13 rfl rfl)
theorem dX1_data_88 : decode cX1_data 88 = .ok (.iconst 1, 1) := dk_4 (dk_at dksX1_data_3 16 rfl rfl)
theorem dX1_data_89 : decode cX1_data 89 = .ok (.goto 4, 3) := dk_167 0 4 (dk_at dksX1_data_3 17 rfl rfl)
theorem dX1_data_92 : decode cX1_data 92 = .ok (.iconst 0, 1) := dk_3 (dk_at dksX1_data_3 20 rfl rfl)
theorem dX1_data_93 : decode cX1_data 93 = .ok (.iconst 5, 1) := dk_8 (dk_at dksX1_data_3 21 rfl rfl)
theorem dX1_data_94 : decode cX1_data 94 = .ok (.invokevirtual 217, 3) := dk_182 0 217 (dk_at dksX1_data_4 0 rfl rfl)
theorem dX1_data_97 : decode cX1_data 97 = .ok (.aload_n 0, 1) := dk_42 (dk_at dksX1_data_4 3 rfl rfl)
theorem dX1_data_98 : decode cX1_data 98 = .ok (.aload_n 0, 1) := dk_42 (dk_at dksX1_data_4 4 rfl rfl)
theorem dX1_data_99 : decode cX1_data 99 = .ok (.getfield 189, 3) := dk_180 0 189 (dk_at dksX1_data_4 5 rfl rfl)
theorem dX1_data_102 : decode cX1_data 102 = .ok (.bipush 50, 2) := dk_16 50 (dk_at dksX1_data_4 8 rfl rfl)
theorem dX1_data_104 : decode cX1_data 104 = .ok (.if_icmp .gt 7, 3) := dk_163 0 7 (dk_at dksX1_data_4 10 rfl rfl)
theorem dX1_data_107 : decode cX1_data 107 = .ok (.iconst 1, 1) := dk_4 (dk_at dksX1_data_4 13 rfl rfl)
theorem dX1_data_108 : decode cX1_data 108 = .ok (.goto 4, 3) := dk_167 0 4 (dk_at dksX1_data_4 14 rfl rfl)
theorem dX1_data_111 : decode cX1_data 111 = .ok (.iconst 0, 1) := dk_3 (dk_at dksX1_data_4 17 rfl rfl)
theorem dX1_data_112 : decode cX1_data 112 = .ok (.iconst 3, 1) := dk_6 (dk_at dksX1_data_4 18 rfl rfl)
theorem dX1_data_113 : decode cX1_data 113 = .ok (.invokevirtual 217, 3) := dk_182 0 217 (dk_at dksX1_data_4 19 rfl rfl)
theorem dX1_data_116 : decode cX1_data 116 = .ok (.aload_n 1, 1) := dk_43 (dk_at dksX1_data_4 22 rfl rfl)
theorem dX1_data_117 : decode cX1_data 117 = .ok (.dup, 1) := dk_89 (dk_at dksX1_data_4 23 rfl rfl)
theorem dX1_data_118 : decode cX1_data 118 = .ok (.getfield 220, 3) := dk_180 0 220 (dk_at dksX1_data_5 0 rfl rfl)
theorem dX1_data_121 : decode cX1_data 121 = .ok (.aload_n 0, 1) := dk_42 (dk_at dksX1_data_5 3 rfl rfl)
theorem dX1_data_122 : decode cX1_data 122 = .ok (.getfield 200, 3) := dk_180 0 200 (dk_at dksX1_data_5 4 rfl rfl)
theorem dX1_data_125 : decode cX1_data 125 = .ok (.aload_n 0, 1) := dk_42 (dk_at dksX1_data_5 7 rfl rfl)
theorem dX1_data_126 : decode cX1_data 126 = .ok (.getfield 186, 3) := dk_180 0 186 (dk_at dksX1_data_5 8 rfl rfl)
theorem dX1_data_129 : decode cX1_data 129 = .ok (.isub, 1) := dk_100 (dk_at dksX1_data_5 11 rfl rfl)
theorem dX1_data_130 : decode cX1_data 130 = .ok (.iadd, 1) := dk_96 (dk_at dksX1_data_5 12 rfl rfl)
theorem dX1_data_131 : decode cX1_data 131 = .ok (.putfield 220, 3) := dk_181 0 220 (dk_at dksX1_data_5 13 rfl rfl)
theorem dX1_data_134 : decode cX1_data 134 = .ok (.aload_n 0, 1) := dk_42 (dk_at dksX1_data_5 16 rfl rfl)
theorem dX1_data_135 : decode cX1_data 135 = .ok (.iconst 1, 1) := dk_4 (dk_at dksX1_data_5 17 rfl rfl)
theorem dX1_data_136 : decode cX1_data 136 = .ok (.invokevirtual 183, 3) := dk_182 0 183 (dk_at dksX1_data_5 18 rfl rfl)
theorem dX1_data_139 : decode cX1_data 139 = .ok (.ifCond .eq 11, 3) := dk_153 0 11 (dk_at dksX1_data_5 21 rfl rfl)
theorem dX1_data_142 : decode cX1_data 142 = .ok (.aload_n 0, 1) := dk_42 (dk_at dksX1_data_6 0 rfl rfl)
theorem dX1_data_143 : decode cX1_data 143 = .ok (.aload_n 1, 1) := dk_43 (dk_at dksX1_data_6 1 rfl rfl)
theorem dX1_data_144 : decode cX1_data 144 = .ok (.invokevirtual 223, 3) := dk_182 0 223 (dk_at dksX1_data_6 2 rfl rfl)
theorem dX1_data_147 : decode cX1_data 147 = .ok (.goto 22, 3) := dk_167 0 22 (dk_at dksX1_data_6 5 rfl rfl)
theorem dX1_data_150 : decode cX1_data 150 = .ok (.aload_n 0, 1) := dk_42 (dk_at dksX1_data_6 8 rfl rfl)
theorem dX1_data_151 : decode cX1_data 151 = .ok (.getfield 189, 3) := dk_180 0 189 (dk_at dksX1_data_6 9 rfl rfl)
theorem dX1_data_154 : decode cX1_data 154 = .ok (.ifCond .le 15, 3) := dk_158 0 15 (dk_at dksX1_data_6 12 rfl rfl)
theorem dX1_data_157 : decode cX1_data 157 = .ok (.aload_n 0, 1) := dk_42 (dk_at dksX1_data_6 15 rfl rfl)
theorem dX1_data_158 : decode cX1_data 158 = .ok (.aload_n 0, 1) := dk_42 (dk_at dksX1_data_6 16 rfl rfl)
theorem dX1_data_159 : decode cX1_data 159 = .ok (.getfield 203, 3) := dk_180 0 203 (dk_at dksX1_data_6 17 rfl rfl)
theorem dX1_data_162 : decode cX1_data 162 = .ok (.aload_n 0, 1) := dk_42 (dk_at dksX1_data_6 20 rfl rfl)
theorem dX1_data_163 : decode cX1_data 163 = .ok (.getfield 189, 3) := dk_180 0 189 (dk_at dksX1_data_6 21 rfl rfl)
theorem dX1_data_166 : decode cX1_data 166 = .ok (.invokevirtual 210, 3) := dk_182 0 210 (dk_at dksX1_data_7 0 rfl rfl)
theorem dX1_data_169 : decode cX1_data 169 = .ok (.return_, 1) := dk_177 (dk_at dksX1_data_7 3 rfl rfl)
abbrev cX1_isIdle : ByteArray := prog_1_method_18_code
def yX1_isIdle : MethodName := ⟨RX1, "isIdle", "(I)Z"⟩
def dkwX1_isIdle_0 : List UInt8 := [27, 153, 0, 21, 27, 5, 112, 153, 0, 11, 27, 42, 180, 0, 93, 164, 0, 7, 4, 167, 0, 4, 3, 172]
abbrev dktX1_isIdle_0 : List UInt8 := dkwX1_isIdle_0 ++ []
theorem dksX1_isIdle_0 : cX1_isIdle.data.toList.drop 0 = dktX1_isIdle_0 := by decide +kernel
theorem dX1_isIdle_0 : decode cX1_isIdle 0 = .ok (.iload_n 1, 1) := dk_27 (dk_at dksX1_isIdle_0 0 rfl rfl)
theorem dX1_isIdle_1 : decode cX1_isIdle 1 = .ok (.ifCond .eq 21, 3) := dk_153 0 21 (dk_at dksX1_isIdle_0 1 rfl rfl)
theorem dX1_isIdle_4 : decode cX1_isIdle 4 = .ok (.iload_n 1, 1) := dk_27 (dk_at dksX1_isIdle_0 4 rfl rfl)
theorem dX1_isIdle_5 : decode cX1_isIdle 5 = .ok (.iconst 2, 1) := dk_5 (dk_at dksX1_isIdle_0 5 rfl rfl)
theorem dX1_isIdle_6 : decode cX1_isIdle 6 = .ok (.irem, 1) := dk_112 (dk_at dksX1_isIdle_0 6 rfl rfl)
theorem dX1_isIdle_7 : decode cX1_isIdle 7 = .ok (.ifCond .eq 11, 3) := dk_153 0 11 (dk_at dksX1_isIdle_0 7 rfl rfl)
theorem dX1_isIdle_10 : decode cX1_isIdle 10 = .ok (.iload_n 1, 1) := dk_27 (dk_at dksX1_isIdle_0 10 rfl rfl)
theorem dX1_isIdle_11 : decode cX1_isIdle 11 = .ok (.aload_n 0, 1) := dk_42 (dk_at dksX1_isIdle_0 11 rfl rfl)
theorem dX1_isIdle_12 : decode cX1_isIdle 12 = .ok (.getfield 93, 3) := dk_180 0 93 (dk_at dksX1_isIdle_0 12 rfl rfl)
theorem dX1_isIdle_15 : decode cX1_isIdle 15 = .ok (.if_icmp .le 7, 3) := dk_164 0 7 (dk_at dksX1_isIdle_0 15 rfl rfl)
theorem dX1_isIdle_18 : decode cX1_isIdle 18 = .ok (.iconst 1, 1) := dk_4 (dk_at dksX1_isIdle_0 18 rfl rfl)
theorem dX1_isIdle_19 : decode cX1_isIdle 19 = .ok (.goto 4, 3) := dk_167 0 4 (dk_at dksX1_isIdle_0 19 rfl rfl)
theorem dX1_isIdle_22 : decode cX1_isIdle 22 = .ok (.iconst 0, 1) := dk_3 (dk_at dksX1_isIdle_0 22 rfl rfl)
theorem dX1_isIdle_23 : decode cX1_isIdle 23 = .ok (.ireturn, 1) := dk_172 (dk_at dksX1_isIdle_0 23 rfl rfl)
abbrev cX1_unpad : ByteArray := prog_1_method_21_code
def yX1_unpad : MethodName := ⟨RX1, "unpad", "()V"⟩
def dkwX1_unpad_3 : List UInt8 := [167, 0, 13, 42, 180, 0, 189, 42, 3, 182, 0, 192, 100, 181, 0, 200, 177]
abbrev dktX1_unpad_3 : List UInt8 := dkwX1_unpad_3 ++ []
def dkwX1_unpad_2 : List UInt8 := [163, 0, 7, 4, 167, 0, 4, 3, 4, 182, 0, 196, 42, 42, 180, 0, 186, 154, 0, 10, 42, 180, 0, 189]
abbrev dktX1_unpad_2 : List UInt8 := dkwX1_unpad_2 ++ dktX1_unpad_3
def dkwX1_unpad_1 : List UInt8 := [180, 0, 189, 163, 0, 28, 42, 180, 0, 186, 153, 0, 17, 42, 3, 182, 0, 192, 42, 180, 0, 189, 4, 100]
abbrev dktX1_unpad_1 : List UInt8 := dkwX1_unpad_1 ++ dktX1_unpad_2
def dkwX1_unpad_0 : List UInt8 := [42, 42, 16, 8, 182, 0, 183, 153, 0, 7, 4, 167, 0, 4, 3, 181, 0, 186, 42, 42, 180, 0, 186, 42]
abbrev dktX1_unpad_0 : List UInt8 := dkwX1_unpad_0 ++ dktX1_unpad_1
theorem dksX1_unpad_0 : cX1_unpad.data.toList.drop 0 = dktX1_unpad_0 := by decide +kernel
theorem dksX1_unpad_1 : cX1_unpad.data.toList.drop 24 = dktX1_unpad_1 := dk_seg dksX1_unpad_0 24 rfl rfl
theorem dksX1_unpad_2 : cX1_unpad.data.toList.drop 48 = dktX1_unpad_2 := dk_seg dksX1_unpad_1 24 rfl rfl
theorem dksX1_unpad_3 : cX1_unpad.data.toList.drop 72 = dktX1_unpad_3 := dk_seg dksX1_unpad_2 24 rfl rfl
theorem dX1_unpad_0 : decode cX1_unpad 0 = .ok (.aload_n 0, 1) := dk_42 (dk_at dksX1_unpad_0 0 rfl rfl)
theorem dX1_unpad_1 : decode cX1_unpad 1 = .ok (.aload_n 0, 1) := dk_42 (dk_at dksX1_unpad_0 1 rfl rfl)
theorem dX1_unpad_2 : decode cX1_unpad 2 = .ok (.bipush 8, 2) := dk_16 8 (dk_at dksX1_unpad_0 2 rfl rfl)
theorem dX1_unpad_4 : decode cX1_unpad 4 = .ok (.invokevirtual 183, 3) := dk_182 0 183 (dk_at dksX1_unpad_0 4 rfl rfl)
theorem dX1_unpad_7 : decode cX1_unpad 7 = .ok (.ifCond .eq 7, 3) := dk_153 0 7 (dk_at dksX1_unpad_0 7 rfl rfl)
theorem dX1_unpad_10 : decode cX1_unpad 10 = .ok (.iconst 1, 1) := dk_4 (dk_at dksX1_unpad_0 10 rfl rfl)
theorem dX1_unpad_11 : decode cX1_unpad 11 = .ok (.goto 4, 3) := dk_167 0 4 (dk_at dksX1_unpad_0 11 rfl rfl)
theorem dX1_unpad_14 : decode cX1_unpad 14 = .ok (.iconst 0, 1) := dk_3 (dk_at dksX1_unpad_0 14 rfl rfl)
theorem dX1_unpad_15 : decode cX1_unpad 15 = .ok (.putfield 186, 3) := dk_181 0 186 (dk_at dksX1_unpad_0 15 rfl rfl)
theorem dX1_unpad_18 : decode cX1_unpad 18 = .ok (.aload_n 0, 1) := dk_42 (dk_at dksX1_unpad_0 18 rfl rfl)
theorem dX1_unpad_19 : decode cX1_unpad 19 = .ok (.aload_n 0, 1) := dk_42 (dk_at dksX1_unpad_0 19 rfl rfl)
theorem dX1_unpad_20 : decode cX1_unpad 20 = .ok (.getfield 186, 3) := dk_180 0 186 (dk_at dksX1_unpad_0 20 rfl rfl)
theorem dX1_unpad_23 : decode cX1_unpad 23 = .ok (.aload_n 0, 1) := dk_42 (dk_at dksX1_unpad_0 23 rfl rfl)
theorem dX1_unpad_24 : decode cX1_unpad 24 = .ok (.getfield 189, 3) := dk_180 0 189 (dk_at dksX1_unpad_1 0 rfl rfl)
theorem dX1_unpad_27 : decode cX1_unpad 27 = .ok (.if_icmp .gt 28, 3) := dk_163 0 28 (dk_at dksX1_unpad_1 3 rfl rfl)
theorem dX1_unpad_30 : decode cX1_unpad 30 = .ok (.aload_n 0, 1) := dk_42 (dk_at dksX1_unpad_1 6 rfl rfl)
theorem dX1_unpad_31 : decode cX1_unpad 31 = .ok (.getfield 186, 3) := dk_180 0 186 (dk_at dksX1_unpad_1 7 rfl rfl)
theorem dX1_unpad_34 : decode cX1_unpad 34 = .ok (.ifCond .eq 17, 3) := dk_153 0 17 (dk_at dksX1_unpad_1 10 rfl rfl)
theorem dX1_unpad_37 : decode cX1_unpad 37 = .ok (.aload_n 0, 1) := dk_42 (dk_at dksX1_unpad_1 13 rfl rfl)
theorem dX1_unpad_38 : decode cX1_unpad 38 = .ok (.iconst 0, 1) := dk_3 (dk_at dksX1_unpad_1 14 rfl rfl)
theorem dX1_unpad_39 : decode cX1_unpad 39 = .ok (.invokevirtual 192, 3) := dk_182 0 192 (dk_at dksX1_unpad_1 15 rfl rfl)
theorem dX1_unpad_42 : decode cX1_unpad 42 = .ok (.aload_n 0, 1) := dk_42 (dk_at dksX1_unpad_1 18 rfl rfl)
theorem dX1_unpad_43 : decode cX1_unpad 43 = .ok (.getfield 189, 3) := dk_180 0 189 (dk_at dksX1_unpad_1 19 rfl rfl)
theorem dX1_unpad_46 : decode cX1_unpad 46 = .ok (.iconst 1, 1) := dk_4 (dk_at dksX1_unpad_1 22 rfl rfl)
theorem dX1_unpad_47 : decode cX1_unpad 47 = .ok (.isub, 1) := dk_100 (dk_at dksX1_unpad_1 23 rfl rfl)
theorem dX1_unpad_48 : decode cX1_unpad 48 = .ok (.if_icmp .gt 7, 3) := dk_163 0 7 (dk_at dksX1_unpad_2 0 rfl rfl)
theorem dX1_unpad_51 : decode cX1_unpad 51 = .ok (.iconst 1, 1) := dk_4 (dk_at dksX1_unpad_2 3 rfl rfl)
theorem dX1_unpad_52 : decode cX1_unpad 52 = .ok (.goto 4, 3) := dk_167 0 4 (dk_at dksX1_unpad_2 4 rfl rfl)
theorem dX1_unpad_55 : decode cX1_unpad 55 = .ok (.iconst 0, 1) := dk_3 (dk_at dksX1_unpad_2 7 rfl rfl)
theorem dX1_unpad_56 : decode cX1_unpad 56 = .ok (.iconst 1, 1) := dk_4 (dk_at dksX1_unpad_2 8 rfl rfl)
theorem dX1_unpad_57 : decode cX1_unpad 57 = .ok (.invokevirtual 196, 3) := dk_182 0 196 (dk_at dksX1_unpad_2 9 rfl rfl)
theorem dX1_unpad_60 : decode cX1_unpad 60 = .ok (.aload_n 0, 1) := dk_42 (dk_at dksX1_unpad_2 12 rfl rfl)
theorem dX1_unpad_61 : decode cX1_unpad 61 = .ok (.aload_n 0, 1) := dk_42 (dk_at dksX1_unpad_2 13 rfl rfl)
theorem dX1_unpad_62 : decode cX1_unpad 62 = .ok (.getfield 186, 3) := dk_180 0 186 (dk_at dksX1_unpad_2 14 rfl rfl)
theorem dX1_unpad_65 : decode cX1_unpad 65 = .ok (.ifCond .ne 10, 3) := dk_154 0 10 (dk_at dksX1_unpad_2 17 rfl rfl)
theorem dX1_unpad_68 : decode cX1_unpad 68 = .ok (.aload_n 0, 1) := dk_42 (dk_at dksX1_unpad_2 20 rfl rfl)
theorem dX1_unpad_69 : decode cX1_unpad 69 = .ok (.getfield 189, 3) := dk_180 0 189 (dk_at dksX1_unpad_2 21 rfl rfl)
theorem dX1_unpad_72 : decode cX1_unpad 72 = .ok (.goto 13, 3) := dk_167 0 13 (dk_at dksX1_unpad_3 0 rfl rfl)
theorem dX1_unpad_75 : decode cX1_unpad 75 = .ok (.aload_n 0, 1) := dk_42 (dk_at dksX1_unpad_3 3 rfl rfl)
theorem dX1_unpad_76 : decode cX1_unpad 76 = .ok (.getfield 189, 3) := dk_180 0 189 (dk_at dksX1_unpad_3 4 rfl rfl)
theorem dX1_unpad_79 : decode cX1_unpad 79 = .ok (.aload_n 0, 1) := dk_42 (dk_at dksX1_unpad_3 7 rfl rfl)
theorem dX1_unpad_80 : decode cX1_unpad 80 = .ok (.iconst 0, 1) := dk_3 (dk_at dksX1_unpad_3 8 rfl rfl)
theorem dX1_unpad_81 : decode cX1_unpad 81 = .ok (.invokevirtual 192, 3) := dk_182 0 192 (dk_at dksX1_unpad_3 9 rfl rfl)
theorem dX1_unpad_84 : decode cX1_unpad 84 = .ok (.isub, 1) := dk_100 (dk_at dksX1_unpad_3 12 rfl rfl)
theorem dX1_unpad_85 : decode cX1_unpad 85 = .ok (.putfield 200, 3) := dk_181 0 200 (dk_at dksX1_unpad_3 13 rfl rfl)
theorem dX1_unpad_88 : decode cX1_unpad 88 = .ok (.return_, 1) := dk_177 (dk_at dksX1_unpad_3 16 rfl rfl)
abbrev cX1_byteAt : ByteArray := prog_1_method_20_code
def yX1_byteAt : MethodName := ⟨RX1, "byteAt", "(I)I"⟩
def dkwX1_byteAt_0 : List UInt8 := [42, 180, 0, 43, 7, 27, 96, 51, 17, 0, 255, 126, 172]
abbrev dktX1_byteAt_0 : List UInt8 := dkwX1_byteAt_0 ++ []
theorem dksX1_byteAt_0 : cX1_byteAt.data.toList.drop 0 = dktX1_byteAt_0 := by decide +kernel
theorem dX1_byteAt_0 : decode cX1_byteAt 0 = .ok (.aload_n 0, 1) := dk_42 (dk_at dksX1_byteAt_0 0 rfl rfl)
theorem dX1_byteAt_1 : decode cX1_byteAt 1 = .ok (.getfield 43, 3) := dk_180 0 43 (dk_at dksX1_byteAt_0 1 rfl rfl)
theorem dX1_byteAt_4 : decode cX1_byteAt 4 = .ok (.iconst 4, 1) := dk_7 (dk_at dksX1_byteAt_0 4 rfl rfl)
theorem dX1_byteAt_5 : decode cX1_byteAt 5 = .ok (.iload_n 1, 1) := dk_27 (dk_at dksX1_byteAt_0 5 rfl rfl)
theorem dX1_byteAt_6 : decode cX1_byteAt 6 = .ok (.iadd, 1) := dk_96 (dk_at dksX1_byteAt_0 6 rfl rfl)
theorem dX1_byteAt_7 : decode cX1_byteAt 7 = .ok (.baload, 1) := dk_51 (dk_at dksX1_byteAt_0 7 rfl rfl)
theorem dX1_byteAt_8 : decode cX1_byteAt 8 = .ok (.sipush 255, 3) := dk_17 0 255 (dk_at dksX1_byteAt_0 8 rfl rfl)
theorem dX1_byteAt_11 : decode cX1_byteAt 11 = .ok (.iand, 1) := dk_126 (dk_at dksX1_byteAt_0 11 rfl rfl)
theorem dX1_byteAt_12 : decode cX1_byteAt 12 = .ok (.ireturn, 1) := dk_172 (dk_at dksX1_byteAt_0 12 rfl rfl)
abbrev cX1_credit : ByteArray := prog_1_method_13_code
def yX1_credit : MethodName := ⟨RX1, "credit", "(II)V"⟩
def dkwX1_credit_0 : List UInt8 := [42, 5, 16, 8, 3, 27, 182, 0, 114, 42, 28, 16, 8, 122, 182, 0, 118, 42, 28, 182, 0, 118, 177]
abbrev dktX1_credit_0 : List UInt8 := dkwX1_credit_0 ++ []
theorem dksX1_credit_0 : cX1_credit.data.toList.drop 0 = dktX1_credit_0 := by decide +kernel
theorem dX1_credit_0 : decode cX1_credit 0 = .ok (.aload_n 0, 1) := dk_42 (dk_at dksX1_credit_0 0 rfl rfl)
theorem dX1_credit_1 : decode cX1_credit 1 = .ok (.iconst 2, 1) := dk_5 (dk_at dksX1_credit_0 1 rfl rfl)
theorem dX1_credit_2 : decode cX1_credit 2 = .ok (.bipush 8, 2) := dk_16 8 (dk_at dksX1_credit_0 2 rfl rfl)
theorem dX1_credit_4 : decode cX1_credit 4 = .ok (.iconst 0, 1) := dk_3 (dk_at dksX1_credit_0 4 rfl rfl)
theorem dX1_credit_5 : decode cX1_credit 5 = .ok (.iload_n 1, 1) := dk_27 (dk_at dksX1_credit_0 5 rfl rfl)
theorem dX1_credit_6 : decode cX1_credit 6 = .ok (.invokevirtual 114, 3) := dk_182 0 114 (dk_at dksX1_credit_0 6 rfl rfl)
theorem dX1_credit_9 : decode cX1_credit 9 = .ok (.aload_n 0, 1) := dk_42 (dk_at dksX1_credit_0 9 rfl rfl)
theorem dX1_credit_10 : decode cX1_credit 10 = .ok (.iload_n 2, 1) := dk_28 (dk_at dksX1_credit_0 10 rfl rfl)
theorem dX1_credit_11 : decode cX1_credit 11 = .ok (.bipush 8, 2) := dk_16 8 (dk_at dksX1_credit_0 11 rfl rfl)
theorem dX1_credit_13 : decode cX1_credit 13 = .ok (.ishr, 1) := dk_122 (dk_at dksX1_credit_0 13 rfl rfl)
theorem dX1_credit_14 : decode cX1_credit 14 = .ok (.invokevirtual 118, 3) := dk_182 0 118 (dk_at dksX1_credit_0 14 rfl rfl)
theorem dX1_credit_17 : decode cX1_credit 17 = .ok (.aload_n 0, 1) := dk_42 (dk_at dksX1_credit_0 17 rfl rfl)
theorem dX1_credit_18 : decode cX1_credit 18 = .ok (.iload_n 2, 1) := dk_28 (dk_at dksX1_credit_0 18 rfl rfl)
theorem dX1_credit_19 : decode cX1_credit 19 = .ok (.invokevirtual 118, 3) := dk_182 0 118 (dk_at dksX1_credit_0 19 rfl rfl)
theorem dX1_credit_22 : decode cX1_credit 22 = .ok (.return_, 1) := dk_177 (dk_at dksX1_credit_0 22 rfl rfl)
abbrev cX1_known : ByteArray := prog_1_method_16_code
def yX1_known : MethodName := ⟨RX1, "known", "(I)LPageServer$Stream;"⟩
def dkwX1_known_2 : List UInt8 := [167, 255, 213, 44, 176]
abbrev dktX1_known_2 : List UInt8 := dkwX1_known_2 ++ []
def dkwX1_known_1 : List UInt8 := [192, 0, 50, 58, 4, 25, 4, 180, 0, 173, 27, 160, 0, 8, 25, 4, 167, 0, 4, 44, 77, 132, 3, 1]
abbrev dktX1_known_1 : List UInt8 := dkwX1_known_1 ++ dktX1_known_2
def dkwX1_known_0 : List UInt8 := [1, 77, 3, 62, 29, 42, 180, 0, 20, 182, 0, 66, 162, 0, 38, 42, 180, 0, 20, 29, 182, 0, 132]
abbrev dktX1_known_0 : List UInt8 := dkwX1_known_0 ++ dktX1_known_1
theorem dksX1_known_0 : cX1_known.data.toList.drop 0 = dktX1_known_0 := by decide +kernel
theorem dksX1_known_1 : cX1_known.data.toList.drop 23 = dktX1_known_1 := dk_seg dksX1_known_0 23 rfl rfl
theorem dksX1_known_2 : cX1_known.data.toList.drop 47 = dktX1_known_2 := dk_seg dksX1_known_1 24 rfl rfl
theorem dX1_known_0 : decode cX1_known 0 = .ok (.aconst_null, 1) := dk_1 (dk_at dksX1_known_0 0 rfl rfl)
theorem dX1_known_1 : decode cX1_known 1 = .ok (.astore_n 2, 1) := dk_77 (dk_at dksX1_known_0 1 rfl rfl)
theorem dX1_known_2 : decode cX1_known 2 = .ok (.iconst 0, 1) := dk_3 (dk_at dksX1_known_0 2 rfl rfl)
theorem dX1_known_3 : decode cX1_known 3 = .ok (.istore_n 3, 1) := dk_62 (dk_at dksX1_known_0 3 rfl rfl)
theorem dX1_known_4 : decode cX1_known 4 = .ok (.iload_n 3, 1) := dk_29 (dk_at dksX1_known_0 4 rfl rfl)
theorem dX1_known_5 : decode cX1_known 5 = .ok (.aload_n 0, 1) := dk_42 (dk_at dksX1_known_0 5 rfl rfl)
theorem dX1_known_6 : decode cX1_known 6 = .ok (.getfield 20, 3) := dk_180 0 20 (dk_at dksX1_known_0 6 rfl rfl)
theorem dX1_known_9 : decode cX1_known 9 = .ok (.invokevirtual 66, 3) := dk_182 0 66 (dk_at dksX1_known_0 9 rfl rfl)
theorem dX1_known_12 : decode cX1_known 12 = .ok (.if_icmp .ge 38, 3) := dk_162 0 38 (dk_at dksX1_known_0 12 rfl rfl)
theorem dX1_known_15 : decode cX1_known 15 = .ok (.aload_n 0, 1) := dk_42 (dk_at dksX1_known_0 15 rfl rfl)
theorem dX1_known_16 : decode cX1_known 16 = .ok (.getfield 20, 3) := dk_180 0 20 (dk_at dksX1_known_0 16 rfl rfl)
theorem dX1_known_19 : decode cX1_known 19 = .ok (.iload_n 3, 1) := dk_29 (dk_at dksX1_known_0 19 rfl rfl)
theorem dX1_known_20 : decode cX1_known 20 = .ok (.invokevirtual 132, 3) := dk_182 0 132 (dk_at dksX1_known_0 20 rfl rfl)
theorem dX1_known_23 : decode cX1_known 23 = .ok (.checkcast 50, 3) := dk_192 0 50 (dk_at dksX1_known_1 0 rfl rfl)
theorem dX1_known_26 : decode cX1_known 26 = .ok (.astore 4, 2) := dk_58 4 (dk_at dksX1_known_1 3 rfl rfl)
theorem dX1_known_28 : decode cX1_known 28 = .ok (.aload 4, 2) := dk_25 4 (dk_at dksX1_known_1 5 rfl rfl)
theorem dX1_known_30 : decode cX1_known 30 = .ok (.getfield 173, 3) := dk_180 0 173 (dk_at dksX1_known_1 7 rfl rfl)
theorem dX1_known_33 : decode cX1_known 33 = .ok (.iload_n 1, 1) := dk_27 (dk_at dksX1_known_1 10 rfl rfl)
theorem dX1_known_34 : decode cX1_known 34 = .ok (.if_icmp .ne 8, 3) := dk_160 0 8 (dk_at dksX1_known_1 11 rfl rfl)
theorem dX1_known_37 : decode cX1_known 37 = .ok (.aload 4, 2) := dk_25 4 (dk_at dksX1_known_1 14 rfl rfl)
theorem dX1_known_39 : decode cX1_known 39 = .ok (.goto 4, 3) := dk_167 0 4 (dk_at dksX1_known_1 16 rfl rfl)
theorem dX1_known_42 : decode cX1_known 42 = .ok (.aload_n 2, 1) := dk_44 (dk_at dksX1_known_1 19 rfl rfl)
theorem dX1_known_43 : decode cX1_known 43 = .ok (.astore_n 2, 1) := dk_77 (dk_at dksX1_known_1 20 rfl rfl)
theorem dX1_known_44 : decode cX1_known 44 = .ok (.iinc 3 1, 3) := dk_132 3 1 (dk_at dksX1_known_1 21 rfl rfl)
theorem dX1_known_47 : decode cX1_known 47 = .ok (.goto (-43), 3) := dk_167 255 213 (dk_at dksX1_known_2 0 rfl rfl)
theorem dX1_known_50 : decode cX1_known 50 = .ok (.aload_n 2, 1) := dk_44 (dk_at dksX1_known_2 3 rfl rfl)
theorem dX1_known_51 : decode cX1_known 51 = .ok (.areturn, 1) := dk_176 (dk_at dksX1_known_2 4 rfl rfl)
abbrev cX1_want : ByteArray := prog_1_method_15_code
def yX1_want : MethodName := ⟨RX1, "want", "(ZI)V"⟩
def dkwX1_want_0 : List UInt8 := [27, 153, 0, 4, 177, 42, 28, 181, 0, 170, 187, 0, 60, 89, 183, 0, 62, 191]
abbrev dktX1_want_0 : List UInt8 := dkwX1_want_0 ++ []
theorem dksX1_want_0 : cX1_want.data.toList.drop 0 = dktX1_want_0 := by decide +kernel
theorem dX1_want_0 : decode cX1_want 0 = .ok (.iload_n 1, 1) := dk_27 (dk_at dksX1_want_0 0 rfl rfl)
theorem dX1_want_1 : decode cX1_want 1 = .ok (.ifCond .eq 4, 3) := dk_153 0 4 (dk_at dksX1_want_0 1 rfl rfl)
theorem dX1_want_4 : decode cX1_want 4 = .ok (.return_, 1) := dk_177 (dk_at dksX1_want_0 4 rfl rfl)
theorem dX1_want_5 : decode cX1_want 5 = .ok (.aload_n 0, 1) := dk_42 (dk_at dksX1_want_0 5 rfl rfl)
theorem dX1_want_6 : decode cX1_want 6 = .ok (.iload_n 2, 1) := dk_28 (dk_at dksX1_want_0 6 rfl rfl)
theorem dX1_want_7 : decode cX1_want 7 = .ok (.putfield 170, 3) := dk_181 0 170 (dk_at dksX1_want_0 7 rfl rfl)
theorem dX1_want_10 : decode cX1_want 10 = .ok (.new 60, 3) := dk_187 0 60 (dk_at dksX1_want_0 10 rfl rfl)
theorem dX1_want_13 : decode cX1_want 13 = .ok (.dup, 1) := dk_89 (dk_at dksX1_want_0 13 rfl rfl)
theorem dX1_want_14 : decode cX1_want 14 = .ok (.invokespecial 62, 3) := dk_183 0 62 (dk_at dksX1_want_0 14 rfl rfl)
theorem dX1_want_17 : decode cX1_want 17 = .ok (.athrow, 1) := dk_191 (dk_at dksX1_want_0 17 rfl rfl)
abbrev cX1_close : ByteArray := prog_1_method_23_code
def yX1_close : MethodName := ⟨RX1, "close", "(LPageServer$Stream;)V"⟩
def dkwX1_close_1 : List UInt8 := [160, 0, 7, 4, 167, 0, 4, 3, 4, 182, 0, 217, 42, 43, 182, 0, 228, 177]
abbrev dktX1_close_1 : List UInt8 := dkwX1_close_1 ++ []
def dkwX1_close_0 : List UInt8 := [43, 4, 181, 0, 214, 42, 43, 180, 0, 227, 2, 159, 0, 14, 43, 180, 0, 227, 43, 180, 0, 220]
abbrev dktX1_close_0 : List UInt8 := dkwX1_close_0 ++ dktX1_close_1
theorem dksX1_close_0 : cX1_close.data.toList.drop 0 = dktX1_close_0 := by decide +kernel
theorem dksX1_close_1 : cX1_close.data.toList.drop 22 = dktX1_close_1 := dk_seg dksX1_close_0 22 rfl rfl
theorem dX1_close_0 : decode cX1_close 0 = .ok (.aload_n 1, 1) := dk_43 (dk_at dksX1_close_0 0 rfl rfl)
theorem dX1_close_1 : decode cX1_close 1 = .ok (.iconst 1, 1) := dk_4 (dk_at dksX1_close_0 1 rfl rfl)
theorem dX1_close_2 : decode cX1_close 2 = .ok (.putfield 214, 3) := dk_181 0 214 (dk_at dksX1_close_0 2 rfl rfl)
theorem dX1_close_5 : decode cX1_close 5 = .ok (.aload_n 0, 1) := dk_42 (dk_at dksX1_close_0 5 rfl rfl)
theorem dX1_close_6 : decode cX1_close 6 = .ok (.aload_n 1, 1) := dk_43 (dk_at dksX1_close_0 6 rfl rfl)
theorem dX1_close_7 : decode cX1_close 7 = .ok (.getfield 227, 3) := dk_180 0 227 (dk_at dksX1_close_0 7 rfl rfl)
theorem dX1_close_10 : decode cX1_close 10 = .ok (.iconst (-1), 1) := dk_2 (dk_at dksX1_close_0 10 rfl rfl)
theorem dX1_close_11 : decode cX1_close 11 = .ok (.if_icmp .eq 14, 3) := dk_159 0 14 (dk_at dksX1_close_0 11 rfl rfl)
theorem dX1_close_14 : decode cX1_close 14 = .ok (.aload_n 1, 1) := dk_43 (dk_at dksX1_close_0 14 rfl rfl)
theorem dX1_close_15 : decode cX1_close 15 = .ok (.getfield 227, 3) := dk_180 0 227 (dk_at dksX1_close_0 15 rfl rfl)
theorem dX1_close_18 : decode cX1_close 18 = .ok (.aload_n 1, 1) := dk_43 (dk_at dksX1_close_0 18 rfl rfl)
theorem dX1_close_19 : decode cX1_close 19 = .ok (.getfield 220, 3) := dk_180 0 220 (dk_at dksX1_close_0 19 rfl rfl)
theorem dX1_close_22 : decode cX1_close 22 = .ok (.if_icmp .ne 7, 3) := dk_160 0 7 (dk_at dksX1_close_1 0 rfl rfl)
theorem dX1_close_25 : decode cX1_close 25 = .ok (.iconst 1, 1) := dk_4 (dk_at dksX1_close_1 3 rfl rfl)
theorem dX1_close_26 : decode cX1_close 26 = .ok (.goto 4, 3) := dk_167 0 4 (dk_at dksX1_close_1 4 rfl rfl)
theorem dX1_close_29 : decode cX1_close 29 = .ok (.iconst 0, 1) := dk_3 (dk_at dksX1_close_1 7 rfl rfl)
theorem dX1_close_30 : decode cX1_close 30 = .ok (.iconst 1, 1) := dk_4 (dk_at dksX1_close_1 8 rfl rfl)
theorem dX1_close_31 : decode cX1_close 31 = .ok (.invokevirtual 217, 3) := dk_182 0 217 (dk_at dksX1_close_1 9 rfl rfl)
theorem dX1_close_34 : decode cX1_close 34 = .ok (.aload_n 0, 1) := dk_42 (dk_at dksX1_close_1 12 rfl rfl)
theorem dX1_close_35 : decode cX1_close 35 = .ok (.aload_n 1, 1) := dk_43 (dk_at dksX1_close_1 13 rfl rfl)
theorem dX1_close_36 : decode cX1_close 36 = .ok (.invokevirtual 228, 3) := dk_182 0 228 (dk_at dksX1_close_1 14 rfl rfl)
theorem dX1_close_39 : decode cX1_close 39 = .ok (.return_, 1) := dk_177 (dk_at dksX1_close_1 17 rfl rfl)
abbrev cX1_answer : ByteArray := prog_1_method_31_code
def yX1_answer : MethodName := ⟨RX1, "answer", "(LPageServer$Stream;)V"⟩
def dkwX1_answer_8 : List UInt8 := [180, 0, 173, 182, 1, 46, 177]
abbrev dktX1_answer_8 : List UInt8 := dkwX1_answer_8 ++ []
def dkwX1_answer_7 : List UInt8 := [154, 0, 7, 3, 167, 0, 8, 25, 4, 182, 1, 41, 181, 1, 44, 21, 5, 154, 0, 11, 42, 43]
abbrev dktX1_answer_7 : List UInt8 := dkwX1_answer_7 ++ dktX1_answer_8
def dkwX1_answer_6 : List UInt8 := [182, 0, 118, 42, 16, 48, 182, 0, 118, 42, 16, 53, 182, 0, 118, 43, 21, 5, 181, 1, 38, 43, 21, 5]
abbrev dktX1_answer_6 : List UInt8 := dkwX1_answer_6 ++ dktX1_answer_7
def dkwX1_answer_5 : List UInt8 := [17, 0, 134, 182, 0, 118, 167, 0, 32, 42, 16, 6, 182, 0, 118, 42, 6, 182, 0, 118, 42, 16, 52]
abbrev dktX1_answer_5 : List UInt8 := dkwX1_answer_5 ++ dktX1_answer_6
def dkwX1_answer_4 : List UInt8 := [128, 43, 180, 0, 173, 182, 0, 114, 29, 153, 0, 24, 42, 25, 4, 199, 0, 9, 17, 0, 135, 167, 0, 6]
abbrev dktX1_answer_4 : List UInt8 := dkwX1_answer_4 ++ dktX1_answer_5
def dkwX1_answer_3 : List UInt8 := [54, 5, 42, 29, 153, 0, 7, 4, 167, 0, 4, 8, 4, 7, 21, 5, 154, 0, 7, 4, 167, 0, 4, 3]
abbrev dktX1_answer_3 : List UInt8 := dkwX1_answer_3 ++ dktX1_answer_4
def dkwX1_answer_2 : List UInt8 := [167, 0, 4, 1, 58, 4, 28, 154, 0, 8, 25, 4, 199, 0, 7, 3, 167, 0, 8, 25, 4, 182, 1, 37]
abbrev dktX1_answer_2 : List UInt8 := dkwX1_answer_2 ++ dktX1_answer_3
def dkwX1_answer_1 : List UInt8 := [182, 0, 141, 153, 0, 7, 4, 167, 0, 4, 3, 62, 29, 153, 0, 14, 42, 43, 180, 1, 31, 182, 0, 160]
abbrev dktX1_answer_1 : List UInt8 := dkwX1_answer_1 ++ dktX1_answer_2
def dkwX1_answer_0 : List UInt8 := [43, 180, 1, 27, 19, 1, 33, 182, 0, 141, 61, 28, 154, 0, 16, 43, 180, 1, 27, 19, 1, 35]
abbrev dktX1_answer_0 : List UInt8 := dkwX1_answer_0 ++ dktX1_answer_1
theorem dksX1_answer_0 : cX1_answer.data.toList.drop 0 = dktX1_answer_0 := by decide +kernel
theorem dksX1_answer_1 : cX1_answer.data.toList.drop 22 = dktX1_answer_1 := dk_seg dksX1_answer_0 22 rfl rfl
theorem dksX1_answer_2 : cX1_answer.data.toList.drop 46 = dktX1_answer_2 := dk_seg dksX1_answer_1 24 rfl rfl
theorem dksX1_answer_3 : cX1_answer.data.toList.drop 70 = dktX1_answer_3 := dk_seg dksX1_answer_2 24 rfl rfl
theorem dksX1_answer_4 : cX1_answer.data.toList.drop 94 = dktX1_answer_4 := dk_seg dksX1_answer_3 24 rfl rfl
theorem dksX1_answer_5 : cX1_answer.data.toList.drop 118 = dktX1_answer_5 := dk_seg dksX1_answer_4 24 rfl rfl
theorem dksX1_answer_6 : cX1_answer.data.toList.drop 141 = dktX1_answer_6 := dk_seg dksX1_answer_5 23 rfl rfl
theorem dksX1_answer_7 : cX1_answer.data.toList.drop 165 = dktX1_answer_7 := dk_seg dksX1_answer_6 24 rfl rfl
theorem dksX1_answer_8 : cX1_answer.data.toList.drop 187 = dktX1_answer_8 := dk_seg dksX1_answer_7 22 rfl rfl
theorem dX1_answer_0 : decode cX1_answer 0 = .ok (.aload_n 1, 1) := dk_43 (dk_at dksX1_answer_0 0 rfl rfl)
theorem dX1_answer_1 : decode cX1_answer 1 = .ok (.getfield 283, 3) := dk_180 1 27 (dk_at dksX1_answer_0 1 rfl rfl)
theorem dX1_answer_4 : decode cX1_answer 4 = .ok (.ldc_w 289, 3) := dk_19 1 33 (dk_at dksX1_answer_0 4 rfl rfl)
theorem dX1_answer_7 : decode cX1_answer 7 = .ok (.invokevirtual 141, 3) := dk_182 0 141 (dk_at dksX1_answer_0 7 rfl rfl)
theorem dX1_answer_10 : decode cX1_answer 10 = .ok (.istore_n 2, 1) := dk_61 (dk_at dksX1_answer_0 10 rfl rfl)
theorem dX1_answer_11 : decode cX1_answer 11 = .ok (.iload_n 2, 1) := dk_28 (dk_at dksX1_answer_0 11 rfl rfl)
theorem dX1_answer_12 : decode cX1_answer 12 = .ok (.ifCond .ne 16, 3) := dk_154 0 16 (dk_at dksX1_answer_0 12 rfl rfl)
theorem dX1_answer_15 : decode cX1_answer 15 = .ok (.aload_n 1, 1) := dk_43 (dk_at dksX1_answer_0 15 rfl rfl)
theorem dX1_answer_16 : decode cX1_answer 16 = .ok (.getfield 283, 3) := dk_180 1 27 (dk_at dksX1_answer_0 16 rfl rfl)
theorem dX1_answer_19 : decode cX1_answer 19 = .ok (.ldc_w 291, 3) := dk_19 1 35 (dk_at dksX1_answer_0 19 rfl rfl)
theorem dX1_answer_22 : decode cX1_answer 22 = .ok (.invokevirtual 141, 3) := dk_182 0 141 (dk_at dksX1_answer_1 0 rfl rfl)
theorem dX1_answer_25 : decode cX1_answer 25 = .ok (.ifCond .eq 7, 3) := dk_153 0 7 (dk_at dksX1_answer_1 3 rfl rfl)
theorem dX1_answer_28 : decode cX1_answer 28 = .ok (.iconst 1, 1) := dk_4 (dk_at dksX1_answer_1 6 rfl rfl)
theorem dX1_answer_29 : decode cX1_answer 29 = .ok (.goto 4, 3) := dk_167 0 4 (dk_at dksX1_answer_1 7 rfl rfl)
theorem dX1_answer_32 : decode cX1_answer 32 = .ok (.iconst 0, 1) := dk_3 (dk_at dksX1_answer_1 10 rfl rfl)
theorem dX1_answer_33 : decode cX1_answer 33 = .ok (.istore_n 3, 1) := dk_62 (dk_at dksX1_answer_1 11 rfl rfl)
theorem dX1_answer_34 : decode cX1_answer 34 = .ok (.iload_n 3, 1) := dk_29 (dk_at dksX1_answer_1 12 rfl rfl)
theorem dX1_answer_35 : decode cX1_answer 35 = .ok (.ifCond .eq 14, 3) := dk_153 0 14 (dk_at dksX1_answer_1 13 rfl rfl)
theorem dX1_answer_38 : decode cX1_answer 38 = .ok (.aload_n 0, 1) := dk_42 (dk_at dksX1_answer_1 16 rfl rfl)
theorem dX1_answer_39 : decode cX1_answer 39 = .ok (.aload_n 1, 1) := dk_43 (dk_at dksX1_answer_1 17 rfl rfl)
theorem dX1_answer_40 : decode cX1_answer 40 = .ok (.getfield 287, 3) := dk_180 1 31 (dk_at dksX1_answer_1 18 rfl rfl)
theorem dX1_answer_43 : decode cX1_answer 43 = .ok (.invokevirtual 160, 3) := dk_182 0 160 (dk_at dksX1_answer_1 21 rfl rfl)
theorem dX1_answer_46 : decode cX1_answer 46 = .ok (.goto 4, 3) := dk_167 0 4 (dk_at dksX1_answer_2 0 rfl rfl)
theorem dX1_answer_49 : decode cX1_answer 49 = .ok (.aconst_null, 1) := dk_1 (dk_at dksX1_answer_2 3 rfl rfl)
theorem dX1_answer_50 : decode cX1_answer 50 = .ok (.astore 4, 2) := dk_58 4 (dk_at dksX1_answer_2 4 rfl rfl)
theorem dX1_answer_52 : decode cX1_answer 52 = .ok (.iload_n 2, 1) := dk_28 (dk_at dksX1_answer_2 6 rfl rfl)
theorem dX1_answer_53 : decode cX1_answer 53 = .ok (.ifCond .ne 8, 3) := dk_154 0 8 (dk_at dksX1_answer_2 7 rfl rfl)
theorem dX1_answer_56 : decode cX1_answer 56 = .ok (.aload 4, 2) := dk_25 4 (dk_at dksX1_answer_2 10 rfl rfl)
theorem dX1_answer_58 : decode cX1_answer 58 = .ok (.ifnonnull 7, 3) := dk_199 0 7 (dk_at dksX1_answer_2 12 rfl rfl)
theorem dX1_answer_61 : decode cX1_answer 61 = .ok (.iconst 0, 1) := dk_3 (dk_at dksX1_answer_2 15 rfl rfl)
theorem dX1_answer_62 : decode cX1_answer 62 = .ok (.goto 8, 3) := dk_167 0 8 (dk_at dksX1_answer_2 16 rfl rfl)
theorem dX1_answer_65 : decode cX1_answer 65 = .ok (.aload 4, 2) := dk_25 4 (dk_at dksX1_answer_2 19 rfl rfl)
theorem dX1_answer_67 : decode cX1_answer 67 = .ok (.invokevirtual 293, 3) := dk_182 1 37 (dk_at dksX1_answer_2 21 rfl rfl)
theorem dX1_answer_70 : decode cX1_answer 70 = .ok (.istore 5, 2) := dk_54 5 (dk_at dksX1_answer_3 0 rfl rfl)
theorem dX1_answer_72 : decode cX1_answer 72 = .ok (.aload_n 0, 1) := dk_42 (dk_at dksX1_answer_3 2 rfl rfl)
theorem dX1_answer_73 : decode cX1_answer 73 = .ok (.iload_n 3, 1) := dk_29 (dk_at dksX1_answer_3 3 rfl rfl)
theorem dX1_answer_74 : decode cX1_answer 74 = .ok (.ifCond .eq 7, 3) := dk_153 0 7 (dk_at dksX1_answer_3 4 rfl rfl)
theorem dX1_answer_77 : decode cX1_answer 77 = .ok (.iconst 1, 1) := dk_4 (dk_at dksX1_answer_3 7 rfl rfl)
theorem dX1_answer_78 : decode cX1_answer 78 = .ok (.goto 4, 3) := dk_167 0 4 (dk_at dksX1_answer_3 8 rfl rfl)
theorem dX1_answer_81 : decode cX1_answer 81 = .ok (.iconst 5, 1) := dk_8 (dk_at dksX1_answer_3 11 rfl rfl)
theorem dX1_answer_82 : decode cX1_answer 82 = .ok (.iconst 1, 1) := dk_4 (dk_at dksX1_answer_3 12 rfl rfl)
theorem dX1_answer_83 : decode cX1_answer 83 = .ok (.iconst 4, 1) := dk_7 (dk_at dksX1_answer_3 13 rfl rfl)
theorem dX1_answer_84 : decode cX1_answer 84 = .ok (.iload 5, 2) := dk_21 5 (dk_at dksX1_answer_3 14 rfl rfl)
theorem dX1_answer_86 : decode cX1_answer 86 = .ok (.ifCond .ne 7, 3) := dk_154 0 7 (dk_at dksX1_answer_3 16 rfl rfl)
theorem dX1_answer_89 : decode cX1_answer 89 = .ok (.iconst 1, 1) := dk_4 (dk_at dksX1_answer_3 19 rfl rfl)
theorem dX1_answer_90 : decode cX1_answer 90 = .ok (.goto 4, 3) := dk_167 0 4 (dk_at dksX1_answer_3 20 rfl rfl)
theorem dX1_answer_93 : decode cX1_answer 93 = .ok (.iconst 0, 1) := dk_3 (dk_at dksX1_answer_3 23 rfl rfl)
theorem dX1_answer_94 : decode cX1_answer 94 = .ok (.ior, 1) := dk_128 (dk_at dksX1_answer_4 0 rfl rfl)
theorem dX1_answer_95 : decode cX1_answer 95 = .ok (.aload_n 1, 1) := dk_43 (dk_at dksX1_answer_4 1 rfl rfl)
theorem dX1_answer_96 : decode cX1_answer 96 = .ok (.getfield 173, 3) := dk_180 0 173 (dk_at dksX1_answer_4 2 rfl rfl)
theorem dX1_answer_99 : decode cX1_answer 99 = .ok (.invokevirtual 114, 3) := dk_182 0 114 (dk_at dksX1_answer_4 5 rfl rfl)
theorem dX1_answer_102 : decode cX1_answer 102 = .ok (.iload_n 3, 1) := dk_29 (dk_at dksX1_answer_4 8 rfl rfl)
theorem dX1_answer_103 : decode cX1_answer 103 = .ok (.ifCond .eq 24, 3) := dk_153 0 24 (dk_at dksX1_answer_4 9 rfl rfl)
theorem dX1_answer_106 : decode cX1_answer 106 = .ok (.aload_n 0, 1) := dk_42 (dk_at dksX1_answer_4 12 rfl rfl)
theorem dX1_answer_107 : decode cX1_answer 107 = .ok (.aload 4, 2) := dk_25 4 (dk_at dksX1_answer_4 13 rfl rfl)
theorem dX1_answer_109 : decode cX1_answer 109 = .ok (.ifnonnull 9, 3) := dk_199 0 9 (dk_at dksX1_answer_4 15 rfl rfl)
theorem dX1_answer_112 : decode cX1_answer 112 = .ok (.sipush 135, 3) := dk_17 0 135 (dk_at dksX1_answer_4 18 rfl rfl)
theorem dX1_answer_115 : decode cX1_answer 115 = .ok (.goto 6, 3) := dk_167 0 6 (dk_at dksX1_answer_4 21 rfl rfl)
theorem dX1_answer_118 : decode cX1_answer 118 = .ok (.sipush 134, 3) := dk_17 0 134 (dk_at dksX1_answer_5 0 rfl rfl)
theorem dX1_answer_121 : decode cX1_answer 121 = .ok (.invokevirtual 118, 3) := dk_182 0 118 (dk_at dksX1_answer_5 3 rfl rfl)
theorem dX1_answer_124 : decode cX1_answer 124 = .ok (.goto 32, 3) := dk_167 0 32 (dk_at dksX1_answer_5 6 rfl rfl)
theorem dX1_answer_127 : decode cX1_answer 127 = .ok (.aload_n 0, 1) := dk_42 (dk_at dksX1_answer_5 9 rfl rfl)
theorem dX1_answer_128 : decode cX1_answer 128 = .ok (.bipush 6, 2) := dk_16 6 (dk_at dksX1_answer_5 10 rfl rfl)
theorem dX1_answer_130 : decode cX1_answer 130 = .ok (.invokevirtual 118, 3) := dk_182 0 118 (dk_at dksX1_answer_5 12 rfl rfl)
theorem dX1_answer_133 : decode cX1_answer 133 = .ok (.aload_n 0, 1) := dk_42 (dk_at dksX1_answer_5 15 rfl rfl)
theorem dX1_answer_134 : decode cX1_answer 134 = .ok (.iconst 3, 1) := dk_6 (dk_at dksX1_answer_5 16 rfl rfl)
theorem dX1_answer_135 : decode cX1_answer 135 = .ok (.invokevirtual 118, 3) := dk_182 0 118 (dk_at dksX1_answer_5 17 rfl rfl)
theorem dX1_answer_138 : decode cX1_answer 138 = .ok (.aload_n 0, 1) := dk_42 (dk_at dksX1_answer_5 20 rfl rfl)
theorem dX1_answer_139 : decode cX1_answer 139 = .ok (.bipush 52, 2) := dk_16 52 (dk_at dksX1_answer_5 21 rfl rfl)
theorem dX1_answer_141 : decode cX1_answer 141 = .ok (.invokevirtual 118, 3) := dk_182 0 118 (dk_at dksX1_answer_6 0 rfl rfl)
theorem dX1_answer_144 : decode cX1_answer 144 = .ok (.aload_n 0, 1) := dk_42 (dk_at dksX1_answer_6 3 rfl rfl)
theorem dX1_answer_145 : decode cX1_answer 145 = .ok (.bipush 48, 2) := dk_16 48 (dk_at dksX1_answer_6 4 rfl rfl)
theorem dX1_answer_147 : decode cX1_answer 147 = .ok (.invokevirtual 118, 3) := dk_182 0 118 (dk_at dksX1_answer_6 6 rfl rfl)
theorem dX1_answer_150 : decode cX1_answer 150 = .ok (.aload_n 0, 1) := dk_42 (dk_at dksX1_answer_6 9 rfl rfl)
theorem dX1_answer_151 : decode cX1_answer 151 = .ok (.bipush 53, 2) := dk_16 53 (dk_at dksX1_answer_6 10 rfl rfl)
theorem dX1_answer_153 : decode cX1_answer 153 = .ok (.invokevirtual 118, 3) := dk_182 0 118 (dk_at dksX1_answer_6 12 rfl rfl)
theorem dX1_answer_156 : decode cX1_answer 156 = .ok (.aload_n 1, 1) := dk_43 (dk_at dksX1_answer_6 15 rfl rfl)
theorem dX1_answer_157 : decode cX1_answer 157 = .ok (.iload 5, 2) := dk_21 5 (dk_at dksX1_answer_6 16 rfl rfl)
theorem dX1_answer_159 : decode cX1_answer 159 = .ok (.putfield 294, 3) := dk_181 1 38 (dk_at dksX1_answer_6 18 rfl rfl)
theorem dX1_answer_162 : decode cX1_answer 162 = .ok (.aload_n 1, 1) := dk_43 (dk_at dksX1_answer_6 21 rfl rfl)
theorem dX1_answer_163 : decode cX1_answer 163 = .ok (.iload 5, 2) := dk_21 5 (dk_at dksX1_answer_6 22 rfl rfl)
theorem dX1_answer_165 : decode cX1_answer 165 = .ok (.ifCond .ne 7, 3) := dk_154 0 7 (dk_at dksX1_answer_7 0 rfl rfl)
theorem dX1_answer_168 : decode cX1_answer 168 = .ok (.iconst 0, 1) := dk_3 (dk_at dksX1_answer_7 3 rfl rfl)
theorem dX1_answer_169 : decode cX1_answer 169 = .ok (.goto 8, 3) := dk_167 0 8 (dk_at dksX1_answer_7 4 rfl rfl)
theorem dX1_answer_172 : decode cX1_answer 172 = .ok (.aload 4, 2) := dk_25 4 (dk_at dksX1_answer_7 7 rfl rfl)
theorem dX1_answer_174 : decode cX1_answer 174 = .ok (.invokevirtual 297, 3) := dk_182 1 41 (dk_at dksX1_answer_7 9 rfl rfl)
theorem dX1_answer_177 : decode cX1_answer 177 = .ok (.putfield 300, 3) := dk_181 1 44 (dk_at dksX1_answer_7 12 rfl rfl)
theorem dX1_answer_180 : decode cX1_answer 180 = .ok (.iload 5, 2) := dk_21 5 (dk_at dksX1_answer_7 15 rfl rfl)
theorem dX1_answer_182 : decode cX1_answer 182 = .ok (.ifCond .ne 11, 3) := dk_154 0 11 (dk_at dksX1_answer_7 17 rfl rfl)
theorem dX1_answer_185 : decode cX1_answer 185 = .ok (.aload_n 0, 1) := dk_42 (dk_at dksX1_answer_7 20 rfl rfl)
theorem dX1_answer_186 : decode cX1_answer 186 = .ok (.aload_n 1, 1) := dk_43 (dk_at dksX1_answer_7 21 rfl rfl)
theorem dX1_answer_187 : decode cX1_answer 187 = .ok (.getfield 173, 3) := dk_180 0 173 (dk_at dksX1_answer_8 0 rfl rfl)
theorem dX1_answer_190 : decode cX1_answer 190 = .ok (.invokevirtual 302, 3) := dk_182 1 46 (dk_at dksX1_answer_8 3 rfl rfl)
theorem dX1_answer_193 : decode cX1_answer 193 = .ok (.return_, 1) := dk_177 (dk_at dksX1_answer_8 6 rfl rfl)
abbrev cX1_pageAt : ByteArray := prog_1_method_9_code
def yX1_pageAt : MethodName := ⟨RX1, "pageAt", "(Ljava/lang/String;)LPageServer$Page;"⟩
def dkwX1_pageAt_2 : List UInt8 := [132, 3, 1, 167, 255, 210, 44, 176]
abbrev dktX1_pageAt_2 : List UInt8 := dkwX1_pageAt_2 ++ []
def dkwX1_pageAt_1 : List UInt8 := [192, 0, 135, 58, 4, 25, 4, 182, 0, 137, 43, 182, 0, 141, 153, 0, 8, 25, 4, 167, 0, 4, 44, 77]
abbrev dktX1_pageAt_1 : List UInt8 := dkwX1_pageAt_1 ++ dktX1_pageAt_2
def dkwX1_pageAt_0 : List UInt8 := [1, 77, 3, 62, 29, 42, 180, 0, 16, 182, 0, 66, 162, 0, 41, 42, 180, 0, 16, 29, 182, 0, 132]
abbrev dktX1_pageAt_0 : List UInt8 := dkwX1_pageAt_0 ++ dktX1_pageAt_1
theorem dksX1_pageAt_0 : cX1_pageAt.data.toList.drop 0 = dktX1_pageAt_0 := by decide +kernel
theorem dksX1_pageAt_1 : cX1_pageAt.data.toList.drop 23 = dktX1_pageAt_1 := dk_seg dksX1_pageAt_0 23 rfl rfl
theorem dksX1_pageAt_2 : cX1_pageAt.data.toList.drop 47 = dktX1_pageAt_2 := dk_seg dksX1_pageAt_1 24 rfl rfl
theorem dX1_pageAt_0 : decode cX1_pageAt 0 = .ok (.aconst_null, 1) := dk_1 (dk_at dksX1_pageAt_0 0 rfl rfl)
theorem dX1_pageAt_1 : decode cX1_pageAt 1 = .ok (.astore_n 2, 1) := dk_77 (dk_at dksX1_pageAt_0 1 rfl rfl)
theorem dX1_pageAt_2 : decode cX1_pageAt 2 = .ok (.iconst 0, 1) := dk_3 (dk_at dksX1_pageAt_0 2 rfl rfl)
theorem dX1_pageAt_3 : decode cX1_pageAt 3 = .ok (.istore_n 3, 1) := dk_62 (dk_at dksX1_pageAt_0 3 rfl rfl)
theorem dX1_pageAt_4 : decode cX1_pageAt 4 = .ok (.iload_n 3, 1) := dk_29 (dk_at dksX1_pageAt_0 4 rfl rfl)
theorem dX1_pageAt_5 : decode cX1_pageAt 5 = .ok (.aload_n 0, 1) := dk_42 (dk_at dksX1_pageAt_0 5 rfl rfl)
theorem dX1_pageAt_6 : decode cX1_pageAt 6 = .ok (.getfield 16, 3) := dk_180 0 16 (dk_at dksX1_pageAt_0 6 rfl rfl)
theorem dX1_pageAt_9 : decode cX1_pageAt 9 = .ok (.invokevirtual 66, 3) := dk_182 0 66 (dk_at dksX1_pageAt_0 9 rfl rfl)
theorem dX1_pageAt_12 : decode cX1_pageAt 12 = .ok (.if_icmp .ge 41, 3) := dk_162 0 41 (dk_at dksX1_pageAt_0 12 rfl rfl)
theorem dX1_pageAt_15 : decode cX1_pageAt 15 = .ok (.aload_n 0, 1) := dk_42 (dk_at dksX1_pageAt_0 15 rfl rfl)
theorem dX1_pageAt_16 : decode cX1_pageAt 16 = .ok (.getfield 16, 3) := dk_180 0 16 (dk_at dksX1_pageAt_0 16 rfl rfl)
theorem dX1_pageAt_19 : decode cX1_pageAt 19 = .ok (.iload_n 3, 1) := dk_29 (dk_at dksX1_pageAt_0 19 rfl rfl)
theorem dX1_pageAt_20 : decode cX1_pageAt 20 = .ok (.invokevirtual 132, 3) := dk_182 0 132 (dk_at dksX1_pageAt_0 20 rfl rfl)
theorem dX1_pageAt_23 : decode cX1_pageAt 23 = .ok (.checkcast 135, 3) := dk_192 0 135 (dk_at dksX1_pageAt_1 0 rfl rfl)
theorem dX1_pageAt_26 : decode cX1_pageAt 26 = .ok (.astore 4, 2) := dk_58 4 (dk_at dksX1_pageAt_1 3 rfl rfl)
theorem dX1_pageAt_28 : decode cX1_pageAt 28 = .ok (.aload 4, 2) := dk_25 4 (dk_at dksX1_pageAt_1 5 rfl rfl)
theorem dX1_pageAt_30 : decode cX1_pageAt 30 = .ok (.invokevirtual 137, 3) := dk_182 0 137 (dk_at dksX1_pageAt_1 7 rfl rfl)
theorem dX1_pageAt_33 : decode cX1_pageAt 33 = .ok (.aload_n 1, 1) := dk_43 (dk_at dksX1_pageAt_1 10 rfl rfl)
theorem dX1_pageAt_34 : decode cX1_pageAt 34 = .ok (.invokevirtual 141, 3) := dk_182 0 141 (dk_at dksX1_pageAt_1 11 rfl rfl)
theorem dX1_pageAt_37 : decode cX1_pageAt 37 = .ok (.ifCond .eq 8, 3) := dk_153 0 8 (dk_at dksX1_pageAt_1 14 rfl rfl)
theorem dX1_pageAt_40 : decode cX1_pageAt 40 = .ok (.aload 4, 2) := dk_25 4 (dk_at dksX1_pageAt_1 17 rfl rfl)
theorem dX1_pageAt_42 : decode cX1_pageAt 42 = .ok (.goto 4, 3) := dk_167 0 4 (dk_at dksX1_pageAt_1 19 rfl rfl)
theorem dX1_pageAt_45 : decode cX1_pageAt 45 = .ok (.aload_n 2, 1) := dk_44 (dk_at dksX1_pageAt_1 22 rfl rfl)
theorem dX1_pageAt_46 : decode cX1_pageAt 46 = .ok (.astore_n 2, 1) := dk_77 (dk_at dksX1_pageAt_1 23 rfl rfl)
theorem dX1_pageAt_47 : decode cX1_pageAt 47 = .ok (.iinc 3 1, 3) := dk_132 3 1 (dk_at dksX1_pageAt_2 0 rfl rfl)
theorem dX1_pageAt_50 : decode cX1_pageAt 50 = .ok (.goto (-46), 3) := dk_167 255 210 (dk_at dksX1_pageAt_2 3 rfl rfl)
theorem dX1_pageAt_53 : decode cX1_pageAt 53 = .ok (.aload_n 2, 1) := dk_44 (dk_at dksX1_pageAt_2 6 rfl rfl)
theorem dX1_pageAt_54 : decode cX1_pageAt 54 = .ok (.areturn, 1) := dk_176 (dk_at dksX1_pageAt_2 7 rfl rfl)
abbrev cX1_over : ByteArray := prog_1_method_17_code
def yX1_over : MethodName := ⟨RX1, "over", "(I)V"⟩
def dkwX1_over_2 : List UInt8 := [132, 3, 255, 167, 255, 228, 42, 180, 0, 23, 44, 182, 0, 53, 87, 177]
abbrev dktX1_over_2 : List UInt8 := dkwX1_over_2 ++ []
def dkwX1_over_1 : List UInt8 := [155, 0, 30, 42, 180, 0, 20, 29, 182, 0, 132, 44, 166, 0, 12, 42, 180, 0, 20, 29, 182, 0, 70, 87]
abbrev dktX1_over_1 : List UInt8 := dkwX1_over_1 ++ dktX1_over_2
def dkwX1_over_0 : List UInt8 := [42, 27, 182, 0, 176, 77, 44, 199, 0, 4, 177, 42, 180, 0, 20, 182, 0, 66, 4, 100, 62, 29]
abbrev dktX1_over_0 : List UInt8 := dkwX1_over_0 ++ dktX1_over_1
theorem dksX1_over_0 : cX1_over.data.toList.drop 0 = dktX1_over_0 := by decide +kernel
theorem dksX1_over_1 : cX1_over.data.toList.drop 22 = dktX1_over_1 := dk_seg dksX1_over_0 22 rfl rfl
theorem dksX1_over_2 : cX1_over.data.toList.drop 46 = dktX1_over_2 := dk_seg dksX1_over_1 24 rfl rfl
theorem dX1_over_0 : decode cX1_over 0 = .ok (.aload_n 0, 1) := dk_42 (dk_at dksX1_over_0 0 rfl rfl)
theorem dX1_over_1 : decode cX1_over 1 = .ok (.iload_n 1, 1) := dk_27 (dk_at dksX1_over_0 1 rfl rfl)
theorem dX1_over_2 : decode cX1_over 2 = .ok (.invokevirtual 176, 3) := dk_182 0 176 (dk_at dksX1_over_0 2 rfl rfl)
theorem dX1_over_5 : decode cX1_over 5 = .ok (.astore_n 2, 1) := dk_77 (dk_at dksX1_over_0 5 rfl rfl)
theorem dX1_over_6 : decode cX1_over 6 = .ok (.aload_n 2, 1) := dk_44 (dk_at dksX1_over_0 6 rfl rfl)
theorem dX1_over_7 : decode cX1_over 7 = .ok (.ifnonnull 4, 3) := dk_199 0 4 (dk_at dksX1_over_0 7 rfl rfl)
theorem dX1_over_10 : decode cX1_over 10 = .ok (.return_, 1) := dk_177 (dk_at dksX1_over_0 10 rfl rfl)
theorem dX1_over_11 : decode cX1_over 11 = .ok (.aload_n 0, 1) := dk_42 (dk_at dksX1_over_0 11 rfl rfl)
theorem dX1_over_12 : decode cX1_over 12 = .ok (.getfield 20, 3) := dk_180 0 20 (dk_at dksX1_over_0 12 rfl rfl)
theorem dX1_over_15 : decode cX1_over 15 = .ok (.invokevirtual 66, 3) := dk_182 0 66 (dk_at dksX1_over_0 15 rfl rfl)
theorem dX1_over_18 : decode cX1_over 18 = .ok (.iconst 1, 1) := dk_4 (dk_at dksX1_over_0 18 rfl rfl)
theorem dX1_over_19 : decode cX1_over 19 = .ok (.isub, 1) := dk_100 (dk_at dksX1_over_0 19 rfl rfl)
theorem dX1_over_20 : decode cX1_over 20 = .ok (.istore_n 3, 1) := dk_62 (dk_at dksX1_over_0 20 rfl rfl)
theorem dX1_over_21 : decode cX1_over 21 = .ok (.iload_n 3, 1) := dk_29 (dk_at dksX1_over_0 21 rfl rfl)
theorem dX1_over_22 : decode cX1_over 22 = .ok (.ifCond .lt 30, 3) := dk_155 0 30 (dk_at dksX1_over_1 0 rfl rfl)
theorem dX1_over_25 : decode cX1_over 25 = .ok (.aload_n 0, 1) := dk_42 (dk_at dksX1_over_1 3 rfl rfl)
theorem dX1_over_26 : decode cX1_over 26 = .ok (.getfield 20, 3) := dk_180 0 20 (dk_at dksX1_over_1 4 rfl rfl)
theorem dX1_over_29 : decode cX1_over 29 = .ok (.iload_n 3, 1) := dk_29 (dk_at dksX1_over_1 7 rfl rfl)
theorem dX1_over_30 : decode cX1_over 30 = .ok (.invokevirtual 132, 3) := dk_182 0 132 (dk_at dksX1_over_1 8 rfl rfl)
theorem dX1_over_33 : decode cX1_over 33 = .ok (.aload_n 2, 1) := dk_44 (dk_at dksX1_over_1 11 rfl rfl)
theorem dX1_over_34 : decode cX1_over 34 = .ok (.if_acmp .ne 12, 3) := dk_166 0 12 (dk_at dksX1_over_1 12 rfl rfl)
theorem dX1_over_37 : decode cX1_over 37 = .ok (.aload_n 0, 1) := dk_42 (dk_at dksX1_over_1 15 rfl rfl)
theorem dX1_over_38 : decode cX1_over 38 = .ok (.getfield 20, 3) := dk_180 0 20 (dk_at dksX1_over_1 16 rfl rfl)
theorem dX1_over_41 : decode cX1_over 41 = .ok (.iload_n 3, 1) := dk_29 (dk_at dksX1_over_1 19 rfl rfl)
theorem dX1_over_42 : decode cX1_over 42 = .ok (.invokevirtual 70, 3) := dk_182 0 70 (dk_at dksX1_over_1 20 rfl rfl)
theorem dX1_over_45 : decode cX1_over 45 = .ok (.pop, 1) := dk_87 (dk_at dksX1_over_1 23 rfl rfl)
theorem dX1_over_46 : decode cX1_over 46 = .ok (.iinc 3 (-1), 3) := dk_132 3 255 (dk_at dksX1_over_2 0 rfl rfl)
theorem dX1_over_49 : decode cX1_over 49 = .ok (.goto (-28), 3) := dk_167 255 228 (dk_at dksX1_over_2 3 rfl rfl)
theorem dX1_over_52 : decode cX1_over 52 = .ok (.aload_n 0, 1) := dk_42 (dk_at dksX1_over_2 6 rfl rfl)
theorem dX1_over_53 : decode cX1_over 53 = .ok (.getfield 23, 3) := dk_180 0 23 (dk_at dksX1_over_2 7 rfl rfl)
theorem dX1_over_56 : decode cX1_over 56 = .ok (.aload_n 2, 1) := dk_44 (dk_at dksX1_over_2 10 rfl rfl)
theorem dX1_over_57 : decode cX1_over 57 = .ok (.invokevirtual 53, 3) := dk_182 0 53 (dk_at dksX1_over_2 11 rfl rfl)
theorem dX1_over_60 : decode cX1_over 60 = .ok (.pop, 1) := dk_87 (dk_at dksX1_over_2 14 rfl rfl)
theorem dX1_over_61 : decode cX1_over 61 = .ok (.return_, 1) := dk_177 (dk_at dksX1_over_2 15 rfl rfl)
abbrev cX1_headers : ByteArray := prog_1_method_24_code
def yX1_headers : MethodName := ⟨RX1, "headers", "()V"⟩
def dkwX1_headers_4 : List UInt8 := [177]
abbrev dktX1_headers_4 : List UInt8 := dkwX1_headers_4 ++ []
def dkwX1_headers_3 : List UInt8 := [181, 0, 91, 42, 42, 180, 0, 203, 181, 0, 88, 42, 42, 4, 182, 0, 183, 181, 0, 231, 42, 182, 0, 234]
abbrev dktX1_headers_3 : List UInt8 := dkwX1_headers_3 ++ dktX1_headers_4
def dkwX1_headers_2 : List UInt8 := [198, 0, 14, 43, 180, 0, 214, 154, 0, 7, 4, 167, 0, 4, 3, 8, 182, 0, 196, 42, 180, 0, 36, 3]
abbrev dktX1_headers_2 : List UInt8 := dkwX1_headers_2 ++ dktX1_headers_3
def dkwX1_headers_1 : List UInt8 := [42, 42, 180, 0, 203, 182, 0, 176, 76, 42, 42, 180, 0, 203, 42, 180, 0, 93, 163, 0, 14, 43]
abbrev dktX1_headers_1 : List UInt8 := dkwX1_headers_1 ++ dktX1_headers_2
def dkwX1_headers_0 : List UInt8 := [42, 42, 180, 0, 203, 5, 112, 4, 160, 0, 7, 4, 167, 0, 4, 3, 4, 182, 0, 196, 42, 182, 0, 207]
abbrev dktX1_headers_0 : List UInt8 := dkwX1_headers_0 ++ dktX1_headers_1
theorem dksX1_headers_0 : cX1_headers.data.toList.drop 0 = dktX1_headers_0 := by decide +kernel
theorem dksX1_headers_1 : cX1_headers.data.toList.drop 24 = dktX1_headers_1 := dk_seg dksX1_headers_0 24 rfl rfl
theorem dksX1_headers_2 : cX1_headers.data.toList.drop 46 = dktX1_headers_2 := dk_seg dksX1_headers_1 22 rfl rfl
theorem dksX1_headers_3 : cX1_headers.data.toList.drop 70 = dktX1_headers_3 := dk_seg dksX1_headers_2 24 rfl rfl
theorem dksX1_headers_4 : cX1_headers.data.toList.drop 94 = dktX1_headers_4 := dk_seg dksX1_headers_3 24 rfl rfl
theorem dX1_headers_0 : decode cX1_headers 0 = .ok (.aload_n 0, 1) := dk_42 (dk_at dksX1_headers_0 0 rfl rfl)
theorem dX1_headers_1 : decode cX1_headers 1 = .ok (.aload_n 0, 1) := dk_42 (dk_at dksX1_headers_0 1 rfl rfl)
theorem dX1_headers_2 : decode cX1_headers 2 = .ok (.getfield 203, 3) := dk_180 0 203 (dk_at dksX1_headers_0 2 rfl rfl)
theorem dX1_headers_5 : decode cX1_headers 5 = .ok (.iconst 2, 1) := dk_5 (dk_at dksX1_headers_0 5 rfl rfl)
theorem dX1_headers_6 : decode cX1_headers 6 = .ok (.irem, 1) := dk_112 (dk_at dksX1_headers_0 6 rfl rfl)
theorem dX1_headers_7 : decode cX1_headers 7 = .ok (.iconst 1, 1) := dk_4 (dk_at dksX1_headers_0 7 rfl rfl)
theorem dX1_headers_8 : decode cX1_headers 8 = .ok (.if_icmp .ne 7, 3) := dk_160 0 7 (dk_at dksX1_headers_0 8 rfl rfl)
theorem dX1_headers_11 : decode cX1_headers 11 = .ok (.iconst 1, 1) := dk_4 (dk_at dksX1_headers_0 11 rfl rfl)
theorem dX1_headers_12 : decode cX1_headers 12 = .ok (.goto 4, 3) := dk_167 0 4 (dk_at dksX1_headers_0 12 rfl rfl)
theorem dX1_headers_15 : decode cX1_headers 15 = .ok (.iconst 0, 1) := dk_3 (dk_at dksX1_headers_0 15 rfl rfl)
theorem dX1_headers_16 : decode cX1_headers 16 = .ok (.iconst 1, 1) := dk_4 (dk_at dksX1_headers_0 16 rfl rfl)
theorem dX1_headers_17 : decode cX1_headers 17 = .ok (.invokevirtual 196, 3) := dk_182 0 196 (dk_at dksX1_headers_0 17 rfl rfl)
theorem dX1_headers_20 : decode cX1_headers 20 = .ok (.aload_n 0, 1) := dk_42 (dk_at dksX1_headers_0 20 rfl rfl)
theorem dX1_headers_21 : decode cX1_headers 21 = .ok (.invokevirtual 207, 3) := dk_182 0 207 (dk_at dksX1_headers_0 21 rfl rfl)
theorem dX1_headers_24 : decode cX1_headers 24 = .ok (.aload_n 0, 1) := dk_42 (dk_at dksX1_headers_1 0 rfl rfl)
theorem dX1_headers_25 : decode cX1_headers 25 = .ok (.aload_n 0, 1) := dk_42 (dk_at dksX1_headers_1 1 rfl rfl)
theorem dX1_headers_26 : decode cX1_headers 26 = .ok (.getfield 203, 3) := dk_180 0 203 (dk_at dksX1_headers_1 2 rfl rfl)
theorem dX1_headers_29 : decode cX1_headers 29 = .ok (.invokevirtual 176, 3) := dk_182 0 176 (dk_at dksX1_headers_1 5 rfl rfl)
theorem dX1_headers_32 : decode cX1_headers 32 = .ok (.astore_n 1, 1) := dk_76 (dk_at dksX1_headers_1 8 rfl rfl)
theorem dX1_headers_33 : decode cX1_headers 33 = .ok (.aload_n 0, 1) := dk_42 (dk_at dksX1_headers_1 9 rfl rfl)
theorem dX1_headers_34 : decode cX1_headers 34 = .ok (.aload_n 0, 1) := dk_42 (dk_at dksX1_headers_1 10 rfl rfl)
theorem dX1_headers_35 : decode cX1_headers 35 = .ok (.getfield 203, 3) := dk_180 0 203 (dk_at dksX1_headers_1 11 rfl rfl)
theorem dX1_headers_38 : decode cX1_headers 38 = .ok (.aload_n 0, 1) := dk_42 (dk_at dksX1_headers_1 14 rfl rfl)
theorem dX1_headers_39 : decode cX1_headers 39 = .ok (.getfield 93, 3) := dk_180 0 93 (dk_at dksX1_headers_1 15 rfl rfl)
theorem dX1_headers_42 : decode cX1_headers 42 = .ok (.if_icmp .gt 14, 3) := dk_163 0 14 (dk_at dksX1_headers_1 18 rfl rfl)
theorem dX1_headers_45 : decode cX1_headers 45 = .ok (.aload_n 1, 1) := dk_43 (dk_at dksX1_headers_1 21 rfl rfl)
theorem dX1_headers_46 : decode cX1_headers 46 = .ok (.ifnull 14, 3) := dk_198 0 14 (dk_at dksX1_headers_2 0 rfl rfl)
theorem dX1_headers_49 : decode cX1_headers 49 = .ok (.aload_n 1, 1) := dk_43 (dk_at dksX1_headers_2 3 rfl rfl)
theorem dX1_headers_50 : decode cX1_headers 50 = .ok (.getfield 214, 3) := dk_180 0 214 (dk_at dksX1_headers_2 4 rfl rfl)
theorem dX1_headers_53 : decode cX1_headers 53 = .ok (.ifCond .ne 7, 3) := dk_154 0 7 (dk_at dksX1_headers_2 7 rfl rfl)
theorem dX1_headers_56 : decode cX1_headers 56 = .ok (.iconst 1, 1) := dk_4 (dk_at dksX1_headers_2 10 rfl rfl)
theorem dX1_headers_57 : decode cX1_headers 57 = .ok (.goto 4, 3) := dk_167 0 4 (dk_at dksX1_headers_2 11 rfl rfl)
theorem dX1_headers_60 : decode cX1_headers 60 = .ok (.iconst 0, 1) := dk_3 (dk_at dksX1_headers_2 14 rfl rfl)
theorem dX1_headers_61 : decode cX1_headers 61 = .ok (.iconst 5, 1) := dk_8 (dk_at dksX1_headers_2 15 rfl rfl)
theorem dX1_headers_62 : decode cX1_headers 62 = .ok (.invokevirtual 196, 3) := dk_182 0 196 (dk_at dksX1_headers_2 16 rfl rfl)
theorem dX1_headers_65 : decode cX1_headers 65 = .ok (.aload_n 0, 1) := dk_42 (dk_at dksX1_headers_2 19 rfl rfl)
theorem dX1_headers_66 : decode cX1_headers 66 = .ok (.getfield 36, 3) := dk_180 0 36 (dk_at dksX1_headers_2 20 rfl rfl)
theorem dX1_headers_69 : decode cX1_headers 69 = .ok (.iconst 0, 1) := dk_3 (dk_at dksX1_headers_2 23 rfl rfl)
theorem dX1_headers_70 : decode cX1_headers 70 = .ok (.putfield 91, 3) := dk_181 0 91 (dk_at dksX1_headers_3 0 rfl rfl)
theorem dX1_headers_73 : decode cX1_headers 73 = .ok (.aload_n 0, 1) := dk_42 (dk_at dksX1_headers_3 3 rfl rfl)
theorem dX1_headers_74 : decode cX1_headers 74 = .ok (.aload_n 0, 1) := dk_42 (dk_at dksX1_headers_3 4 rfl rfl)
theorem dX1_headers_75 : decode cX1_headers 75 = .ok (.getfield 203, 3) := dk_180 0 203 (dk_at dksX1_headers_3 5 rfl rfl)
theorem dX1_headers_78 : decode cX1_headers 78 = .ok (.putfield 88, 3) := dk_181 0 88 (dk_at dksX1_headers_3 8 rfl rfl)
theorem dX1_headers_81 : decode cX1_headers 81 = .ok (.aload_n 0, 1) := dk_42 (dk_at dksX1_headers_3 11 rfl rfl)
theorem dX1_headers_82 : decode cX1_headers 82 = .ok (.aload_n 0, 1) := dk_42 (dk_at dksX1_headers_3 12 rfl rfl)
theorem dX1_headers_83 : decode cX1_headers 83 = .ok (.iconst 1, 1) := dk_4 (dk_at dksX1_headers_3 13 rfl rfl)
theorem dX1_headers_84 : decode cX1_headers 84 = .ok (.invokevirtual 183, 3) := dk_182 0 183 (dk_at dksX1_headers_3 14 rfl rfl)
theorem dX1_headers_87 : decode cX1_headers 87 = .ok (.putfield 231, 3) := dk_181 0 231 (dk_at dksX1_headers_3 17 rfl rfl)
theorem dX1_headers_90 : decode cX1_headers 90 = .ok (.aload_n 0, 1) := dk_42 (dk_at dksX1_headers_3 20 rfl rfl)
theorem dX1_headers_91 : decode cX1_headers 91 = .ok (.invokevirtual 234, 3) := dk_182 0 234 (dk_at dksX1_headers_3 21 rfl rfl)
theorem dX1_headers_94 : decode cX1_headers 94 = .ok (.return_, 1) := dk_177 (dk_at dksX1_headers_4 0 rfl rfl)
abbrev cX1_more : ByteArray := prog_1_method_25_code
def yX1_more : MethodName := ⟨RX1, "more", "()V"⟩
def dkwX1_more_6 : List UInt8 := [182, 0, 244, 167, 0, 7, 42, 182, 0, 247, 177]
abbrev dktX1_more_6 : List UInt8 := dkwX1_more_6 ++ []
def dkwX1_more_5 : List UInt8 := [182, 0, 240, 16, 9, 182, 0, 196, 42, 42, 180, 0, 203, 182, 0, 176, 76, 43, 198, 0, 11, 42, 43]
abbrev dktX1_more_5 : List UInt8 := dkwX1_more_5 ++ dktX1_more_6
def dkwX1_more_4 : List UInt8 := [154, 0, 4, 177, 42, 2, 181, 0, 88, 42, 42, 180, 0, 36, 42, 180, 0, 29, 42, 180, 0, 40]
abbrev dktX1_more_4 : List UInt8 := dkwX1_more_4 ++ dktX1_more_5
def dkwX1_more_3 : List UInt8 := [180, 0, 36, 89, 180, 0, 91, 4, 96, 181, 0, 91, 132, 1, 1, 167, 255, 209, 42, 7, 182, 0, 183]
abbrev dktX1_more_3 : List UInt8 := dkwX1_more_3 ++ dktX1_more_4
def dkwX1_more_2 : List UInt8 := [180, 0, 36, 180, 0, 237, 42, 180, 0, 36, 180, 0, 91, 42, 180, 0, 43, 7, 27, 96, 51, 84, 42]
abbrev dktX1_more_2 : List UInt8 := dkwX1_more_2 ++ dktX1_more_3
def dkwX1_more_1 : List UInt8 := [167, 0, 4, 3, 16, 9, 182, 0, 196, 42, 180, 0, 186, 60, 27, 42, 180, 0, 200, 162, 0, 45, 42]
abbrev dktX1_more_1 : List UInt8 := dkwX1_more_1 ++ dktX1_more_2
def dkwX1_more_0 : List UInt8 := [42, 42, 180, 0, 36, 180, 0, 91, 42, 180, 0, 200, 96, 42, 180, 0, 186, 100, 16, 100, 163, 0, 7, 4]
abbrev dktX1_more_0 : List UInt8 := dkwX1_more_0 ++ dktX1_more_1
theorem dksX1_more_0 : cX1_more.data.toList.drop 0 = dktX1_more_0 := by decide +kernel
theorem dksX1_more_1 : cX1_more.data.toList.drop 24 = dktX1_more_1 := dk_seg dksX1_more_0 24 rfl rfl
theorem dksX1_more_2 : cX1_more.data.toList.drop 47 = dktX1_more_2 := dk_seg dksX1_more_1 23 rfl rfl
theorem dksX1_more_3 : cX1_more.data.toList.drop 70 = dktX1_more_3 := dk_seg dksX1_more_2 23 rfl rfl
theorem dksX1_more_4 : cX1_more.data.toList.drop 93 = dktX1_more_4 := dk_seg dksX1_more_3 23 rfl rfl
theorem dksX1_more_5 : cX1_more.data.toList.drop 115 = dktX1_more_5 := dk_seg dksX1_more_4 22 rfl rfl
theorem dksX1_more_6 : cX1_more.data.toList.drop 138 = dktX1_more_6 := dk_seg dksX1_more_5 23 rfl rfl
theorem dX1_more_0 : decode cX1_more 0 = .ok (.aload_n 0, 1) := dk_42 (dk_at dksX1_more_0 0 rfl rfl)
theorem dX1_more_1 : decode cX1_more 1 = .ok (.aload_n 0, 1) := dk_42 (dk_at dksX1_more_0 1 rfl rfl)
theorem dX1_more_2 : decode cX1_more 2 = .ok (.getfield 36, 3) := dk_180 0 36 (dk_at dksX1_more_0 2 rfl rfl)
theorem dX1_more_5 : decode cX1_more 5 = .ok (.getfield 91, 3) := dk_180 0 91 (dk_at dksX1_more_0 5 rfl rfl)
theorem dX1_more_8 : decode cX1_more 8 = .ok (.aload_n 0, 1) := dk_42 (dk_at dksX1_more_0 8 rfl rfl)
theorem dX1_more_9 : decode cX1_more 9 = .ok (.getfield 200, 3) := dk_180 0 200 (dk_at dksX1_more_0 9 rfl rfl)
theorem dX1_more_12 : decode cX1_more 12 = .ok (.iadd, 1) := dk_96 (dk_at dksX1_more_0 12 rfl rfl)
theorem dX1_more_13 : decode cX1_more 13 = .ok (.aload_n 0, 1) := dk_42 (dk_at dksX1_more_0 13 rfl rfl)
theorem dX1_more_14 : decode cX1_more 14 = .ok (.getfield 186, 3) := dk_180 0 186 (dk_at dksX1_more_0 14 rfl rfl)
theorem dX1_more_17 : decode cX1_more 17 = .ok (.isub, 1) := dk_100 (dk_at dksX1_more_0 17 rfl rfl)
theorem dX1_more_18 : decode cX1_more 18 = .ok (.bipush 100, 2) := dk_16 100 (dk_at dksX1_more_0 18 rfl rfl)
theorem dX1_more_20 : decode cX1_more 20 = .ok (.if_icmp .gt 7, 3) := dk_163 0 7 (dk_at dksX1_more_0 20 rfl rfl)
theorem dX1_more_23 : decode cX1_more 23 = .ok (.iconst 1, 1) := dk_4 (dk_at dksX1_more_0 23 rfl rfl)
theorem dX1_more_24 : decode cX1_more 24 = .ok (.goto 4, 3) := dk_167 0 4 (dk_at dksX1_more_1 0 rfl rfl)
theorem dX1_more_27 : decode cX1_more 27 = .ok (.iconst 0, 1) := dk_3 (dk_at dksX1_more_1 3 rfl rfl)
theorem dX1_more_28 : decode cX1_more 28 = .ok (.bipush 9, 2) := dk_16 9 (dk_at dksX1_more_1 4 rfl rfl)
theorem dX1_more_30 : decode cX1_more 30 = .ok (.invokevirtual 196, 3) := dk_182 0 196 (dk_at dksX1_more_1 6 rfl rfl)
theorem dX1_more_33 : decode cX1_more 33 = .ok (.aload_n 0, 1) := dk_42 (dk_at dksX1_more_1 9 rfl rfl)
theorem dX1_more_34 : decode cX1_more 34 = .ok (.getfield 186, 3) := dk_180 0 186 (dk_at dksX1_more_1 10 rfl rfl)
theorem dX1_more_37 : decode cX1_more 37 = .ok (.istore_n 1, 1) := dk_60 (dk_at dksX1_more_1 13 rfl rfl)
theorem dX1_more_38 : decode cX1_more 38 = .ok (.iload_n 1, 1) := dk_27 (dk_at dksX1_more_1 14 rfl rfl)
theorem dX1_more_39 : decode cX1_more 39 = .ok (.aload_n 0, 1) := dk_42 (dk_at dksX1_more_1 15 rfl rfl)
theorem dX1_more_40 : decode cX1_more 40 = .ok (.getfield 200, 3) := dk_180 0 200 (dk_at dksX1_more_1 16 rfl rfl)
theorem dX1_more_43 : decode cX1_more 43 = .ok (.if_icmp .ge 45, 3) := dk_162 0 45 (dk_at dksX1_more_1 19 rfl rfl)
theorem dX1_more_46 : decode cX1_more 46 = .ok (.aload_n 0, 1) := dk_42 (dk_at dksX1_more_1 22 rfl rfl)
theorem dX1_more_47 : decode cX1_more 47 = .ok (.getfield 36, 3) := dk_180 0 36 (dk_at dksX1_more_2 0 rfl rfl)
theorem dX1_more_50 : decode cX1_more 50 = .ok (.getfield 237, 3) := dk_180 0 237 (dk_at dksX1_more_2 3 rfl rfl)
theorem dX1_more_53 : decode cX1_more 53 = .ok (.aload_n 0, 1) := dk_42 (dk_at dksX1_more_2 6 rfl rfl)
theorem dX1_more_54 : decode cX1_more 54 = .ok (.getfield 36, 3) := dk_180 0 36 (dk_at dksX1_more_2 7 rfl rfl)
theorem dX1_more_57 : decode cX1_more 57 = .ok (.getfield 91, 3) := dk_180 0 91 (dk_at dksX1_more_2 10 rfl rfl)
theorem dX1_more_60 : decode cX1_more 60 = .ok (.aload_n 0, 1) := dk_42 (dk_at dksX1_more_2 13 rfl rfl)
theorem dX1_more_61 : decode cX1_more 61 = .ok (.getfield 43, 3) := dk_180 0 43 (dk_at dksX1_more_2 14 rfl rfl)
theorem dX1_more_64 : decode cX1_more 64 = .ok (.iconst 4, 1) := dk_7 (dk_at dksX1_more_2 17 rfl rfl)
theorem dX1_more_65 : decode cX1_more 65 = .ok (.iload_n 1, 1) := dk_27 (dk_at dksX1_more_2 18 rfl rfl)
theorem dX1_more_66 : decode cX1_more 66 = .ok (.iadd, 1) := dk_96 (dk_at dksX1_more_2 19 rfl rfl)
theorem dX1_more_67 : decode cX1_more 67 = .ok (.baload, 1) := dk_51 (dk_at dksX1_more_2 20 rfl rfl)
theorem dX1_more_68 : decode cX1_more 68 = .ok (.bastore, 1) := dk_84 (dk_at dksX1_more_2 21 rfl rfl)
theorem dX1_more_69 : decode cX1_more 69 = .ok (.aload_n 0, 1) := dk_42 (dk_at dksX1_more_2 22 rfl rfl)
theorem dX1_more_70 : decode cX1_more 70 = .ok (.getfield 36, 3) := dk_180 0 36 (dk_at dksX1_more_3 0 rfl rfl)
theorem dX1_more_73 : decode cX1_more 73 = .ok (.dup, 1) := dk_89 (dk_at dksX1_more_3 3 rfl rfl)
theorem dX1_more_74 : decode cX1_more 74 = .ok (.getfield 91, 3) := dk_180 0 91 (dk_at dksX1_more_3 4 rfl rfl)
theorem dX1_more_77 : decode cX1_more 77 = .ok (.iconst 1, 1) := dk_4 (dk_at dksX1_more_3 7 rfl rfl)
theorem dX1_more_78 : decode cX1_more 78 = .ok (.iadd, 1) := dk_96 (dk_at dksX1_more_3 8 rfl rfl)
theorem dX1_more_79 : decode cX1_more 79 = .ok (.putfield 91, 3) := dk_181 0 91 (dk_at dksX1_more_3 9 rfl rfl)
theorem dX1_more_82 : decode cX1_more 82 = .ok (.iinc 1 1, 3) := dk_132 1 1 (dk_at dksX1_more_3 12 rfl rfl)
theorem dX1_more_85 : decode cX1_more 85 = .ok (.goto (-47), 3) := dk_167 255 209 (dk_at dksX1_more_3 15 rfl rfl)
theorem dX1_more_88 : decode cX1_more 88 = .ok (.aload_n 0, 1) := dk_42 (dk_at dksX1_more_3 18 rfl rfl)
theorem dX1_more_89 : decode cX1_more 89 = .ok (.iconst 4, 1) := dk_7 (dk_at dksX1_more_3 19 rfl rfl)
theorem dX1_more_90 : decode cX1_more 90 = .ok (.invokevirtual 183, 3) := dk_182 0 183 (dk_at dksX1_more_3 20 rfl rfl)
theorem dX1_more_93 : decode cX1_more 93 = .ok (.ifCond .ne 4, 3) := dk_154 0 4 (dk_at dksX1_more_4 0 rfl rfl)
theorem dX1_more_96 : decode cX1_more 96 = .ok (.return_, 1) := dk_177 (dk_at dksX1_more_4 3 rfl rfl)
theorem dX1_more_97 : decode cX1_more 97 = .ok (.aload_n 0, 1) := dk_42 (dk_at dksX1_more_4 4 rfl rfl)
theorem dX1_more_98 : decode cX1_more 98 = .ok (.iconst (-1), 1) := dk_2 (dk_at dksX1_more_4 5 rfl rfl)
theorem dX1_more_99 : decode cX1_more 99 = .ok (.putfield 88, 3) := dk_181 0 88 (dk_at dksX1_more_4 6 rfl rfl)
theorem dX1_more_102 : decode cX1_more 102 = .ok (.aload_n 0, 1) := dk_42 (dk_at dksX1_more_4 9 rfl rfl)
theorem dX1_more_103 : decode cX1_more 103 = .ok (.aload_n 0, 1) := dk_42 (dk_at dksX1_more_4 10 rfl rfl)
theorem dX1_more_104 : decode cX1_more 104 = .ok (.getfield 36, 3) := dk_180 0 36 (dk_at dksX1_more_4 11 rfl rfl)
theorem dX1_more_107 : decode cX1_more 107 = .ok (.aload_n 0, 1) := dk_42 (dk_at dksX1_more_4 14 rfl rfl)
theorem dX1_more_108 : decode cX1_more 108 = .ok (.getfield 29, 3) := dk_180 0 29 (dk_at dksX1_more_4 15 rfl rfl)
theorem dX1_more_111 : decode cX1_more 111 = .ok (.aload_n 0, 1) := dk_42 (dk_at dksX1_more_4 18 rfl rfl)
theorem dX1_more_112 : decode cX1_more 112 = .ok (.getfield 40, 3) := dk_180 0 40 (dk_at dksX1_more_4 19 rfl rfl)
theorem dX1_more_115 : decode cX1_more 115 = .ok (.invokevirtual 240, 3) := dk_182 0 240 (dk_at dksX1_more_5 0 rfl rfl)
theorem dX1_more_118 : decode cX1_more 118 = .ok (.bipush 9, 2) := dk_16 9 (dk_at dksX1_more_5 3 rfl rfl)
theorem dX1_more_120 : decode cX1_more 120 = .ok (.invokevirtual 196, 3) := dk_182 0 196 (dk_at dksX1_more_5 5 rfl rfl)
theorem dX1_more_123 : decode cX1_more 123 = .ok (.aload_n 0, 1) := dk_42 (dk_at dksX1_more_5 8 rfl rfl)
theorem dX1_more_124 : decode cX1_more 124 = .ok (.aload_n 0, 1) := dk_42 (dk_at dksX1_more_5 9 rfl rfl)
theorem dX1_more_125 : decode cX1_more 125 = .ok (.getfield 203, 3) := dk_180 0 203 (dk_at dksX1_more_5 10 rfl rfl)
theorem dX1_more_128 : decode cX1_more 128 = .ok (.invokevirtual 176, 3) := dk_182 0 176 (dk_at dksX1_more_5 13 rfl rfl)
theorem dX1_more_131 : decode cX1_more 131 = .ok (.astore_n 1, 1) := dk_76 (dk_at dksX1_more_5 16 rfl rfl)
theorem dX1_more_132 : decode cX1_more 132 = .ok (.aload_n 1, 1) := dk_43 (dk_at dksX1_more_5 17 rfl rfl)
theorem dX1_more_133 : decode cX1_more 133 = .ok (.ifnull 11, 3) := dk_198 0 11 (dk_at dksX1_more_5 18 rfl rfl)
theorem dX1_more_136 : decode cX1_more 136 = .ok (.aload_n 0, 1) := dk_42 (dk_at dksX1_more_5 21 rfl rfl)
theorem dX1_more_137 : decode cX1_more 137 = .ok (.aload_n 1, 1) := dk_43 (dk_at dksX1_more_5 22 rfl rfl)
theorem dX1_more_138 : decode cX1_more 138 = .ok (.invokevirtual 244, 3) := dk_182 0 244 (dk_at dksX1_more_6 0 rfl rfl)
theorem dX1_more_141 : decode cX1_more 141 = .ok (.goto 7, 3) := dk_167 0 7 (dk_at dksX1_more_6 3 rfl rfl)
theorem dX1_more_144 : decode cX1_more 144 = .ok (.aload_n 0, 1) := dk_42 (dk_at dksX1_more_6 6 rfl rfl)
theorem dX1_more_145 : decode cX1_more 145 = .ok (.invokevirtual 247, 3) := dk_182 0 247 (dk_at dksX1_more_6 7 rfl rfl)
theorem dX1_more_148 : decode cX1_more 148 = .ok (.return_, 1) := dk_177 (dk_at dksX1_more_6 10 rfl rfl)
abbrev cX1_trailers : ByteArray := prog_1_method_26_code
def yX1_trailers : MethodName := ⟨RX1, "trailers", "(LPageServer$Stream;)V"⟩
def dkwX1_trailers_2 : List UInt8 := [159, 0, 7, 4, 167, 0, 4, 3, 4, 182, 0, 217, 132, 2, 1, 167, 255, 207, 42, 43, 182, 0, 223, 177]
abbrev dktX1_trailers_2 : List UInt8 := dkwX1_trailers_2 ++ []
def dkwX1_trailers_1 : List UInt8 := [180, 0, 40, 28, 182, 0, 132, 192, 0, 250, 78, 42, 45, 182, 0, 252, 3, 182, 0, 255, 16, 58]
abbrev dktX1_trailers_1 : List UInt8 := dkwX1_trailers_1 ++ dktX1_trailers_2
def dkwX1_trailers_0 : List UInt8 := [42, 42, 180, 0, 231, 4, 182, 0, 217, 3, 61, 28, 42, 180, 0, 40, 182, 0, 66, 162, 0, 44, 42]
abbrev dktX1_trailers_0 : List UInt8 := dkwX1_trailers_0 ++ dktX1_trailers_1
theorem dksX1_trailers_0 : cX1_trailers.data.toList.drop 0 = dktX1_trailers_0 := by decide +kernel
theorem dksX1_trailers_1 : cX1_trailers.data.toList.drop 23 = dktX1_trailers_1 := dk_seg dksX1_trailers_0 23 rfl rfl
theorem dksX1_trailers_2 : cX1_trailers.data.toList.drop 45 = dktX1_trailers_2 := dk_seg dksX1_trailers_1 22 rfl rfl
theorem dX1_trailers_0 : decode cX1_trailers 0 = .ok (.aload_n 0, 1) := dk_42 (dk_at dksX1_trailers_0 0 rfl rfl)
theorem dX1_trailers_1 : decode cX1_trailers 1 = .ok (.aload_n 0, 1) := dk_42 (dk_at dksX1_trailers_0 1 rfl rfl)
theorem dX1_trailers_2 : decode cX1_trailers 2 = .ok (.getfield 231, 3) := dk_180 0 231 (dk_at dksX1_trailers_0 2 rfl rfl)
theorem dX1_trailers_5 : decode cX1_trailers 5 = .ok (.iconst 1, 1) := dk_4 (dk_at dksX1_trailers_0 5 rfl rfl)
theorem dX1_trailers_6 : decode cX1_trailers 6 = .ok (.invokevirtual 217, 3) := dk_182 0 217 (dk_at dksX1_trailers_0 6 rfl rfl)
theorem dX1_trailers_9 : decode cX1_trailers 9 = .ok (.iconst 0, 1) := dk_3 (dk_at dksX1_trailers_0 9 rfl rfl)
theorem dX1_trailers_10 : decode cX1_trailers 10 = .ok (.istore_n 2, 1) := dk_61 (dk_at dksX1_trailers_0 10 rfl rfl)
theorem dX1_trailers_11 : decode cX1_trailers 11 = .ok (.iload_n 2, 1) := dk_28 (dk_at dksX1_trailers_0 11 rfl rfl)
theorem dX1_trailers_12 : decode cX1_trailers 12 = .ok (.aload_n 0, 1) := dk_42 (dk_at dksX1_trailers_0 12 rfl rfl)
theorem dX1_trailers_13 : decode cX1_trailers 13 = .ok (.getfield 40, 3) := dk_180 0 40 (dk_at dksX1_trailers_0 13 rfl rfl)
theorem dX1_trailers_16 : decode cX1_trailers 16 = .ok (.invokevirtual 66, 3) := dk_182 0 66 (dk_at dksX1_trailers_0 16 rfl rfl)
theorem dX1_trailers_19 : decode cX1_trailers 19 = .ok (.if_icmp .ge 44, 3) := dk_162 0 44 (dk_at dksX1_trailers_0 19 rfl rfl)
theorem dX1_trailers_22 : decode cX1_trailers 22 = .ok (.aload_n 0, 1) := dk_42 (dk_at dksX1_trailers_0 22 rfl rfl)
theorem dX1_trailers_23 : decode cX1_trailers 23 = .ok (.getfield 40, 3) := dk_180 0 40 (dk_at dksX1_trailers_1 0 rfl rfl)
theorem dX1_trailers_26 : decode cX1_trailers 26 = .ok (.iload_n 2, 1) := dk_28 (dk_at dksX1_trailers_1 3 rfl rfl)
theorem dX1_trailers_27 : decode cX1_trailers 27 = .ok (.invokevirtual 132, 3) := dk_182 0 132 (dk_at dksX1_trailers_1 4 rfl rfl)
theorem dX1_trailers_30 : decode cX1_trailers 30 = .ok (.checkcast 250, 3) := dk_192 0 250 (dk_at dksX1_trailers_1 7 rfl rfl)
theorem dX1_trailers_33 : decode cX1_trailers 33 = .ok (.astore_n 3, 1) := dk_78 (dk_at dksX1_trailers_1 10 rfl rfl)
theorem dX1_trailers_34 : decode cX1_trailers 34 = .ok (.aload_n 0, 1) := dk_42 (dk_at dksX1_trailers_1 11 rfl rfl)
theorem dX1_trailers_35 : decode cX1_trailers 35 = .ok (.aload_n 3, 1) := dk_45 (dk_at dksX1_trailers_1 12 rfl rfl)
theorem dX1_trailers_36 : decode cX1_trailers 36 = .ok (.invokevirtual 252, 3) := dk_182 0 252 (dk_at dksX1_trailers_1 13 rfl rfl)
theorem dX1_trailers_39 : decode cX1_trailers 39 = .ok (.iconst 0, 1) := dk_3 (dk_at dksX1_trailers_1 16 rfl rfl)
theorem dX1_trailers_40 : decode cX1_trailers 40 = .ok (.invokevirtual 255, 3) := dk_182 0 255 (dk_at dksX1_trailers_1 17 rfl rfl)
theorem dX1_trailers_43 : decode cX1_trailers 43 = .ok (.bipush 58, 2) := dk_16 58 (dk_at dksX1_trailers_1 20 rfl rfl)
theorem dX1_trailers_45 : decode cX1_trailers 45 = .ok (.if_icmp .eq 7, 3) := dk_159 0 7 (dk_at dksX1_trailers_2 0 rfl rfl)
theorem dX1_trailers_48 : decode cX1_trailers 48 = .ok (.iconst 1, 1) := dk_4 (dk_at dksX1_trailers_2 3 rfl rfl)
theorem dX1_trailers_49 : decode cX1_trailers 49 = .ok (.goto 4, 3) := dk_167 0 4 (dk_at dksX1_trailers_2 4 rfl rfl)
theorem dX1_trailers_52 : decode cX1_trailers 52 = .ok (.iconst 0, 1) := dk_3 (dk_at dksX1_trailers_2 7 rfl rfl)
theorem dX1_trailers_53 : decode cX1_trailers 53 = .ok (.iconst 1, 1) := dk_4 (dk_at dksX1_trailers_2 8 rfl rfl)
theorem dX1_trailers_54 : decode cX1_trailers 54 = .ok (.invokevirtual 217, 3) := dk_182 0 217 (dk_at dksX1_trailers_2 9 rfl rfl)
theorem dX1_trailers_57 : decode cX1_trailers 57 = .ok (.iinc 2 1, 3) := dk_132 2 1 (dk_at dksX1_trailers_2 12 rfl rfl)
theorem dX1_trailers_60 : decode cX1_trailers 60 = .ok (.goto (-49), 3) := dk_167 255 207 (dk_at dksX1_trailers_2 15 rfl rfl)
theorem dX1_trailers_63 : decode cX1_trailers 63 = .ok (.aload_n 0, 1) := dk_42 (dk_at dksX1_trailers_2 18 rfl rfl)
theorem dX1_trailers_64 : decode cX1_trailers 64 = .ok (.aload_n 1, 1) := dk_43 (dk_at dksX1_trailers_2 19 rfl rfl)
theorem dX1_trailers_65 : decode cX1_trailers 65 = .ok (.invokevirtual 223, 3) := dk_182 0 223 (dk_at dksX1_trailers_2 20 rfl rfl)
theorem dX1_trailers_68 : decode cX1_trailers 68 = .ok (.return_, 1) := dk_177 (dk_at dksX1_trailers_2 23 rfl rfl)
abbrev cX1_request : ByteArray := prog_1_method_30_code
def yX1_request : MethodName := ⟨RX1, "request", "()V"⟩
def dkwX1_request_13 : List UInt8 := [42, 180, 0, 231, 153, 0, 9, 42, 25, 5, 182, 0, 223, 177]
abbrev dktX1_request_13 : List UInt8 := dkwX1_request_13 ++ []
def dkwX1_request_12 : List UInt8 := [25, 5, 182, 0, 53, 87, 25, 5, 29, 181, 0, 227, 25, 5, 43, 181, 1, 27, 25, 5, 44, 181, 1, 31]
abbrev dktX1_request_12 : List UInt8 := dkwX1_request_12 ++ dktX1_request_13
def dkwX1_request_11 : List UInt8 := [100, 182, 0, 70, 192, 0, 50, 42, 180, 0, 203, 42, 180, 0, 105, 182, 1, 24, 58, 5, 42, 180, 0, 20]
abbrev dktX1_request_11 : List UInt8 := dkwX1_request_11 ++ dktX1_request_12
def dkwX1_request_10 : List UInt8 := [198, 0, 7, 4, 167, 0, 4, 3, 4, 182, 0, 217, 42, 180, 0, 23, 42, 180, 0, 23, 182, 0, 66, 4]
abbrev dktX1_request_10 : List UInt8 := dkwX1_request_10 ++ dktX1_request_11
def dkwX1_request_9 : List UInt8 := [182, 0, 217, 25, 6, 182, 1, 7, 184, 1, 20, 62, 132, 5, 1, 167, 255, 75, 42, 43, 198, 0, 11, 44]
abbrev dktX1_request_9 : List UInt8 := dkwX1_request_9 ++ dktX1_request_10
def dkwX1_request_8 : List UInt8 := [29, 2, 160, 0, 18, 25, 6, 182, 1, 7, 184, 1, 17, 153, 0, 7, 4, 167, 0, 4, 3, 4]
abbrev dktX1_request_8 : List UInt8 := dkwX1_request_8 ++ dktX1_request_9
def dkwX1_request_7 : List UInt8 := [182, 0, 217, 4, 54, 4, 25, 6, 182, 0, 252, 19, 1, 16, 182, 0, 141, 154, 0, 6, 167, 0, 38, 42]
abbrev dktX1_request_7 : List UInt8 := dkwX1_request_7 ++ dktX1_request_8
def dkwX1_request_6 : List UInt8 := [4, 182, 0, 217, 25, 6, 182, 1, 7, 77, 167, 0, 71, 42, 25, 6, 182, 0, 252, 184, 1, 12, 4]
abbrev dktX1_request_6 : List UInt8 := dkwX1_request_6 ++ dktX1_request_7
def dkwX1_request_5 : List UInt8 := [19, 1, 10, 182, 0, 141, 153, 0, 31, 42, 21, 4, 154, 0, 11, 44, 199, 0, 7, 4, 167, 0, 4, 3]
abbrev dktX1_request_5 : List UInt8 := dkwX1_request_5 ++ dktX1_request_6
def dkwX1_request_4 : List UInt8 := [167, 0, 4, 3, 4, 182, 0, 217, 25, 6, 182, 1, 7, 76, 167, 0, 113, 25, 6, 182, 0, 252]
abbrev dktX1_request_4 : List UInt8 := dkwX1_request_4 ++ dktX1_request_5
def dkwX1_request_3 : List UInt8 := [182, 0, 252, 19, 1, 5, 182, 0, 141, 153, 0, 31, 42, 21, 4, 154, 0, 11, 43, 199, 0, 7, 4]
abbrev dktX1_request_3 : List UInt8 := dkwX1_request_3 ++ dktX1_request_4
def dkwX1_request_2 : List UInt8 := [182, 0, 66, 162, 0, 175, 42, 180, 0, 40, 21, 5, 182, 0, 132, 192, 0, 250, 58, 6, 25, 6]
abbrev dktX1_request_2 : List UInt8 := dkwX1_request_2 ++ dktX1_request_3
def dkwX1_request_1 : List UInt8 := [3, 16, 7, 182, 0, 217, 1, 76, 1, 77, 2, 62, 3, 54, 4, 3, 54, 5, 21, 5, 42, 180, 0, 40]
abbrev dktX1_request_1 : List UInt8 := dkwX1_request_1 ++ dktX1_request_2
def dkwX1_request_0 : List UInt8 := [42, 42, 180, 0, 203, 181, 0, 93, 42, 42, 180, 0, 20, 182, 0, 66, 7, 162, 0, 7, 4, 167, 0, 4]
abbrev dktX1_request_0 : List UInt8 := dkwX1_request_0 ++ dktX1_request_1
theorem dksX1_request_0 : cX1_request.data.toList.drop 0 = dktX1_request_0 := by decide +kernel
theorem dksX1_request_1 : cX1_request.data.toList.drop 24 = dktX1_request_1 := dk_seg dksX1_request_0 24 rfl rfl
theorem dksX1_request_2 : cX1_request.data.toList.drop 48 = dktX1_request_2 := dk_seg dksX1_request_1 24 rfl rfl
theorem dksX1_request_3 : cX1_request.data.toList.drop 70 = dktX1_request_3 := dk_seg dksX1_request_2 22 rfl rfl
theorem dksX1_request_4 : cX1_request.data.toList.drop 93 = dktX1_request_4 := dk_seg dksX1_request_3 23 rfl rfl
theorem dksX1_request_5 : cX1_request.data.toList.drop 115 = dktX1_request_5 := dk_seg dksX1_request_4 22 rfl rfl
theorem dksX1_request_6 : cX1_request.data.toList.drop 139 = dktX1_request_6 := dk_seg dksX1_request_5 24 rfl rfl
theorem dksX1_request_7 : cX1_request.data.toList.drop 162 = dktX1_request_7 := dk_seg dksX1_request_6 23 rfl rfl
theorem dksX1_request_8 : cX1_request.data.toList.drop 186 = dktX1_request_8 := dk_seg dksX1_request_7 24 rfl rfl
theorem dksX1_request_9 : cX1_request.data.toList.drop 208 = dktX1_request_9 := dk_seg dksX1_request_8 22 rfl rfl
theorem dksX1_request_10 : cX1_request.data.toList.drop 232 = dktX1_request_10 := dk_seg dksX1_request_9 24 rfl rfl
theorem dksX1_request_11 : cX1_request.data.toList.drop 256 = dktX1_request_11 := dk_seg dksX1_request_10 24 rfl rfl
theorem dksX1_request_12 : cX1_request.data.toList.drop 280 = dktX1_request_12 := dk_seg dksX1_request_11 24 rfl rfl
theorem dksX1_request_13 : cX1_request.data.toList.drop 304 = dktX1_request_13 := dk_seg dksX1_request_12 24 rfl rfl
theorem dX1_request_0 : decode cX1_request 0 = .ok (.aload_n 0, 1) := dk_42 (dk_at dksX1_request_0 0 rfl rfl)
theorem dX1_request_1 : decode cX1_request 1 = .ok (.aload_n 0, 1) := dk_42 (dk_at dksX1_request_0 1 rfl rfl)
theorem dX1_request_2 : decode cX1_request 2 = .ok (.getfield 203, 3) := dk_180 0 203 (dk_at dksX1_request_0 2 rfl rfl)
theorem dX1_request_5 : decode cX1_request 5 = .ok (.putfield 93, 3) := dk_181 0 93 (dk_at dksX1_request_0 5 rfl rfl)
theorem dX1_request_8 : decode cX1_request 8 = .ok (.aload_n 0, 1) := dk_42 (dk_at dksX1_request_0 8 rfl rfl)
theorem dX1_request_9 : decode cX1_request 9 = .ok (.aload_n 0, 1) := dk_42 (dk_at dksX1_request_0 9 rfl rfl)
theorem dX1_request_10 : decode cX1_request 10 = .ok (.getfield 20, 3) := dk_180 0 20 (dk_at dksX1_request_0 10 rfl rfl)
theorem dX1_request_13 : decode cX1_request 13 = .ok (.invokevirtual 66, 3) := dk_182 0 66 (dk_at dksX1_request_0 13 rfl rfl)
theorem dX1_request_16 : decode cX1_request 16 = .ok (.iconst 4, 1) := dk_7 (dk_at dksX1_request_0 16 rfl rfl)
theorem dX1_request_17 : decode cX1_request 17 = .ok (.if_icmp .ge 7, 3) := dk_162 0 7 (dk_at dksX1_request_0 17 rfl rfl)
theorem dX1_request_20 : decode cX1_request 20 = .ok (.iconst 1, 1) := dk_4 (dk_at dksX1_request_0 20 rfl rfl)
theorem dX1_request_21 : decode cX1_request 21 = .ok (.goto 4, 3) := dk_167 0 4 (dk_at dksX1_request_0 21 rfl rfl)
theorem dX1_request_24 : decode cX1_request 24 = .ok (.iconst 0, 1) := dk_3 (dk_at dksX1_request_1 0 rfl rfl)
theorem dX1_request_25 : decode cX1_request 25 = .ok (.bipush 7, 2) := dk_16 7 (dk_at dksX1_request_1 1 rfl rfl)
theorem dX1_request_27 : decode cX1_request 27 = .ok (.invokevirtual 217, 3) := dk_182 0 217 (dk_at dksX1_request_1 3 rfl rfl)
theorem dX1_request_30 : decode cX1_request 30 = .ok (.aconst_null, 1) := dk_1 (dk_at dksX1_request_1 6 rfl rfl)
theorem dX1_request_31 : decode cX1_request 31 = .ok (.astore_n 1, 1) := dk_76 (dk_at dksX1_request_1 7 rfl rfl)
theorem dX1_request_32 : decode cX1_request 32 = .ok (.aconst_null, 1) := dk_1 (dk_at dksX1_request_1 8 rfl rfl)
theorem dX1_request_33 : decode cX1_request 33 = .ok (.astore_n 2, 1) := dk_77 (dk_at dksX1_request_1 9 rfl rfl)
theorem dX1_request_34 : decode cX1_request 34 = .ok (.iconst (-1), 1) := dk_2 (dk_at dksX1_request_1 10 rfl rfl)
theorem dX1_request_35 : decode cX1_request 35 = .ok (.istore_n 3, 1) := dk_62 (dk_at dksX1_request_1 11 rfl rfl)
theorem dX1_request_36 : decode cX1_request 36 = .ok (.iconst 0, 1) := dk_3 (dk_at dksX1_request_1 12 rfl rfl)
theorem dX1_request_37 : decode cX1_request 37 = .ok (.istore 4, 2) := dk_54 4 (dk_at dksX1_request_1 13 rfl rfl)
theorem dX1_request_39 : decode cX1_request 39 = .ok (.iconst 0, 1) := dk_3 (dk_at dksX1_request_1 15 rfl rfl)
theorem dX1_request_40 : decode cX1_request 40 = .ok (.istore 5, 2) := dk_54 5 (dk_at dksX1_request_1 16 rfl rfl)
theorem dX1_request_42 : decode cX1_request 42 = .ok (.iload 5, 2) := dk_21 5 (dk_at dksX1_request_1 18 rfl rfl)
theorem dX1_request_44 : decode cX1_request 44 = .ok (.aload_n 0, 1) := dk_42 (dk_at dksX1_request_1 20 rfl rfl)
theorem dX1_request_45 : decode cX1_request 45 = .ok (.getfield 40, 3) := dk_180 0 40 (dk_at dksX1_request_1 21 rfl rfl)
theorem dX1_request_48 : decode cX1_request 48 = .ok (.invokevirtual 66, 3) := dk_182 0 66 (dk_at dksX1_request_2 0 rfl rfl)
theorem dX1_request_51 : decode cX1_request 51 = .ok (.if_icmp .ge 175, 3) := dk_162 0 175 (dk_at dksX1_request_2 3 rfl rfl)
theorem dX1_request_54 : decode cX1_request 54 = .ok (.aload_n 0, 1) := dk_42 (dk_at dksX1_request_2 6 rfl rfl)
theorem dX1_request_55 : decode cX1_request 55 = .ok (.getfield 40, 3) := dk_180 0 40 (dk_at dksX1_request_2 7 rfl rfl)
theorem dX1_request_58 : decode cX1_request 58 = .ok (.iload 5, 2) := dk_21 5 (dk_at dksX1_request_2 10 rfl rfl)
theorem dX1_request_60 : decode cX1_request 60 = .ok (.invokevirtual 132, 3) := dk_182 0 132 (dk_at dksX1_request_2 12 rfl rfl)
theorem dX1_request_63 : decode cX1_request 63 = .ok (.checkcast 250, 3) := dk_192 0 250 (dk_at dksX1_request_2 15 rfl rfl)
theorem dX1_request_66 : decode cX1_request 66 = .ok (.astore 6, 2) := dk_58 6 (dk_at dksX1_request_2 18 rfl rfl)
theorem dX1_request_68 : decode cX1_request 68 = .ok (.aload 6, 2) := dk_25 6 (dk_at dksX1_request_2 20 rfl rfl)
theorem dX1_request_70 : decode cX1_request 70 = .ok (.invokevirtual 252, 3) := dk_182 0 252 (dk_at dksX1_request_3 0 rfl rfl)
theorem dX1_request_73 : decode cX1_request 73 = .ok (.ldc_w 261, 3) := dk_19 1 5 (dk_at dksX1_request_3 3 rfl rfl)
theorem dX1_request_76 : decode cX1_request 76 = .ok (.invokevirtual 141, 3) := dk_182 0 141 (dk_at dksX1_request_3 6 rfl rfl)
theorem dX1_request_79 : decode cX1_request 79 = .ok (.ifCond .eq 31, 3) := dk_153 0 31 (dk_at dksX1_request_3 9 rfl rfl)
theorem dX1_request_82 : decode cX1_request 82 = .ok (.aload_n 0, 1) := dk_42 (dk_at dksX1_request_3 12 rfl rfl)
theorem dX1_request_83 : decode cX1_request 83 = .ok (.iload 4, 2) := dk_21 4 (dk_at dksX1_request_3 13 rfl rfl)
theorem dX1_request_85 : decode cX1_request 85 = .ok (.ifCond .ne 11, 3) := dk_154 0 11 (dk_at dksX1_request_3 15 rfl rfl)
theorem dX1_request_88 : decode cX1_request 88 = .ok (.aload_n 1, 1) := dk_43 (dk_at dksX1_request_3 18 rfl rfl)
theorem dX1_request_89 : decode cX1_request 89 = .ok (.ifnonnull 7, 3) := dk_199 0 7 (dk_at dksX1_request_3 19 rfl rfl)
theorem dX1_request_92 : decode cX1_request 92 = .ok (.iconst 1, 1) := dk_4 (dk_at dksX1_request_3 22 rfl rfl)
theorem dX1_request_93 : decode cX1_request 93 = .ok (.goto 4, 3) := dk_167 0 4 (dk_at dksX1_request_4 0 rfl rfl)
theorem dX1_request_96 : decode cX1_request 96 = .ok (.iconst 0, 1) := dk_3 (dk_at dksX1_request_4 3 rfl rfl)
theorem dX1_request_97 : decode cX1_request 97 = .ok (.iconst 1, 1) := dk_4 (dk_at dksX1_request_4 4 rfl rfl)
theorem dX1_request_98 : decode cX1_request 98 = .ok (.invokevirtual 217, 3) := dk_182 0 217 (dk_at dksX1_request_4 5 rfl rfl)
theorem dX1_request_101 : decode cX1_request 101 = .ok (.aload 6, 2) := dk_25 6 (dk_at dksX1_request_4 8 rfl rfl)
theorem dX1_request_103 : decode cX1_request 103 = .ok (.invokevirtual 263, 3) := dk_182 1 7 (dk_at dksX1_request_4 10 rfl rfl)
theorem dX1_request_106 : decode cX1_request 106 = .ok (.astore_n 1, 1) := dk_76 (dk_at dksX1_request_4 13 rfl rfl)
theorem dX1_request_107 : decode cX1_request 107 = .ok (.goto 113, 3) := dk_167 0 113 (dk_at dksX1_request_4 14 rfl rfl)
theorem dX1_request_110 : decode cX1_request 110 = .ok (.aload 6, 2) := dk_25 6 (dk_at dksX1_request_4 17 rfl rfl)
theorem dX1_request_112 : decode cX1_request 112 = .ok (.invokevirtual 252, 3) := dk_182 0 252 (dk_at dksX1_request_4 19 rfl rfl)
theorem dX1_request_115 : decode cX1_request 115 = .ok (.ldc_w 266, 3) := dk_19 1 10 (dk_at dksX1_request_5 0 rfl rfl)
theorem dX1_request_118 : decode cX1_request 118 = .ok (.invokevirtual 141, 3) := dk_182 0 141 (dk_at dksX1_request_5 3 rfl rfl)
theorem dX1_request_121 : decode cX1_request 121 = .ok (.ifCond .eq 31, 3) := dk_153 0 31 (dk_at dksX1_request_5 6 rfl rfl)
theorem dX1_request_124 : decode cX1_request 124 = .ok (.aload_n 0, 1) := dk_42 (dk_at dksX1_request_5 9 rfl rfl)
theorem dX1_request_125 : decode cX1_request 125 = .ok (.iload 4, 2) := dk_21 4 (dk_at dksX1_request_5 10 rfl rfl)
theorem dX1_request_127 : decode cX1_request 127 = .ok (.ifCond .ne 11, 3) := dk_154 0 11 (dk_at dksX1_request_5 12 rfl rfl)
theorem dX1_request_130 : decode cX1_request 130 = .ok (.aload_n 2, 1) := dk_44 (dk_at dksX1_request_5 15 rfl rfl)
theorem dX1_request_131 : decode cX1_request 131 = .ok (.ifnonnull 7, 3) := dk_199 0 7 (dk_at dksX1_request_5 16 rfl rfl)
theorem dX1_request_134 : decode cX1_request 134 = .ok (.iconst 1, 1) := dk_4 (dk_at dksX1_request_5 19 rfl rfl)
theorem dX1_request_135 : decode cX1_request 135 = .ok (.goto 4, 3) := dk_167 0 4 (dk_at dksX1_request_5 20 rfl rfl)
theorem dX1_request_138 : decode cX1_request 138 = .ok (.iconst 0, 1) := dk_3 (dk_at dksX1_request_5 23 rfl rfl)
theorem dX1_request_139 : decode cX1_request 139 = .ok (.iconst 1, 1) := dk_4 (dk_at dksX1_request_6 0 rfl rfl)
theorem dX1_request_140 : decode cX1_request 140 = .ok (.invokevirtual 217, 3) := dk_182 0 217 (dk_at dksX1_request_6 1 rfl rfl)
theorem dX1_request_143 : decode cX1_request 143 = .ok (.aload 6, 2) := dk_25 6 (dk_at dksX1_request_6 4 rfl rfl)
theorem dX1_request_145 : decode cX1_request 145 = .ok (.invokevirtual 263, 3) := dk_182 1 7 (dk_at dksX1_request_6 6 rfl rfl)
theorem dX1_request_148 : decode cX1_request 148 = .ok (.astore_n 2, 1) := dk_77 (dk_at dksX1_request_6 9 rfl rfl)
theorem dX1_request_149 : decode cX1_request 149 = .ok (.goto 71, 3) := dk_167 0 71 (dk_at dksX1_request_6 10 rfl rfl)
theorem dX1_request_152 : decode cX1_request 152 = .ok (.aload_n 0, 1) := dk_42 (dk_at dksX1_request_6 13 rfl rfl)
theorem dX1_request_153 : decode cX1_request 153 = .ok (.aload 6, 2) := dk_25 6 (dk_at dksX1_request_6 14 rfl rfl)
theorem dX1_request_155 : decode cX1_request 155 = .ok (.invokevirtual 252, 3) := dk_182 0 252 (dk_at dksX1_request_6 16 rfl rfl)
theorem dX1_request_158 : decode cX1_request 158 = .ok (.invokestatic 268, 3) := dk_184 1 12 (dk_at dksX1_request_6 19 rfl rfl)
theorem dX1_request_161 : decode cX1_request 161 = .ok (.iconst 1, 1) := dk_4 (dk_at dksX1_request_6 22 rfl rfl)
theorem dX1_request_162 : decode cX1_request 162 = .ok (.invokevirtual 217, 3) := dk_182 0 217 (dk_at dksX1_request_7 0 rfl rfl)
theorem dX1_request_165 : decode cX1_request 165 = .ok (.iconst 1, 1) := dk_4 (dk_at dksX1_request_7 3 rfl rfl)
theorem dX1_request_166 : decode cX1_request 166 = .ok (.istore 4, 2) := dk_54 4 (dk_at dksX1_request_7 4 rfl rfl)
theorem dX1_request_168 : decode cX1_request 168 = .ok (.aload 6, 2) := dk_25 6 (dk_at dksX1_request_7 6 rfl rfl)
theorem dX1_request_170 : decode cX1_request 170 = .ok (.invokevirtual 252, 3) := dk_182 0 252 (dk_at dksX1_request_7 8 rfl rfl)
theorem dX1_request_173 : decode cX1_request 173 = .ok (.ldc_w 272, 3) := dk_19 1 16 (dk_at dksX1_request_7 11 rfl rfl)
theorem dX1_request_176 : decode cX1_request 176 = .ok (.invokevirtual 141, 3) := dk_182 0 141 (dk_at dksX1_request_7 14 rfl rfl)
theorem dX1_request_179 : decode cX1_request 179 = .ok (.ifCond .ne 6, 3) := dk_154 0 6 (dk_at dksX1_request_7 17 rfl rfl)
theorem dX1_request_182 : decode cX1_request 182 = .ok (.goto 38, 3) := dk_167 0 38 (dk_at dksX1_request_7 20 rfl rfl)
theorem dX1_request_185 : decode cX1_request 185 = .ok (.aload_n 0, 1) := dk_42 (dk_at dksX1_request_7 23 rfl rfl)
theorem dX1_request_186 : decode cX1_request 186 = .ok (.iload_n 3, 1) := dk_29 (dk_at dksX1_request_8 0 rfl rfl)
theorem dX1_request_187 : decode cX1_request 187 = .ok (.iconst (-1), 1) := dk_2 (dk_at dksX1_request_8 1 rfl rfl)
theorem dX1_request_188 : decode cX1_request 188 = .ok (.if_icmp .ne 18, 3) := dk_160 0 18 (dk_at dksX1_request_8 2 rfl rfl)
theorem dX1_request_191 : decode cX1_request 191 = .ok (.aload 6, 2) := dk_25 6 (dk_at dksX1_request_8 5 rfl rfl)
theorem dX1_request_193 : decode cX1_request 193 = .ok (.invokevirtual 263, 3) := dk_182 1 7 (dk_at dksX1_request_8 7 rfl rfl)
theorem dX1_request_196 : decode cX1_request 196 = .ok (.invokestatic 273, 3) := dk_184 1 17 (dk_at dksX1_request_8 10 rfl rfl)
theorem dX1_request_199 : decode cX1_request 199 = .ok (.ifCond .eq 7, 3) := dk_153 0 7 (dk_at dksX1_request_8 13 rfl rfl)
theorem dX1_request_202 : decode cX1_request 202 = .ok (.iconst 1, 1) := dk_4 (dk_at dksX1_request_8 16 rfl rfl)
theorem dX1_request_203 : decode cX1_request 203 = .ok (.goto 4, 3) := dk_167 0 4 (dk_at dksX1_request_8 17 rfl rfl)
theorem dX1_request_206 : decode cX1_request 206 = .ok (.iconst 0, 1) := dk_3 (dk_at dksX1_request_8 20 rfl rfl)
theorem dX1_request_207 : decode cX1_request 207 = .ok (.iconst 1, 1) := dk_4 (dk_at dksX1_request_8 21 rfl rfl)
theorem dX1_request_208 : decode cX1_request 208 = .ok (.invokevirtual 217, 3) := dk_182 0 217 (dk_at dksX1_request_9 0 rfl rfl)
theorem dX1_request_211 : decode cX1_request 211 = .ok (.aload 6, 2) := dk_25 6 (dk_at dksX1_request_9 3 rfl rfl)
theorem dX1_request_213 : decode cX1_request 213 = .ok (.invokevirtual 263, 3) := dk_182 1 7 (dk_at dksX1_request_9 5 rfl rfl)
theorem dX1_request_216 : decode cX1_request 216 = .ok (.invokestatic 276, 3) := dk_184 1 20 (dk_at dksX1_request_9 8 rfl rfl)
theorem dX1_request_219 : decode cX1_request 219 = .ok (.istore_n 3, 1) := dk_62 (dk_at dksX1_request_9 11 rfl rfl)
theorem dX1_request_220 : decode cX1_request 220 = .ok (.iinc 5 1, 3) := dk_132 5 1 (dk_at dksX1_request_9 12 rfl rfl)
theorem dX1_request_223 : decode cX1_request 223 = .ok (.goto (-181), 3) := dk_167 255 75 (dk_at dksX1_request_9 15 rfl rfl)
theorem dX1_request_226 : decode cX1_request 226 = .ok (.aload_n 0, 1) := dk_42 (dk_at dksX1_request_9 18 rfl rfl)
theorem dX1_request_227 : decode cX1_request 227 = .ok (.aload_n 1, 1) := dk_43 (dk_at dksX1_request_9 19 rfl rfl)
theorem dX1_request_228 : decode cX1_request 228 = .ok (.ifnull 11, 3) := dk_198 0 11 (dk_at dksX1_request_9 20 rfl rfl)
theorem dX1_request_231 : decode cX1_request 231 = .ok (.aload_n 2, 1) := dk_44 (dk_at dksX1_request_9 23 rfl rfl)
theorem dX1_request_232 : decode cX1_request 232 = .ok (.ifnull 7, 3) := dk_198 0 7 (dk_at dksX1_request_10 0 rfl rfl)
theorem dX1_request_235 : decode cX1_request 235 = .ok (.iconst 1, 1) := dk_4 (dk_at dksX1_request_10 3 rfl rfl)
theorem dX1_request_236 : decode cX1_request 236 = .ok (.goto 4, 3) := dk_167 0 4 (dk_at dksX1_request_10 4 rfl rfl)
theorem dX1_request_239 : decode cX1_request 239 = .ok (.iconst 0, 1) := dk_3 (dk_at dksX1_request_10 7 rfl rfl)
theorem dX1_request_240 : decode cX1_request 240 = .ok (.iconst 1, 1) := dk_4 (dk_at dksX1_request_10 8 rfl rfl)
theorem dX1_request_241 : decode cX1_request 241 = .ok (.invokevirtual 217, 3) := dk_182 0 217 (dk_at dksX1_request_10 9 rfl rfl)
theorem dX1_request_244 : decode cX1_request 244 = .ok (.aload_n 0, 1) := dk_42 (dk_at dksX1_request_10 12 rfl rfl)
theorem dX1_request_245 : decode cX1_request 245 = .ok (.getfield 23, 3) := dk_180 0 23 (dk_at dksX1_request_10 13 rfl rfl)
theorem dX1_request_248 : decode cX1_request 248 = .ok (.aload_n 0, 1) := dk_42 (dk_at dksX1_request_10 16 rfl rfl)
theorem dX1_request_249 : decode cX1_request 249 = .ok (.getfield 23, 3) := dk_180 0 23 (dk_at dksX1_request_10 17 rfl rfl)
theorem dX1_request_252 : decode cX1_request 252 = .ok (.invokevirtual 66, 3) := dk_182 0 66 (dk_at dksX1_request_10 20 rfl rfl)
theorem dX1_request_255 : decode cX1_request 255 = .ok (.iconst 1, 1) := dk_4 (dk_at dksX1_request_10 23 rfl rfl)
theorem dX1_request_256 : decode cX1_request 256 = .ok (.isub, 1) := dk_100 (dk_at dksX1_request_11 0 rfl rfl)
theorem dX1_request_257 : decode cX1_request 257 = .ok (.invokevirtual 70, 3) := dk_182 0 70 (dk_at dksX1_request_11 1 rfl rfl)
theorem dX1_request_260 : decode cX1_request 260 = .ok (.checkcast 50, 3) := dk_192 0 50 (dk_at dksX1_request_11 4 rfl rfl)
theorem dX1_request_263 : decode cX1_request 263 = .ok (.aload_n 0, 1) := dk_42 (dk_at dksX1_request_11 7 rfl rfl)
theorem dX1_request_264 : decode cX1_request 264 = .ok (.getfield 203, 3) := dk_180 0 203 (dk_at dksX1_request_11 8 rfl rfl)
theorem dX1_request_267 : decode cX1_request 267 = .ok (.aload_n 0, 1) := dk_42 (dk_at dksX1_request_11 11 rfl rfl)
theorem dX1_request_268 : decode cX1_request 268 = .ok (.getfield 105, 3) := dk_180 0 105 (dk_at dksX1_request_11 12 rfl rfl)
theorem dX1_request_271 : decode cX1_request 271 = .ok (.invokevirtual 280, 3) := dk_182 1 24 (dk_at dksX1_request_11 15 rfl rfl)
theorem dX1_request_274 : decode cX1_request 274 = .ok (.astore 5, 2) := dk_58 5 (dk_at dksX1_request_11 18 rfl rfl)
theorem dX1_request_276 : decode cX1_request 276 = .ok (.aload_n 0, 1) := dk_42 (dk_at dksX1_request_11 20 rfl rfl)
theorem dX1_request_277 : decode cX1_request 277 = .ok (.getfield 20, 3) := dk_180 0 20 (dk_at dksX1_request_11 21 rfl rfl)
theorem dX1_request_280 : decode cX1_request 280 = .ok (.aload 5, 2) := dk_25 5 (dk_at dksX1_request_12 0 rfl rfl)
theorem dX1_request_282 : decode cX1_request 282 = .ok (.invokevirtual 53, 3) := dk_182 0 53 (dk_at dksX1_request_12 2 rfl rfl)
theorem dX1_request_285 : decode cX1_request 285 = .ok (.pop, 1) := dk_87 (dk_at dksX1_request_12 5 rfl rfl)
theorem dX1_request_286 : decode cX1_request 286 = .ok (.aload 5, 2) := dk_25 5 (dk_at dksX1_request_12 6 rfl rfl)
theorem dX1_request_288 : decode cX1_request 288 = .ok (.iload_n 3, 1) := dk_29 (dk_at dksX1_request_12 8 rfl rfl)
theorem dX1_request_289 : decode cX1_request 289 = .ok (.putfield 227, 3) := dk_181 0 227 (dk_at dksX1_request_12 9 rfl rfl)
theorem dX1_request_292 : decode cX1_request 292 = .ok (.aload 5, 2) := dk_25 5 (dk_at dksX1_request_12 12 rfl rfl)
theorem dX1_request_294 : decode cX1_request 294 = .ok (.aload_n 1, 1) := dk_43 (dk_at dksX1_request_12 14 rfl rfl)
theorem dX1_request_295 : decode cX1_request 295 = .ok (.putfield 283, 3) := dk_181 1 27 (dk_at dksX1_request_12 15 rfl rfl)
theorem dX1_request_298 : decode cX1_request 298 = .ok (.aload 5, 2) := dk_25 5 (dk_at dksX1_request_12 18 rfl rfl)
theorem dX1_request_300 : decode cX1_request 300 = .ok (.aload_n 2, 1) := dk_44 (dk_at dksX1_request_12 20 rfl rfl)
theorem dX1_request_301 : decode cX1_request 301 = .ok (.putfield 287, 3) := dk_181 1 31 (dk_at dksX1_request_12 21 rfl rfl)
theorem dX1_request_304 : decode cX1_request 304 = .ok (.aload_n 0, 1) := dk_42 (dk_at dksX1_request_13 0 rfl rfl)
theorem dX1_request_305 : decode cX1_request 305 = .ok (.getfield 231, 3) := dk_180 0 231 (dk_at dksX1_request_13 1 rfl rfl)
theorem dX1_request_308 : decode cX1_request 308 = .ok (.ifCond .eq 9, 3) := dk_153 0 9 (dk_at dksX1_request_13 4 rfl rfl)
theorem dX1_request_311 : decode cX1_request 311 = .ok (.aload_n 0, 1) := dk_42 (dk_at dksX1_request_13 7 rfl rfl)
theorem dX1_request_312 : decode cX1_request 312 = .ok (.aload 5, 2) := dk_25 5 (dk_at dksX1_request_13 8 rfl rfl)
theorem dX1_request_314 : decode cX1_request 314 = .ok (.invokevirtual 223, 3) := dk_182 0 223 (dk_at dksX1_request_13 10 rfl rfl)
theorem dX1_request_317 : decode cX1_request 317 = .ok (.return_, 1) := dk_177 (dk_at dksX1_request_13 13 rfl rfl)
abbrev cX1_isName : ByteArray := prog_1_method_27_code
def yX1_isName : MethodName := ⟨RX1, "isName", "(Ljava/lang/String;)Z"⟩
def dkwX1_isName_1 : List UInt8 := [153, 0, 7, 4, 167, 0, 4, 3, 60, 132, 2, 1, 167, 255, 224, 27, 172]
abbrev dktX1_isName_1 : List UInt8 := dkwX1_isName_1 ++ []
def dkwX1_isName_0 : List UInt8 := [4, 60, 3, 61, 28, 42, 182, 1, 3, 162, 0, 30, 27, 153, 0, 18, 42, 28, 182, 0, 255, 184, 0, 122]
abbrev dktX1_isName_0 : List UInt8 := dkwX1_isName_0 ++ dktX1_isName_1
theorem dksX1_isName_0 : cX1_isName.data.toList.drop 0 = dktX1_isName_0 := by decide +kernel
theorem dksX1_isName_1 : cX1_isName.data.toList.drop 24 = dktX1_isName_1 := dk_seg dksX1_isName_0 24 rfl rfl
theorem dX1_isName_0 : decode cX1_isName 0 = .ok (.iconst 1, 1) := dk_4 (dk_at dksX1_isName_0 0 rfl rfl)
theorem dX1_isName_1 : decode cX1_isName 1 = .ok (.istore_n 1, 1) := dk_60 (dk_at dksX1_isName_0 1 rfl rfl)
theorem dX1_isName_2 : decode cX1_isName 2 = .ok (.iconst 0, 1) := dk_3 (dk_at dksX1_isName_0 2 rfl rfl)
theorem dX1_isName_3 : decode cX1_isName 3 = .ok (.istore_n 2, 1) := dk_61 (dk_at dksX1_isName_0 3 rfl rfl)
theorem dX1_isName_4 : decode cX1_isName 4 = .ok (.iload_n 2, 1) := dk_28 (dk_at dksX1_isName_0 4 rfl rfl)
theorem dX1_isName_5 : decode cX1_isName 5 = .ok (.aload_n 0, 1) := dk_42 (dk_at dksX1_isName_0 5 rfl rfl)
theorem dX1_isName_6 : decode cX1_isName 6 = .ok (.invokevirtual 259, 3) := dk_182 1 3 (dk_at dksX1_isName_0 6 rfl rfl)
theorem dX1_isName_9 : decode cX1_isName 9 = .ok (.if_icmp .ge 30, 3) := dk_162 0 30 (dk_at dksX1_isName_0 9 rfl rfl)
theorem dX1_isName_12 : decode cX1_isName 12 = .ok (.iload_n 1, 1) := dk_27 (dk_at dksX1_isName_0 12 rfl rfl)
theorem dX1_isName_13 : decode cX1_isName 13 = .ok (.ifCond .eq 18, 3) := dk_153 0 18 (dk_at dksX1_isName_0 13 rfl rfl)
theorem dX1_isName_16 : decode cX1_isName 16 = .ok (.aload_n 0, 1) := dk_42 (dk_at dksX1_isName_0 16 rfl rfl)
theorem dX1_isName_17 : decode cX1_isName 17 = .ok (.iload_n 2, 1) := dk_28 (dk_at dksX1_isName_0 17 rfl rfl)
theorem dX1_isName_18 : decode cX1_isName 18 = .ok (.invokevirtual 255, 3) := dk_182 0 255 (dk_at dksX1_isName_0 18 rfl rfl)
theorem dX1_isName_21 : decode cX1_isName 21 = .ok (.invokestatic 122, 3) := dk_184 0 122 (dk_at dksX1_isName_0 21 rfl rfl)
theorem dX1_isName_24 : decode cX1_isName 24 = .ok (.ifCond .eq 7, 3) := dk_153 0 7 (dk_at dksX1_isName_1 0 rfl rfl)
theorem dX1_isName_27 : decode cX1_isName 27 = .ok (.iconst 1, 1) := dk_4 (dk_at dksX1_isName_1 3 rfl rfl)
theorem dX1_isName_28 : decode cX1_isName 28 = .ok (.goto 4, 3) := dk_167 0 4 (dk_at dksX1_isName_1 4 rfl rfl)
theorem dX1_isName_31 : decode cX1_isName 31 = .ok (.iconst 0, 1) := dk_3 (dk_at dksX1_isName_1 7 rfl rfl)
theorem dX1_isName_32 : decode cX1_isName 32 = .ok (.istore_n 1, 1) := dk_60 (dk_at dksX1_isName_1 8 rfl rfl)
theorem dX1_isName_33 : decode cX1_isName 33 = .ok (.iinc 2 1, 3) := dk_132 2 1 (dk_at dksX1_isName_1 9 rfl rfl)
theorem dX1_isName_36 : decode cX1_isName 36 = .ok (.goto (-32), 3) := dk_167 255 224 (dk_at dksX1_isName_1 12 rfl rfl)
theorem dX1_isName_39 : decode cX1_isName 39 = .ok (.iload_n 1, 1) := dk_27 (dk_at dksX1_isName_1 15 rfl rfl)
theorem dX1_isName_40 : decode cX1_isName 40 = .ok (.ireturn, 1) := dk_172 (dk_at dksX1_isName_1 16 rfl rfl)
abbrev cX1_isLetter : ByteArray := prog_1_method_2_code
def yX1_isLetter : MethodName := ⟨RX1, "isLetter", "(I)Z"⟩
def dkwX1_isLetter_0 : List UInt8 := [26, 16, 97, 16, 122, 184, 0, 1, 154, 0, 7, 4, 167, 0, 4, 3, 172]
abbrev dktX1_isLetter_0 : List UInt8 := dkwX1_isLetter_0 ++ []
theorem dksX1_isLetter_0 : cX1_isLetter.data.toList.drop 0 = dktX1_isLetter_0 := by decide +kernel
theorem dX1_isLetter_0 : decode cX1_isLetter 0 = .ok (.iload_n 0, 1) := dk_26 (dk_at dksX1_isLetter_0 0 rfl rfl)
theorem dX1_isLetter_1 : decode cX1_isLetter 1 = .ok (.bipush 97, 2) := dk_16 97 (dk_at dksX1_isLetter_0 1 rfl rfl)
theorem dX1_isLetter_3 : decode cX1_isLetter 3 = .ok (.bipush 122, 2) := dk_16 122 (dk_at dksX1_isLetter_0 3 rfl rfl)
theorem dX1_isLetter_5 : decode cX1_isLetter 5 = .ok (.invokestatic 1, 3) := dk_184 0 1 (dk_at dksX1_isLetter_0 5 rfl rfl)
theorem dX1_isLetter_8 : decode cX1_isLetter 8 = .ok (.ifCond .ne 7, 3) := dk_154 0 7 (dk_at dksX1_isLetter_0 8 rfl rfl)
theorem dX1_isLetter_11 : decode cX1_isLetter 11 = .ok (.iconst 1, 1) := dk_4 (dk_at dksX1_isLetter_0 11 rfl rfl)
theorem dX1_isLetter_12 : decode cX1_isLetter 12 = .ok (.goto 4, 3) := dk_167 0 4 (dk_at dksX1_isLetter_0 12 rfl rfl)
theorem dX1_isLetter_15 : decode cX1_isLetter 15 = .ok (.iconst 0, 1) := dk_3 (dk_at dksX1_isLetter_0 15 rfl rfl)
theorem dX1_isLetter_16 : decode cX1_isLetter 16 = .ok (.ireturn, 1) := dk_172 (dk_at dksX1_isLetter_0 16 rfl rfl)
abbrev cX1_isNumber : ByteArray := prog_1_method_28_code
def yX1_isNumber : MethodName := ⟨RX1, "isNumber", "(Ljava/lang/String;)Z"⟩
def dkwX1_isNumber_2 : List UInt8 := [154, 0, 7, 4, 167, 0, 4, 3, 60, 132, 2, 1, 167, 255, 220, 27, 172]
abbrev dktX1_isNumber_2 : List UInt8 := dkwX1_isNumber_2 ++ []
def dkwX1_isNumber_1 : List UInt8 := [182, 1, 3, 162, 0, 34, 27, 153, 0, 22, 42, 28, 182, 0, 255, 16, 48, 16, 57, 184, 0, 1]
abbrev dktX1_isNumber_1 : List UInt8 := dkwX1_isNumber_1 ++ dktX1_isNumber_2
def dkwX1_isNumber_0 : List UInt8 := [42, 182, 1, 3, 4, 6, 184, 0, 1, 154, 0, 7, 4, 167, 0, 4, 3, 60, 3, 61, 28, 42]
abbrev dktX1_isNumber_0 : List UInt8 := dkwX1_isNumber_0 ++ dktX1_isNumber_1
theorem dksX1_isNumber_0 : cX1_isNumber.data.toList.drop 0 = dktX1_isNumber_0 := by decide +kernel
theorem dksX1_isNumber_1 : cX1_isNumber.data.toList.drop 22 = dktX1_isNumber_1 := dk_seg dksX1_isNumber_0 22 rfl rfl
theorem dksX1_isNumber_2 : cX1_isNumber.data.toList.drop 44 = dktX1_isNumber_2 := dk_seg dksX1_isNumber_1 22 rfl rfl
theorem dX1_isNumber_0 : decode cX1_isNumber 0 = .ok (.aload_n 0, 1) := dk_42 (dk_at dksX1_isNumber_0 0 rfl rfl)
theorem dX1_isNumber_1 : decode cX1_isNumber 1 = .ok (.invokevirtual 259, 3) := dk_182 1 3 (dk_at dksX1_isNumber_0 1 rfl rfl)
theorem dX1_isNumber_4 : decode cX1_isNumber 4 = .ok (.iconst 1, 1) := dk_4 (dk_at dksX1_isNumber_0 4 rfl rfl)
theorem dX1_isNumber_5 : decode cX1_isNumber 5 = .ok (.iconst 3, 1) := dk_6 (dk_at dksX1_isNumber_0 5 rfl rfl)
theorem dX1_isNumber_6 : decode cX1_isNumber 6 = .ok (.invokestatic 1, 3) := dk_184 0 1 (dk_at dksX1_isNumber_0 6 rfl rfl)
theorem dX1_isNumber_9 : decode cX1_isNumber 9 = .ok (.ifCond .ne 7, 3) := dk_154 0 7 (dk_at dksX1_isNumber_0 9 rfl rfl)
theorem dX1_isNumber_12 : decode cX1_isNumber 12 = .ok (.iconst 1, 1) := dk_4 (dk_at dksX1_isNumber_0 12 rfl rfl)
theorem dX1_isNumber_13 : decode cX1_isNumber 13 = .ok (.goto 4, 3) := dk_167 0 4 (dk_at dksX1_isNumber_0 13 rfl rfl)
theorem dX1_isNumber_16 : decode cX1_isNumber 16 = .ok (.iconst 0, 1) := dk_3 (dk_at dksX1_isNumber_0 16 rfl rfl)
theorem dX1_isNumber_17 : decode cX1_isNumber 17 = .ok (.istore_n 1, 1) := dk_60 (dk_at dksX1_isNumber_0 17 rfl rfl)
theorem dX1_isNumber_18 : decode cX1_isNumber 18 = .ok (.iconst 0, 1) := dk_3 (dk_at dksX1_isNumber_0 18 rfl rfl)
theorem dX1_isNumber_19 : decode cX1_isNumber 19 = .ok (.istore_n 2, 1) := dk_61 (dk_at dksX1_isNumber_0 19 rfl rfl)
theorem dX1_isNumber_20 : decode cX1_isNumber 20 = .ok (.iload_n 2, 1) := dk_28 (dk_at dksX1_isNumber_0 20 rfl rfl)
theorem dX1_isNumber_21 : decode cX1_isNumber 21 = .ok (.aload_n 0, 1) := dk_42 (dk_at dksX1_isNumber_0 21 rfl rfl)
theorem dX1_isNumber_22 : decode cX1_isNumber 22 = .ok (.invokevirtual 259, 3) := dk_182 1 3 (dk_at dksX1_isNumber_1 0 rfl rfl)
theorem dX1_isNumber_25 : decode cX1_isNumber 25 = .ok (.if_icmp .ge 34, 3) := dk_162 0 34 (dk_at dksX1_isNumber_1 3 rfl rfl)
theorem dX1_isNumber_28 : decode cX1_isNumber 28 = .ok (.iload_n 1, 1) := dk_27 (dk_at dksX1_isNumber_1 6 rfl rfl)
theorem dX1_isNumber_29 : decode cX1_isNumber 29 = .ok (.ifCond .eq 22, 3) := dk_153 0 22 (dk_at dksX1_isNumber_1 7 rfl rfl)
theorem dX1_isNumber_32 : decode cX1_isNumber 32 = .ok (.aload_n 0, 1) := dk_42 (dk_at dksX1_isNumber_1 10 rfl rfl)
theorem dX1_isNumber_33 : decode cX1_isNumber 33 = .ok (.iload_n 2, 1) := dk_28 (dk_at dksX1_isNumber_1 11 rfl rfl)
theorem dX1_isNumber_34 : decode cX1_isNumber 34 = .ok (.invokevirtual 255, 3) := dk_182 0 255 (dk_at dksX1_isNumber_1 12 rfl rfl)
theorem dX1_isNumber_37 : decode cX1_isNumber 37 = .ok (.bipush 48, 2) := dk_16 48 (dk_at dksX1_isNumber_1 15 rfl rfl)
theorem dX1_isNumber_39 : decode cX1_isNumber 39 = .ok (.bipush 57, 2) := dk_16 57 (dk_at dksX1_isNumber_1 17 rfl rfl)
theorem dX1_isNumber_41 : decode cX1_isNumber 41 = .ok (.invokestatic 1, 3) := dk_184 0 1 (dk_at dksX1_isNumber_1 19 rfl rfl)
theorem dX1_isNumber_44 : decode cX1_isNumber 44 = .ok (.ifCond .ne 7, 3) := dk_154 0 7 (dk_at dksX1_isNumber_2 0 rfl rfl)
theorem dX1_isNumber_47 : decode cX1_isNumber 47 = .ok (.iconst 1, 1) := dk_4 (dk_at dksX1_isNumber_2 3 rfl rfl)
theorem dX1_isNumber_48 : decode cX1_isNumber 48 = .ok (.goto 4, 3) := dk_167 0 4 (dk_at dksX1_isNumber_2 4 rfl rfl)
theorem dX1_isNumber_51 : decode cX1_isNumber 51 = .ok (.iconst 0, 1) := dk_3 (dk_at dksX1_isNumber_2 7 rfl rfl)
theorem dX1_isNumber_52 : decode cX1_isNumber 52 = .ok (.istore_n 1, 1) := dk_60 (dk_at dksX1_isNumber_2 8 rfl rfl)
theorem dX1_isNumber_53 : decode cX1_isNumber 53 = .ok (.iinc 2 1, 3) := dk_132 2 1 (dk_at dksX1_isNumber_2 9 rfl rfl)
theorem dX1_isNumber_56 : decode cX1_isNumber 56 = .ok (.goto (-36), 3) := dk_167 255 220 (dk_at dksX1_isNumber_2 12 rfl rfl)
theorem dX1_isNumber_59 : decode cX1_isNumber 59 = .ok (.iload_n 1, 1) := dk_27 (dk_at dksX1_isNumber_2 15 rfl rfl)
theorem dX1_isNumber_60 : decode cX1_isNumber 60 = .ok (.ireturn, 1) := dk_172 (dk_at dksX1_isNumber_2 16 rfl rfl)
abbrev cX1_numberOf : ByteArray := prog_1_method_29_code
def yX1_numberOf : MethodName := ⟨RX1, "numberOf", "(Ljava/lang/String;)I"⟩
def dkwX1_numberOf_1 : List UInt8 := [100, 60, 132, 2, 1, 167, 255, 231, 27, 172]
abbrev dktX1_numberOf_1 : List UInt8 := dkwX1_numberOf_1 ++ []
def dkwX1_numberOf_0 : List UInt8 := [3, 60, 3, 61, 28, 42, 182, 1, 3, 162, 0, 23, 16, 10, 27, 104, 42, 28, 182, 0, 255, 96, 16, 48]
abbrev dktX1_numberOf_0 : List UInt8 := dkwX1_numberOf_0 ++ dktX1_numberOf_1
theorem dksX1_numberOf_0 : cX1_numberOf.data.toList.drop 0 = dktX1_numberOf_0 := by decide +kernel
theorem dksX1_numberOf_1 : cX1_numberOf.data.toList.drop 24 = dktX1_numberOf_1 := dk_seg dksX1_numberOf_0 24 rfl rfl
theorem dX1_numberOf_0 : decode cX1_numberOf 0 = .ok (.iconst 0, 1) := dk_3 (dk_at dksX1_numberOf_0 0 rfl rfl)
theorem dX1_numberOf_1 : decode cX1_numberOf 1 = .ok (.istore_n 1, 1) := dk_60 (dk_at dksX1_numberOf_0 1 rfl rfl)
theorem dX1_numberOf_2 : decode cX1_numberOf 2 = .ok (.iconst 0, 1) := dk_3 (dk_at dksX1_numberOf_0 2 rfl rfl)
theorem dX1_numberOf_3 : decode cX1_numberOf 3 = .ok (.istore_n 2, 1) := dk_61 (dk_at dksX1_numberOf_0 3 rfl rfl)
theorem dX1_numberOf_4 : decode cX1_numberOf 4 = .ok (.iload_n 2, 1) := dk_28 (dk_at dksX1_numberOf_0 4 rfl rfl)
theorem dX1_numberOf_5 : decode cX1_numberOf 5 = .ok (.aload_n 0, 1) := dk_42 (dk_at dksX1_numberOf_0 5 rfl rfl)
theorem dX1_numberOf_6 : decode cX1_numberOf 6 = .ok (.invokevirtual 259, 3) := dk_182 1 3 (dk_at dksX1_numberOf_0 6 rfl rfl)
theorem dX1_numberOf_9 : decode cX1_numberOf 9 = .ok (.if_icmp .ge 23, 3) := dk_162 0 23 (dk_at dksX1_numberOf_0 9 rfl rfl)
theorem dX1_numberOf_12 : decode cX1_numberOf 12 = .ok (.bipush 10, 2) := dk_16 10 (dk_at dksX1_numberOf_0 12 rfl rfl)
theorem dX1_numberOf_14 : decode cX1_numberOf 14 = .ok (.iload_n 1, 1) := dk_27 (dk_at dksX1_numberOf_0 14 rfl rfl)
theorem dX1_numberOf_15 : decode cX1_numberOf 15 = .ok (.imul, 1) := dk_104 (dk_at dksX1_numberOf_0 15 rfl rfl)
theorem dX1_numberOf_16 : decode cX1_numberOf 16 = .ok (.aload_n 0, 1) := dk_42 (dk_at dksX1_numberOf_0 16 rfl rfl)
theorem dX1_numberOf_17 : decode cX1_numberOf 17 = .ok (.iload_n 2, 1) := dk_28 (dk_at dksX1_numberOf_0 17 rfl rfl)
theorem dX1_numberOf_18 : decode cX1_numberOf 18 = .ok (.invokevirtual 255, 3) := dk_182 0 255 (dk_at dksX1_numberOf_0 18 rfl rfl)
theorem dX1_numberOf_21 : decode cX1_numberOf 21 = .ok (.iadd, 1) := dk_96 (dk_at dksX1_numberOf_0 21 rfl rfl)
theorem dX1_numberOf_22 : decode cX1_numberOf 22 = .ok (.bipush 48, 2) := dk_16 48 (dk_at dksX1_numberOf_0 22 rfl rfl)
theorem dX1_numberOf_24 : decode cX1_numberOf 24 = .ok (.isub, 1) := dk_100 (dk_at dksX1_numberOf_1 0 rfl rfl)
theorem dX1_numberOf_25 : decode cX1_numberOf 25 = .ok (.istore_n 1, 1) := dk_60 (dk_at dksX1_numberOf_1 1 rfl rfl)
theorem dX1_numberOf_26 : decode cX1_numberOf 26 = .ok (.iinc 2 1, 3) := dk_132 2 1 (dk_at dksX1_numberOf_1 2 rfl rfl)
theorem dX1_numberOf_29 : decode cX1_numberOf 29 = .ok (.goto (-25), 3) := dk_167 255 231 (dk_at dksX1_numberOf_1 5 rfl rfl)
theorem dX1_numberOf_32 : decode cX1_numberOf 32 = .ok (.iload_n 1, 1) := dk_27 (dk_at dksX1_numberOf_1 8 rfl rfl)
theorem dX1_numberOf_33 : decode cX1_numberOf 33 = .ok (.ireturn, 1) := dk_172 (dk_at dksX1_numberOf_1 9 rfl rfl)
abbrev cX1_settings : ByteArray := prog_1_method_32_code
def yX1_settings : MethodName := ⟨RX1, "settings", "()V"⟩
def dkwX1_settings_8 : List UInt8 := [3, 182, 0, 114, 177]
abbrev dktX1_settings_8 : List UInt8 := dkwX1_settings_8 ++ []
def dkwX1_settings_7 : List UInt8 := [4, 167, 0, 4, 3, 4, 182, 0, 196, 42, 28, 181, 0, 108, 132, 1, 2, 167, 255, 142, 42, 3, 7, 4]
abbrev dktX1_settings_7 : List UInt8 := dkwX1_settings_7 ++ dktX1_settings_8
def dkwX1_settings_6 : List UInt8 := [42, 28, 181, 0, 105, 167, 0, 33, 42, 27, 182, 0, 192, 8, 160, 0, 24, 42, 28, 16, 16, 161, 0, 7]
abbrev dktX1_settings_6 : List UInt8 := dkwX1_settings_6 ++ dktX1_settings_7
def dkwX1_settings_5 : List UInt8 := [58, 4, 25, 4, 89, 180, 1, 49, 28, 42, 180, 0, 105, 100, 96, 181, 1, 49, 132, 3, 1, 167, 255, 213]
abbrev dktX1_settings_5 : List UInt8 := dkwX1_settings_5 ++ dktX1_settings_6
def dkwX1_settings_4 : List UInt8 := [62, 29, 42, 180, 0, 20, 182, 0, 66, 162, 0, 38, 42, 180, 0, 20, 29, 182, 0, 132, 192, 0, 50]
abbrev dktX1_settings_4 : List UInt8 := dkwX1_settings_4 ++ dktX1_settings_5
def dkwX1_settings_3 : List UInt8 := [180, 0, 189, 162, 0, 112, 42, 27, 4, 96, 182, 0, 192, 61, 42, 27, 182, 0, 192, 7, 160, 0, 59, 3]
abbrev dktX1_settings_3 : List UInt8 := dkwX1_settings_3 ++ dktX1_settings_4
def dkwX1_settings_2 : List UInt8 := [180, 0, 189, 5, 112, 154, 0, 7, 4, 167, 0, 4, 3, 16, 6, 182, 0, 196, 3, 60, 27, 42]
abbrev dktX1_settings_2 : List UInt8 := dkwX1_settings_2 ++ dktX1_settings_3
def dkwX1_settings_1 : List UInt8 := [153, 0, 22, 42, 42, 180, 0, 189, 154, 0, 7, 4, 167, 0, 4, 3, 16, 6, 182, 0, 196, 177, 42, 42]
abbrev dktX1_settings_1 : List UInt8 := dkwX1_settings_1 ++ dktX1_settings_2
def dkwX1_settings_0 : List UInt8 := [42, 42, 180, 0, 203, 154, 0, 7, 4, 167, 0, 4, 3, 4, 182, 0, 196, 42, 4, 182, 0, 183]
abbrev dktX1_settings_0 : List UInt8 := dkwX1_settings_0 ++ dktX1_settings_1
theorem dksX1_settings_0 : cX1_settings.data.toList.drop 0 = dktX1_settings_0 := by decide +kernel
theorem dksX1_settings_1 : cX1_settings.data.toList.drop 22 = dktX1_settings_1 := dk_seg dksX1_settings_0 22 rfl rfl
theorem dksX1_settings_2 : cX1_settings.data.toList.drop 46 = dktX1_settings_2 := dk_seg dksX1_settings_1 24 rfl rfl
theorem dksX1_settings_3 : cX1_settings.data.toList.drop 68 = dktX1_settings_3 := dk_seg dksX1_settings_2 22 rfl rfl
theorem dksX1_settings_4 : cX1_settings.data.toList.drop 92 = dktX1_settings_4 := dk_seg dksX1_settings_3 24 rfl rfl
theorem dksX1_settings_5 : cX1_settings.data.toList.drop 115 = dktX1_settings_5 := dk_seg dksX1_settings_4 23 rfl rfl
theorem dksX1_settings_6 : cX1_settings.data.toList.drop 139 = dktX1_settings_6 := dk_seg dksX1_settings_5 24 rfl rfl
theorem dksX1_settings_7 : cX1_settings.data.toList.drop 163 = dktX1_settings_7 := dk_seg dksX1_settings_6 24 rfl rfl
theorem dksX1_settings_8 : cX1_settings.data.toList.drop 187 = dktX1_settings_8 := dk_seg dksX1_settings_7 24 rfl rfl
theorem dX1_settings_0 : decode cX1_settings 0 = .ok (.aload_n 0, 1) := dk_42 (dk_at dksX1_settings_0 0 rfl rfl)
theorem dX1_settings_1 : decode cX1_settings 1 = .ok (.aload_n 0, 1) := dk_42 (dk_at dksX1_settings_0 1 rfl rfl)
theorem dX1_settings_2 : decode cX1_settings 2 = .ok (.getfield 203, 3) := dk_180 0 203 (dk_at dksX1_settings_0 2 rfl rfl)
theorem dX1_settings_5 : decode cX1_settings 5 = .ok (.ifCond .ne 7, 3) := dk_154 0 7 (dk_at dksX1_settings_0 5 rfl rfl)
theorem dX1_settings_8 : decode cX1_settings 8 = .ok (.iconst 1, 1) := dk_4 (dk_at dksX1_settings_0 8 rfl rfl)
theorem dX1_settings_9 : decode cX1_settings 9 = .ok (.goto 4, 3) := dk_167 0 4 (dk_at dksX1_settings_0 9 rfl rfl)
theorem dX1_settings_12 : decode cX1_settings 12 = .ok (.iconst 0, 1) := dk_3 (dk_at dksX1_settings_0 12 rfl rfl)
theorem dX1_settings_13 : decode cX1_settings 13 = .ok (.iconst 1, 1) := dk_4 (dk_at dksX1_settings_0 13 rfl rfl)
theorem dX1_settings_14 : decode cX1_settings 14 = .ok (.invokevirtual 196, 3) := dk_182 0 196 (dk_at dksX1_settings_0 14 rfl rfl)
theorem dX1_settings_17 : decode cX1_settings 17 = .ok (.aload_n 0, 1) := dk_42 (dk_at dksX1_settings_0 17 rfl rfl)
theorem dX1_settings_18 : decode cX1_settings 18 = .ok (.iconst 1, 1) := dk_4 (dk_at dksX1_settings_0 18 rfl rfl)
theorem dX1_settings_19 : decode cX1_settings 19 = .ok (.invokevirtual 183, 3) := dk_182 0 183 (dk_at dksX1_settings_0 19 rfl rfl)
theorem dX1_settings_22 : decode cX1_settings 22 = .ok (.ifCond .eq 22, 3) := dk_153 0 22 (dk_at dksX1_settings_1 0 rfl rfl)
theorem dX1_settings_25 : decode cX1_settings 25 = .ok (.aload_n 0, 1) := dk_42 (dk_at dksX1_settings_1 3 rfl rfl)
theorem dX1_settings_26 : decode cX1_settings 26 = .ok (.aload_n 0, 1) := dk_42 (dk_at dksX1_settings_1 4 rfl rfl)
theorem dX1_settings_27 : decode cX1_settings 27 = .ok (.getfield 189, 3) := dk_180 0 189 (dk_at dksX1_settings_1 5 rfl rfl)
theorem dX1_settings_30 : decode cX1_settings 30 = .ok (.ifCond .ne 7, 3) := dk_154 0 7 (dk_at dksX1_settings_1 8 rfl rfl)
theorem dX1_settings_33 : decode cX1_settings 33 = .ok (.iconst 1, 1) := dk_4 (dk_at dksX1_settings_1 11 rfl rfl)
theorem dX1_settings_34 : decode cX1_settings 34 = .ok (.goto 4, 3) := dk_167 0 4 (dk_at dksX1_settings_1 12 rfl rfl)
theorem dX1_settings_37 : decode cX1_settings 37 = .ok (.iconst 0, 1) := dk_3 (dk_at dksX1_settings_1 15 rfl rfl)
theorem dX1_settings_38 : decode cX1_settings 38 = .ok (.bipush 6, 2) := dk_16 6 (dk_at dksX1_settings_1 16 rfl rfl)
theorem dX1_settings_40 : decode cX1_settings 40 = .ok (.invokevirtual 196, 3) := dk_182 0 196 (dk_at dksX1_settings_1 18 rfl rfl)
theorem dX1_settings_43 : decode cX1_settings 43 = .ok (.return_, 1) := dk_177 (dk_at dksX1_settings_1 21 rfl rfl)
theorem dX1_settings_44 : decode cX1_settings 44 = .ok (.aload_n 0, 1) := dk_42 (dk_at dksX1_settings_1 22 rfl rfl)
theorem dX1_settings_45 : decode cX1_settings 45 = .ok (.aload_n 0, 1) := dk_42 (dk_at dksX1_settings_1 23 rfl rfl)
theorem dX1_settings_46 : decode cX1_settings 46 = .ok (.getfield 189, 3) := dk_180 0 189 (dk_at dksX1_settings_2 0 rfl rfl)
theorem dX1_settings_49 : decode cX1_settings 49 = .ok (.iconst 2, 1) := dk_5 (dk_at dksX1_settings_2 3 rfl rfl)
theorem dX1_settings_50 : decode cX1_settings 50 = .ok (.irem, 1) := dk_112 (dk_at dksX1_settings_2 4 rfl rfl)
theorem dX1_settings_51 : decode cX1_settings 51 = .ok (.ifCond .ne 7, 3) := dk_154 0 7 (dk_at dksX1_settings_2 5 rfl rfl)
theorem dX1_settings_54 : decode cX1_settings 54 = .ok (.iconst 1, 1) := dk_4 (dk_at dksX1_settings_2 8 rfl rfl)
theorem dX1_settings_55 : decode cX1_settings 55 = .ok (.goto 4, 3) := dk_167 0 4 (dk_at dksX1_settings_2 9 rfl rfl)
theorem dX1_settings_58 : decode cX1_settings 58 = .ok (.iconst 0, 1) := dk_3 (dk_at dksX1_settings_2 12 rfl rfl)
theorem dX1_settings_59 : decode cX1_settings 59 = .ok (.bipush 6, 2) := dk_16 6 (dk_at dksX1_settings_2 13 rfl rfl)
theorem dX1_settings_61 : decode cX1_settings 61 = .ok (.invokevirtual 196, 3) := dk_182 0 196 (dk_at dksX1_settings_2 15 rfl rfl)
theorem dX1_settings_64 : decode cX1_settings 64 = .ok (.iconst 0, 1) := dk_3 (dk_at dksX1_settings_2 18 rfl rfl)
theorem dX1_settings_65 : decode cX1_settings 65 = .ok (.istore_n 1, 1) := dk_60 (dk_at dksX1_settings_2 19 rfl rfl)
theorem dX1_settings_66 : decode cX1_settings 66 = .ok (.iload_n 1, 1) := dk_27 (dk_at dksX1_settings_2 20 rfl rfl)
theorem dX1_settings_67 : decode cX1_settings 67 = .ok (.aload_n 0, 1) := dk_42 (dk_at dksX1_settings_2 21 rfl rfl)
theorem dX1_settings_68 : decode cX1_settings 68 = .ok (.getfield 189, 3) := dk_180 0 189 (dk_at dksX1_settings_3 0 rfl rfl)
theorem dX1_settings_71 : decode cX1_settings 71 = .ok (.if_icmp .ge 112, 3) := dk_162 0 112 (dk_at dksX1_settings_3 3 rfl rfl)
theorem dX1_settings_74 : decode cX1_settings 74 = .ok (.aload_n 0, 1) := dk_42 (dk_at dksX1_settings_3 6 rfl rfl)
theorem dX1_settings_75 : decode cX1_settings 75 = .ok (.iload_n 1, 1) := dk_27 (dk_at dksX1_settings_3 7 rfl rfl)
theorem dX1_settings_76 : decode cX1_settings 76 = .ok (.iconst 1, 1) := dk_4 (dk_at dksX1_settings_3 8 rfl rfl)
theorem dX1_settings_77 : decode cX1_settings 77 = .ok (.iadd, 1) := dk_96 (dk_at dksX1_settings_3 9 rfl rfl)
theorem dX1_settings_78 : decode cX1_settings 78 = .ok (.invokevirtual 192, 3) := dk_182 0 192 (dk_at dksX1_settings_3 10 rfl rfl)
theorem dX1_settings_81 : decode cX1_settings 81 = .ok (.istore_n 2, 1) := dk_61 (dk_at dksX1_settings_3 13 rfl rfl)
theorem dX1_settings_82 : decode cX1_settings 82 = .ok (.aload_n 0, 1) := dk_42 (dk_at dksX1_settings_3 14 rfl rfl)
theorem dX1_settings_83 : decode cX1_settings 83 = .ok (.iload_n 1, 1) := dk_27 (dk_at dksX1_settings_3 15 rfl rfl)
theorem dX1_settings_84 : decode cX1_settings 84 = .ok (.invokevirtual 192, 3) := dk_182 0 192 (dk_at dksX1_settings_3 16 rfl rfl)
theorem dX1_settings_87 : decode cX1_settings 87 = .ok (.iconst 4, 1) := dk_7 (dk_at dksX1_settings_3 19 rfl rfl)
theorem dX1_settings_88 : decode cX1_settings 88 = .ok (.if_icmp .ne 59, 3) := dk_160 0 59 (dk_at dksX1_settings_3 20 rfl rfl)
theorem dX1_settings_91 : decode cX1_settings 91 = .ok (.iconst 0, 1) := dk_3 (dk_at dksX1_settings_3 23 rfl rfl)
theorem dX1_settings_92 : decode cX1_settings 92 = .ok (.istore_n 3, 1) := dk_62 (dk_at dksX1_settings_4 0 rfl rfl)
theorem dX1_settings_93 : decode cX1_settings 93 = .ok (.iload_n 3, 1) := dk_29 (dk_at dksX1_settings_4 1 rfl rfl)
theorem dX1_settings_94 : decode cX1_settings 94 = .ok (.aload_n 0, 1) := dk_42 (dk_at dksX1_settings_4 2 rfl rfl)
theorem dX1_settings_95 : decode cX1_settings 95 = .ok (.getfield 20, 3) := dk_180 0 20 (dk_at dksX1_settings_4 3 rfl rfl)
theorem dX1_settings_98 : decode cX1_settings 98 = .ok (.invokevirtual 66, 3) := dk_182 0 66 (dk_at dksX1_settings_4 6 rfl rfl)
theorem dX1_settings_101 : decode cX1_settings 101 = .ok (.if_icmp .ge 38, 3) := dk_162 0 38 (dk_at dksX1_settings_4 9 rfl rfl)
theorem dX1_settings_104 : decode cX1_settings 104 = .ok (.aload_n 0, 1) := dk_42 (dk_at dksX1_settings_4 12 rfl rfl)
theorem dX1_settings_105 : decode cX1_settings 105 = .ok (.getfield 20, 3) := dk_180 0 20 (dk_at dksX1_settings_4 13 rfl rfl)
theorem dX1_settings_108 : decode cX1_settings 108 = .ok (.iload_n 3, 1) := dk_29 (dk_at dksX1_settings_4 16 rfl rfl)
theorem dX1_settings_109 : decode cX1_settings 109 = .ok (.invokevirtual 132, 3) := dk_182 0 132 (dk_at dksX1_settings_4 17 rfl rfl)
theorem dX1_settings_112 : decode cX1_settings 112 = .ok (.checkcast 50, 3) := dk_192 0 50 (dk_at dksX1_settings_4 20 rfl rfl)
theorem dX1_settings_115 : decode cX1_settings 115 = .ok (.astore 4, 2) := dk_58 4 (dk_at dksX1_settings_5 0 rfl rfl)
theorem dX1_settings_117 : decode cX1_settings 117 = .ok (.aload 4, 2) := dk_25 4 (dk_at dksX1_settings_5 2 rfl rfl)
theorem dX1_settings_119 : decode cX1_settings 119 = .ok (.dup, 1) := dk_89 (dk_at dksX1_settings_5 4 rfl rfl)
theorem dX1_settings_120 : decode cX1_settings 120 = .ok (.getfield 305, 3) := dk_180 1 49 (dk_at dksX1_settings_5 5 rfl rfl)
theorem dX1_settings_123 : decode cX1_settings 123 = .ok (.iload_n 2, 1) := dk_28 (dk_at dksX1_settings_5 8 rfl rfl)
theorem dX1_settings_124 : decode cX1_settings 124 = .ok (.aload_n 0, 1) := dk_42 (dk_at dksX1_settings_5 9 rfl rfl)
theorem dX1_settings_125 : decode cX1_settings 125 = .ok (.getfield 105, 3) := dk_180 0 105 (dk_at dksX1_settings_5 10 rfl rfl)
theorem dX1_settings_128 : decode cX1_settings 128 = .ok (.isub, 1) := dk_100 (dk_at dksX1_settings_5 13 rfl rfl)
theorem dX1_settings_129 : decode cX1_settings 129 = .ok (.iadd, 1) := dk_96 (dk_at dksX1_settings_5 14 rfl rfl)
theorem dX1_settings_130 : decode cX1_settings 130 = .ok (.putfield 305, 3) := dk_181 1 49 (dk_at dksX1_settings_5 15 rfl rfl)
theorem dX1_settings_133 : decode cX1_settings 133 = .ok (.iinc 3 1, 3) := dk_132 3 1 (dk_at dksX1_settings_5 18 rfl rfl)
theorem dX1_settings_136 : decode cX1_settings 136 = .ok (.goto (-43), 3) := dk_167 255 213 (dk_at dksX1_settings_5 21 rfl rfl)
theorem dX1_settings_139 : decode cX1_settings 139 = .ok (.aload_n 0, 1) := dk_42 (dk_at dksX1_settings_6 0 rfl rfl)
theorem dX1_settings_140 : decode cX1_settings 140 = .ok (.iload_n 2, 1) := dk_28 (dk_at dksX1_settings_6 1 rfl rfl)
theorem dX1_settings_141 : decode cX1_settings 141 = .ok (.putfield 105, 3) := dk_181 0 105 (dk_at dksX1_settings_6 2 rfl rfl)
theorem dX1_settings_144 : decode cX1_settings 144 = .ok (.goto 33, 3) := dk_167 0 33 (dk_at dksX1_settings_6 5 rfl rfl)
theorem dX1_settings_147 : decode cX1_settings 147 = .ok (.aload_n 0, 1) := dk_42 (dk_at dksX1_settings_6 8 rfl rfl)
theorem dX1_settings_148 : decode cX1_settings 148 = .ok (.iload_n 1, 1) := dk_27 (dk_at dksX1_settings_6 9 rfl rfl)
theorem dX1_settings_149 : decode cX1_settings 149 = .ok (.invokevirtual 192, 3) := dk_182 0 192 (dk_at dksX1_settings_6 10 rfl rfl)
theorem dX1_settings_152 : decode cX1_settings 152 = .ok (.iconst 5, 1) := dk_8 (dk_at dksX1_settings_6 13 rfl rfl)
theorem dX1_settings_153 : decode cX1_settings 153 = .ok (.if_icmp .ne 24, 3) := dk_160 0 24 (dk_at dksX1_settings_6 14 rfl rfl)
theorem dX1_settings_156 : decode cX1_settings 156 = .ok (.aload_n 0, 1) := dk_42 (dk_at dksX1_settings_6 17 rfl rfl)
theorem dX1_settings_157 : decode cX1_settings 157 = .ok (.iload_n 2, 1) := dk_28 (dk_at dksX1_settings_6 18 rfl rfl)
theorem dX1_settings_158 : decode cX1_settings 158 = .ok (.bipush 16, 2) := dk_16 16 (dk_at dksX1_settings_6 19 rfl rfl)
theorem dX1_settings_160 : decode cX1_settings 160 = .ok (.if_icmp .lt 7, 3) := dk_161 0 7 (dk_at dksX1_settings_6 21 rfl rfl)
theorem dX1_settings_163 : decode cX1_settings 163 = .ok (.iconst 1, 1) := dk_4 (dk_at dksX1_settings_7 0 rfl rfl)
theorem dX1_settings_164 : decode cX1_settings 164 = .ok (.goto 4, 3) := dk_167 0 4 (dk_at dksX1_settings_7 1 rfl rfl)
theorem dX1_settings_167 : decode cX1_settings 167 = .ok (.iconst 0, 1) := dk_3 (dk_at dksX1_settings_7 4 rfl rfl)
theorem dX1_settings_168 : decode cX1_settings 168 = .ok (.iconst 1, 1) := dk_4 (dk_at dksX1_settings_7 5 rfl rfl)
theorem dX1_settings_169 : decode cX1_settings 169 = .ok (.invokevirtual 196, 3) := dk_182 0 196 (dk_at dksX1_settings_7 6 rfl rfl)
theorem dX1_settings_172 : decode cX1_settings 172 = .ok (.aload_n 0, 1) := dk_42 (dk_at dksX1_settings_7 9 rfl rfl)
theorem dX1_settings_173 : decode cX1_settings 173 = .ok (.iload_n 2, 1) := dk_28 (dk_at dksX1_settings_7 10 rfl rfl)
theorem dX1_settings_174 : decode cX1_settings 174 = .ok (.putfield 108, 3) := dk_181 0 108 (dk_at dksX1_settings_7 11 rfl rfl)
theorem dX1_settings_177 : decode cX1_settings 177 = .ok (.iinc 1 2, 3) := dk_132 1 2 (dk_at dksX1_settings_7 14 rfl rfl)
theorem dX1_settings_180 : decode cX1_settings 180 = .ok (.goto (-114), 3) := dk_167 255 142 (dk_at dksX1_settings_7 17 rfl rfl)
theorem dX1_settings_183 : decode cX1_settings 183 = .ok (.aload_n 0, 1) := dk_42 (dk_at dksX1_settings_7 20 rfl rfl)
theorem dX1_settings_184 : decode cX1_settings 184 = .ok (.iconst 0, 1) := dk_3 (dk_at dksX1_settings_7 21 rfl rfl)
theorem dX1_settings_185 : decode cX1_settings 185 = .ok (.iconst 4, 1) := dk_7 (dk_at dksX1_settings_7 22 rfl rfl)
theorem dX1_settings_186 : decode cX1_settings 186 = .ok (.iconst 1, 1) := dk_4 (dk_at dksX1_settings_7 23 rfl rfl)
theorem dX1_settings_187 : decode cX1_settings 187 = .ok (.iconst 0, 1) := dk_3 (dk_at dksX1_settings_8 0 rfl rfl)
theorem dX1_settings_188 : decode cX1_settings 188 = .ok (.invokevirtual 114, 3) := dk_182 0 114 (dk_at dksX1_settings_8 1 rfl rfl)
theorem dX1_settings_191 : decode cX1_settings 191 = .ok (.return_, 1) := dk_177 (dk_at dksX1_settings_8 4 rfl rfl)
abbrev cX1_ping : ByteArray := prog_1_method_33_code
def yX1_ping : MethodName := ⟨RX1, "ping", "()V"⟩
def dkwX1_ping_3 : List UInt8 := [132, 1, 1, 167, 255, 239, 177]
abbrev dktX1_ping_3 : List UInt8 := dkwX1_ping_3 ++ []
def dkwX1_ping_2 : List UInt8 := [16, 6, 4, 3, 182, 0, 114, 3, 60, 27, 7, 162, 0, 18, 42, 42, 27, 182, 0, 192, 182, 0, 118]
abbrev dktX1_ping_2 : List UInt8 := dkwX1_ping_2 ++ dktX1_ping_3
def dkwX1_ping_1 : List UInt8 := [160, 0, 7, 4, 167, 0, 4, 3, 16, 6, 182, 0, 196, 42, 4, 182, 0, 183, 153, 0, 4, 177, 42, 7]
abbrev dktX1_ping_1 : List UInt8 := dkwX1_ping_1 ++ dktX1_ping_2
def dkwX1_ping_0 : List UInt8 := [42, 42, 180, 0, 203, 154, 0, 7, 4, 167, 0, 4, 3, 4, 182, 0, 196, 42, 42, 180, 0, 189, 7]
abbrev dktX1_ping_0 : List UInt8 := dkwX1_ping_0 ++ dktX1_ping_1
theorem dksX1_ping_0 : cX1_ping.data.toList.drop 0 = dktX1_ping_0 := by decide +kernel
theorem dksX1_ping_1 : cX1_ping.data.toList.drop 23 = dktX1_ping_1 := dk_seg dksX1_ping_0 23 rfl rfl
theorem dksX1_ping_2 : cX1_ping.data.toList.drop 47 = dktX1_ping_2 := dk_seg dksX1_ping_1 24 rfl rfl
theorem dksX1_ping_3 : cX1_ping.data.toList.drop 70 = dktX1_ping_3 := dk_seg dksX1_ping_2 23 rfl rfl
theorem dX1_ping_0 : decode cX1_ping 0 = .ok (.aload_n 0, 1) := dk_42 (dk_at dksX1_ping_0 0 rfl rfl)
theorem dX1_ping_1 : decode cX1_ping 1 = .ok (.aload_n 0, 1) := dk_42 (dk_at dksX1_ping_0 1 rfl rfl)
theorem dX1_ping_2 : decode cX1_ping 2 = .ok (.getfield 203, 3) := dk_180 0 203 (dk_at dksX1_ping_0 2 rfl rfl)
theorem dX1_ping_5 : decode cX1_ping 5 = .ok (.ifCond .ne 7, 3) := dk_154 0 7 (dk_at dksX1_ping_0 5 rfl rfl)
theorem dX1_ping_8 : decode cX1_ping 8 = .ok (.iconst 1, 1) := dk_4 (dk_at dksX1_ping_0 8 rfl rfl)
theorem dX1_ping_9 : decode cX1_ping 9 = .ok (.goto 4, 3) := dk_167 0 4 (dk_at dksX1_ping_0 9 rfl rfl)
theorem dX1_ping_12 : decode cX1_ping 12 = .ok (.iconst 0, 1) := dk_3 (dk_at dksX1_ping_0 12 rfl rfl)
theorem dX1_ping_13 : decode cX1_ping 13 = .ok (.iconst 1, 1) := dk_4 (dk_at dksX1_ping_0 13 rfl rfl)
theorem dX1_ping_14 : decode cX1_ping 14 = .ok (.invokevirtual 196, 3) := dk_182 0 196 (dk_at dksX1_ping_0 14 rfl rfl)
theorem dX1_ping_17 : decode cX1_ping 17 = .ok (.aload_n 0, 1) := dk_42 (dk_at dksX1_ping_0 17 rfl rfl)
theorem dX1_ping_18 : decode cX1_ping 18 = .ok (.aload_n 0, 1) := dk_42 (dk_at dksX1_ping_0 18 rfl rfl)
theorem dX1_ping_19 : decode cX1_ping 19 = .ok (.getfield 189, 3) := dk_180 0 189 (dk_at dksX1_ping_0 19 rfl rfl)
theorem dX1_ping_22 : decode cX1_ping 22 = .ok (.iconst 4, 1) := dk_7 (dk_at dksX1_ping_0 22 rfl rfl)
theorem dX1_ping_23 : decode cX1_ping 23 = .ok (.if_icmp .ne 7, 3) := dk_160 0 7 (dk_at dksX1_ping_1 0 rfl rfl)
theorem dX1_ping_26 : decode cX1_ping 26 = .ok (.iconst 1, 1) := dk_4 (dk_at dksX1_ping_1 3 rfl rfl)
theorem dX1_ping_27 : decode cX1_ping 27 = .ok (.goto 4, 3) := dk_167 0 4 (dk_at dksX1_ping_1 4 rfl rfl)
theorem dX1_ping_30 : decode cX1_ping 30 = .ok (.iconst 0, 1) := dk_3 (dk_at dksX1_ping_1 7 rfl rfl)
theorem dX1_ping_31 : decode cX1_ping 31 = .ok (.bipush 6, 2) := dk_16 6 (dk_at dksX1_ping_1 8 rfl rfl)
theorem dX1_ping_33 : decode cX1_ping 33 = .ok (.invokevirtual 196, 3) := dk_182 0 196 (dk_at dksX1_ping_1 10 rfl rfl)
theorem dX1_ping_36 : decode cX1_ping 36 = .ok (.aload_n 0, 1) := dk_42 (dk_at dksX1_ping_1 13 rfl rfl)
theorem dX1_ping_37 : decode cX1_ping 37 = .ok (.iconst 1, 1) := dk_4 (dk_at dksX1_ping_1 14 rfl rfl)
theorem dX1_ping_38 : decode cX1_ping 38 = .ok (.invokevirtual 183, 3) := dk_182 0 183 (dk_at dksX1_ping_1 15 rfl rfl)
theorem dX1_ping_41 : decode cX1_ping 41 = .ok (.ifCond .eq 4, 3) := dk_153 0 4 (dk_at dksX1_ping_1 18 rfl rfl)
theorem dX1_ping_44 : decode cX1_ping 44 = .ok (.return_, 1) := dk_177 (dk_at dksX1_ping_1 21 rfl rfl)
theorem dX1_ping_45 : decode cX1_ping 45 = .ok (.aload_n 0, 1) := dk_42 (dk_at dksX1_ping_1 22 rfl rfl)
theorem dX1_ping_46 : decode cX1_ping 46 = .ok (.iconst 4, 1) := dk_7 (dk_at dksX1_ping_1 23 rfl rfl)
theorem dX1_ping_47 : decode cX1_ping 47 = .ok (.bipush 6, 2) := dk_16 6 (dk_at dksX1_ping_2 0 rfl rfl)
theorem dX1_ping_49 : decode cX1_ping 49 = .ok (.iconst 1, 1) := dk_4 (dk_at dksX1_ping_2 2 rfl rfl)
theorem dX1_ping_50 : decode cX1_ping 50 = .ok (.iconst 0, 1) := dk_3 (dk_at dksX1_ping_2 3 rfl rfl)
theorem dX1_ping_51 : decode cX1_ping 51 = .ok (.invokevirtual 114, 3) := dk_182 0 114 (dk_at dksX1_ping_2 4 rfl rfl)
theorem dX1_ping_54 : decode cX1_ping 54 = .ok (.iconst 0, 1) := dk_3 (dk_at dksX1_ping_2 7 rfl rfl)
theorem dX1_ping_55 : decode cX1_ping 55 = .ok (.istore_n 1, 1) := dk_60 (dk_at dksX1_ping_2 8 rfl rfl)
theorem dX1_ping_56 : decode cX1_ping 56 = .ok (.iload_n 1, 1) := dk_27 (dk_at dksX1_ping_2 9 rfl rfl)
theorem dX1_ping_57 : decode cX1_ping 57 = .ok (.iconst 4, 1) := dk_7 (dk_at dksX1_ping_2 10 rfl rfl)
theorem dX1_ping_58 : decode cX1_ping 58 = .ok (.if_icmp .ge 18, 3) := dk_162 0 18 (dk_at dksX1_ping_2 11 rfl rfl)
theorem dX1_ping_61 : decode cX1_ping 61 = .ok (.aload_n 0, 1) := dk_42 (dk_at dksX1_ping_2 14 rfl rfl)
theorem dX1_ping_62 : decode cX1_ping 62 = .ok (.aload_n 0, 1) := dk_42 (dk_at dksX1_ping_2 15 rfl rfl)
theorem dX1_ping_63 : decode cX1_ping 63 = .ok (.iload_n 1, 1) := dk_27 (dk_at dksX1_ping_2 16 rfl rfl)
theorem dX1_ping_64 : decode cX1_ping 64 = .ok (.invokevirtual 192, 3) := dk_182 0 192 (dk_at dksX1_ping_2 17 rfl rfl)
theorem dX1_ping_67 : decode cX1_ping 67 = .ok (.invokevirtual 118, 3) := dk_182 0 118 (dk_at dksX1_ping_2 20 rfl rfl)
theorem dX1_ping_70 : decode cX1_ping 70 = .ok (.iinc 1 1, 3) := dk_132 1 1 (dk_at dksX1_ping_3 0 rfl rfl)
theorem dX1_ping_73 : decode cX1_ping 73 = .ok (.goto (-17), 3) := dk_167 255 239 (dk_at dksX1_ping_3 3 rfl rfl)
theorem dX1_ping_76 : decode cX1_ping 76 = .ok (.return_, 1) := dk_177 (dk_at dksX1_ping_3 6 rfl rfl)
abbrev cX1_widen : ByteArray := prog_1_method_34_code
def yX1_widen : MethodName := ⟨RX1, "widen", "()V"⟩
def dkwX1_widen_7 : List UInt8 := [180, 1, 49, 27, 96, 181, 1, 49, 177]
abbrev dktX1_widen_7 : List UInt8 := dkwX1_widen_7 ++ []
def dkwX1_widen_6 : List UInt8 := [42, 44, 180, 1, 49, 27, 96, 17, 117, 48, 163, 0, 7, 4, 167, 0, 4, 3, 6, 182, 0, 217, 44, 89]
abbrev dktX1_widen_6 : List UInt8 := dkwX1_widen_6 ++ dktX1_widen_7
def dkwX1_widen_5 : List UInt8 := [181, 0, 102, 167, 0, 53, 44, 198, 0, 49, 42, 27, 158, 0, 7, 4, 167, 0, 4, 3, 4, 182, 0, 217]
abbrev dktX1_widen_5 : List UInt8 := dkwX1_widen_5 ++ dktX1_widen_6
def dkwX1_widen_4 : List UInt8 := [17, 117, 48, 163, 0, 7, 4, 167, 0, 4, 3, 6, 182, 0, 196, 42, 89, 180, 0, 102, 27, 96]
abbrev dktX1_widen_4 : List UInt8 := dkwX1_widen_4 ++ dktX1_widen_5
def dkwX1_widen_3 : List UInt8 := [154, 0, 52, 42, 27, 158, 0, 7, 4, 167, 0, 4, 3, 4, 182, 0, 196, 42, 42, 180, 0, 102, 27, 96]
abbrev dktX1_widen_3 : List UInt8 := dkwX1_widen_3 ++ dktX1_widen_4
def dkwX1_widen_2 : List UInt8 := [17, 1, 0, 104, 42, 4, 182, 0, 192, 96, 60, 42, 42, 180, 0, 203, 182, 0, 176, 77, 42, 180, 0, 203]
abbrev dktX1_widen_2 : List UInt8 := dkwX1_widen_2 ++ dktX1_widen_3
def dkwX1_widen_1 : List UInt8 := [180, 0, 203, 182, 0, 204, 154, 0, 7, 4, 167, 0, 4, 3, 4, 182, 0, 196, 42, 3, 182, 0, 192]
abbrev dktX1_widen_1 : List UInt8 := dkwX1_widen_1 ++ dktX1_widen_2
def dkwX1_widen_0 : List UInt8 := [42, 42, 180, 0, 189, 5, 160, 0, 7, 4, 167, 0, 4, 3, 16, 6, 182, 0, 196, 42, 42, 42]
abbrev dktX1_widen_0 : List UInt8 := dkwX1_widen_0 ++ dktX1_widen_1
theorem dksX1_widen_0 : cX1_widen.data.toList.drop 0 = dktX1_widen_0 := by decide +kernel
theorem dksX1_widen_1 : cX1_widen.data.toList.drop 22 = dktX1_widen_1 := dk_seg dksX1_widen_0 22 rfl rfl
theorem dksX1_widen_2 : cX1_widen.data.toList.drop 45 = dktX1_widen_2 := dk_seg dksX1_widen_1 23 rfl rfl
theorem dksX1_widen_3 : cX1_widen.data.toList.drop 69 = dktX1_widen_3 := dk_seg dksX1_widen_2 24 rfl rfl
theorem dksX1_widen_4 : cX1_widen.data.toList.drop 93 = dktX1_widen_4 := dk_seg dksX1_widen_3 24 rfl rfl
theorem dksX1_widen_5 : cX1_widen.data.toList.drop 115 = dktX1_widen_5 := dk_seg dksX1_widen_4 22 rfl rfl
theorem dksX1_widen_6 : cX1_widen.data.toList.drop 139 = dktX1_widen_6 := dk_seg dksX1_widen_5 24 rfl rfl
theorem dksX1_widen_7 : cX1_widen.data.toList.drop 163 = dktX1_widen_7 := dk_seg dksX1_widen_6 24 rfl rfl
theorem dX1_widen_0 : decode cX1_widen 0 = .ok (.aload_n 0, 1) := dk_42 (dk_at dksX1_widen_0 0 rfl rfl)
theorem dX1_widen_1 : decode cX1_widen 1 = .ok (.aload_n 0, 1) := dk_42 (dk_at dksX1_widen_0 1 rfl rfl)
theorem dX1_widen_2 : decode cX1_widen 2 = .ok (.getfield 189, 3) := dk_180 0 189 (dk_at dksX1_widen_0 2 rfl rfl)
theorem dX1_widen_5 : decode cX1_widen 5 = .ok (.iconst 2, 1) := dk_5 (dk_at dksX1_widen_0 5 rfl rfl)
theorem dX1_widen_6 : decode cX1_widen 6 = .ok (.if_icmp .ne 7, 3) := dk_160 0 7 (dk_at dksX1_widen_0 6 rfl rfl)
theorem dX1_widen_9 : decode cX1_widen 9 = .ok (.iconst 1, 1) := dk_4 (dk_at dksX1_widen_0 9 rfl rfl)
theorem dX1_widen_10 : decode cX1_widen 10 = .ok (.goto 4, 3) := dk_167 0 4 (dk_at dksX1_widen_0 10 rfl rfl)
theorem dX1_widen_13 : decode cX1_widen 13 = .ok (.iconst 0, 1) := dk_3 (dk_at dksX1_widen_0 13 rfl rfl)
theorem dX1_widen_14 : decode cX1_widen 14 = .ok (.bipush 6, 2) := dk_16 6 (dk_at dksX1_widen_0 14 rfl rfl)
theorem dX1_widen_16 : decode cX1_widen 16 = .ok (.invokevirtual 196, 3) := dk_182 0 196 (dk_at dksX1_widen_0 16 rfl rfl)
theorem dX1_widen_19 : decode cX1_widen 19 = .ok (.aload_n 0, 1) := dk_42 (dk_at dksX1_widen_0 19 rfl rfl)
theorem dX1_widen_20 : decode cX1_widen 20 = .ok (.aload_n 0, 1) := dk_42 (dk_at dksX1_widen_0 20 rfl rfl)
theorem dX1_widen_21 : decode cX1_widen 21 = .ok (.aload_n 0, 1) := dk_42 (dk_at dksX1_widen_0 21 rfl rfl)
theorem dX1_widen_22 : decode cX1_widen 22 = .ok (.getfield 203, 3) := dk_180 0 203 (dk_at dksX1_widen_1 0 rfl rfl)
theorem dX1_widen_25 : decode cX1_widen 25 = .ok (.invokevirtual 204, 3) := dk_182 0 204 (dk_at dksX1_widen_1 3 rfl rfl)
theorem dX1_widen_28 : decode cX1_widen 28 = .ok (.ifCond .ne 7, 3) := dk_154 0 7 (dk_at dksX1_widen_1 6 rfl rfl)
theorem dX1_widen_31 : decode cX1_widen 31 = .ok (.iconst 1, 1) := dk_4 (dk_at dksX1_widen_1 9 rfl rfl)
theorem dX1_widen_32 : decode cX1_widen 32 = .ok (.goto 4, 3) := dk_167 0 4 (dk_at dksX1_widen_1 10 rfl rfl)
theorem dX1_widen_35 : decode cX1_widen 35 = .ok (.iconst 0, 1) := dk_3 (dk_at dksX1_widen_1 13 rfl rfl)
theorem dX1_widen_36 : decode cX1_widen 36 = .ok (.iconst 1, 1) := dk_4 (dk_at dksX1_widen_1 14 rfl rfl)
theorem dX1_widen_37 : decode cX1_widen 37 = .ok (.invokevirtual 196, 3) := dk_182 0 196 (dk_at dksX1_widen_1 15 rfl rfl)
theorem dX1_widen_40 : decode cX1_widen 40 = .ok (.aload_n 0, 1) := dk_42 (dk_at dksX1_widen_1 18 rfl rfl)
theorem dX1_widen_41 : decode cX1_widen 41 = .ok (.iconst 0, 1) := dk_3 (dk_at dksX1_widen_1 19 rfl rfl)
theorem dX1_widen_42 : decode cX1_widen 42 = .ok (.invokevirtual 192, 3) := dk_182 0 192 (dk_at dksX1_widen_1 20 rfl rfl)
theorem dX1_widen_45 : decode cX1_widen 45 = .ok (.sipush 256, 3) := dk_17 1 0 (dk_at dksX1_widen_2 0 rfl rfl)
theorem dX1_widen_48 : decode cX1_widen 48 = .ok (.imul, 1) := dk_104 (dk_at dksX1_widen_2 3 rfl rfl)
theorem dX1_widen_49 : decode cX1_widen 49 = .ok (.aload_n 0, 1) := dk_42 (dk_at dksX1_widen_2 4 rfl rfl)
theorem dX1_widen_50 : decode cX1_widen 50 = .ok (.iconst 1, 1) := dk_4 (dk_at dksX1_widen_2 5 rfl rfl)
theorem dX1_widen_51 : decode cX1_widen 51 = .ok (.invokevirtual 192, 3) := dk_182 0 192 (dk_at dksX1_widen_2 6 rfl rfl)
theorem dX1_widen_54 : decode cX1_widen 54 = .ok (.iadd, 1) := dk_96 (dk_at dksX1_widen_2 9 rfl rfl)
theorem dX1_widen_55 : decode cX1_widen 55 = .ok (.istore_n 1, 1) := dk_60 (dk_at dksX1_widen_2 10 rfl rfl)
theorem dX1_widen_56 : decode cX1_widen 56 = .ok (.aload_n 0, 1) := dk_42 (dk_at dksX1_widen_2 11 rfl rfl)
theorem dX1_widen_57 : decode cX1_widen 57 = .ok (.aload_n 0, 1) := dk_42 (dk_at dksX1_widen_2 12 rfl rfl)
theorem dX1_widen_58 : decode cX1_widen 58 = .ok (.getfield 203, 3) := dk_180 0 203 (dk_at dksX1_widen_2 13 rfl rfl)
theorem dX1_widen_61 : decode cX1_widen 61 = .ok (.invokevirtual 176, 3) := dk_182 0 176 (dk_at dksX1_widen_2 16 rfl rfl)
theorem dX1_widen_64 : decode cX1_widen 64 = .ok (.astore_n 2, 1) := dk_77 (dk_at dksX1_widen_2 19 rfl rfl)
theorem dX1_widen_65 : decode cX1_widen 65 = .ok (.aload_n 0, 1) := dk_42 (dk_at dksX1_widen_2 20 rfl rfl)
theorem dX1_widen_66 : decode cX1_widen 66 = .ok (.getfield 203, 3) := dk_180 0 203 (dk_at dksX1_widen_2 21 rfl rfl)
theorem dX1_widen_69 : decode cX1_widen 69 = .ok (.ifCond .ne 52, 3) := dk_154 0 52 (dk_at dksX1_widen_3 0 rfl rfl)
theorem dX1_widen_72 : decode cX1_widen 72 = .ok (.aload_n 0, 1) := dk_42 (dk_at dksX1_widen_3 3 rfl rfl)
theorem dX1_widen_73 : decode cX1_widen 73 = .ok (.iload_n 1, 1) := dk_27 (dk_at dksX1_widen_3 4 rfl rfl)
theorem dX1_widen_74 : decode cX1_widen 74 = .ok (.ifCond .le 7, 3) := dk_158 0 7 (dk_at dksX1_widen_3 5 rfl rfl)
theorem dX1_widen_77 : decode cX1_widen 77 = .ok (.iconst 1, 1) := dk_4 (dk_at dksX1_widen_3 8 rfl rfl)
theorem dX1_widen_78 : decode cX1_widen 78 = .ok (.goto 4, 3) := dk_167 0 4 (dk_at dksX1_widen_3 9 rfl rfl)
theorem dX1_widen_81 : decode cX1_widen 81 = .ok (.iconst 0, 1) := dk_3 (dk_at dksX1_widen_3 12 rfl rfl)
theorem dX1_widen_82 : decode cX1_widen 82 = .ok (.iconst 1, 1) := dk_4 (dk_at dksX1_widen_3 13 rfl rfl)
theorem dX1_widen_83 : decode cX1_widen 83 = .ok (.invokevirtual 196, 3) := dk_182 0 196 (dk_at dksX1_widen_3 14 rfl rfl)
theorem dX1_widen_86 : decode cX1_widen 86 = .ok (.aload_n 0, 1) := dk_42 (dk_at dksX1_widen_3 17 rfl rfl)
theorem dX1_widen_87 : decode cX1_widen 87 = .ok (.aload_n 0, 1) := dk_42 (dk_at dksX1_widen_3 18 rfl rfl)
theorem dX1_widen_88 : decode cX1_widen 88 = .ok (.getfield 102, 3) := dk_180 0 102 (dk_at dksX1_widen_3 19 rfl rfl)
theorem dX1_widen_91 : decode cX1_widen 91 = .ok (.iload_n 1, 1) := dk_27 (dk_at dksX1_widen_3 22 rfl rfl)
theorem dX1_widen_92 : decode cX1_widen 92 = .ok (.iadd, 1) := dk_96 (dk_at dksX1_widen_3 23 rfl rfl)
theorem dX1_widen_93 : decode cX1_widen 93 = .ok (.sipush 30000, 3) := dk_17 117 48 (dk_at dksX1_widen_4 0 rfl rfl)
theorem dX1_widen_96 : decode cX1_widen 96 = .ok (.if_icmp .gt 7, 3) := dk_163 0 7 (dk_at dksX1_widen_4 3 rfl rfl)
theorem dX1_widen_99 : decode cX1_widen 99 = .ok (.iconst 1, 1) := dk_4 (dk_at dksX1_widen_4 6 rfl rfl)
theorem dX1_widen_100 : decode cX1_widen 100 = .ok (.goto 4, 3) := dk_167 0 4 (dk_at dksX1_widen_4 7 rfl rfl)
theorem dX1_widen_103 : decode cX1_widen 103 = .ok (.iconst 0, 1) := dk_3 (dk_at dksX1_widen_4 10 rfl rfl)
theorem dX1_widen_104 : decode cX1_widen 104 = .ok (.iconst 3, 1) := dk_6 (dk_at dksX1_widen_4 11 rfl rfl)
theorem dX1_widen_105 : decode cX1_widen 105 = .ok (.invokevirtual 196, 3) := dk_182 0 196 (dk_at dksX1_widen_4 12 rfl rfl)
theorem dX1_widen_108 : decode cX1_widen 108 = .ok (.aload_n 0, 1) := dk_42 (dk_at dksX1_widen_4 15 rfl rfl)
theorem dX1_widen_109 : decode cX1_widen 109 = .ok (.dup, 1) := dk_89 (dk_at dksX1_widen_4 16 rfl rfl)
theorem dX1_widen_110 : decode cX1_widen 110 = .ok (.getfield 102, 3) := dk_180 0 102 (dk_at dksX1_widen_4 17 rfl rfl)
theorem dX1_widen_113 : decode cX1_widen 113 = .ok (.iload_n 1, 1) := dk_27 (dk_at dksX1_widen_4 20 rfl rfl)
theorem dX1_widen_114 : decode cX1_widen 114 = .ok (.iadd, 1) := dk_96 (dk_at dksX1_widen_4 21 rfl rfl)
theorem dX1_widen_115 : decode cX1_widen 115 = .ok (.putfield 102, 3) := dk_181 0 102 (dk_at dksX1_widen_5 0 rfl rfl)
theorem dX1_widen_118 : decode cX1_widen 118 = .ok (.goto 53, 3) := dk_167 0 53 (dk_at dksX1_widen_5 3 rfl rfl)
theorem dX1_widen_121 : decode cX1_widen 121 = .ok (.aload_n 2, 1) := dk_44 (dk_at dksX1_widen_5 6 rfl rfl)
theorem dX1_widen_122 : decode cX1_widen 122 = .ok (.ifnull 49, 3) := dk_198 0 49 (dk_at dksX1_widen_5 7 rfl rfl)
theorem dX1_widen_125 : decode cX1_widen 125 = .ok (.aload_n 0, 1) := dk_42 (dk_at dksX1_widen_5 10 rfl rfl)
theorem dX1_widen_126 : decode cX1_widen 126 = .ok (.iload_n 1, 1) := dk_27 (dk_at dksX1_widen_5 11 rfl rfl)
theorem dX1_widen_127 : decode cX1_widen 127 = .ok (.ifCond .le 7, 3) := dk_158 0 7 (dk_at dksX1_widen_5 12 rfl rfl)
theorem dX1_widen_130 : decode cX1_widen 130 = .ok (.iconst 1, 1) := dk_4 (dk_at dksX1_widen_5 15 rfl rfl)
theorem dX1_widen_131 : decode cX1_widen 131 = .ok (.goto 4, 3) := dk_167 0 4 (dk_at dksX1_widen_5 16 rfl rfl)
theorem dX1_widen_134 : decode cX1_widen 134 = .ok (.iconst 0, 1) := dk_3 (dk_at dksX1_widen_5 19 rfl rfl)
theorem dX1_widen_135 : decode cX1_widen 135 = .ok (.iconst 1, 1) := dk_4 (dk_at dksX1_widen_5 20 rfl rfl)
theorem dX1_widen_136 : decode cX1_widen 136 = .ok (.invokevirtual 217, 3) := dk_182 0 217 (dk_at dksX1_widen_5 21 rfl rfl)
theorem dX1_widen_139 : decode cX1_widen 139 = .ok (.aload_n 0, 1) := dk_42 (dk_at dksX1_widen_6 0 rfl rfl)
theorem dX1_widen_140 : decode cX1_widen 140 = .ok (.aload_n 2, 1) := dk_44 (dk_at dksX1_widen_6 1 rfl rfl)
theorem dX1_widen_141 : decode cX1_widen 141 = .ok (.getfield 305, 3) := dk_180 1 49 (dk_at dksX1_widen_6 2 rfl rfl)
theorem dX1_widen_144 : decode cX1_widen 144 = .ok (.iload_n 1, 1) := dk_27 (dk_at dksX1_widen_6 5 rfl rfl)
theorem dX1_widen_145 : decode cX1_widen 145 = .ok (.iadd, 1) := dk_96 (dk_at dksX1_widen_6 6 rfl rfl)
theorem dX1_widen_146 : decode cX1_widen 146 = .ok (.sipush 30000, 3) := dk_17 117 48 (dk_at dksX1_widen_6 7 rfl rfl)
theorem dX1_widen_149 : decode cX1_widen 149 = .ok (.if_icmp .gt 7, 3) := dk_163 0 7 (dk_at dksX1_widen_6 10 rfl rfl)
theorem dX1_widen_152 : decode cX1_widen 152 = .ok (.iconst 1, 1) := dk_4 (dk_at dksX1_widen_6 13 rfl rfl)
theorem dX1_widen_153 : decode cX1_widen 153 = .ok (.goto 4, 3) := dk_167 0 4 (dk_at dksX1_widen_6 14 rfl rfl)
theorem dX1_widen_156 : decode cX1_widen 156 = .ok (.iconst 0, 1) := dk_3 (dk_at dksX1_widen_6 17 rfl rfl)
theorem dX1_widen_157 : decode cX1_widen 157 = .ok (.iconst 3, 1) := dk_6 (dk_at dksX1_widen_6 18 rfl rfl)
theorem dX1_widen_158 : decode cX1_widen 158 = .ok (.invokevirtual 217, 3) := dk_182 0 217 (dk_at dksX1_widen_6 19 rfl rfl)
theorem dX1_widen_161 : decode cX1_widen 161 = .ok (.aload_n 2, 1) := dk_44 (dk_at dksX1_widen_6 22 rfl rfl)
theorem dX1_widen_162 : decode cX1_widen 162 = .ok (.dup, 1) := dk_89 (dk_at dksX1_widen_6 23 rfl rfl)
theorem dX1_widen_163 : decode cX1_widen 163 = .ok (.getfield 305, 3) := dk_180 1 49 (dk_at dksX1_widen_7 0 rfl rfl)
theorem dX1_widen_166 : decode cX1_widen 166 = .ok (.iload_n 1, 1) := dk_27 (dk_at dksX1_widen_7 3 rfl rfl)
theorem dX1_widen_167 : decode cX1_widen 167 = .ok (.iadd, 1) := dk_96 (dk_at dksX1_widen_7 4 rfl rfl)
theorem dX1_widen_168 : decode cX1_widen 168 = .ok (.putfield 305, 3) := dk_181 1 49 (dk_at dksX1_widen_7 5 rfl rfl)
theorem dX1_widen_171 : decode cX1_widen 171 = .ok (.return_, 1) := dk_177 (dk_at dksX1_widen_7 8 rfl rfl)
abbrev cX1_reset : ByteArray := prog_1_method_37_code
def yX1_reset : MethodName := ⟨RX1, "reset", "()V"⟩
def dkwX1_reset_1 : List UInt8 := [182, 1, 46, 177]
abbrev dktX1_reset_1 : List UInt8 := dkwX1_reset_1 ++ []
def dkwX1_reset_0 : List UInt8 := [42, 4, 6, 3, 42, 180, 0, 203, 182, 0, 114, 42, 42, 180, 0, 170, 182, 0, 118, 42, 42, 180, 0, 203]
abbrev dktX1_reset_0 : List UInt8 := dkwX1_reset_0 ++ dktX1_reset_1
theorem dksX1_reset_0 : cX1_reset.data.toList.drop 0 = dktX1_reset_0 := by decide +kernel
theorem dksX1_reset_1 : cX1_reset.data.toList.drop 24 = dktX1_reset_1 := dk_seg dksX1_reset_0 24 rfl rfl
theorem dX1_reset_0 : decode cX1_reset 0 = .ok (.aload_n 0, 1) := dk_42 (dk_at dksX1_reset_0 0 rfl rfl)
theorem dX1_reset_1 : decode cX1_reset 1 = .ok (.iconst 1, 1) := dk_4 (dk_at dksX1_reset_0 1 rfl rfl)
theorem dX1_reset_2 : decode cX1_reset 2 = .ok (.iconst 3, 1) := dk_6 (dk_at dksX1_reset_0 2 rfl rfl)
theorem dX1_reset_3 : decode cX1_reset 3 = .ok (.iconst 0, 1) := dk_3 (dk_at dksX1_reset_0 3 rfl rfl)
theorem dX1_reset_4 : decode cX1_reset 4 = .ok (.aload_n 0, 1) := dk_42 (dk_at dksX1_reset_0 4 rfl rfl)
theorem dX1_reset_5 : decode cX1_reset 5 = .ok (.getfield 203, 3) := dk_180 0 203 (dk_at dksX1_reset_0 5 rfl rfl)
theorem dX1_reset_8 : decode cX1_reset 8 = .ok (.invokevirtual 114, 3) := dk_182 0 114 (dk_at dksX1_reset_0 8 rfl rfl)
theorem dX1_reset_11 : decode cX1_reset 11 = .ok (.aload_n 0, 1) := dk_42 (dk_at dksX1_reset_0 11 rfl rfl)
theorem dX1_reset_12 : decode cX1_reset 12 = .ok (.aload_n 0, 1) := dk_42 (dk_at dksX1_reset_0 12 rfl rfl)
theorem dX1_reset_13 : decode cX1_reset 13 = .ok (.getfield 170, 3) := dk_180 0 170 (dk_at dksX1_reset_0 13 rfl rfl)
theorem dX1_reset_16 : decode cX1_reset 16 = .ok (.invokevirtual 118, 3) := dk_182 0 118 (dk_at dksX1_reset_0 16 rfl rfl)
theorem dX1_reset_19 : decode cX1_reset 19 = .ok (.aload_n 0, 1) := dk_42 (dk_at dksX1_reset_0 19 rfl rfl)
theorem dX1_reset_20 : decode cX1_reset 20 = .ok (.aload_n 0, 1) := dk_42 (dk_at dksX1_reset_0 20 rfl rfl)
theorem dX1_reset_21 : decode cX1_reset 21 = .ok (.getfield 203, 3) := dk_180 0 203 (dk_at dksX1_reset_0 21 rfl rfl)
theorem dX1_reset_24 : decode cX1_reset 24 = .ok (.invokevirtual 302, 3) := dk_182 1 46 (dk_at dksX1_reset_1 0 rfl rfl)
theorem dX1_reset_27 : decode cX1_reset 27 = .ok (.return_, 1) := dk_177 (dk_at dksX1_reset_1 3 rfl rfl)
abbrev cX1_pump : ByteArray := prog_1_method_40_code
def yX1_pump : MethodName := ⟨RX1, "pump", "()V"⟩
def dkwX1_pump_6 : List UInt8 := [167, 255, 118, 177]
abbrev dktX1_pump_6 : List UInt8 := dkwX1_pump_6 ++ []
def dkwX1_pump_5 : List UInt8 := [167, 255, 240, 43, 180, 1, 38, 154, 0, 11, 42, 43, 180, 0, 173, 182, 1, 46, 42, 182, 1, 80, 76]
abbrev dktX1_pump_5 : List UInt8 := dkwX1_pump_5 ++ dktX1_pump_6
def dkwX1_pump_4 : List UInt8 := [180, 0, 173, 182, 0, 114, 3, 62, 29, 28, 162, 0, 17, 42, 43, 180, 1, 44, 182, 0, 118, 132, 3, 1]
abbrev dktX1_pump_4 : List UInt8 := dkwX1_pump_4 ++ dktX1_pump_5
def dkwX1_pump_3 : List UInt8 := [42, 43, 180, 0, 173, 181, 0, 99, 42, 28, 3, 43, 180, 1, 38, 154, 0, 7, 4, 167, 0, 4, 3, 43]
abbrev dktX1_pump_3 : List UInt8 := dkwX1_pump_3 ++ dktX1_pump_4
def dkwX1_pump_2 : List UInt8 := [100, 181, 1, 38, 43, 89, 180, 1, 49, 28, 100, 181, 1, 49, 42, 89, 180, 0, 102, 28, 100, 181, 0, 102]
abbrev dktX1_pump_2 : List UInt8 := dkwX1_pump_2 ++ dktX1_pump_3
def dkwX1_pump_1 : List UInt8 := [184, 1, 84, 42, 180, 0, 102, 42, 180, 0, 108, 184, 1, 84, 184, 1, 84, 61, 43, 89, 180, 1, 38, 28]
abbrev dktX1_pump_1 : List UInt8 := dkwX1_pump_1 ++ dktX1_pump_2
def dkwX1_pump_0 : List UInt8 := [42, 182, 1, 80, 76, 43, 198, 0, 140, 42, 180, 0, 102, 158, 0, 133, 43, 180, 1, 38, 43, 180, 1, 49]
abbrev dktX1_pump_0 : List UInt8 := dkwX1_pump_0 ++ dktX1_pump_1
theorem dksX1_pump_0 : cX1_pump.data.toList.drop 0 = dktX1_pump_0 := by decide +kernel
theorem dksX1_pump_1 : cX1_pump.data.toList.drop 24 = dktX1_pump_1 := dk_seg dksX1_pump_0 24 rfl rfl
theorem dksX1_pump_2 : cX1_pump.data.toList.drop 48 = dktX1_pump_2 := dk_seg dksX1_pump_1 24 rfl rfl
theorem dksX1_pump_3 : cX1_pump.data.toList.drop 72 = dktX1_pump_3 := dk_seg dksX1_pump_2 24 rfl rfl
theorem dksX1_pump_4 : cX1_pump.data.toList.drop 96 = dktX1_pump_4 := dk_seg dksX1_pump_3 24 rfl rfl
theorem dksX1_pump_5 : cX1_pump.data.toList.drop 120 = dktX1_pump_5 := dk_seg dksX1_pump_4 24 rfl rfl
theorem dksX1_pump_6 : cX1_pump.data.toList.drop 143 = dktX1_pump_6 := dk_seg dksX1_pump_5 23 rfl rfl
theorem dX1_pump_0 : decode cX1_pump 0 = .ok (.aload_n 0, 1) := dk_42 (dk_at dksX1_pump_0 0 rfl rfl)
theorem dX1_pump_1 : decode cX1_pump 1 = .ok (.invokevirtual 336, 3) := dk_182 1 80 (dk_at dksX1_pump_0 1 rfl rfl)
theorem dX1_pump_4 : decode cX1_pump 4 = .ok (.astore_n 1, 1) := dk_76 (dk_at dksX1_pump_0 4 rfl rfl)
theorem dX1_pump_5 : decode cX1_pump 5 = .ok (.aload_n 1, 1) := dk_43 (dk_at dksX1_pump_0 5 rfl rfl)
theorem dX1_pump_6 : decode cX1_pump 6 = .ok (.ifnull 140, 3) := dk_198 0 140 (dk_at dksX1_pump_0 6 rfl rfl)
theorem dX1_pump_9 : decode cX1_pump 9 = .ok (.aload_n 0, 1) := dk_42 (dk_at dksX1_pump_0 9 rfl rfl)
theorem dX1_pump_10 : decode cX1_pump 10 = .ok (.getfield 102, 3) := dk_180 0 102 (dk_at dksX1_pump_0 10 rfl rfl)
theorem dX1_pump_13 : decode cX1_pump 13 = .ok (.ifCond .le 133, 3) := dk_158 0 133 (dk_at dksX1_pump_0 13 rfl rfl)
theorem dX1_pump_16 : decode cX1_pump 16 = .ok (.aload_n 1, 1) := dk_43 (dk_at dksX1_pump_0 16 rfl rfl)
theorem dX1_pump_17 : decode cX1_pump 17 = .ok (.getfield 294, 3) := dk_180 1 38 (dk_at dksX1_pump_0 17 rfl rfl)
theorem dX1_pump_20 : decode cX1_pump 20 = .ok (.aload_n 1, 1) := dk_43 (dk_at dksX1_pump_0 20 rfl rfl)
theorem dX1_pump_21 : decode cX1_pump 21 = .ok (.getfield 305, 3) := dk_180 1 49 (dk_at dksX1_pump_0 21 rfl rfl)
theorem dX1_pump_24 : decode cX1_pump 24 = .ok (.invokestatic 340, 3) := dk_184 1 84 (dk_at dksX1_pump_1 0 rfl rfl)
theorem dX1_pump_27 : decode cX1_pump 27 = .ok (.aload_n 0, 1) := dk_42 (dk_at dksX1_pump_1 3 rfl rfl)
theorem dX1_pump_28 : decode cX1_pump 28 = .ok (.getfield 102, 3) := dk_180 0 102 (dk_at dksX1_pump_1 4 rfl rfl)
theorem dX1_pump_31 : decode cX1_pump 31 = .ok (.aload_n 0, 1) := dk_42 (dk_at dksX1_pump_1 7 rfl rfl)
theorem dX1_pump_32 : decode cX1_pump 32 = .ok (.getfield 108, 3) := dk_180 0 108 (dk_at dksX1_pump_1 8 rfl rfl)
theorem dX1_pump_35 : decode cX1_pump 35 = .ok (.invokestatic 340, 3) := dk_184 1 84 (dk_at dksX1_pump_1 11 rfl rfl)
theorem dX1_pump_38 : decode cX1_pump 38 = .ok (.invokestatic 340, 3) := dk_184 1 84 (dk_at dksX1_pump_1 14 rfl rfl)
theorem dX1_pump_41 : decode cX1_pump 41 = .ok (.istore_n 2, 1) := dk_61 (dk_at dksX1_pump_1 17 rfl rfl)
theorem dX1_pump_42 : decode cX1_pump 42 = .ok (.aload_n 1, 1) := dk_43 (dk_at dksX1_pump_1 18 rfl rfl)
theorem dX1_pump_43 : decode cX1_pump 43 = .ok (.dup, 1) := dk_89 (dk_at dksX1_pump_1 19 rfl rfl)
theorem dX1_pump_44 : decode cX1_pump 44 = .ok (.getfield 294, 3) := dk_180 1 38 (dk_at dksX1_pump_1 20 rfl rfl)
theorem dX1_pump_47 : decode cX1_pump 47 = .ok (.iload_n 2, 1) := dk_28 (dk_at dksX1_pump_1 23 rfl rfl)
theorem dX1_pump_48 : decode cX1_pump 48 = .ok (.isub, 1) := dk_100 (dk_at dksX1_pump_2 0 rfl rfl)
theorem dX1_pump_49 : decode cX1_pump 49 = .ok (.putfield 294, 3) := dk_181 1 38 (dk_at dksX1_pump_2 1 rfl rfl)
theorem dX1_pump_52 : decode cX1_pump 52 = .ok (.aload_n 1, 1) := dk_43 (dk_at dksX1_pump_2 4 rfl rfl)
theorem dX1_pump_53 : decode cX1_pump 53 = .ok (.dup, 1) := dk_89 (dk_at dksX1_pump_2 5 rfl rfl)
theorem dX1_pump_54 : decode cX1_pump 54 = .ok (.getfield 305, 3) := dk_180 1 49 (dk_at dksX1_pump_2 6 rfl rfl)
theorem dX1_pump_57 : decode cX1_pump 57 = .ok (.iload_n 2, 1) := dk_28 (dk_at dksX1_pump_2 9 rfl rfl)
theorem dX1_pump_58 : decode cX1_pump 58 = .ok (.isub, 1) := dk_100 (dk_at dksX1_pump_2 10 rfl rfl)
theorem dX1_pump_59 : decode cX1_pump 59 = .ok (.putfield 305, 3) := dk_181 1 49 (dk_at dksX1_pump_2 11 rfl rfl)
theorem dX1_pump_62 : decode cX1_pump 62 = .ok (.aload_n 0, 1) := dk_42 (dk_at dksX1_pump_2 14 rfl rfl)
theorem dX1_pump_63 : decode cX1_pump 63 = .ok (.dup, 1) := dk_89 (dk_at dksX1_pump_2 15 rfl rfl)
theorem dX1_pump_64 : decode cX1_pump 64 = .ok (.getfield 102, 3) := dk_180 0 102 (dk_at dksX1_pump_2 16 rfl rfl)
theorem dX1_pump_67 : decode cX1_pump 67 = .ok (.iload_n 2, 1) := dk_28 (dk_at dksX1_pump_2 19 rfl rfl)
theorem dX1_pump_68 : decode cX1_pump 68 = .ok (.isub, 1) := dk_100 (dk_at dksX1_pump_2 20 rfl rfl)
theorem dX1_pump_69 : decode cX1_pump 69 = .ok (.putfield 102, 3) := dk_181 0 102 (dk_at dksX1_pump_2 21 rfl rfl)
theorem dX1_pump_72 : decode cX1_pump 72 = .ok (.aload_n 0, 1) := dk_42 (dk_at dksX1_pump_3 0 rfl rfl)
theorem dX1_pump_73 : decode cX1_pump 73 = .ok (.aload_n 1, 1) := dk_43 (dk_at dksX1_pump_3 1 rfl rfl)
theorem dX1_pump_74 : decode cX1_pump 74 = .ok (.getfield 173, 3) := dk_180 0 173 (dk_at dksX1_pump_3 2 rfl rfl)
theorem dX1_pump_77 : decode cX1_pump 77 = .ok (.putfield 99, 3) := dk_181 0 99 (dk_at dksX1_pump_3 5 rfl rfl)
theorem dX1_pump_80 : decode cX1_pump 80 = .ok (.aload_n 0, 1) := dk_42 (dk_at dksX1_pump_3 8 rfl rfl)
theorem dX1_pump_81 : decode cX1_pump 81 = .ok (.iload_n 2, 1) := dk_28 (dk_at dksX1_pump_3 9 rfl rfl)
theorem dX1_pump_82 : decode cX1_pump 82 = .ok (.iconst 0, 1) := dk_3 (dk_at dksX1_pump_3 10 rfl rfl)
theorem dX1_pump_83 : decode cX1_pump 83 = .ok (.aload_n 1, 1) := dk_43 (dk_at dksX1_pump_3 11 rfl rfl)
theorem dX1_pump_84 : decode cX1_pump 84 = .ok (.getfield 294, 3) := dk_180 1 38 (dk_at dksX1_pump_3 12 rfl rfl)
theorem dX1_pump_87 : decode cX1_pump 87 = .ok (.ifCond .ne 7, 3) := dk_154 0 7 (dk_at dksX1_pump_3 15 rfl rfl)
theorem dX1_pump_90 : decode cX1_pump 90 = .ok (.iconst 1, 1) := dk_4 (dk_at dksX1_pump_3 18 rfl rfl)
theorem dX1_pump_91 : decode cX1_pump 91 = .ok (.goto 4, 3) := dk_167 0 4 (dk_at dksX1_pump_3 19 rfl rfl)
theorem dX1_pump_94 : decode cX1_pump 94 = .ok (.iconst 0, 1) := dk_3 (dk_at dksX1_pump_3 22 rfl rfl)
theorem dX1_pump_95 : decode cX1_pump 95 = .ok (.aload_n 1, 1) := dk_43 (dk_at dksX1_pump_3 23 rfl rfl)
theorem dX1_pump_96 : decode cX1_pump 96 = .ok (.getfield 173, 3) := dk_180 0 173 (dk_at dksX1_pump_4 0 rfl rfl)
theorem dX1_pump_99 : decode cX1_pump 99 = .ok (.invokevirtual 114, 3) := dk_182 0 114 (dk_at dksX1_pump_4 3 rfl rfl)
theorem dX1_pump_102 : decode cX1_pump 102 = .ok (.iconst 0, 1) := dk_3 (dk_at dksX1_pump_4 6 rfl rfl)
theorem dX1_pump_103 : decode cX1_pump 103 = .ok (.istore_n 3, 1) := dk_62 (dk_at dksX1_pump_4 7 rfl rfl)
theorem dX1_pump_104 : decode cX1_pump 104 = .ok (.iload_n 3, 1) := dk_29 (dk_at dksX1_pump_4 8 rfl rfl)
theorem dX1_pump_105 : decode cX1_pump 105 = .ok (.iload_n 2, 1) := dk_28 (dk_at dksX1_pump_4 9 rfl rfl)
theorem dX1_pump_106 : decode cX1_pump 106 = .ok (.if_icmp .ge 17, 3) := dk_162 0 17 (dk_at dksX1_pump_4 10 rfl rfl)
theorem dX1_pump_109 : decode cX1_pump 109 = .ok (.aload_n 0, 1) := dk_42 (dk_at dksX1_pump_4 13 rfl rfl)
theorem dX1_pump_110 : decode cX1_pump 110 = .ok (.aload_n 1, 1) := dk_43 (dk_at dksX1_pump_4 14 rfl rfl)
theorem dX1_pump_111 : decode cX1_pump 111 = .ok (.getfield 300, 3) := dk_180 1 44 (dk_at dksX1_pump_4 15 rfl rfl)
theorem dX1_pump_114 : decode cX1_pump 114 = .ok (.invokevirtual 118, 3) := dk_182 0 118 (dk_at dksX1_pump_4 18 rfl rfl)
theorem dX1_pump_117 : decode cX1_pump 117 = .ok (.iinc 3 1, 3) := dk_132 3 1 (dk_at dksX1_pump_4 21 rfl rfl)
theorem dX1_pump_120 : decode cX1_pump 120 = .ok (.goto (-16), 3) := dk_167 255 240 (dk_at dksX1_pump_5 0 rfl rfl)
theorem dX1_pump_123 : decode cX1_pump 123 = .ok (.aload_n 1, 1) := dk_43 (dk_at dksX1_pump_5 3 rfl rfl)
theorem dX1_pump_124 : decode cX1_pump 124 = .ok (.getfield 294, 3) := dk_180 1 38 (dk_at dksX1_pump_5 4 rfl rfl)
theorem dX1_pump_127 : decode cX1_pump 127 = .ok (.ifCond .ne 11, 3) := dk_154 0 11 (dk_at dksX1_pump_5 7 rfl rfl)
theorem dX1_pump_130 : decode cX1_pump 130 = .ok (.aload_n 0, 1) := dk_42 (dk_at dksX1_pump_5 10 rfl rfl)
theorem dX1_pump_131 : decode cX1_pump 131 = .ok (.aload_n 1, 1) := dk_43 (dk_at dksX1_pump_5 11 rfl rfl)
theorem dX1_pump_132 : decode cX1_pump 132 = .ok (.getfield 173, 3) := dk_180 0 173 (dk_at dksX1_pump_5 12 rfl rfl)
theorem dX1_pump_135 : decode cX1_pump 135 = .ok (.invokevirtual 302, 3) := dk_182 1 46 (dk_at dksX1_pump_5 15 rfl rfl)
theorem dX1_pump_138 : decode cX1_pump 138 = .ok (.aload_n 0, 1) := dk_42 (dk_at dksX1_pump_5 18 rfl rfl)
theorem dX1_pump_139 : decode cX1_pump 139 = .ok (.invokevirtual 336, 3) := dk_182 1 80 (dk_at dksX1_pump_5 19 rfl rfl)
theorem dX1_pump_142 : decode cX1_pump 142 = .ok (.astore_n 1, 1) := dk_76 (dk_at dksX1_pump_5 22 rfl rfl)
theorem dX1_pump_143 : decode cX1_pump 143 = .ok (.goto (-138), 3) := dk_167 255 118 (dk_at dksX1_pump_6 0 rfl rfl)
theorem dX1_pump_146 : decode cX1_pump 146 = .ok (.return_, 1) := dk_177 (dk_at dksX1_pump_6 3 rfl rfl)
abbrev cX1_turn : ByteArray := prog_1_method_39_code
def yX1_turn : MethodName := ⟨RX1, "turn", "()LPageServer$Stream;"⟩
def dkwX1_turn_5 : List UInt8 := [132, 2, 1, 167, 255, 142, 43, 176]
abbrev dktX1_turn_5 : List UInt8 := dkwX1_turn_5 ++ []
def dkwX1_turn_4 : List UInt8 := [180, 0, 173, 162, 0, 19, 167, 0, 14, 45, 180, 0, 173, 42, 180, 0, 99, 164, 0, 5, 45, 76]
abbrev dktX1_turn_4 : List UInt8 := dkwX1_turn_4 ++ dktX1_turn_5
def dkwX1_turn_3 : List UInt8 := [43, 180, 0, 173, 42, 180, 0, 99, 164, 0, 7, 4, 167, 0, 4, 3, 160, 0, 17, 45, 180, 0, 173, 43]
abbrev dktX1_turn_3 : List UInt8 := dkwX1_turn_3 ++ dktX1_turn_4
def dkwX1_turn_2 : List UInt8 := [199, 0, 8, 45, 76, 167, 0, 65, 45, 180, 0, 173, 42, 180, 0, 99, 164, 0, 7, 4, 167, 0, 4, 3]
abbrev dktX1_turn_2 : List UInt8 := dkwX1_turn_2 ++ dktX1_turn_3
def dkwX1_turn_1 : List UInt8 := [192, 0, 50, 78, 45, 180, 1, 38, 153, 0, 84, 45, 180, 1, 49, 157, 0, 6, 167, 0, 74, 43]
abbrev dktX1_turn_1 : List UInt8 := dkwX1_turn_1 ++ dktX1_turn_2
def dkwX1_turn_0 : List UInt8 := [1, 76, 3, 61, 28, 42, 180, 0, 20, 182, 0, 66, 162, 0, 109, 42, 180, 0, 20, 28, 182, 0, 132]
abbrev dktX1_turn_0 : List UInt8 := dkwX1_turn_0 ++ dktX1_turn_1
theorem dksX1_turn_0 : cX1_turn.data.toList.drop 0 = dktX1_turn_0 := by decide +kernel
theorem dksX1_turn_1 : cX1_turn.data.toList.drop 23 = dktX1_turn_1 := dk_seg dksX1_turn_0 23 rfl rfl
theorem dksX1_turn_2 : cX1_turn.data.toList.drop 45 = dktX1_turn_2 := dk_seg dksX1_turn_1 22 rfl rfl
theorem dksX1_turn_3 : cX1_turn.data.toList.drop 69 = dktX1_turn_3 := dk_seg dksX1_turn_2 24 rfl rfl
theorem dksX1_turn_4 : cX1_turn.data.toList.drop 93 = dktX1_turn_4 := dk_seg dksX1_turn_3 24 rfl rfl
theorem dksX1_turn_5 : cX1_turn.data.toList.drop 115 = dktX1_turn_5 := dk_seg dksX1_turn_4 22 rfl rfl
theorem dX1_turn_0 : decode cX1_turn 0 = .ok (.aconst_null, 1) := dk_1 (dk_at dksX1_turn_0 0 rfl rfl)
theorem dX1_turn_1 : decode cX1_turn 1 = .ok (.astore_n 1, 1) := dk_76 (dk_at dksX1_turn_0 1 rfl rfl)
theorem dX1_turn_2 : decode cX1_turn 2 = .ok (.iconst 0, 1) := dk_3 (dk_at dksX1_turn_0 2 rfl rfl)
theorem dX1_turn_3 : decode cX1_turn 3 = .ok (.istore_n 2, 1) := dk_61 (dk_at dksX1_turn_0 3 rfl rfl)
theorem dX1_turn_4 : decode cX1_turn 4 = .ok (.iload_n 2, 1) := dk_28 (dk_at dksX1_turn_0 4 rfl rfl)
theorem dX1_turn_5 : decode cX1_turn 5 = .ok (.aload_n 0, 1) := dk_42 (dk_at dksX1_turn_0 5 rfl rfl)
theorem dX1_turn_6 : decode cX1_turn 6 = .ok (.getfield 20, 3) := dk_180 0 20 (dk_at dksX1_turn_0 6 rfl rfl)
theorem dX1_turn_9 : decode cX1_turn 9 = .ok (.invokevirtual 66, 3) := dk_182 0 66 (dk_at dksX1_turn_0 9 rfl rfl)
theorem dX1_turn_12 : decode cX1_turn 12 = .ok (.if_icmp .ge 109, 3) := dk_162 0 109 (dk_at dksX1_turn_0 12 rfl rfl)
theorem dX1_turn_15 : decode cX1_turn 15 = .ok (.aload_n 0, 1) := dk_42 (dk_at dksX1_turn_0 15 rfl rfl)
theorem dX1_turn_16 : decode cX1_turn 16 = .ok (.getfield 20, 3) := dk_180 0 20 (dk_at dksX1_turn_0 16 rfl rfl)
theorem dX1_turn_19 : decode cX1_turn 19 = .ok (.iload_n 2, 1) := dk_28 (dk_at dksX1_turn_0 19 rfl rfl)
theorem dX1_turn_20 : decode cX1_turn 20 = .ok (.invokevirtual 132, 3) := dk_182 0 132 (dk_at dksX1_turn_0 20 rfl rfl)
theorem dX1_turn_23 : decode cX1_turn 23 = .ok (.checkcast 50, 3) := dk_192 0 50 (dk_at dksX1_turn_1 0 rfl rfl)
theorem dX1_turn_26 : decode cX1_turn 26 = .ok (.astore_n 3, 1) := dk_78 (dk_at dksX1_turn_1 3 rfl rfl)
theorem dX1_turn_27 : decode cX1_turn 27 = .ok (.aload_n 3, 1) := dk_45 (dk_at dksX1_turn_1 4 rfl rfl)
theorem dX1_turn_28 : decode cX1_turn 28 = .ok (.getfield 294, 3) := dk_180 1 38 (dk_at dksX1_turn_1 5 rfl rfl)
theorem dX1_turn_31 : decode cX1_turn 31 = .ok (.ifCond .eq 84, 3) := dk_153 0 84 (dk_at dksX1_turn_1 8 rfl rfl)
theorem dX1_turn_34 : decode cX1_turn 34 = .ok (.aload_n 3, 1) := dk_45 (dk_at dksX1_turn_1 11 rfl rfl)
theorem dX1_turn_35 : decode cX1_turn 35 = .ok (.getfield 305, 3) := dk_180 1 49 (dk_at dksX1_turn_1 12 rfl rfl)
theorem dX1_turn_38 : decode cX1_turn 38 = .ok (.ifCond .gt 6, 3) := dk_157 0 6 (dk_at dksX1_turn_1 15 rfl rfl)
theorem dX1_turn_41 : decode cX1_turn 41 = .ok (.goto 74, 3) := dk_167 0 74 (dk_at dksX1_turn_1 18 rfl rfl)
theorem dX1_turn_44 : decode cX1_turn 44 = .ok (.aload_n 1, 1) := dk_43 (dk_at dksX1_turn_1 21 rfl rfl)
theorem dX1_turn_45 : decode cX1_turn 45 = .ok (.ifnonnull 8, 3) := dk_199 0 8 (dk_at dksX1_turn_2 0 rfl rfl)
theorem dX1_turn_48 : decode cX1_turn 48 = .ok (.aload_n 3, 1) := dk_45 (dk_at dksX1_turn_2 3 rfl rfl)
theorem dX1_turn_49 : decode cX1_turn 49 = .ok (.astore_n 1, 1) := dk_76 (dk_at dksX1_turn_2 4 rfl rfl)
theorem dX1_turn_50 : decode cX1_turn 50 = .ok (.goto 65, 3) := dk_167 0 65 (dk_at dksX1_turn_2 5 rfl rfl)
theorem dX1_turn_53 : decode cX1_turn 53 = .ok (.aload_n 3, 1) := dk_45 (dk_at dksX1_turn_2 8 rfl rfl)
theorem dX1_turn_54 : decode cX1_turn 54 = .ok (.getfield 173, 3) := dk_180 0 173 (dk_at dksX1_turn_2 9 rfl rfl)
theorem dX1_turn_57 : decode cX1_turn 57 = .ok (.aload_n 0, 1) := dk_42 (dk_at dksX1_turn_2 12 rfl rfl)
theorem dX1_turn_58 : decode cX1_turn 58 = .ok (.getfield 99, 3) := dk_180 0 99 (dk_at dksX1_turn_2 13 rfl rfl)
theorem dX1_turn_61 : decode cX1_turn 61 = .ok (.if_icmp .le 7, 3) := dk_164 0 7 (dk_at dksX1_turn_2 16 rfl rfl)
theorem dX1_turn_64 : decode cX1_turn 64 = .ok (.iconst 1, 1) := dk_4 (dk_at dksX1_turn_2 19 rfl rfl)
theorem dX1_turn_65 : decode cX1_turn 65 = .ok (.goto 4, 3) := dk_167 0 4 (dk_at dksX1_turn_2 20 rfl rfl)
theorem dX1_turn_68 : decode cX1_turn 68 = .ok (.iconst 0, 1) := dk_3 (dk_at dksX1_turn_2 23 rfl rfl)
theorem dX1_turn_69 : decode cX1_turn 69 = .ok (.aload_n 1, 1) := dk_43 (dk_at dksX1_turn_3 0 rfl rfl)
theorem dX1_turn_70 : decode cX1_turn 70 = .ok (.getfield 173, 3) := dk_180 0 173 (dk_at dksX1_turn_3 1 rfl rfl)
theorem dX1_turn_73 : decode cX1_turn 73 = .ok (.aload_n 0, 1) := dk_42 (dk_at dksX1_turn_3 4 rfl rfl)
theorem dX1_turn_74 : decode cX1_turn 74 = .ok (.getfield 99, 3) := dk_180 0 99 (dk_at dksX1_turn_3 5 rfl rfl)
theorem dX1_turn_77 : decode cX1_turn 77 = .ok (.if_icmp .le 7, 3) := dk_164 0 7 (dk_at dksX1_turn_3 8 rfl rfl)
theorem dX1_turn_80 : decode cX1_turn 80 = .ok (.iconst 1, 1) := dk_4 (dk_at dksX1_turn_3 11 rfl rfl)
theorem dX1_turn_81 : decode cX1_turn 81 = .ok (.goto 4, 3) := dk_167 0 4 (dk_at dksX1_turn_3 12 rfl rfl)
theorem dX1_turn_84 : decode cX1_turn 84 = .ok (.iconst 0, 1) := dk_3 (dk_at dksX1_turn_3 15 rfl rfl)
theorem dX1_turn_85 : decode cX1_turn 85 = .ok (.if_icmp .ne 17, 3) := dk_160 0 17 (dk_at dksX1_turn_3 16 rfl rfl)
theorem dX1_turn_88 : decode cX1_turn 88 = .ok (.aload_n 3, 1) := dk_45 (dk_at dksX1_turn_3 19 rfl rfl)
theorem dX1_turn_89 : decode cX1_turn 89 = .ok (.getfield 173, 3) := dk_180 0 173 (dk_at dksX1_turn_3 20 rfl rfl)
theorem dX1_turn_92 : decode cX1_turn 92 = .ok (.aload_n 1, 1) := dk_43 (dk_at dksX1_turn_3 23 rfl rfl)
theorem dX1_turn_93 : decode cX1_turn 93 = .ok (.getfield 173, 3) := dk_180 0 173 (dk_at dksX1_turn_4 0 rfl rfl)
theorem dX1_turn_96 : decode cX1_turn 96 = .ok (.if_icmp .ge 19, 3) := dk_162 0 19 (dk_at dksX1_turn_4 3 rfl rfl)
theorem dX1_turn_99 : decode cX1_turn 99 = .ok (.goto 14, 3) := dk_167 0 14 (dk_at dksX1_turn_4 6 rfl rfl)
theorem dX1_turn_102 : decode cX1_turn 102 = .ok (.aload_n 3, 1) := dk_45 (dk_at dksX1_turn_4 9 rfl rfl)
theorem dX1_turn_103 : decode cX1_turn 103 = .ok (.getfield 173, 3) := dk_180 0 173 (dk_at dksX1_turn_4 10 rfl rfl)
theorem dX1_turn_106 : decode cX1_turn 106 = .ok (.aload_n 0, 1) := dk_42 (dk_at dksX1_turn_4 13 rfl rfl)
theorem dX1_turn_107 : decode cX1_turn 107 = .ok (.getfield 99, 3) := dk_180 0 99 (dk_at dksX1_turn_4 14 rfl rfl)
theorem dX1_turn_110 : decode cX1_turn 110 = .ok (.if_icmp .le 5, 3) := dk_164 0 5 (dk_at dksX1_turn_4 17 rfl rfl)
theorem dX1_turn_113 : decode cX1_turn 113 = .ok (.aload_n 3, 1) := dk_45 (dk_at dksX1_turn_4 20 rfl rfl)
theorem dX1_turn_114 : decode cX1_turn 114 = .ok (.astore_n 1, 1) := dk_76 (dk_at dksX1_turn_4 21 rfl rfl)
theorem dX1_turn_115 : decode cX1_turn 115 = .ok (.iinc 2 1, 3) := dk_132 2 1 (dk_at dksX1_turn_5 0 rfl rfl)
theorem dX1_turn_118 : decode cX1_turn 118 = .ok (.goto (-114), 3) := dk_167 255 142 (dk_at dksX1_turn_5 3 rfl rfl)
theorem dX1_turn_121 : decode cX1_turn 121 = .ok (.aload_n 1, 1) := dk_43 (dk_at dksX1_turn_5 6 rfl rfl)
theorem dX1_turn_122 : decode cX1_turn 122 = .ok (.areturn, 1) := dk_176 (dk_at dksX1_turn_5 7 rfl rfl)
abbrev cX1_waiting : ByteArray := prog_1_method_43_code
def yX1_waiting : MethodName := ⟨RX1, "waiting", "()I"⟩
theorem dX1_waiting_0 : decode cX1_waiting 0 = .ok (.aload_n 0, 1) := by decide +kernel
theorem dX1_waiting_1 : decode cX1_waiting 1 = .ok (.getfield 111, 3) := by decide +kernel
theorem dX1_waiting_4 : decode cX1_waiting 4 = .ok (.ireturn, 1) := by decide +kernel
abbrev cX1_take : ByteArray := prog_1_method_45_code
def yX1_take : MethodName := ⟨RX1, "take", "(I)V"⟩
def dkwX1_take_2 : List UInt8 := [167, 255, 231, 42, 89, 180, 0, 111, 28, 100, 181, 0, 111, 177]
abbrev dktX1_take_2 : List UInt8 := dkwX1_take_2 ++ []
def dkwX1_take_1 : List UInt8 := [180, 0, 111, 162, 0, 23, 42, 180, 0, 47, 29, 28, 100, 42, 180, 0, 47, 29, 51, 84, 132, 3, 1]
abbrev dktX1_take_1 : List UInt8 := dkwX1_take_1 ++ dktX1_take_2
def dkwX1_take_0 : List UInt8 := [27, 4, 162, 0, 7, 3, 167, 0, 11, 27, 42, 180, 0, 111, 184, 1, 84, 61, 28, 62, 29, 42]
abbrev dktX1_take_0 : List UInt8 := dkwX1_take_0 ++ dktX1_take_1
theorem dksX1_take_0 : cX1_take.data.toList.drop 0 = dktX1_take_0 := by decide +kernel
theorem dksX1_take_1 : cX1_take.data.toList.drop 22 = dktX1_take_1 := dk_seg dksX1_take_0 22 rfl rfl
theorem dksX1_take_2 : cX1_take.data.toList.drop 45 = dktX1_take_2 := dk_seg dksX1_take_1 23 rfl rfl
theorem dX1_take_0 : decode cX1_take 0 = .ok (.iload_n 1, 1) := dk_27 (dk_at dksX1_take_0 0 rfl rfl)
theorem dX1_take_1 : decode cX1_take 1 = .ok (.iconst 1, 1) := dk_4 (dk_at dksX1_take_0 1 rfl rfl)
theorem dX1_take_2 : decode cX1_take 2 = .ok (.if_icmp .ge 7, 3) := dk_162 0 7 (dk_at dksX1_take_0 2 rfl rfl)
theorem dX1_take_5 : decode cX1_take 5 = .ok (.iconst 0, 1) := dk_3 (dk_at dksX1_take_0 5 rfl rfl)
theorem dX1_take_6 : decode cX1_take 6 = .ok (.goto 11, 3) := dk_167 0 11 (dk_at dksX1_take_0 6 rfl rfl)
theorem dX1_take_9 : decode cX1_take 9 = .ok (.iload_n 1, 1) := dk_27 (dk_at dksX1_take_0 9 rfl rfl)
theorem dX1_take_10 : decode cX1_take 10 = .ok (.aload_n 0, 1) := dk_42 (dk_at dksX1_take_0 10 rfl rfl)
theorem dX1_take_11 : decode cX1_take 11 = .ok (.getfield 111, 3) := dk_180 0 111 (dk_at dksX1_take_0 11 rfl rfl)
theorem dX1_take_14 : decode cX1_take 14 = .ok (.invokestatic 340, 3) := dk_184 1 84 (dk_at dksX1_take_0 14 rfl rfl)
theorem dX1_take_17 : decode cX1_take 17 = .ok (.istore_n 2, 1) := dk_61 (dk_at dksX1_take_0 17 rfl rfl)
theorem dX1_take_18 : decode cX1_take 18 = .ok (.iload_n 2, 1) := dk_28 (dk_at dksX1_take_0 18 rfl rfl)
theorem dX1_take_19 : decode cX1_take 19 = .ok (.istore_n 3, 1) := dk_62 (dk_at dksX1_take_0 19 rfl rfl)
theorem dX1_take_20 : decode cX1_take 20 = .ok (.iload_n 3, 1) := dk_29 (dk_at dksX1_take_0 20 rfl rfl)
theorem dX1_take_21 : decode cX1_take 21 = .ok (.aload_n 0, 1) := dk_42 (dk_at dksX1_take_0 21 rfl rfl)
theorem dX1_take_22 : decode cX1_take 22 = .ok (.getfield 111, 3) := dk_180 0 111 (dk_at dksX1_take_1 0 rfl rfl)
theorem dX1_take_25 : decode cX1_take 25 = .ok (.if_icmp .ge 23, 3) := dk_162 0 23 (dk_at dksX1_take_1 3 rfl rfl)
theorem dX1_take_28 : decode cX1_take 28 = .ok (.aload_n 0, 1) := dk_42 (dk_at dksX1_take_1 6 rfl rfl)
theorem dX1_take_29 : decode cX1_take 29 = .ok (.getfield 47, 3) := dk_180 0 47 (dk_at dksX1_take_1 7 rfl rfl)
theorem dX1_take_32 : decode cX1_take 32 = .ok (.iload_n 3, 1) := dk_29 (dk_at dksX1_take_1 10 rfl rfl)
theorem dX1_take_33 : decode cX1_take 33 = .ok (.iload_n 2, 1) := dk_28 (dk_at dksX1_take_1 11 rfl rfl)
theorem dX1_take_34 : decode cX1_take 34 = .ok (.isub, 1) := dk_100 (dk_at dksX1_take_1 12 rfl rfl)
theorem dX1_take_35 : decode cX1_take 35 = .ok (.aload_n 0, 1) := dk_42 (dk_at dksX1_take_1 13 rfl rfl)
theorem dX1_take_36 : decode cX1_take 36 = .ok (.getfield 47, 3) := dk_180 0 47 (dk_at dksX1_take_1 14 rfl rfl)
theorem dX1_take_39 : decode cX1_take 39 = .ok (.iload_n 3, 1) := dk_29 (dk_at dksX1_take_1 17 rfl rfl)
theorem dX1_take_40 : decode cX1_take 40 = .ok (.baload, 1) := dk_51 (dk_at dksX1_take_1 18 rfl rfl)
theorem dX1_take_41 : decode cX1_take 41 = .ok (.bastore, 1) := dk_84 (dk_at dksX1_take_1 19 rfl rfl)
theorem dX1_take_42 : decode cX1_take 42 = .ok (.iinc 3 1, 3) := dk_132 3 1 (dk_at dksX1_take_1 20 rfl rfl)
theorem dX1_take_45 : decode cX1_take 45 = .ok (.goto (-25), 3) := dk_167 255 231 (dk_at dksX1_take_2 0 rfl rfl)
theorem dX1_take_48 : decode cX1_take 48 = .ok (.aload_n 0, 1) := dk_42 (dk_at dksX1_take_2 3 rfl rfl)
theorem dX1_take_49 : decode cX1_take 49 = .ok (.dup, 1) := dk_89 (dk_at dksX1_take_2 4 rfl rfl)
theorem dX1_take_50 : decode cX1_take 50 = .ok (.getfield 111, 3) := dk_180 0 111 (dk_at dksX1_take_2 5 rfl rfl)
theorem dX1_take_53 : decode cX1_take 53 = .ok (.iload_n 2, 1) := dk_28 (dk_at dksX1_take_2 8 rfl rfl)
theorem dX1_take_54 : decode cX1_take 54 = .ok (.isub, 1) := dk_100 (dk_at dksX1_take_2 9 rfl rfl)
theorem dX1_take_55 : decode cX1_take 55 = .ok (.putfield 111, 3) := dk_181 0 111 (dk_at dksX1_take_2 10 rfl rfl)
theorem dX1_take_58 : decode cX1_take 58 = .ok (.return_, 1) := dk_177 (dk_at dksX1_take_2 13 rfl rfl)
abbrev cX1_away : ByteArray := prog_1_method_46_code
def yX1_away : MethodName := ⟨RX1, "away", "()I"⟩
theorem dX1_away_0 : decode cX1_away 0 = .ok (.aload_n 0, 1) := by decide +kernel
theorem dX1_away_1 : decode cX1_away 1 = .ok (.getfield 96, 3) := by decide +kernel
theorem dX1_away_4 : decode cX1_away 4 = .ok (.ireturn, 1) := by decide +kernel
abbrev cX1_about : ByteArray := prog_1_method_47_code
def yX1_about : MethodName := ⟨RX1, "about", "(I)I"⟩
def dkwX1_about_4 : List UInt8 := [182, 1, 106, 172, 42, 180, 0, 36, 180, 0, 91, 172, 2, 172]
abbrev dktX1_about_4 : List UInt8 := dkwX1_about_4 ++ []
def dkwX1_about_3 : List UInt8 := [180, 0, 29, 180, 1, 103, 172, 42, 180, 0, 29, 180, 1, 104, 182, 0, 66, 172, 42, 180, 0, 29]
abbrev dktX1_about_3 : List UInt8 := dkwX1_about_3 ++ dktX1_about_4
def dkwX1_about_2 : List UInt8 := [42, 180, 0, 93, 172, 42, 180, 0, 20, 182, 0, 66, 172, 42, 180, 0, 102, 172, 42, 180, 0, 108, 172, 42]
abbrev dktX1_about_2 : List UInt8 := dkwX1_about_2 ++ dktX1_about_3
def dkwX1_about_1 : List UInt8 := [170, 0, 0, 0, 0, 0, 105, 0, 0, 0, 0, 0, 0, 0, 7, 0, 0, 0, 47, 0, 0, 0, 52, 0, 0, 0, 60, 0, 0, 0, 65, 0, 0, 0, 70, 0, 0, 0, 78, 0, 0, 0, 89, 0, 0, 0, 97]
abbrev dktX1_about_1 : List UInt8 := dkwX1_about_1 ++ dktX1_about_2
def dkwX1_about_0 : List UInt8 := [27]
abbrev dktX1_about_0 : List UInt8 := dkwX1_about_0 ++ dktX1_about_1
theorem dksX1_about_0 : cX1_about.data.toList.drop 0 = dktX1_about_0 := by decide +kernel
theorem dksX1_about_1 : cX1_about.data.toList.drop 1 = dktX1_about_1 := dk_seg dksX1_about_0 1 rfl rfl
theorem dksX1_about_2 : cX1_about.data.toList.drop 48 = dktX1_about_2 := dk_seg dksX1_about_1 47 rfl rfl
theorem dksX1_about_3 : cX1_about.data.toList.drop 72 = dktX1_about_3 := dk_seg dksX1_about_2 24 rfl rfl
theorem dksX1_about_4 : cX1_about.data.toList.drop 94 = dktX1_about_4 := dk_seg dksX1_about_3 22 rfl rfl
theorem dX1_about_0 : decode cX1_about 0 = .ok (.iload_n 1, 1) := dk_27 (dk_at dksX1_about_0 0 rfl rfl)
theorem dX1_about_1 : decode cX1_about 1 = .ok (.tableswitch 105 0 7 #[47, 52, 60, 65, 70, 78, 89, 97], 47) := by decide +kernel
theorem dX1_about_48 : decode cX1_about 48 = .ok (.aload_n 0, 1) := dk_42 (dk_at dksX1_about_2 0 rfl rfl)
theorem dX1_about_49 : decode cX1_about 49 = .ok (.getfield 93, 3) := dk_180 0 93 (dk_at dksX1_about_2 1 rfl rfl)
theorem dX1_about_52 : decode cX1_about 52 = .ok (.ireturn, 1) := dk_172 (dk_at dksX1_about_2 4 rfl rfl)
theorem dX1_about_53 : decode cX1_about 53 = .ok (.aload_n 0, 1) := dk_42 (dk_at dksX1_about_2 5 rfl rfl)
theorem dX1_about_54 : decode cX1_about 54 = .ok (.getfield 20, 3) := dk_180 0 20 (dk_at dksX1_about_2 6 rfl rfl)
theorem dX1_about_57 : decode cX1_about 57 = .ok (.invokevirtual 66, 3) := dk_182 0 66 (dk_at dksX1_about_2 9 rfl rfl)
theorem dX1_about_60 : decode cX1_about 60 = .ok (.ireturn, 1) := dk_172 (dk_at dksX1_about_2 12 rfl rfl)
theorem dX1_about_61 : decode cX1_about 61 = .ok (.aload_n 0, 1) := dk_42 (dk_at dksX1_about_2 13 rfl rfl)
theorem dX1_about_62 : decode cX1_about 62 = .ok (.getfield 102, 3) := dk_180 0 102 (dk_at dksX1_about_2 14 rfl rfl)
theorem dX1_about_65 : decode cX1_about 65 = .ok (.ireturn, 1) := dk_172 (dk_at dksX1_about_2 17 rfl rfl)
theorem dX1_about_66 : decode cX1_about 66 = .ok (.aload_n 0, 1) := dk_42 (dk_at dksX1_about_2 18 rfl rfl)
theorem dX1_about_67 : decode cX1_about 67 = .ok (.getfield 108, 3) := dk_180 0 108 (dk_at dksX1_about_2 19 rfl rfl)
theorem dX1_about_70 : decode cX1_about 70 = .ok (.ireturn, 1) := dk_172 (dk_at dksX1_about_2 22 rfl rfl)
theorem dX1_about_71 : decode cX1_about 71 = .ok (.aload_n 0, 1) := dk_42 (dk_at dksX1_about_2 23 rfl rfl)
theorem dX1_about_72 : decode cX1_about 72 = .ok (.getfield 29, 3) := dk_180 0 29 (dk_at dksX1_about_3 0 rfl rfl)
theorem dX1_about_75 : decode cX1_about 75 = .ok (.getfield 359, 3) := dk_180 1 103 (dk_at dksX1_about_3 3 rfl rfl)
theorem dX1_about_78 : decode cX1_about 78 = .ok (.ireturn, 1) := dk_172 (dk_at dksX1_about_3 6 rfl rfl)
theorem dX1_about_79 : decode cX1_about 79 = .ok (.aload_n 0, 1) := dk_42 (dk_at dksX1_about_3 7 rfl rfl)
theorem dX1_about_80 : decode cX1_about 80 = .ok (.getfield 29, 3) := dk_180 0 29 (dk_at dksX1_about_3 8 rfl rfl)
theorem dX1_about_83 : decode cX1_about 83 = .ok (.getfield 360, 3) := dk_180 1 104 (dk_at dksX1_about_3 11 rfl rfl)
theorem dX1_about_86 : decode cX1_about 86 = .ok (.invokevirtual 66, 3) := dk_182 0 66 (dk_at dksX1_about_3 14 rfl rfl)
theorem dX1_about_89 : decode cX1_about 89 = .ok (.ireturn, 1) := dk_172 (dk_at dksX1_about_3 17 rfl rfl)
theorem dX1_about_90 : decode cX1_about 90 = .ok (.aload_n 0, 1) := dk_42 (dk_at dksX1_about_3 18 rfl rfl)
theorem dX1_about_91 : decode cX1_about 91 = .ok (.getfield 29, 3) := dk_180 0 29 (dk_at dksX1_about_3 19 rfl rfl)
theorem dX1_about_94 : decode cX1_about 94 = .ok (.invokevirtual 362, 3) := dk_182 1 106 (dk_at dksX1_about_4 0 rfl rfl)
theorem dX1_about_97 : decode cX1_about 97 = .ok (.ireturn, 1) := dk_172 (dk_at dksX1_about_4 3 rfl rfl)
theorem dX1_about_98 : decode cX1_about 98 = .ok (.aload_n 0, 1) := dk_42 (dk_at dksX1_about_4 4 rfl rfl)
theorem dX1_about_99 : decode cX1_about 99 = .ok (.getfield 36, 3) := dk_180 0 36 (dk_at dksX1_about_4 5 rfl rfl)
theorem dX1_about_102 : decode cX1_about 102 = .ok (.getfield 91, 3) := dk_180 0 91 (dk_at dksX1_about_4 8 rfl rfl)
theorem dX1_about_105 : decode cX1_about 105 = .ok (.ireturn, 1) := dk_172 (dk_at dksX1_about_4 11 rfl rfl)
theorem dX1_about_106 : decode cX1_about 106 = .ok (.iconst (-1), 1) := dk_2 (dk_at dksX1_about_4 12 rfl rfl)
theorem dX1_about_107 : decode cX1_about 107 = .ok (.ireturn, 1) := dk_172 (dk_at dksX1_about_4 13 rfl rfl)
abbrev cX1_page : ByteArray := prog_1_method_10_code
def yX1_page : MethodName := ⟨RX1, "page", "(IIII)I"⟩
def dkwX1_page_7 : List UInt8 := [100, 172]
abbrev dktX1_page_7 : List UInt8 := dkwX1_page_7 ++ []
def dkwX1_page_6 : List UInt8 := [187, 0, 135, 89, 25, 6, 29, 21, 4, 183, 0, 167, 182, 0, 53, 87, 42, 180, 0, 16, 182, 0, 66, 4]
abbrev dktX1_page_6 : List UInt8 := dkwX1_page_6 ++ dktX1_page_7
def dkwX1_page_5 : List UInt8 := [180, 0, 16, 182, 0, 66, 16, 8, 160, 0, 11, 187, 0, 164, 89, 183, 0, 166, 191, 42, 180, 0, 16]
abbrev dktX1_page_5 : List UInt8 := dkwX1_page_5 ++ dktX1_page_6
def dkwX1_page_4 : List UInt8 := [182, 0, 157, 58, 6, 42, 25, 6, 182, 0, 160, 199, 0, 7, 4, 167, 0, 4, 3, 184, 0, 149, 42]
abbrev dktX1_page_4 : List UInt8 := dkwX1_page_4 ++ dktX1_page_5
def dkwX1_page_3 : List UInt8 := [58, 5, 25, 5, 16, 47, 182, 0, 126, 87, 25, 5, 27, 184, 0, 154, 25, 5, 28, 184, 0, 154, 25, 5]
abbrev dktX1_page_3 : List UInt8 := dkwX1_page_3 ++ dktX1_page_4
def dkwX1_page_2 : List UInt8 := [17, 0, 255, 184, 0, 1, 154, 0, 7, 4, 167, 0, 4, 3, 184, 0, 149, 187, 0, 127, 89, 183, 0, 153]
abbrev dktX1_page_2 : List UInt8 := dkwX1_page_2 ++ dktX1_page_3
def dkwX1_page_1 : List UInt8 := [153, 0, 10, 27, 16, 24, 124, 153, 0, 29, 29, 3, 16, 60, 184, 0, 1, 154, 0, 19, 21, 4, 3]
abbrev dktX1_page_1 : List UInt8 := dkwX1_page_1 ++ dktX1_page_2
def dkwX1_page_0 : List UInt8 := [27, 184, 0, 146, 153, 0, 54, 28, 184, 0, 146, 153, 0, 47, 28, 16, 24, 124, 154, 0, 40, 28]
abbrev dktX1_page_0 : List UInt8 := dkwX1_page_0 ++ dktX1_page_1
theorem dksX1_page_0 : cX1_page.data.toList.drop 0 = dktX1_page_0 := by decide +kernel
theorem dksX1_page_1 : cX1_page.data.toList.drop 22 = dktX1_page_1 := dk_seg dksX1_page_0 22 rfl rfl
theorem dksX1_page_2 : cX1_page.data.toList.drop 45 = dktX1_page_2 := dk_seg dksX1_page_1 23 rfl rfl
theorem dksX1_page_3 : cX1_page.data.toList.drop 69 = dktX1_page_3 := dk_seg dksX1_page_2 24 rfl rfl
theorem dksX1_page_4 : cX1_page.data.toList.drop 93 = dktX1_page_4 := dk_seg dksX1_page_3 24 rfl rfl
theorem dksX1_page_5 : cX1_page.data.toList.drop 116 = dktX1_page_5 := dk_seg dksX1_page_4 23 rfl rfl
theorem dksX1_page_6 : cX1_page.data.toList.drop 139 = dktX1_page_6 := dk_seg dksX1_page_5 23 rfl rfl
theorem dksX1_page_7 : cX1_page.data.toList.drop 163 = dktX1_page_7 := dk_seg dksX1_page_6 24 rfl rfl
theorem dX1_page_0 : decode cX1_page 0 = .ok (.iload_n 1, 1) := dk_27 (dk_at dksX1_page_0 0 rfl rfl)
theorem dX1_page_1 : decode cX1_page 1 = .ok (.invokestatic 146, 3) := dk_184 0 146 (dk_at dksX1_page_0 1 rfl rfl)
theorem dX1_page_4 : decode cX1_page 4 = .ok (.ifCond .eq 54, 3) := dk_153 0 54 (dk_at dksX1_page_0 4 rfl rfl)
theorem dX1_page_7 : decode cX1_page 7 = .ok (.iload_n 2, 1) := dk_28 (dk_at dksX1_page_0 7 rfl rfl)
theorem dX1_page_8 : decode cX1_page 8 = .ok (.invokestatic 146, 3) := dk_184 0 146 (dk_at dksX1_page_0 8 rfl rfl)
theorem dX1_page_11 : decode cX1_page 11 = .ok (.ifCond .eq 47, 3) := dk_153 0 47 (dk_at dksX1_page_0 11 rfl rfl)
theorem dX1_page_14 : decode cX1_page 14 = .ok (.iload_n 2, 1) := dk_28 (dk_at dksX1_page_0 14 rfl rfl)
theorem dX1_page_15 : decode cX1_page 15 = .ok (.bipush 24, 2) := dk_16 24 (dk_at dksX1_page_0 15 rfl rfl)
theorem dX1_page_17 : decode cX1_page 17 = .ok (.iushr, 1) := dk_124 (dk_at dksX1_page_0 17 rfl rfl)
theorem dX1_page_18 : decode cX1_page 18 = .ok (.ifCond .ne 40, 3) := dk_154 0 40 (dk_at dksX1_page_0 18 rfl rfl)
theorem dX1_page_21 : decode cX1_page 21 = .ok (.iload_n 2, 1) := dk_28 (dk_at dksX1_page_0 21 rfl rfl)
theorem dX1_page_22 : decode cX1_page 22 = .ok (.ifCond .eq 10, 3) := dk_153 0 10 (dk_at dksX1_page_1 0 rfl rfl)
theorem dX1_page_25 : decode cX1_page 25 = .ok (.iload_n 1, 1) := dk_27 (dk_at dksX1_page_1 3 rfl rfl)
theorem dX1_page_26 : decode cX1_page 26 = .ok (.bipush 24, 2) := dk_16 24 (dk_at dksX1_page_1 4 rfl rfl)
theorem dX1_page_28 : decode cX1_page 28 = .ok (.iushr, 1) := dk_124 (dk_at dksX1_page_1 6 rfl rfl)
theorem dX1_page_29 : decode cX1_page 29 = .ok (.ifCond .eq 29, 3) := dk_153 0 29 (dk_at dksX1_page_1 7 rfl rfl)
theorem dX1_page_32 : decode cX1_page 32 = .ok (.iload_n 3, 1) := dk_29 (dk_at dksX1_page_1 10 rfl rfl)
theorem dX1_page_33 : decode cX1_page 33 = .ok (.iconst 0, 1) := dk_3 (dk_at dksX1_page_1 11 rfl rfl)
theorem dX1_page_34 : decode cX1_page 34 = .ok (.bipush 60, 2) := dk_16 60 (dk_at dksX1_page_1 12 rfl rfl)
theorem dX1_page_36 : decode cX1_page 36 = .ok (.invokestatic 1, 3) := dk_184 0 1 (dk_at dksX1_page_1 14 rfl rfl)
theorem dX1_page_39 : decode cX1_page 39 = .ok (.ifCond .ne 19, 3) := dk_154 0 19 (dk_at dksX1_page_1 17 rfl rfl)
theorem dX1_page_42 : decode cX1_page 42 = .ok (.iload 4, 2) := dk_21 4 (dk_at dksX1_page_1 20 rfl rfl)
theorem dX1_page_44 : decode cX1_page 44 = .ok (.iconst 0, 1) := dk_3 (dk_at dksX1_page_1 22 rfl rfl)
theorem dX1_page_45 : decode cX1_page 45 = .ok (.sipush 255, 3) := dk_17 0 255 (dk_at dksX1_page_2 0 rfl rfl)
theorem dX1_page_48 : decode cX1_page 48 = .ok (.invokestatic 1, 3) := dk_184 0 1 (dk_at dksX1_page_2 3 rfl rfl)
theorem dX1_page_51 : decode cX1_page 51 = .ok (.ifCond .ne 7, 3) := dk_154 0 7 (dk_at dksX1_page_2 6 rfl rfl)
theorem dX1_page_54 : decode cX1_page 54 = .ok (.iconst 1, 1) := dk_4 (dk_at dksX1_page_2 9 rfl rfl)
theorem dX1_page_55 : decode cX1_page 55 = .ok (.goto 4, 3) := dk_167 0 4 (dk_at dksX1_page_2 10 rfl rfl)
theorem dX1_page_58 : decode cX1_page 58 = .ok (.iconst 0, 1) := dk_3 (dk_at dksX1_page_2 13 rfl rfl)
theorem dX1_page_59 : decode cX1_page 59 = .ok (.invokestatic 149, 3) := dk_184 0 149 (dk_at dksX1_page_2 14 rfl rfl)
theorem dX1_page_62 : decode cX1_page 62 = .ok (.new 127, 3) := dk_187 0 127 (dk_at dksX1_page_2 17 rfl rfl)
theorem dX1_page_65 : decode cX1_page 65 = .ok (.dup, 1) := dk_89 (dk_at dksX1_page_2 20 rfl rfl)
theorem dX1_page_66 : decode cX1_page 66 = .ok (.invokespecial 153, 3) := dk_183 0 153 (dk_at dksX1_page_2 21 rfl rfl)
theorem dX1_page_69 : decode cX1_page 69 = .ok (.astore 5, 2) := dk_58 5 (dk_at dksX1_page_3 0 rfl rfl)
theorem dX1_page_71 : decode cX1_page 71 = .ok (.aload 5, 2) := dk_25 5 (dk_at dksX1_page_3 2 rfl rfl)
theorem dX1_page_73 : decode cX1_page 73 = .ok (.bipush 47, 2) := dk_16 47 (dk_at dksX1_page_3 4 rfl rfl)
theorem dX1_page_75 : decode cX1_page 75 = .ok (.invokevirtual 126, 3) := dk_182 0 126 (dk_at dksX1_page_3 6 rfl rfl)
theorem dX1_page_78 : decode cX1_page 78 = .ok (.pop, 1) := dk_87 (dk_at dksX1_page_3 9 rfl rfl)
theorem dX1_page_79 : decode cX1_page 79 = .ok (.aload 5, 2) := dk_25 5 (dk_at dksX1_page_3 10 rfl rfl)
theorem dX1_page_81 : decode cX1_page 81 = .ok (.iload_n 1, 1) := dk_27 (dk_at dksX1_page_3 12 rfl rfl)
theorem dX1_page_82 : decode cX1_page 82 = .ok (.invokestatic 154, 3) := dk_184 0 154 (dk_at dksX1_page_3 13 rfl rfl)
theorem dX1_page_85 : decode cX1_page 85 = .ok (.aload 5, 2) := dk_25 5 (dk_at dksX1_page_3 16 rfl rfl)
theorem dX1_page_87 : decode cX1_page 87 = .ok (.iload_n 2, 1) := dk_28 (dk_at dksX1_page_3 18 rfl rfl)
theorem dX1_page_88 : decode cX1_page 88 = .ok (.invokestatic 154, 3) := dk_184 0 154 (dk_at dksX1_page_3 19 rfl rfl)
theorem dX1_page_91 : decode cX1_page 91 = .ok (.aload 5, 2) := dk_25 5 (dk_at dksX1_page_3 22 rfl rfl)
theorem dX1_page_93 : decode cX1_page 93 = .ok (.invokevirtual 157, 3) := dk_182 0 157 (dk_at dksX1_page_4 0 rfl rfl)
theorem dX1_page_96 : decode cX1_page 96 = .ok (.astore 6, 2) := dk_58 6 (dk_at dksX1_page_4 3 rfl rfl)
theorem dX1_page_98 : decode cX1_page 98 = .ok (.aload_n 0, 1) := dk_42 (dk_at dksX1_page_4 5 rfl rfl)
theorem dX1_page_99 : decode cX1_page 99 = .ok (.aload 6, 2) := dk_25 6 (dk_at dksX1_page_4 6 rfl rfl)
theorem dX1_page_101 : decode cX1_page 101 = .ok (.invokevirtual 160, 3) := dk_182 0 160 (dk_at dksX1_page_4 8 rfl rfl)
theorem dX1_page_104 : decode cX1_page 104 = .ok (.ifnonnull 7, 3) := dk_199 0 7 (dk_at dksX1_page_4 11 rfl rfl)
theorem dX1_page_107 : decode cX1_page 107 = .ok (.iconst 1, 1) := dk_4 (dk_at dksX1_page_4 14 rfl rfl)
theorem dX1_page_108 : decode cX1_page 108 = .ok (.goto 4, 3) := dk_167 0 4 (dk_at dksX1_page_4 15 rfl rfl)
theorem dX1_page_111 : decode cX1_page 111 = .ok (.iconst 0, 1) := dk_3 (dk_at dksX1_page_4 18 rfl rfl)
theorem dX1_page_112 : decode cX1_page 112 = .ok (.invokestatic 149, 3) := dk_184 0 149 (dk_at dksX1_page_4 19 rfl rfl)
theorem dX1_page_115 : decode cX1_page 115 = .ok (.aload_n 0, 1) := dk_42 (dk_at dksX1_page_4 22 rfl rfl)
theorem dX1_page_116 : decode cX1_page 116 = .ok (.getfield 16, 3) := dk_180 0 16 (dk_at dksX1_page_5 0 rfl rfl)
theorem dX1_page_119 : decode cX1_page 119 = .ok (.invokevirtual 66, 3) := dk_182 0 66 (dk_at dksX1_page_5 3 rfl rfl)
theorem dX1_page_122 : decode cX1_page 122 = .ok (.bipush 8, 2) := dk_16 8 (dk_at dksX1_page_5 6 rfl rfl)
theorem dX1_page_124 : decode cX1_page 124 = .ok (.if_icmp .ne 11, 3) := dk_160 0 11 (dk_at dksX1_page_5 8 rfl rfl)
theorem dX1_page_127 : decode cX1_page 127 = .ok (.new 164, 3) := dk_187 0 164 (dk_at dksX1_page_5 11 rfl rfl)
theorem dX1_page_130 : decode cX1_page 130 = .ok (.dup, 1) := dk_89 (dk_at dksX1_page_5 14 rfl rfl)
theorem dX1_page_131 : decode cX1_page 131 = .ok (.invokespecial 166, 3) := dk_183 0 166 (dk_at dksX1_page_5 15 rfl rfl)
theorem dX1_page_134 : decode cX1_page 134 = .ok (.athrow, 1) := dk_191 (dk_at dksX1_page_5 18 rfl rfl)
theorem dX1_page_135 : decode cX1_page 135 = .ok (.aload_n 0, 1) := dk_42 (dk_at dksX1_page_5 19 rfl rfl)
theorem dX1_page_136 : decode cX1_page 136 = .ok (.getfield 16, 3) := dk_180 0 16 (dk_at dksX1_page_5 20 rfl rfl)
theorem dX1_page_139 : decode cX1_page 139 = .ok (.new 135, 3) := dk_187 0 135 (dk_at dksX1_page_6 0 rfl rfl)
theorem dX1_page_142 : decode cX1_page 142 = .ok (.dup, 1) := dk_89 (dk_at dksX1_page_6 3 rfl rfl)
theorem dX1_page_143 : decode cX1_page 143 = .ok (.aload 6, 2) := dk_25 6 (dk_at dksX1_page_6 4 rfl rfl)
theorem dX1_page_145 : decode cX1_page 145 = .ok (.iload_n 3, 1) := dk_29 (dk_at dksX1_page_6 6 rfl rfl)
theorem dX1_page_146 : decode cX1_page 146 = .ok (.iload 4, 2) := dk_21 4 (dk_at dksX1_page_6 7 rfl rfl)
theorem dX1_page_148 : decode cX1_page 148 = .ok (.invokespecial 167, 3) := dk_183 0 167 (dk_at dksX1_page_6 9 rfl rfl)
theorem dX1_page_151 : decode cX1_page 151 = .ok (.invokevirtual 53, 3) := dk_182 0 53 (dk_at dksX1_page_6 12 rfl rfl)
theorem dX1_page_154 : decode cX1_page 154 = .ok (.pop, 1) := dk_87 (dk_at dksX1_page_6 15 rfl rfl)
theorem dX1_page_155 : decode cX1_page 155 = .ok (.aload_n 0, 1) := dk_42 (dk_at dksX1_page_6 16 rfl rfl)
theorem dX1_page_156 : decode cX1_page 156 = .ok (.getfield 16, 3) := dk_180 0 16 (dk_at dksX1_page_6 17 rfl rfl)
theorem dX1_page_159 : decode cX1_page 159 = .ok (.invokevirtual 66, 3) := dk_182 0 66 (dk_at dksX1_page_6 20 rfl rfl)
theorem dX1_page_162 : decode cX1_page 162 = .ok (.iconst 1, 1) := dk_4 (dk_at dksX1_page_6 23 rfl rfl)
theorem dX1_page_163 : decode cX1_page 163 = .ok (.isub, 1) := dk_100 (dk_at dksX1_page_7 0 rfl rfl)
theorem dX1_page_164 : decode cX1_page 164 = .ok (.ireturn, 1) := dk_172 (dk_at dksX1_page_7 1 rfl rfl)
abbrev cX1_isText : ByteArray := prog_1_method_7_code
def yX1_isText : MethodName := ⟨RX1, "isText", "(I)Z"⟩
def dkwX1_isText_2 : List UInt8 := [184, 0, 122, 153, 0, 7, 4, 167, 0, 4, 3, 61, 132, 3, 255, 167, 255, 200, 28, 172]
abbrev dktX1_isText_2 : List UInt8 := dkwX1_isText_2 ++ []
def dkwX1_isText_1 : List UInt8 := [154, 0, 8, 21, 4, 153, 0, 7, 4, 167, 0, 4, 3, 60, 28, 153, 0, 19, 27, 153, 0, 11, 21, 4]
abbrev dktX1_isText_1 : List UInt8 := dkwX1_isText_1 ++ dktX1_isText_2
def dkwX1_isText_0 : List UInt8 := [3, 60, 4, 61, 6, 62, 29, 155, 0, 58, 26, 16, 8, 29, 104, 122, 17, 0, 255, 126, 54, 4, 27]
abbrev dktX1_isText_0 : List UInt8 := dkwX1_isText_0 ++ dktX1_isText_1
theorem dksX1_isText_0 : cX1_isText.data.toList.drop 0 = dktX1_isText_0 := by decide +kernel
theorem dksX1_isText_1 : cX1_isText.data.toList.drop 23 = dktX1_isText_1 := dk_seg dksX1_isText_0 23 rfl rfl
theorem dksX1_isText_2 : cX1_isText.data.toList.drop 47 = dktX1_isText_2 := dk_seg dksX1_isText_1 24 rfl rfl
theorem dX1_isText_0 : decode cX1_isText 0 = .ok (.iconst 0, 1) := dk_3 (dk_at dksX1_isText_0 0 rfl rfl)
theorem dX1_isText_1 : decode cX1_isText 1 = .ok (.istore_n 1, 1) := dk_60 (dk_at dksX1_isText_0 1 rfl rfl)
theorem dX1_isText_2 : decode cX1_isText 2 = .ok (.iconst 1, 1) := dk_4 (dk_at dksX1_isText_0 2 rfl rfl)
theorem dX1_isText_3 : decode cX1_isText 3 = .ok (.istore_n 2, 1) := dk_61 (dk_at dksX1_isText_0 3 rfl rfl)
theorem dX1_isText_4 : decode cX1_isText 4 = .ok (.iconst 3, 1) := dk_6 (dk_at dksX1_isText_0 4 rfl rfl)
theorem dX1_isText_5 : decode cX1_isText 5 = .ok (.istore_n 3, 1) := dk_62 (dk_at dksX1_isText_0 5 rfl rfl)
theorem dX1_isText_6 : decode cX1_isText 6 = .ok (.iload_n 3, 1) := dk_29 (dk_at dksX1_isText_0 6 rfl rfl)
theorem dX1_isText_7 : decode cX1_isText 7 = .ok (.ifCond .lt 58, 3) := dk_155 0 58 (dk_at dksX1_isText_0 7 rfl rfl)
theorem dX1_isText_10 : decode cX1_isText 10 = .ok (.iload_n 0, 1) := dk_26 (dk_at dksX1_isText_0 10 rfl rfl)
theorem dX1_isText_11 : decode cX1_isText 11 = .ok (.bipush 8, 2) := dk_16 8 (dk_at dksX1_isText_0 11 rfl rfl)
theorem dX1_isText_13 : decode cX1_isText 13 = .ok (.iload_n 3, 1) := dk_29 (dk_at dksX1_isText_0 13 rfl rfl)
theorem dX1_isText_14 : decode cX1_isText 14 = .ok (.imul, 1) := dk_104 (dk_at dksX1_isText_0 14 rfl rfl)
theorem dX1_isText_15 : decode cX1_isText 15 = .ok (.ishr, 1) := dk_122 (dk_at dksX1_isText_0 15 rfl rfl)
theorem dX1_isText_16 : decode cX1_isText 16 = .ok (.sipush 255, 3) := dk_17 0 255 (dk_at dksX1_isText_0 16 rfl rfl)
theorem dX1_isText_19 : decode cX1_isText 19 = .ok (.iand, 1) := dk_126 (dk_at dksX1_isText_0 19 rfl rfl)
theorem dX1_isText_20 : decode cX1_isText 20 = .ok (.istore 4, 2) := dk_54 4 (dk_at dksX1_isText_0 20 rfl rfl)
theorem dX1_isText_22 : decode cX1_isText 22 = .ok (.iload_n 1, 1) := dk_27 (dk_at dksX1_isText_0 22 rfl rfl)
theorem dX1_isText_23 : decode cX1_isText 23 = .ok (.ifCond .ne 8, 3) := dk_154 0 8 (dk_at dksX1_isText_1 0 rfl rfl)
theorem dX1_isText_26 : decode cX1_isText 26 = .ok (.iload 4, 2) := dk_21 4 (dk_at dksX1_isText_1 3 rfl rfl)
theorem dX1_isText_28 : decode cX1_isText 28 = .ok (.ifCond .eq 7, 3) := dk_153 0 7 (dk_at dksX1_isText_1 5 rfl rfl)
theorem dX1_isText_31 : decode cX1_isText 31 = .ok (.iconst 1, 1) := dk_4 (dk_at dksX1_isText_1 8 rfl rfl)
theorem dX1_isText_32 : decode cX1_isText 32 = .ok (.goto 4, 3) := dk_167 0 4 (dk_at dksX1_isText_1 9 rfl rfl)
theorem dX1_isText_35 : decode cX1_isText 35 = .ok (.iconst 0, 1) := dk_3 (dk_at dksX1_isText_1 12 rfl rfl)
theorem dX1_isText_36 : decode cX1_isText 36 = .ok (.istore_n 1, 1) := dk_60 (dk_at dksX1_isText_1 13 rfl rfl)
theorem dX1_isText_37 : decode cX1_isText 37 = .ok (.iload_n 2, 1) := dk_28 (dk_at dksX1_isText_1 14 rfl rfl)
theorem dX1_isText_38 : decode cX1_isText 38 = .ok (.ifCond .eq 19, 3) := dk_153 0 19 (dk_at dksX1_isText_1 15 rfl rfl)
theorem dX1_isText_41 : decode cX1_isText 41 = .ok (.iload_n 1, 1) := dk_27 (dk_at dksX1_isText_1 18 rfl rfl)
theorem dX1_isText_42 : decode cX1_isText 42 = .ok (.ifCond .eq 11, 3) := dk_153 0 11 (dk_at dksX1_isText_1 19 rfl rfl)
theorem dX1_isText_45 : decode cX1_isText 45 = .ok (.iload 4, 2) := dk_21 4 (dk_at dksX1_isText_1 22 rfl rfl)
theorem dX1_isText_47 : decode cX1_isText 47 = .ok (.invokestatic 122, 3) := dk_184 0 122 (dk_at dksX1_isText_2 0 rfl rfl)
theorem dX1_isText_50 : decode cX1_isText 50 = .ok (.ifCond .eq 7, 3) := dk_153 0 7 (dk_at dksX1_isText_2 3 rfl rfl)
theorem dX1_isText_53 : decode cX1_isText 53 = .ok (.iconst 1, 1) := dk_4 (dk_at dksX1_isText_2 6 rfl rfl)
theorem dX1_isText_54 : decode cX1_isText 54 = .ok (.goto 4, 3) := dk_167 0 4 (dk_at dksX1_isText_2 7 rfl rfl)
theorem dX1_isText_57 : decode cX1_isText 57 = .ok (.iconst 0, 1) := dk_3 (dk_at dksX1_isText_2 10 rfl rfl)
theorem dX1_isText_58 : decode cX1_isText 58 = .ok (.istore_n 2, 1) := dk_61 (dk_at dksX1_isText_2 11 rfl rfl)
theorem dX1_isText_59 : decode cX1_isText 59 = .ok (.iinc 3 (-1), 3) := dk_132 3 255 (dk_at dksX1_isText_2 12 rfl rfl)
theorem dX1_isText_62 : decode cX1_isText 62 = .ok (.goto (-56), 3) := dk_167 255 200 (dk_at dksX1_isText_2 15 rfl rfl)
theorem dX1_isText_65 : decode cX1_isText 65 = .ok (.iload_n 2, 1) := dk_28 (dk_at dksX1_isText_2 18 rfl rfl)
theorem dX1_isText_66 : decode cX1_isText 66 = .ok (.ireturn, 1) := dk_172 (dk_at dksX1_isText_2 19 rfl rfl)
abbrev cX1_need : ByteArray := prog_1_method_4_code
def yX1_need : MethodName := ⟨RX1, "need", "(Z)V"⟩
def dkwX1_need_0 : List UInt8 := [26, 154, 0, 11, 187, 0, 60, 89, 183, 0, 62, 191, 177]
abbrev dktX1_need_0 : List UInt8 := dkwX1_need_0 ++ []
theorem dksX1_need_0 : cX1_need.data.toList.drop 0 = dktX1_need_0 := by decide +kernel
theorem dX1_need_0 : decode cX1_need 0 = .ok (.iload_n 0, 1) := dk_26 (dk_at dksX1_need_0 0 rfl rfl)
theorem dX1_need_1 : decode cX1_need 1 = .ok (.ifCond .ne 11, 3) := dk_154 0 11 (dk_at dksX1_need_0 1 rfl rfl)
theorem dX1_need_4 : decode cX1_need 4 = .ok (.new 60, 3) := dk_187 0 60 (dk_at dksX1_need_0 4 rfl rfl)
theorem dX1_need_7 : decode cX1_need 7 = .ok (.dup, 1) := dk_89 (dk_at dksX1_need_0 7 rfl rfl)
theorem dX1_need_8 : decode cX1_need 8 = .ok (.invokespecial 62, 3) := dk_183 0 62 (dk_at dksX1_need_0 8 rfl rfl)
theorem dX1_need_11 : decode cX1_need 11 = .ok (.athrow, 1) := dk_191 (dk_at dksX1_need_0 11 rfl rfl)
theorem dX1_need_12 : decode cX1_need 12 = .ok (.return_, 1) := dk_177 (dk_at dksX1_need_0 12 rfl rfl)
abbrev cX1_append : ByteArray := prog_1_method_8_code
def yX1_append : MethodName := ⟨RX1, "append", "(Ljava/lang/StringBuilder;I)V"⟩
def dkwX1_append_1 : List UInt8 := [104, 122, 17, 0, 255, 126, 146, 182, 0, 126, 87, 132, 2, 255, 167, 255, 220, 177]
abbrev dktX1_append_1 : List UInt8 := dkwX1_append_1 ++ []
def dkwX1_append_0 : List UInt8 := [6, 61, 28, 155, 0, 38, 27, 16, 8, 28, 104, 122, 17, 0, 255, 126, 153, 0, 19, 42, 27, 16, 8, 28]
abbrev dktX1_append_0 : List UInt8 := dkwX1_append_0 ++ dktX1_append_1
theorem dksX1_append_0 : cX1_append.data.toList.drop 0 = dktX1_append_0 := by decide +kernel
theorem dksX1_append_1 : cX1_append.data.toList.drop 24 = dktX1_append_1 := dk_seg dksX1_append_0 24 rfl rfl
theorem dX1_append_0 : decode cX1_append 0 = .ok (.iconst 3, 1) := dk_6 (dk_at dksX1_append_0 0 rfl rfl)
theorem dX1_append_1 : decode cX1_append 1 = .ok (.istore_n 2, 1) := dk_61 (dk_at dksX1_append_0 1 rfl rfl)
theorem dX1_append_2 : decode cX1_append 2 = .ok (.iload_n 2, 1) := dk_28 (dk_at dksX1_append_0 2 rfl rfl)
theorem dX1_append_3 : decode cX1_append 3 = .ok (.ifCond .lt 38, 3) := dk_155 0 38 (dk_at dksX1_append_0 3 rfl rfl)
theorem dX1_append_6 : decode cX1_append 6 = .ok (.iload_n 1, 1) := dk_27 (dk_at dksX1_append_0 6 rfl rfl)
theorem dX1_append_7 : decode cX1_append 7 = .ok (.bipush 8, 2) := dk_16 8 (dk_at dksX1_append_0 7 rfl rfl)
theorem dX1_append_9 : decode cX1_append 9 = .ok (.iload_n 2, 1) := dk_28 (dk_at dksX1_append_0 9 rfl rfl)
theorem dX1_append_10 : decode cX1_append 10 = .ok (.imul, 1) := dk_104 (dk_at dksX1_append_0 10 rfl rfl)
theorem dX1_append_11 : decode cX1_append 11 = .ok (.ishr, 1) := dk_122 (dk_at dksX1_append_0 11 rfl rfl)
theorem dX1_append_12 : decode cX1_append 12 = .ok (.sipush 255, 3) := dk_17 0 255 (dk_at dksX1_append_0 12 rfl rfl)
theorem dX1_append_15 : decode cX1_append 15 = .ok (.iand, 1) := dk_126 (dk_at dksX1_append_0 15 rfl rfl)
theorem dX1_append_16 : decode cX1_append 16 = .ok (.ifCond .eq 19, 3) := dk_153 0 19 (dk_at dksX1_append_0 16 rfl rfl)
theorem dX1_append_19 : decode cX1_append 19 = .ok (.aload_n 0, 1) := dk_42 (dk_at dksX1_append_0 19 rfl rfl)
theorem dX1_append_20 : decode cX1_append 20 = .ok (.iload_n 1, 1) := dk_27 (dk_at dksX1_append_0 20 rfl rfl)
theorem dX1_append_21 : decode cX1_append 21 = .ok (.bipush 8, 2) := dk_16 8 (dk_at dksX1_append_0 21 rfl rfl)
theorem dX1_append_23 : decode cX1_append 23 = .ok (.iload_n 2, 1) := dk_28 (dk_at dksX1_append_0 23 rfl rfl)
theorem dX1_append_24 : decode cX1_append 24 = .ok (.imul, 1) := dk_104 (dk_at dksX1_append_1 0 rfl rfl)
theorem dX1_append_25 : decode cX1_append 25 = .ok (.ishr, 1) := dk_122 (dk_at dksX1_append_1 1 rfl rfl)
theorem dX1_append_26 : decode cX1_append 26 = .ok (.sipush 255, 3) := dk_17 0 255 (dk_at dksX1_append_1 2 rfl rfl)
theorem dX1_append_29 : decode cX1_append 29 = .ok (.iand, 1) := dk_126 (dk_at dksX1_append_1 5 rfl rfl)
theorem dX1_append_30 : decode cX1_append 30 = .ok (.i2c, 1) := dk_146 (dk_at dksX1_append_1 6 rfl rfl)
theorem dX1_append_31 : decode cX1_append 31 = .ok (.invokevirtual 126, 3) := dk_182 0 126 (dk_at dksX1_append_1 7 rfl rfl)
theorem dX1_append_34 : decode cX1_append 34 = .ok (.pop, 1) := dk_87 (dk_at dksX1_append_1 10 rfl rfl)
theorem dX1_append_35 : decode cX1_append 35 = .ok (.iinc 2 (-1), 3) := dk_132 2 255 (dk_at dksX1_append_1 11 rfl rfl)
theorem dX1_append_38 : decode cX1_append 38 = .ok (.goto (-36), 3) := dk_167 255 220 (dk_at dksX1_append_1 14 rfl rfl)
theorem dX1_append_41 : decode cX1_append 41 = .ok (.return_, 1) := dk_177 (dk_at dksX1_append_1 17 rfl rfl)
abbrev cX1_out : ByteArray := prog_1_method_44_code
def yX1_out : MethodName := ⟨RX1, "out", "(I)I"⟩
def dkwX1_out_1 : List UInt8 := [180, 0, 47, 27, 51, 17, 0, 255, 126, 172]
abbrev dktX1_out_1 : List UInt8 := dkwX1_out_1 ++ []
def dkwX1_out_0 : List UInt8 := [27, 3, 42, 180, 0, 111, 4, 100, 184, 0, 1, 154, 0, 7, 4, 167, 0, 4, 3, 184, 1, 100, 42]
abbrev dktX1_out_0 : List UInt8 := dkwX1_out_0 ++ dktX1_out_1
theorem dksX1_out_0 : cX1_out.data.toList.drop 0 = dktX1_out_0 := by decide +kernel
theorem dksX1_out_1 : cX1_out.data.toList.drop 23 = dktX1_out_1 := dk_seg dksX1_out_0 23 rfl rfl
theorem dX1_out_0 : decode cX1_out 0 = .ok (.iload_n 1, 1) := dk_27 (dk_at dksX1_out_0 0 rfl rfl)
theorem dX1_out_1 : decode cX1_out 1 = .ok (.iconst 0, 1) := dk_3 (dk_at dksX1_out_0 1 rfl rfl)
theorem dX1_out_2 : decode cX1_out 2 = .ok (.aload_n 0, 1) := dk_42 (dk_at dksX1_out_0 2 rfl rfl)
theorem dX1_out_3 : decode cX1_out 3 = .ok (.getfield 111, 3) := dk_180 0 111 (dk_at dksX1_out_0 3 rfl rfl)
theorem dX1_out_6 : decode cX1_out 6 = .ok (.iconst 1, 1) := dk_4 (dk_at dksX1_out_0 6 rfl rfl)
theorem dX1_out_7 : decode cX1_out 7 = .ok (.isub, 1) := dk_100 (dk_at dksX1_out_0 7 rfl rfl)
theorem dX1_out_8 : decode cX1_out 8 = .ok (.invokestatic 1, 3) := dk_184 0 1 (dk_at dksX1_out_0 8 rfl rfl)
theorem dX1_out_11 : decode cX1_out 11 = .ok (.ifCond .ne 7, 3) := dk_154 0 7 (dk_at dksX1_out_0 11 rfl rfl)
theorem dX1_out_14 : decode cX1_out 14 = .ok (.iconst 1, 1) := dk_4 (dk_at dksX1_out_0 14 rfl rfl)
theorem dX1_out_15 : decode cX1_out 15 = .ok (.goto 4, 3) := dk_167 0 4 (dk_at dksX1_out_0 15 rfl rfl)
theorem dX1_out_18 : decode cX1_out 18 = .ok (.iconst 0, 1) := dk_3 (dk_at dksX1_out_0 18 rfl rfl)
theorem dX1_out_19 : decode cX1_out 19 = .ok (.invokestatic 356, 3) := dk_184 1 100 (dk_at dksX1_out_0 19 rfl rfl)
theorem dX1_out_22 : decode cX1_out 22 = .ok (.aload_n 0, 1) := dk_42 (dk_at dksX1_out_0 22 rfl rfl)
theorem dX1_out_23 : decode cX1_out 23 = .ok (.getfield 47, 3) := dk_180 0 47 (dk_at dksX1_out_1 0 rfl rfl)
theorem dX1_out_26 : decode cX1_out 26 = .ok (.iload_n 1, 1) := dk_27 (dk_at dksX1_out_1 3 rfl rfl)
theorem dX1_out_27 : decode cX1_out 27 = .ok (.baload, 1) := dk_51 (dk_at dksX1_out_1 4 rfl rfl)
theorem dX1_out_28 : decode cX1_out 28 = .ok (.sipush 255, 3) := dk_17 0 255 (dk_at dksX1_out_1 5 rfl rfl)
theorem dX1_out_31 : decode cX1_out 31 = .ok (.iand, 1) := dk_126 (dk_at dksX1_out_1 8 rfl rfl)
theorem dX1_out_32 : decode cX1_out 32 = .ok (.ireturn, 1) := dk_172 (dk_at dksX1_out_1 9 rfl rfl)
abbrev cX1_find : ByteArray := prog_1_method_5_code
def yX1_find : MethodName := ⟨RX1, "find", "(Z)V"⟩
def dkwX1_find_0 : List UInt8 := [26, 154, 0, 11, 187, 0, 63, 89, 183, 0, 65, 191, 177]
abbrev dktX1_find_0 : List UInt8 := dkwX1_find_0 ++ []
theorem dksX1_find_0 : cX1_find.data.toList.drop 0 = dktX1_find_0 := by decide +kernel
theorem dX1_find_0 : decode cX1_find 0 = .ok (.iload_n 0, 1) := dk_26 (dk_at dksX1_find_0 0 rfl rfl)
theorem dX1_find_1 : decode cX1_find 1 = .ok (.ifCond .ne 11, 3) := dk_154 0 11 (dk_at dksX1_find_0 1 rfl rfl)
theorem dX1_find_4 : decode cX1_find 4 = .ok (.new 63, 3) := dk_187 0 63 (dk_at dksX1_find_0 4 rfl rfl)
theorem dX1_find_7 : decode cX1_find 7 = .ok (.dup, 1) := dk_89 (dk_at dksX1_find_0 7 rfl rfl)
theorem dX1_find_8 : decode cX1_find 8 = .ok (.invokespecial 65, 3) := dk_183 0 65 (dk_at dksX1_find_0 8 rfl rfl)
theorem dX1_find_11 : decode cX1_find 11 = .ok (.athrow, 1) := dk_191 (dk_at dksX1_find_0 11 rfl rfl)
theorem dX1_find_12 : decode cX1_find 12 = .ok (.return_, 1) := dk_177 (dk_at dksX1_find_0 12 rfl rfl)
abbrev cX1_stream : ByteArray := prog_1_method_48_code
def yX1_stream : MethodName := ⟨RX1, "stream", "(II)I"⟩
def dkwX1_stream_4 : List UInt8 := [167, 0, 4, 3, 172]
abbrev dktX1_stream_4 : List UInt8 := dkwX1_stream_4 ++ []
def dkwX1_stream_3 : List UInt8 := [45, 180, 1, 49, 172, 45, 180, 1, 38, 172, 45, 180, 0, 220, 172, 45, 180, 0, 214, 153, 0, 7, 4]
abbrev dktX1_stream_3 : List UInt8 := dkwX1_stream_3 ++ dktX1_stream_4
def dkwX1_stream_2 : List UInt8 := [170, 0, 0, 0, 0, 0, 0, 43, 0, 0, 0, 0, 0, 0, 0, 2, 0, 0, 0, 28, 0, 0, 0, 33, 0, 0, 0, 38]
abbrev dktX1_stream_2 : List UInt8 := dkwX1_stream_2 ++ dktX1_stream_3
def dkwX1_stream_1 : List UInt8 := [184, 1, 100, 28]
abbrev dktX1_stream_1 : List UInt8 := dkwX1_stream_1 ++ dktX1_stream_2
def dkwX1_stream_0 : List UInt8 := [42, 27, 182, 0, 176, 78, 45, 198, 0, 16, 28, 3, 6, 184, 0, 1, 154, 0, 7, 4, 167, 0, 4, 3]
abbrev dktX1_stream_0 : List UInt8 := dkwX1_stream_0 ++ dktX1_stream_1
theorem dksX1_stream_0 : cX1_stream.data.toList.drop 0 = dktX1_stream_0 := by decide +kernel
theorem dksX1_stream_1 : cX1_stream.data.toList.drop 24 = dktX1_stream_1 := dk_seg dksX1_stream_0 24 rfl rfl
theorem dksX1_stream_2 : cX1_stream.data.toList.drop 28 = dktX1_stream_2 := dk_seg dksX1_stream_1 4 rfl rfl
theorem dksX1_stream_3 : cX1_stream.data.toList.drop 56 = dktX1_stream_3 := dk_seg dksX1_stream_2 28 rfl rfl
theorem dksX1_stream_4 : cX1_stream.data.toList.drop 79 = dktX1_stream_4 := dk_seg dksX1_stream_3 23 rfl rfl
theorem dX1_stream_0 : decode cX1_stream 0 = .ok (.aload_n 0, 1) := dk_42 (dk_at dksX1_stream_0 0 rfl rfl)
theorem dX1_stream_1 : decode cX1_stream 1 = .ok (.iload_n 1, 1) := dk_27 (dk_at dksX1_stream_0 1 rfl rfl)
theorem dX1_stream_2 : decode cX1_stream 2 = .ok (.invokevirtual 176, 3) := dk_182 0 176 (dk_at dksX1_stream_0 2 rfl rfl)
theorem dX1_stream_5 : decode cX1_stream 5 = .ok (.astore_n 3, 1) := dk_78 (dk_at dksX1_stream_0 5 rfl rfl)
theorem dX1_stream_6 : decode cX1_stream 6 = .ok (.aload_n 3, 1) := dk_45 (dk_at dksX1_stream_0 6 rfl rfl)
theorem dX1_stream_7 : decode cX1_stream 7 = .ok (.ifnull 16, 3) := dk_198 0 16 (dk_at dksX1_stream_0 7 rfl rfl)
theorem dX1_stream_10 : decode cX1_stream 10 = .ok (.iload_n 2, 1) := dk_28 (dk_at dksX1_stream_0 10 rfl rfl)
theorem dX1_stream_11 : decode cX1_stream 11 = .ok (.iconst 0, 1) := dk_3 (dk_at dksX1_stream_0 11 rfl rfl)
theorem dX1_stream_12 : decode cX1_stream 12 = .ok (.iconst 3, 1) := dk_6 (dk_at dksX1_stream_0 12 rfl rfl)
theorem dX1_stream_13 : decode cX1_stream 13 = .ok (.invokestatic 1, 3) := dk_184 0 1 (dk_at dksX1_stream_0 13 rfl rfl)
theorem dX1_stream_16 : decode cX1_stream 16 = .ok (.ifCond .ne 7, 3) := dk_154 0 7 (dk_at dksX1_stream_0 16 rfl rfl)
theorem dX1_stream_19 : decode cX1_stream 19 = .ok (.iconst 1, 1) := dk_4 (dk_at dksX1_stream_0 19 rfl rfl)
theorem dX1_stream_20 : decode cX1_stream 20 = .ok (.goto 4, 3) := dk_167 0 4 (dk_at dksX1_stream_0 20 rfl rfl)
theorem dX1_stream_23 : decode cX1_stream 23 = .ok (.iconst 0, 1) := dk_3 (dk_at dksX1_stream_0 23 rfl rfl)
theorem dX1_stream_24 : decode cX1_stream 24 = .ok (.invokestatic 356, 3) := dk_184 1 100 (dk_at dksX1_stream_1 0 rfl rfl)
theorem dX1_stream_27 : decode cX1_stream 27 = .ok (.iload_n 2, 1) := dk_28 (dk_at dksX1_stream_1 3 rfl rfl)
theorem dX1_stream_28 : decode cX1_stream 28 = .ok (.tableswitch 43 0 2 #[28, 33, 38], 28) := by decide +kernel
theorem dX1_stream_56 : decode cX1_stream 56 = .ok (.aload_n 3, 1) := dk_45 (dk_at dksX1_stream_3 0 rfl rfl)
theorem dX1_stream_57 : decode cX1_stream 57 = .ok (.getfield 305, 3) := dk_180 1 49 (dk_at dksX1_stream_3 1 rfl rfl)
theorem dX1_stream_60 : decode cX1_stream 60 = .ok (.ireturn, 1) := dk_172 (dk_at dksX1_stream_3 4 rfl rfl)
theorem dX1_stream_61 : decode cX1_stream 61 = .ok (.aload_n 3, 1) := dk_45 (dk_at dksX1_stream_3 5 rfl rfl)
theorem dX1_stream_62 : decode cX1_stream 62 = .ok (.getfield 294, 3) := dk_180 1 38 (dk_at dksX1_stream_3 6 rfl rfl)
theorem dX1_stream_65 : decode cX1_stream 65 = .ok (.ireturn, 1) := dk_172 (dk_at dksX1_stream_3 9 rfl rfl)
theorem dX1_stream_66 : decode cX1_stream 66 = .ok (.aload_n 3, 1) := dk_45 (dk_at dksX1_stream_3 10 rfl rfl)
theorem dX1_stream_67 : decode cX1_stream 67 = .ok (.getfield 220, 3) := dk_180 0 220 (dk_at dksX1_stream_3 11 rfl rfl)
theorem dX1_stream_70 : decode cX1_stream 70 = .ok (.ireturn, 1) := dk_172 (dk_at dksX1_stream_3 14 rfl rfl)
theorem dX1_stream_71 : decode cX1_stream 71 = .ok (.aload_n 3, 1) := dk_45 (dk_at dksX1_stream_3 15 rfl rfl)
theorem dX1_stream_72 : decode cX1_stream 72 = .ok (.getfield 214, 3) := dk_180 0 214 (dk_at dksX1_stream_3 16 rfl rfl)
theorem dX1_stream_75 : decode cX1_stream 75 = .ok (.ifCond .eq 7, 3) := dk_153 0 7 (dk_at dksX1_stream_3 19 rfl rfl)
theorem dX1_stream_78 : decode cX1_stream 78 = .ok (.iconst 1, 1) := dk_4 (dk_at dksX1_stream_3 22 rfl rfl)
theorem dX1_stream_79 : decode cX1_stream 79 = .ok (.goto 4, 3) := dk_167 0 4 (dk_at dksX1_stream_4 0 rfl rfl)
theorem dX1_stream_82 : decode cX1_stream 82 = .ok (.iconst 0, 1) := dk_3 (dk_at dksX1_stream_4 3 rfl rfl)
theorem dX1_stream_83 : decode cX1_stream 83 = .ok (.ireturn, 1) := dk_172 (dk_at dksX1_stream_4 4 rfl rfl)
abbrev cX1_entry : ByteArray := prog_1_method_49_code
def yX1_entry : MethodName := ⟨RX1, "entry", "(III)I"⟩
def dkwX1_entry_3 : List UInt8 := [3, 184, 1, 100, 25, 5, 29, 182, 0, 255, 172]
abbrev dktX1_entry_3 : List UInt8 := dkwX1_entry_3 ++ []
def dkwX1_entry_2 : List UInt8 := [182, 1, 7, 58, 5, 29, 3, 25, 5, 182, 1, 3, 4, 100, 184, 0, 1, 154, 0, 7, 4, 167, 0, 4]
abbrev dktX1_entry_2 : List UInt8 := dkwX1_entry_2 ++ dktX1_entry_3
def dkwX1_entry_1 : List UInt8 := [4, 167, 0, 4, 3, 184, 1, 100, 28, 154, 0, 11, 25, 4, 182, 0, 252, 167, 0, 8, 25, 4]
abbrev dktX1_entry_1 : List UInt8 := dkwX1_entry_1 ++ dktX1_entry_2
def dkwX1_entry_0 : List UInt8 := [42, 180, 0, 29, 27, 182, 1, 109, 58, 4, 25, 4, 198, 0, 16, 28, 3, 4, 184, 0, 1, 154, 0, 7]
abbrev dktX1_entry_0 : List UInt8 := dkwX1_entry_0 ++ dktX1_entry_1
theorem dksX1_entry_0 : cX1_entry.data.toList.drop 0 = dktX1_entry_0 := by decide +kernel
theorem dksX1_entry_1 : cX1_entry.data.toList.drop 24 = dktX1_entry_1 := dk_seg dksX1_entry_0 24 rfl rfl
theorem dksX1_entry_2 : cX1_entry.data.toList.drop 46 = dktX1_entry_2 := dk_seg dksX1_entry_1 22 rfl rfl
theorem dksX1_entry_3 : cX1_entry.data.toList.drop 70 = dktX1_entry_3 := dk_seg dksX1_entry_2 24 rfl rfl
theorem dX1_entry_0 : decode cX1_entry 0 = .ok (.aload_n 0, 1) := dk_42 (dk_at dksX1_entry_0 0 rfl rfl)
theorem dX1_entry_1 : decode cX1_entry 1 = .ok (.getfield 29, 3) := dk_180 0 29 (dk_at dksX1_entry_0 1 rfl rfl)
theorem dX1_entry_4 : decode cX1_entry 4 = .ok (.iload_n 1, 1) := dk_27 (dk_at dksX1_entry_0 4 rfl rfl)
theorem dX1_entry_5 : decode cX1_entry 5 = .ok (.invokevirtual 365, 3) := dk_182 1 109 (dk_at dksX1_entry_0 5 rfl rfl)
theorem dX1_entry_8 : decode cX1_entry 8 = .ok (.astore 4, 2) := dk_58 4 (dk_at dksX1_entry_0 8 rfl rfl)
theorem dX1_entry_10 : decode cX1_entry 10 = .ok (.aload 4, 2) := dk_25 4 (dk_at dksX1_entry_0 10 rfl rfl)
theorem dX1_entry_12 : decode cX1_entry 12 = .ok (.ifnull 16, 3) := dk_198 0 16 (dk_at dksX1_entry_0 12 rfl rfl)
theorem dX1_entry_15 : decode cX1_entry 15 = .ok (.iload_n 2, 1) := dk_28 (dk_at dksX1_entry_0 15 rfl rfl)
theorem dX1_entry_16 : decode cX1_entry 16 = .ok (.iconst 0, 1) := dk_3 (dk_at dksX1_entry_0 16 rfl rfl)
theorem dX1_entry_17 : decode cX1_entry 17 = .ok (.iconst 1, 1) := dk_4 (dk_at dksX1_entry_0 17 rfl rfl)
theorem dX1_entry_18 : decode cX1_entry 18 = .ok (.invokestatic 1, 3) := dk_184 0 1 (dk_at dksX1_entry_0 18 rfl rfl)
theorem dX1_entry_21 : decode cX1_entry 21 = .ok (.ifCond .ne 7, 3) := dk_154 0 7 (dk_at dksX1_entry_0 21 rfl rfl)
theorem dX1_entry_24 : decode cX1_entry 24 = .ok (.iconst 1, 1) := dk_4 (dk_at dksX1_entry_1 0 rfl rfl)
theorem dX1_entry_25 : decode cX1_entry 25 = .ok (.goto 4, 3) := dk_167 0 4 (dk_at dksX1_entry_1 1 rfl rfl)
theorem dX1_entry_28 : decode cX1_entry 28 = .ok (.iconst 0, 1) := dk_3 (dk_at dksX1_entry_1 4 rfl rfl)
theorem dX1_entry_29 : decode cX1_entry 29 = .ok (.invokestatic 356, 3) := dk_184 1 100 (dk_at dksX1_entry_1 5 rfl rfl)
theorem dX1_entry_32 : decode cX1_entry 32 = .ok (.iload_n 2, 1) := dk_28 (dk_at dksX1_entry_1 8 rfl rfl)
theorem dX1_entry_33 : decode cX1_entry 33 = .ok (.ifCond .ne 11, 3) := dk_154 0 11 (dk_at dksX1_entry_1 9 rfl rfl)
theorem dX1_entry_36 : decode cX1_entry 36 = .ok (.aload 4, 2) := dk_25 4 (dk_at dksX1_entry_1 12 rfl rfl)
theorem dX1_entry_38 : decode cX1_entry 38 = .ok (.invokevirtual 252, 3) := dk_182 0 252 (dk_at dksX1_entry_1 14 rfl rfl)
theorem dX1_entry_41 : decode cX1_entry 41 = .ok (.goto 8, 3) := dk_167 0 8 (dk_at dksX1_entry_1 17 rfl rfl)
theorem dX1_entry_44 : decode cX1_entry 44 = .ok (.aload 4, 2) := dk_25 4 (dk_at dksX1_entry_1 20 rfl rfl)
theorem dX1_entry_46 : decode cX1_entry 46 = .ok (.invokevirtual 263, 3) := dk_182 1 7 (dk_at dksX1_entry_2 0 rfl rfl)
theorem dX1_entry_49 : decode cX1_entry 49 = .ok (.astore 5, 2) := dk_58 5 (dk_at dksX1_entry_2 3 rfl rfl)
theorem dX1_entry_51 : decode cX1_entry 51 = .ok (.iload_n 3, 1) := dk_29 (dk_at dksX1_entry_2 5 rfl rfl)
theorem dX1_entry_52 : decode cX1_entry 52 = .ok (.iconst 0, 1) := dk_3 (dk_at dksX1_entry_2 6 rfl rfl)
theorem dX1_entry_53 : decode cX1_entry 53 = .ok (.aload 5, 2) := dk_25 5 (dk_at dksX1_entry_2 7 rfl rfl)
theorem dX1_entry_55 : decode cX1_entry 55 = .ok (.invokevirtual 259, 3) := dk_182 1 3 (dk_at dksX1_entry_2 9 rfl rfl)
theorem dX1_entry_58 : decode cX1_entry 58 = .ok (.iconst 1, 1) := dk_4 (dk_at dksX1_entry_2 12 rfl rfl)
theorem dX1_entry_59 : decode cX1_entry 59 = .ok (.isub, 1) := dk_100 (dk_at dksX1_entry_2 13 rfl rfl)
theorem dX1_entry_60 : decode cX1_entry 60 = .ok (.invokestatic 1, 3) := dk_184 0 1 (dk_at dksX1_entry_2 14 rfl rfl)
theorem dX1_entry_63 : decode cX1_entry 63 = .ok (.ifCond .ne 7, 3) := dk_154 0 7 (dk_at dksX1_entry_2 17 rfl rfl)
theorem dX1_entry_66 : decode cX1_entry 66 = .ok (.iconst 1, 1) := dk_4 (dk_at dksX1_entry_2 20 rfl rfl)
theorem dX1_entry_67 : decode cX1_entry 67 = .ok (.goto 4, 3) := dk_167 0 4 (dk_at dksX1_entry_2 21 rfl rfl)
theorem dX1_entry_70 : decode cX1_entry 70 = .ok (.iconst 0, 1) := dk_3 (dk_at dksX1_entry_3 0 rfl rfl)
theorem dX1_entry_71 : decode cX1_entry 71 = .ok (.invokestatic 356, 3) := dk_184 1 100 (dk_at dksX1_entry_3 1 rfl rfl)
theorem dX1_entry_74 : decode cX1_entry 74 = .ok (.aload 5, 2) := dk_25 5 (dk_at dksX1_entry_3 4 rfl rfl)
theorem dX1_entry_76 : decode cX1_entry 76 = .ok (.iload_n 3, 1) := dk_29 (dk_at dksX1_entry_3 6 rfl rfl)
theorem dX1_entry_77 : decode cX1_entry 77 = .ok (.invokevirtual 255, 3) := dk_182 0 255 (dk_at dksX1_entry_3 7 rfl rfl)
theorem dX1_entry_80 : decode cX1_entry 80 = .ok (.ireturn, 1) := dk_172 (dk_at dksX1_entry_3 10 rfl rfl)
theorem q85 : (Jvm.Cond.initialized "PageServer") ∈ lw_all := lw_g (lw_at lw_m1 1 rfl) rfl
theorem q116 : (Jvm.Cond.instantiable "PageServer" (27 : Nat)) ∈ lw_all := lw_g (lw_at lw_m1 32 rfl) rfl
theorem q118 : (Jvm.Cond.instanceMethod ({ cls := "PageServer", name := "<init>", desc := "()V" } : Jvm.MethodName)) ∈ lw_all := lw_g (lw_at lw_m1 34 rfl) rfl
theorem q119 : (Jvm.Cond.code ({ cls := "PageServer", name := "<init>", desc := "()V" } : Jvm.MethodName) prog_1_method_3_code (2 : Nat) (Option.none : Option Jvm.ClassFile.FieldType)) ∈ lw_all := lw_g (lw_at lw_m1 35 rfl) rfl
theorem q120 : (Jvm.Cond.methodLink "PageServer" (7 : Nat) ({ cls := "java/lang/Object", name := "<init>", desc := "()V" } : Jvm.MethodName)) ∈ lw_all := lw_g (lw_at lw_m1 36 rfl) rfl
theorem q123 : (Jvm.Cond.classLink "PageServer" (13 : Nat) "java/util/ArrayList") ∈ lw_all := lw_g (lw_at lw_m1 39 rfl) rfl
theorem q125 : (Jvm.Cond.methodLink "PageServer" (15 : Nat) ({ cls := "java/util/ArrayList", name := "<init>", desc := "()V" } : Jvm.MethodName)) ∈ lw_all := lw_g (lw_at lw_m1 41 rfl) rfl
theorem q149 : (Jvm.Cond.classLink "PageServer" (26 : Nat) "PageServer$Table") ∈ lw_all := lw_g (lw_at lw_m1 65 rfl) rfl
theorem q151 : (Jvm.Cond.methodLink "PageServer" (28 : Nat) ({ cls := "PageServer$Table", name := "<init>", desc := "()V" } : Jvm.MethodName)) ∈ lw_all := lw_g (lw_at lw_m1 67 rfl) rfl
theorem q208 : (Jvm.Cond.selects "PageServer" ({ cls := "java/lang/Object", name := "getClass", desc := "()Ljava/lang/Class;" } : Jvm.MethodName) ({ cls := "java/lang/Object", name := "getClass", desc := "()Ljava/lang/Class;" } : Jvm.MethodName)) ∈ lw_all := lw_g (lw_at lw_m1 124 rfl) rfl
theorem q247 : (Jvm.Cond.fieldLinkNest "PageServer" (360 : Nat) "PageServer$Table" "came" "Ljava/util/ArrayList;" "PageServer") ∈ lw_tbl := lw_at lw_m1 163 rfl
theorem q249 : (Jvm.Cond.fieldLinkNest "PageServer" (359 : Nat) "PageServer$Table" "size" "I" "PageServer") ∈ lw_tbl := lw_at lw_m1 165 rfl
theorem q257 : (Jvm.Cond.classLink "PageServer" (33 : Nat) "PageServer$Reader") ∈ lw_all := lw_g (lw_at lw_m1 173 rfl) rfl
theorem q259 : (Jvm.Cond.methodLinkNest "PageServer" (35 : Nat) ({ cls := "PageServer$Reader", name := "<init>", desc := "()V" } : Jvm.MethodName) "PageServer") ∈ lw_tbl := lw_at lw_m1 175 rfl
theorem q296 : (Jvm.Cond.fieldLinkNest "PageServer" (237 : Nat) "PageServer$Reader" "row" "[B" "PageServer") ∈ lw_tbl := lw_at lw_m1 212 rfl
theorem q299 : (Jvm.Cond.fieldLinkNest "PageServer" (91 : Nat) "PageServer$Reader" "size" "I" "PageServer") ∈ lw_tbl := lw_at lw_m1 215 rfl
theorem q313 : (Jvm.Cond.classLink "PageServer" (50 : Nat) "PageServer$Stream") ∈ lw_all := lw_g (lw_at lw_m1 229 rfl) rfl
theorem q315 : (Jvm.Cond.methodLinkNest "PageServer" (52 : Nat) ({ cls := "PageServer$Stream", name := "<init>", desc := "()V" } : Jvm.MethodName) "PageServer") ∈ lw_tbl := lw_at lw_m1 231 rfl
theorem q320 : (Jvm.Cond.fieldLinkNest "PageServer" (173 : Nat) "PageServer$Stream" "number" "I" "PageServer") ∈ lw_tbl := lw_at lw_m1 236 rfl
theorem q322 : (Jvm.Cond.fieldLinkNest "PageServer" (305 : Nat) "PageServer$Stream" "window" "I" "PageServer") ∈ lw_tbl := lw_at lw_m1 238 rfl
theorem q324 : (Jvm.Cond.fieldLinkNest "PageServer" (220 : Nat) "PageServer$Stream" "counted" "I" "PageServer") ∈ lw_tbl := lw_at lw_m2 0 rfl
theorem q326 : (Jvm.Cond.fieldLinkNest "PageServer" (227 : Nat) "PageServer$Stream" "length" "I" "PageServer") ∈ lw_tbl := lw_at lw_m2 2 rfl
theorem q328 : (Jvm.Cond.fieldLinkNest "PageServer" (294 : Nat) "PageServer$Stream" "left" "I" "PageServer") ∈ lw_tbl := lw_at lw_m2 4 rfl
theorem q329 : (Jvm.Cond.fieldLinkNest "PageServer" (300 : Nat) "PageServer$Stream" "b" "I" "PageServer") ∈ lw_tbl := lw_at lw_m2 5 rfl
theorem q331 : (Jvm.Cond.fieldLinkNest "PageServer" (214 : Nat) "PageServer$Stream" "closed" "Z" "PageServer") ∈ lw_tbl := lw_at lw_m2 7 rfl
theorem q332 : (Jvm.Cond.fieldLinkNest "PageServer" (283 : Nat) "PageServer$Stream" "method" "Ljava/lang/String;" "PageServer") ∈ lw_tbl := lw_at lw_m2 8 rfl
theorem q333 : (Jvm.Cond.fieldLinkNest "PageServer" (287 : Nat) "PageServer$Stream" "path" "Ljava/lang/String;" "PageServer") ∈ lw_tbl := lw_at lw_m2 9 rfl
theorem q353 : (Jvm.Cond.methodLink "PageServer" (53 : Nat) ({ cls := "java/util/ArrayList", name := "add", desc := "(Ljava/lang/Object;)Z" } : Jvm.MethodName)) ∈ lw_all := lw_g (lw_at lw_m2 29 rfl) rfl
theorem q354 : (Jvm.Cond.methodLink "PageServer" (57 : Nat) ({ cls := "PageServer", name := "restart", desc := "()V" } : Jvm.MethodName)) ∈ lw_all := lw_g (lw_at lw_m2 30 rfl) rfl
theorem q355 : (Jvm.Cond.instanceMethod ({ cls := "PageServer", name := "restart", desc := "()V" } : Jvm.MethodName)) ∈ lw_all := lw_g (lw_at lw_m2 31 rfl) rfl
theorem q356 : (Jvm.Cond.selects "PageServer" ({ cls := "PageServer", name := "restart", desc := "()V" } : Jvm.MethodName) ({ cls := "PageServer", name := "restart", desc := "()V" } : Jvm.MethodName)) ∈ lw_all := lw_g (lw_at lw_m2 32 rfl) rfl
theorem q357 : (Jvm.Cond.code ({ cls := "PageServer", name := "restart", desc := "()V" } : Jvm.MethodName) prog_1_method_6_code (1 : Nat) (Option.none : Option Jvm.ClassFile.FieldType)) ∈ lw_all := lw_g (lw_at lw_m2 33 rfl) rfl
theorem q358 : (Jvm.Cond.methodLink "PageServer" (66 : Nat) ({ cls := "java/util/ArrayList", name := "size", desc := "()I" } : Jvm.MethodName)) ∈ lw_all := lw_g (lw_at lw_m2 34 rfl) rfl
theorem q362 : (Jvm.Cond.methodLink "PageServer" (70 : Nat) ({ cls := "java/util/ArrayList", name := "remove", desc := "(I)Ljava/lang/Object;" } : Jvm.MethodName)) ∈ lw_all := lw_g (lw_at lw_m2 38 rfl) rfl
theorem q377 : (Jvm.Cond.methodLink "PageServer" (74 : Nat) ({ cls := "PageServer$Table", name := "begin", desc := "()V" } : Jvm.MethodName)) ∈ lw_all := lw_g (lw_at lw_m2 53 rfl) rfl
theorem q385 : (Jvm.Cond.methodLink "PageServer" (114 : Nat) ({ cls := "PageServer", name := "head", desc := "(IIII)V" } : Jvm.MethodName)) ∈ lw_all := lw_g (lw_at lw_m2 61 rfl) rfl
theorem q386 : (Jvm.Cond.privateMethod ({ cls := "PageServer", name := "head", desc := "(IIII)V" } : Jvm.MethodName)) ∈ lw_tbl := lw_at lw_m2 62 rfl
theorem q387 : (Jvm.Cond.instanceMethod ({ cls := "PageServer", name := "head", desc := "(IIII)V" } : Jvm.MethodName)) ∈ lw_all := lw_g (lw_at lw_m2 63 rfl) rfl
theorem q388 : (Jvm.Cond.code ({ cls := "PageServer", name := "head", desc := "(IIII)V" } : Jvm.MethodName) prog_1_method_12_code (5 : Nat) (Option.none : Option Jvm.ClassFile.FieldType)) ∈ lw_all := lw_g (lw_at lw_m2 64 rfl) rfl
theorem q389 : (Jvm.Cond.methodLink "PageServer" (118 : Nat) ({ cls := "PageServer", name := "say", desc := "(I)V" } : Jvm.MethodName)) ∈ lw_all := lw_g (lw_at lw_m2 65 rfl) rfl
theorem q390 : (Jvm.Cond.privateMethod ({ cls := "PageServer", name := "say", desc := "(I)V" } : Jvm.MethodName)) ∈ lw_tbl := lw_at lw_m2 66 rfl
theorem q391 : (Jvm.Cond.instanceMethod ({ cls := "PageServer", name := "say", desc := "(I)V" } : Jvm.MethodName)) ∈ lw_all := lw_g (lw_at lw_m2 67 rfl) rfl
theorem q392 : (Jvm.Cond.code ({ cls := "PageServer", name := "say", desc := "(I)V" } : Jvm.MethodName) prog_1_method_11_code (2 : Nat) (Option.none : Option Jvm.ClassFile.FieldType)) ∈ lw_all := lw_g (lw_at lw_m2 68 rfl) rfl
theorem q393 : (Jvm.Cond.fieldLink "PageServer" (16 : Nat) "PageServer" "pages" "Ljava/util/ArrayList;") ∈ lw_all := lw_g (lw_at lw_m2 69 rfl) rfl
theorem q394 : (Jvm.Cond.fieldLink "PageServer" (20 : Nat) "PageServer" "streams" "Ljava/util/ArrayList;") ∈ lw_all := lw_g (lw_at lw_m2 70 rfl) rfl
theorem q395 : (Jvm.Cond.fieldLink "PageServer" (23 : Nat) "PageServer" "spares" "Ljava/util/ArrayList;") ∈ lw_all := lw_g (lw_at lw_m2 71 rfl) rfl
theorem q396 : (Jvm.Cond.fieldLink "PageServer" (29 : Nat) "PageServer" "table" "LPageServer$Table;") ∈ lw_all := lw_g (lw_at lw_m2 72 rfl) rfl
theorem q397 : (Jvm.Cond.fieldLink "PageServer" (36 : Nat) "PageServer" "block" "LPageServer$Reader;") ∈ lw_all := lw_g (lw_at lw_m2 73 rfl) rfl
theorem q398 : (Jvm.Cond.fieldLink "PageServer" (40 : Nat) "PageServer" "fields" "Ljava/util/ArrayList;") ∈ lw_all := lw_g (lw_at lw_m2 74 rfl) rfl
theorem q399 : (Jvm.Cond.fieldLink "PageServer" (43 : Nat) "PageServer" "frame" "[B") ∈ lw_all := lw_g (lw_at lw_m2 75 rfl) rfl
theorem q400 : (Jvm.Cond.fieldLink "PageServer" (77 : Nat) "PageServer" "came" "I") ∈ lw_all := lw_g (lw_at lw_m2 76 rfl) rfl
theorem q401 : (Jvm.Cond.fieldLink "PageServer" (81 : Nat) "PageServer" "preface" "I") ∈ lw_all := lw_g (lw_at lw_m2 77 rfl) rfl
theorem q402 : (Jvm.Cond.fieldLink "PageServer" (306 : Nat) "PageServer" "type" "I") ∈ lw_all := lw_g (lw_at lw_m2 78 rfl) rfl
theorem q403 : (Jvm.Cond.fieldLink "PageServer" (180 : Nat) "PageServer" "flags" "I") ∈ lw_all := lw_g (lw_at lw_m2 79 rfl) rfl
theorem q404 : (Jvm.Cond.fieldLink "PageServer" (203 : Nat) "PageServer" "number" "I") ∈ lw_all := lw_g (lw_at lw_m2 80 rfl) rfl
theorem q405 : (Jvm.Cond.fieldLink "PageServer" (189 : Nat) "PageServer" "length" "I") ∈ lw_all := lw_g (lw_at lw_m2 81 rfl) rfl
theorem q406 : (Jvm.Cond.fieldLink "PageServer" (186 : Nat) "PageServer" "from" "I") ∈ lw_all := lw_g (lw_at lw_m2 82 rfl) rfl
theorem q407 : (Jvm.Cond.fieldLink "PageServer" (200 : Nat) "PageServer" "to" "I") ∈ lw_all := lw_g (lw_at lw_m2 83 rfl) rfl
theorem q408 : (Jvm.Cond.fieldLink "PageServer" (84 : Nat) "PageServer" "first" "Z") ∈ lw_all := lw_g (lw_at lw_m2 84 rfl) rfl
theorem q409 : (Jvm.Cond.fieldLink "PageServer" (88 : Nat) "PageServer" "blockOf" "I") ∈ lw_all := lw_g (lw_at lw_m2 85 rfl) rfl
theorem q410 : (Jvm.Cond.fieldLink "PageServer" (231 : Nat) "PageServer" "blockEnds" "Z") ∈ lw_all := lw_g (lw_at lw_m2 86 rfl) rfl
theorem q411 : (Jvm.Cond.fieldLink "PageServer" (93 : Nat) "PageServer" "highest" "I") ∈ lw_all := lw_g (lw_at lw_m2 87 rfl) rfl
theorem q412 : (Jvm.Cond.fieldLink "PageServer" (96 : Nat) "PageServer" "away" "I") ∈ lw_all := lw_g (lw_at lw_m2 88 rfl) rfl
theorem q413 : (Jvm.Cond.fieldLink "PageServer" (170 : Nat) "PageServer" "code" "I") ∈ lw_all := lw_g (lw_at lw_m2 89 rfl) rfl
theorem q414 : (Jvm.Cond.fieldLink "PageServer" (99 : Nat) "PageServer" "last" "I") ∈ lw_all := lw_g (lw_at lw_m2 90 rfl) rfl
theorem q415 : (Jvm.Cond.fieldLink "PageServer" (102 : Nat) "PageServer" "window" "I") ∈ lw_all := lw_g (lw_at lw_m2 91 rfl) rfl
theorem q416 : (Jvm.Cond.fieldLink "PageServer" (105 : Nat) "PageServer" "initial" "I") ∈ lw_all := lw_g (lw_at lw_m2 92 rfl) rfl
theorem q417 : (Jvm.Cond.fieldLink "PageServer" (108 : Nat) "PageServer" "longest" "I") ∈ lw_all := lw_g (lw_at lw_m2 93 rfl) rfl
theorem q418 : (Jvm.Cond.fieldLink "PageServer" (47 : Nat) "PageServer" "output" "[B") ∈ lw_all := lw_g (lw_at lw_m2 94 rfl) rfl
theorem q419 : (Jvm.Cond.fieldLink "PageServer" (111 : Nat) "PageServer" "high" "I") ∈ lw_all := lw_g (lw_at lw_m2 95 rfl) rfl
theorem q420 : (Jvm.Cond.laysFinal "PageServer" "PageServer" "pages" "Ljava/util/ArrayList;") ∈ lw_all := lw_g (lw_at lw_m2 96 rfl) rfl
theorem q421 : (Jvm.Cond.soleField "PageServer" "pages") ∈ lw_all := lw_g (lw_at lw_m2 97 rfl) rfl
theorem q422 : (Jvm.Cond.laysFinal "PageServer" "PageServer" "streams" "Ljava/util/ArrayList;") ∈ lw_all := lw_g (lw_at lw_m2 98 rfl) rfl
theorem q423 : (Jvm.Cond.soleField "PageServer" "streams") ∈ lw_all := lw_g (lw_at lw_m2 99 rfl) rfl
theorem q424 : (Jvm.Cond.laysFinal "PageServer" "PageServer" "spares" "Ljava/util/ArrayList;") ∈ lw_all := lw_g (lw_at lw_m2 100 rfl) rfl
theorem q425 : (Jvm.Cond.soleField "PageServer" "spares") ∈ lw_all := lw_g (lw_at lw_m2 101 rfl) rfl
theorem q426 : (Jvm.Cond.laysFinal "PageServer" "PageServer" "table" "LPageServer$Table;") ∈ lw_all := lw_g (lw_at lw_m2 102 rfl) rfl
theorem q427 : (Jvm.Cond.soleField "PageServer" "table") ∈ lw_all := lw_g (lw_at lw_m2 103 rfl) rfl
theorem q428 : (Jvm.Cond.laysFinal "PageServer" "PageServer" "block" "LPageServer$Reader;") ∈ lw_all := lw_g (lw_at lw_m2 104 rfl) rfl
theorem q429 : (Jvm.Cond.soleField "PageServer" "block") ∈ lw_all := lw_g (lw_at lw_m2 105 rfl) rfl
theorem q430 : (Jvm.Cond.laysFinal "PageServer" "PageServer" "fields" "Ljava/util/ArrayList;") ∈ lw_all := lw_g (lw_at lw_m2 106 rfl) rfl
theorem q431 : (Jvm.Cond.soleField "PageServer" "fields") ∈ lw_all := lw_g (lw_at lw_m2 107 rfl) rfl
theorem q432 : (Jvm.Cond.laysFinal "PageServer" "PageServer" "frame" "[B") ∈ lw_all := lw_g (lw_at lw_m2 108 rfl) rfl
theorem q433 : (Jvm.Cond.soleField "PageServer" "frame") ∈ lw_all := lw_g (lw_at lw_m2 109 rfl) rfl
theorem q434 : (Jvm.Cond.lays "PageServer" "PageServer" "came" "I") ∈ lw_all := lw_g (lw_at lw_m2 110 rfl) rfl
theorem q435 : (Jvm.Cond.soleField "PageServer" "came") ∈ lw_all := lw_g (lw_at lw_m2 111 rfl) rfl
theorem q436 : (Jvm.Cond.lays "PageServer" "PageServer" "preface" "I") ∈ lw_all := lw_g (lw_at lw_m2 112 rfl) rfl
theorem q437 : (Jvm.Cond.soleField "PageServer" "preface") ∈ lw_all := lw_g (lw_at lw_m2 113 rfl) rfl
theorem q438 : (Jvm.Cond.lays "PageServer" "PageServer" "type" "I") ∈ lw_all := lw_g (lw_at lw_m2 114 rfl) rfl
theorem q439 : (Jvm.Cond.soleField "PageServer" "type") ∈ lw_all := lw_g (lw_at lw_m2 115 rfl) rfl
theorem q440 : (Jvm.Cond.lays "PageServer" "PageServer" "flags" "I") ∈ lw_all := lw_g (lw_at lw_m2 116 rfl) rfl
theorem q441 : (Jvm.Cond.soleField "PageServer" "flags") ∈ lw_all := lw_g (lw_at lw_m2 117 rfl) rfl
theorem q442 : (Jvm.Cond.lays "PageServer" "PageServer" "number" "I") ∈ lw_all := lw_g (lw_at lw_m2 118 rfl) rfl
theorem q443 : (Jvm.Cond.soleField "PageServer" "number") ∈ lw_all := lw_g (lw_at lw_m2 119 rfl) rfl
theorem q444 : (Jvm.Cond.lays "PageServer" "PageServer" "length" "I") ∈ lw_all := lw_g (lw_at lw_m2 120 rfl) rfl
theorem q445 : (Jvm.Cond.soleField "PageServer" "length") ∈ lw_all := lw_g (lw_at lw_m2 121 rfl) rfl
theorem q446 : (Jvm.Cond.lays "PageServer" "PageServer" "from" "I") ∈ lw_all := lw_g (lw_at lw_m2 122 rfl) rfl
theorem q447 : (Jvm.Cond.soleField "PageServer" "from") ∈ lw_all := lw_g (lw_at lw_m2 123 rfl) rfl
theorem q448 : (Jvm.Cond.lays "PageServer" "PageServer" "to" "I") ∈ lw_all := lw_g (lw_at lw_m2 124 rfl) rfl
theorem q449 : (Jvm.Cond.soleField "PageServer" "to") ∈ lw_all := lw_g (lw_at lw_m2 125 rfl) rfl
theorem q450 : (Jvm.Cond.lays "PageServer" "PageServer" "first" "Z") ∈ lw_all := lw_g (lw_at lw_m2 126 rfl) rfl
theorem q451 : (Jvm.Cond.soleField "PageServer" "first") ∈ lw_all := lw_g (lw_at lw_m2 127 rfl) rfl
theorem q452 : (Jvm.Cond.lays "PageServer" "PageServer" "blockOf" "I") ∈ lw_all := lw_g (lw_at lw_m2 128 rfl) rfl
theorem q453 : (Jvm.Cond.soleField "PageServer" "blockOf") ∈ lw_all := lw_g (lw_at lw_m2 129 rfl) rfl
theorem q454 : (Jvm.Cond.lays "PageServer" "PageServer" "blockEnds" "Z") ∈ lw_all := lw_g (lw_at lw_m2 130 rfl) rfl
theorem q455 : (Jvm.Cond.soleField "PageServer" "blockEnds") ∈ lw_all := lw_g (lw_at lw_m2 131 rfl) rfl
theorem q456 : (Jvm.Cond.lays "PageServer" "PageServer" "highest" "I") ∈ lw_all := lw_g (lw_at lw_m2 132 rfl) rfl
theorem q457 : (Jvm.Cond.soleField "PageServer" "highest") ∈ lw_all := lw_g (lw_at lw_m2 133 rfl) rfl
theorem q458 : (Jvm.Cond.lays "PageServer" "PageServer" "away" "I") ∈ lw_all := lw_g (lw_at lw_m2 134 rfl) rfl
theorem q459 : (Jvm.Cond.soleField "PageServer" "away") ∈ lw_all := lw_g (lw_at lw_m2 135 rfl) rfl
theorem q460 : (Jvm.Cond.lays "PageServer" "PageServer" "code" "I") ∈ lw_all := lw_g (lw_at lw_m2 136 rfl) rfl
theorem q461 : (Jvm.Cond.soleField "PageServer" "code") ∈ lw_all := lw_g (lw_at lw_m2 137 rfl) rfl
theorem q462 : (Jvm.Cond.lays "PageServer" "PageServer" "last" "I") ∈ lw_all := lw_g (lw_at lw_m2 138 rfl) rfl
theorem q463 : (Jvm.Cond.soleField "PageServer" "last") ∈ lw_all := lw_g (lw_at lw_m2 139 rfl) rfl
theorem q464 : (Jvm.Cond.lays "PageServer" "PageServer" "window" "I") ∈ lw_all := lw_g (lw_at lw_m2 140 rfl) rfl
theorem q465 : (Jvm.Cond.soleField "PageServer" "window") ∈ lw_all := lw_g (lw_at lw_m2 141 rfl) rfl
theorem q466 : (Jvm.Cond.lays "PageServer" "PageServer" "initial" "I") ∈ lw_all := lw_g (lw_at lw_m2 142 rfl) rfl
theorem q467 : (Jvm.Cond.soleField "PageServer" "initial") ∈ lw_all := lw_g (lw_at lw_m2 143 rfl) rfl
theorem q468 : (Jvm.Cond.lays "PageServer" "PageServer" "longest" "I") ∈ lw_all := lw_g (lw_at lw_m2 144 rfl) rfl
theorem q469 : (Jvm.Cond.soleField "PageServer" "longest") ∈ lw_all := lw_g (lw_at lw_m2 145 rfl) rfl
theorem q470 : (Jvm.Cond.laysFinal "PageServer" "PageServer" "output" "[B") ∈ lw_all := lw_g (lw_at lw_m2 146 rfl) rfl
theorem q471 : (Jvm.Cond.soleField "PageServer" "output") ∈ lw_all := lw_g (lw_at lw_m2 147 rfl) rfl
theorem q472 : (Jvm.Cond.lays "PageServer" "PageServer" "high" "I") ∈ lw_all := lw_g (lw_at lw_m2 148 rfl) rfl
theorem q473 : (Jvm.Cond.soleField "PageServer" "high") ∈ lw_all := lw_g (lw_at lw_m2 149 rfl) rfl
theorem q474 : (Jvm.Cond.superclass "PageServer" "java/lang/Object") ∈ lw_all := lw_g (lw_at lw_m2 150 rfl) rfl
theorem q477 : (Jvm.Cond.instanceMethod ({ cls := "PageServer", name := "feed", desc := "(II)Z" } : Jvm.MethodName)) ∈ lw_all := lw_g (lw_at lw_m2 153 rfl) rfl
theorem q478 : (Jvm.Cond.selects "PageServer" ({ cls := "PageServer", name := "feed", desc := "(II)Z" } : Jvm.MethodName) ({ cls := "PageServer", name := "feed", desc := "(II)Z" } : Jvm.MethodName)) ∈ lw_all := lw_g (lw_at lw_m2 154 rfl) rfl
theorem q479 : (Jvm.Cond.code ({ cls := "PageServer", name := "feed", desc := "(II)Z" } : Jvm.MethodName) prog_1_method_42_code (4 : Nat) (Option.some Jvm.ClassFile.FieldType.boolean)) ∈ lw_all := lw_g (lw_at lw_m2 155 rfl) rfl
theorem q480 : (Jvm.Cond.methodLink "PageServer" (1 : Nat) ({ cls := "PageServer", name := "outside", desc := "(III)Z" } : Jvm.MethodName)) ∈ lw_all := lw_g (lw_at lw_m2 156 rfl) rfl
theorem q481 : (Jvm.Cond.static ({ cls := "PageServer", name := "outside", desc := "(III)Z" } : Jvm.MethodName)) ∈ lw_all := lw_g (lw_at lw_m2 157 rfl) rfl
theorem q482 : (Jvm.Cond.code ({ cls := "PageServer", name := "outside", desc := "(III)Z" } : Jvm.MethodName) prog_1_method_1_code (3 : Nat) (Option.some Jvm.ClassFile.FieldType.boolean)) ∈ lw_all := lw_g (lw_at lw_m2 158 rfl) rfl
theorem q483 : (Jvm.Cond.methodLink "PageServer" (353 : Nat) ({ cls := "PageServer", name := "byteCame", desc := "(I)V" } : Jvm.MethodName)) ∈ lw_all := lw_g (lw_at lw_m2 159 rfl) rfl
theorem q484 : (Jvm.Cond.privateMethod ({ cls := "PageServer", name := "byteCame", desc := "(I)V" } : Jvm.MethodName)) ∈ lw_tbl := lw_at lw_m2 160 rfl
theorem q485 : (Jvm.Cond.instanceMethod ({ cls := "PageServer", name := "byteCame", desc := "(I)V" } : Jvm.MethodName)) ∈ lw_all := lw_g (lw_at lw_m2 161 rfl) rfl
theorem q486 : (Jvm.Cond.code ({ cls := "PageServer", name := "byteCame", desc := "(I)V" } : Jvm.MethodName) prog_1_method_41_code (3 : Nat) (Option.none : Option Jvm.ClassFile.FieldType)) ∈ lw_all := lw_g (lw_at lw_m2 162 rfl) rfl
theorem q487 : (Jvm.Cond.fieldLink "PageServer" (346 : Nat) "PageServer" "PREFACE" "[I") ∈ lw_all := lw_g (lw_at lw_m2 163 rfl) rfl
theorem q488 : (Jvm.Cond.laysStatic "PageServer" "PREFACE" "[I") ∈ lw_tbl := lw_at lw_m2 164 rfl
theorem q489 : (Jvm.Cond.methodLink "PageServer" (330 : Nat) ({ cls := "PageServer", name := "goAway", desc := "()V" } : Jvm.MethodName)) ∈ lw_all := lw_g (lw_at lw_m2 165 rfl) rfl
theorem q490 : (Jvm.Cond.privateMethod ({ cls := "PageServer", name := "goAway", desc := "()V" } : Jvm.MethodName)) ∈ lw_tbl := lw_at lw_m2 166 rfl
theorem q491 : (Jvm.Cond.instanceMethod ({ cls := "PageServer", name := "goAway", desc := "()V" } : Jvm.MethodName)) ∈ lw_all := lw_g (lw_at lw_m2 167 rfl) rfl
theorem q492 : (Jvm.Cond.code ({ cls := "PageServer", name := "goAway", desc := "()V" } : Jvm.MethodName) prog_1_method_36_code (1 : Nat) (Option.none : Option Jvm.ClassFile.FieldType)) ∈ lw_all := lw_g (lw_at lw_m2 168 rfl) rfl
theorem q493 : (Jvm.Cond.methodLink "PageServer" (350 : Nat) ({ cls := "PageServer", name := "whole", desc := "()V" } : Jvm.MethodName)) ∈ lw_all := lw_g (lw_at lw_m2 169 rfl) rfl
theorem q494 : (Jvm.Cond.privateMethod ({ cls := "PageServer", name := "whole", desc := "()V" } : Jvm.MethodName)) ∈ lw_tbl := lw_at lw_m2 170 rfl
theorem q495 : (Jvm.Cond.instanceMethod ({ cls := "PageServer", name := "whole", desc := "()V" } : Jvm.MethodName)) ∈ lw_all := lw_g (lw_at lw_m2 171 rfl) rfl
theorem q496 : (Jvm.Cond.codeWith ({ cls := "PageServer", name := "whole", desc := "()V" } : Jvm.MethodName) prog_1_method_38_code (2 : Nat) (Option.none : Option Jvm.ClassFile.FieldType) [((0 : Nat), (4 : Nat), (7 : Nat), (60 : Nat)), ((0 : Nat), (4 : Nat), (15 : Nat), (164 : Nat))]) ∈ lw_all := lw_g (lw_at lw_m2 172 rfl) rfl
theorem q497 : (Jvm.Cond.classLink "PageServer" (60 : Nat) "java/lang/IllegalArgumentException") ∈ lw_all := lw_g (lw_at lw_m2 173 rfl) rfl
theorem q498 : (Jvm.Cond.classLink "PageServer" (164 : Nat) "java/lang/IllegalStateException") ∈ lw_all := lw_g (lw_at lw_m2 174 rfl) rfl
theorem q499 : (Jvm.Cond.methodLink "PageServer" (324 : Nat) ({ cls := "PageServer", name := "look", desc := "()V" } : Jvm.MethodName)) ∈ lw_all := lw_g (lw_at lw_m2 175 rfl) rfl
theorem q500 : (Jvm.Cond.privateMethod ({ cls := "PageServer", name := "look", desc := "()V" } : Jvm.MethodName)) ∈ lw_tbl := lw_at lw_m2 176 rfl
theorem q501 : (Jvm.Cond.instanceMethod ({ cls := "PageServer", name := "look", desc := "()V" } : Jvm.MethodName)) ∈ lw_all := lw_g (lw_at lw_m2 177 rfl) rfl
theorem q502 : (Jvm.Cond.code ({ cls := "PageServer", name := "look", desc := "()V" } : Jvm.MethodName) prog_1_method_35_code (1 : Nat) (Option.none : Option Jvm.ClassFile.FieldType)) ∈ lw_all := lw_g (lw_at lw_m2 178 rfl) rfl
theorem q503 : (Jvm.Cond.methodLink "PageServer" (183 : Nat) ({ cls := "PageServer", name := "has", desc := "(I)Z" } : Jvm.MethodName)) ∈ lw_all := lw_g (lw_at lw_m2 179 rfl) rfl
theorem q504 : (Jvm.Cond.privateMethod ({ cls := "PageServer", name := "has", desc := "(I)Z" } : Jvm.MethodName)) ∈ lw_tbl := lw_at lw_m2 180 rfl
theorem q505 : (Jvm.Cond.instanceMethod ({ cls := "PageServer", name := "has", desc := "(I)Z" } : Jvm.MethodName)) ∈ lw_all := lw_g (lw_at lw_m2 181 rfl) rfl
theorem q506 : (Jvm.Cond.code ({ cls := "PageServer", name := "has", desc := "(I)Z" } : Jvm.MethodName) prog_1_method_19_code (2 : Nat) (Option.some Jvm.ClassFile.FieldType.boolean)) ∈ lw_all := lw_g (lw_at lw_m2 182 rfl) rfl
theorem q507 : (Jvm.Cond.methodLink "PageServer" (196 : Nat) ({ cls := "PageServer", name := "must", desc := "(ZI)V" } : Jvm.MethodName)) ∈ lw_all := lw_g (lw_at lw_m2 183 rfl) rfl
theorem q508 : (Jvm.Cond.privateMethod ({ cls := "PageServer", name := "must", desc := "(ZI)V" } : Jvm.MethodName)) ∈ lw_tbl := lw_at lw_m2 184 rfl
theorem q509 : (Jvm.Cond.instanceMethod ({ cls := "PageServer", name := "must", desc := "(ZI)V" } : Jvm.MethodName)) ∈ lw_all := lw_g (lw_at lw_m2 185 rfl) rfl
theorem q510 : (Jvm.Cond.code ({ cls := "PageServer", name := "must", desc := "(ZI)V" } : Jvm.MethodName) prog_1_method_14_code (3 : Nat) (Option.none : Option Jvm.ClassFile.FieldType)) ∈ lw_all := lw_g (lw_at lw_m2 186 rfl) rfl
theorem q551 : (Jvm.Cond.methodLink "PageServer" (166 : Nat) ({ cls := "java/lang/IllegalStateException", name := "<init>", desc := "()V" } : Jvm.MethodName)) ∈ lw_all := lw_g (lw_at lw_m2 227 rfl) rfl
theorem q574 : (Jvm.Cond.methodLink "PageServer" (309 : Nat) ({ cls := "PageServer", name := "data", desc := "()V" } : Jvm.MethodName)) ∈ lw_all := lw_g (lw_at lw_m3 10 rfl) rfl
theorem q575 : (Jvm.Cond.privateMethod ({ cls := "PageServer", name := "data", desc := "()V" } : Jvm.MethodName)) ∈ lw_tbl := lw_at lw_m3 11 rfl
theorem q576 : (Jvm.Cond.instanceMethod ({ cls := "PageServer", name := "data", desc := "()V" } : Jvm.MethodName)) ∈ lw_all := lw_g (lw_at lw_m3 12 rfl) rfl
theorem q577 : (Jvm.Cond.code ({ cls := "PageServer", name := "data", desc := "()V" } : Jvm.MethodName) prog_1_method_22_code (2 : Nat) (Option.none : Option Jvm.ClassFile.FieldType)) ∈ lw_all := lw_g (lw_at lw_m3 13 rfl) rfl
theorem q578 : (Jvm.Cond.methodLink "PageServer" (204 : Nat) ({ cls := "PageServer", name := "isIdle", desc := "(I)Z" } : Jvm.MethodName)) ∈ lw_all := lw_g (lw_at lw_m3 14 rfl) rfl
theorem q579 : (Jvm.Cond.privateMethod ({ cls := "PageServer", name := "isIdle", desc := "(I)Z" } : Jvm.MethodName)) ∈ lw_tbl := lw_at lw_m3 15 rfl
theorem q580 : (Jvm.Cond.instanceMethod ({ cls := "PageServer", name := "isIdle", desc := "(I)Z" } : Jvm.MethodName)) ∈ lw_all := lw_g (lw_at lw_m3 16 rfl) rfl
theorem q581 : (Jvm.Cond.code ({ cls := "PageServer", name := "isIdle", desc := "(I)Z" } : Jvm.MethodName) prog_1_method_18_code (2 : Nat) (Option.some Jvm.ClassFile.FieldType.boolean)) ∈ lw_all := lw_g (lw_at lw_m3 17 rfl) rfl
theorem q582 : (Jvm.Cond.methodLink "PageServer" (207 : Nat) ({ cls := "PageServer", name := "unpad", desc := "()V" } : Jvm.MethodName)) ∈ lw_all := lw_g (lw_at lw_m3 18 rfl) rfl
theorem q583 : (Jvm.Cond.privateMethod ({ cls := "PageServer", name := "unpad", desc := "()V" } : Jvm.MethodName)) ∈ lw_tbl := lw_at lw_m3 19 rfl
theorem q584 : (Jvm.Cond.instanceMethod ({ cls := "PageServer", name := "unpad", desc := "()V" } : Jvm.MethodName)) ∈ lw_all := lw_g (lw_at lw_m3 20 rfl) rfl
theorem q585 : (Jvm.Cond.code ({ cls := "PageServer", name := "unpad", desc := "()V" } : Jvm.MethodName) prog_1_method_21_code (1 : Nat) (Option.none : Option Jvm.ClassFile.FieldType)) ∈ lw_all := lw_g (lw_at lw_m3 21 rfl) rfl
theorem q586 : (Jvm.Cond.methodLink "PageServer" (192 : Nat) ({ cls := "PageServer", name := "byteAt", desc := "(I)I" } : Jvm.MethodName)) ∈ lw_all := lw_g (lw_at lw_m3 22 rfl) rfl
theorem q587 : (Jvm.Cond.privateMethod ({ cls := "PageServer", name := "byteAt", desc := "(I)I" } : Jvm.MethodName)) ∈ lw_tbl := lw_at lw_m3 23 rfl
theorem q588 : (Jvm.Cond.instanceMethod ({ cls := "PageServer", name := "byteAt", desc := "(I)I" } : Jvm.MethodName)) ∈ lw_all := lw_g (lw_at lw_m3 24 rfl) rfl
theorem q589 : (Jvm.Cond.code ({ cls := "PageServer", name := "byteAt", desc := "(I)I" } : Jvm.MethodName) prog_1_method_20_code (2 : Nat) (Option.some Jvm.ClassFile.FieldType.int)) ∈ lw_all := lw_g (lw_at lw_m3 25 rfl) rfl
theorem q590 : (Jvm.Cond.methodLink "PageServer" (210 : Nat) ({ cls := "PageServer", name := "credit", desc := "(II)V" } : Jvm.MethodName)) ∈ lw_all := lw_g (lw_at lw_m3 26 rfl) rfl
theorem q591 : (Jvm.Cond.privateMethod ({ cls := "PageServer", name := "credit", desc := "(II)V" } : Jvm.MethodName)) ∈ lw_tbl := lw_at lw_m3 27 rfl
theorem q592 : (Jvm.Cond.instanceMethod ({ cls := "PageServer", name := "credit", desc := "(II)V" } : Jvm.MethodName)) ∈ lw_all := lw_g (lw_at lw_m3 28 rfl) rfl
theorem q593 : (Jvm.Cond.code ({ cls := "PageServer", name := "credit", desc := "(II)V" } : Jvm.MethodName) prog_1_method_13_code (3 : Nat) (Option.none : Option Jvm.ClassFile.FieldType)) ∈ lw_all := lw_g (lw_at lw_m3 29 rfl) rfl
theorem q594 : (Jvm.Cond.methodLink "PageServer" (176 : Nat) ({ cls := "PageServer", name := "known", desc := "(I)LPageServer$Stream;" } : Jvm.MethodName)) ∈ lw_all := lw_g (lw_at lw_m3 30 rfl) rfl
theorem q595 : (Jvm.Cond.privateMethod ({ cls := "PageServer", name := "known", desc := "(I)LPageServer$Stream;" } : Jvm.MethodName)) ∈ lw_tbl := lw_at lw_m3 31 rfl
theorem q596 : (Jvm.Cond.instanceMethod ({ cls := "PageServer", name := "known", desc := "(I)LPageServer$Stream;" } : Jvm.MethodName)) ∈ lw_all := lw_g (lw_at lw_m3 32 rfl) rfl
theorem q597 : (Jvm.Cond.code ({ cls := "PageServer", name := "known", desc := "(I)LPageServer$Stream;" } : Jvm.MethodName) prog_1_method_16_code (5 : Nat) (Option.some (Jvm.ClassFile.FieldType.object "PageServer$Stream"))) ∈ lw_all := lw_g (lw_at lw_m3 33 rfl) rfl
theorem q598 : (Jvm.Cond.methodLink "PageServer" (132 : Nat) ({ cls := "java/util/ArrayList", name := "get", desc := "(I)Ljava/lang/Object;" } : Jvm.MethodName)) ∈ lw_all := lw_g (lw_at lw_m3 34 rfl) rfl
theorem q606 : (Jvm.Cond.methodLink "PageServer" (217 : Nat) ({ cls := "PageServer", name := "want", desc := "(ZI)V" } : Jvm.MethodName)) ∈ lw_all := lw_g (lw_at lw_m3 42 rfl) rfl
theorem q607 : (Jvm.Cond.privateMethod ({ cls := "PageServer", name := "want", desc := "(ZI)V" } : Jvm.MethodName)) ∈ lw_tbl := lw_at lw_m3 43 rfl
theorem q608 : (Jvm.Cond.instanceMethod ({ cls := "PageServer", name := "want", desc := "(ZI)V" } : Jvm.MethodName)) ∈ lw_all := lw_g (lw_at lw_m3 44 rfl) rfl
theorem q609 : (Jvm.Cond.code ({ cls := "PageServer", name := "want", desc := "(ZI)V" } : Jvm.MethodName) prog_1_method_15_code (3 : Nat) (Option.none : Option Jvm.ClassFile.FieldType)) ∈ lw_all := lw_g (lw_at lw_m3 45 rfl) rfl
theorem q618 : (Jvm.Cond.methodLink "PageServer" (62 : Nat) ({ cls := "java/lang/IllegalArgumentException", name := "<init>", desc := "()V" } : Jvm.MethodName)) ∈ lw_all := lw_g (lw_at lw_m3 54 rfl) rfl
theorem q624 : (Jvm.Cond.methodLink "PageServer" (223 : Nat) ({ cls := "PageServer", name := "close", desc := "(LPageServer$Stream;)V" } : Jvm.MethodName)) ∈ lw_all := lw_g (lw_at lw_m3 60 rfl) rfl
theorem q625 : (Jvm.Cond.privateMethod ({ cls := "PageServer", name := "close", desc := "(LPageServer$Stream;)V" } : Jvm.MethodName)) ∈ lw_tbl := lw_at lw_m3 61 rfl
theorem q626 : (Jvm.Cond.instanceMethod ({ cls := "PageServer", name := "close", desc := "(LPageServer$Stream;)V" } : Jvm.MethodName)) ∈ lw_all := lw_g (lw_at lw_m3 62 rfl) rfl
theorem q627 : (Jvm.Cond.code ({ cls := "PageServer", name := "close", desc := "(LPageServer$Stream;)V" } : Jvm.MethodName) prog_1_method_23_code (2 : Nat) (Option.none : Option Jvm.ClassFile.FieldType)) ∈ lw_all := lw_g (lw_at lw_m3 63 rfl) rfl
theorem q628 : (Jvm.Cond.methodLink "PageServer" (228 : Nat) ({ cls := "PageServer", name := "answer", desc := "(LPageServer$Stream;)V" } : Jvm.MethodName)) ∈ lw_all := lw_g (lw_at lw_m3 64 rfl) rfl
theorem q629 : (Jvm.Cond.privateMethod ({ cls := "PageServer", name := "answer", desc := "(LPageServer$Stream;)V" } : Jvm.MethodName)) ∈ lw_tbl := lw_at lw_m3 65 rfl
theorem q630 : (Jvm.Cond.instanceMethod ({ cls := "PageServer", name := "answer", desc := "(LPageServer$Stream;)V" } : Jvm.MethodName)) ∈ lw_all := lw_g (lw_at lw_m3 66 rfl) rfl
theorem q631 : (Jvm.Cond.code ({ cls := "PageServer", name := "answer", desc := "(LPageServer$Stream;)V" } : Jvm.MethodName) prog_1_method_31_code (6 : Nat) (Option.none : Option Jvm.ClassFile.FieldType)) ∈ lw_all := lw_g (lw_at lw_m3 67 rfl) rfl
theorem q632 : (Jvm.Cond.stringRef "PageServer" (289 : Nat) "HEAD") ∈ lw_tbl := lw_at lw_m3 68 rfl
theorem q633 : (Jvm.Cond.methodLink "PageServer" (141 : Nat) ({ cls := "java/lang/String", name := "equals", desc := "(Ljava/lang/Object;)Z" } : Jvm.MethodName)) ∈ lw_all := lw_g (lw_at lw_m3 69 rfl) rfl
theorem q642 : (Jvm.Cond.stringRef "PageServer" (291 : Nat) "GET") ∈ lw_tbl := lw_at lw_m3 78 rfl
theorem q643 : (Jvm.Cond.methodLink "PageServer" (160 : Nat) ({ cls := "PageServer", name := "pageAt", desc := "(Ljava/lang/String;)LPageServer$Page;" } : Jvm.MethodName)) ∈ lw_all := lw_g (lw_at lw_m3 79 rfl) rfl
theorem q644 : (Jvm.Cond.privateMethod ({ cls := "PageServer", name := "pageAt", desc := "(Ljava/lang/String;)LPageServer$Page;" } : Jvm.MethodName)) ∈ lw_tbl := lw_at lw_m3 80 rfl
theorem q645 : (Jvm.Cond.instanceMethod ({ cls := "PageServer", name := "pageAt", desc := "(Ljava/lang/String;)LPageServer$Page;" } : Jvm.MethodName)) ∈ lw_all := lw_g (lw_at lw_m3 81 rfl) rfl
theorem q646 : (Jvm.Cond.code ({ cls := "PageServer", name := "pageAt", desc := "(Ljava/lang/String;)LPageServer$Page;" } : Jvm.MethodName) prog_1_method_9_code (5 : Nat) (Option.some (Jvm.ClassFile.FieldType.object "PageServer$Page"))) ∈ lw_all := lw_g (lw_at lw_m3 82 rfl) rfl
theorem q647 : (Jvm.Cond.classLink "PageServer" (135 : Nat) "PageServer$Page") ∈ lw_all := lw_g (lw_at lw_m3 83 rfl) rfl
theorem q648 : (Jvm.Cond.methodLink "PageServer" (137 : Nat) ({ cls := "PageServer$Page", name := "path", desc := "()Ljava/lang/String;" } : Jvm.MethodName)) ∈ lw_all := lw_g (lw_at lw_m3 84 rfl) rfl
theorem q652 : (Jvm.Cond.methodLink "PageServer" (293 : Nat) ({ cls := "PageServer$Page", name := "size", desc := "()I" } : Jvm.MethodName)) ∈ lw_all := lw_g (lw_at lw_m3 88 rfl) rfl
theorem q656 : (Jvm.Cond.methodLink "PageServer" (297 : Nat) ({ cls := "PageServer$Page", name := "b", desc := "()I" } : Jvm.MethodName)) ∈ lw_all := lw_g (lw_at lw_m3 92 rfl) rfl
theorem q660 : (Jvm.Cond.methodLink "PageServer" (302 : Nat) ({ cls := "PageServer", name := "over", desc := "(I)V" } : Jvm.MethodName)) ∈ lw_all := lw_g (lw_at lw_m3 96 rfl) rfl
theorem q661 : (Jvm.Cond.privateMethod ({ cls := "PageServer", name := "over", desc := "(I)V" } : Jvm.MethodName)) ∈ lw_tbl := lw_at lw_m3 97 rfl
theorem q662 : (Jvm.Cond.instanceMethod ({ cls := "PageServer", name := "over", desc := "(I)V" } : Jvm.MethodName)) ∈ lw_all := lw_g (lw_at lw_m3 98 rfl) rfl
theorem q663 : (Jvm.Cond.code ({ cls := "PageServer", name := "over", desc := "(I)V" } : Jvm.MethodName) prog_1_method_17_code (4 : Nat) (Option.none : Option Jvm.ClassFile.FieldType)) ∈ lw_all := lw_g (lw_at lw_m3 99 rfl) rfl
theorem q664 : (Jvm.Cond.methodLink "PageServer" (312 : Nat) ({ cls := "PageServer", name := "headers", desc := "()V" } : Jvm.MethodName)) ∈ lw_all := lw_g (lw_at lw_m3 100 rfl) rfl
theorem q665 : (Jvm.Cond.privateMethod ({ cls := "PageServer", name := "headers", desc := "()V" } : Jvm.MethodName)) ∈ lw_tbl := lw_at lw_m3 101 rfl
theorem q666 : (Jvm.Cond.instanceMethod ({ cls := "PageServer", name := "headers", desc := "()V" } : Jvm.MethodName)) ∈ lw_all := lw_g (lw_at lw_m3 102 rfl) rfl
theorem q667 : (Jvm.Cond.code ({ cls := "PageServer", name := "headers", desc := "()V" } : Jvm.MethodName) prog_1_method_24_code (2 : Nat) (Option.none : Option Jvm.ClassFile.FieldType)) ∈ lw_all := lw_g (lw_at lw_m3 103 rfl) rfl
theorem q668 : (Jvm.Cond.methodLink "PageServer" (234 : Nat) ({ cls := "PageServer", name := "more", desc := "()V" } : Jvm.MethodName)) ∈ lw_all := lw_g (lw_at lw_m3 104 rfl) rfl
theorem q669 : (Jvm.Cond.privateMethod ({ cls := "PageServer", name := "more", desc := "()V" } : Jvm.MethodName)) ∈ lw_tbl := lw_at lw_m3 105 rfl
theorem q670 : (Jvm.Cond.instanceMethod ({ cls := "PageServer", name := "more", desc := "()V" } : Jvm.MethodName)) ∈ lw_all := lw_g (lw_at lw_m3 106 rfl) rfl
theorem q671 : (Jvm.Cond.code ({ cls := "PageServer", name := "more", desc := "()V" } : Jvm.MethodName) prog_1_method_25_code (2 : Nat) (Option.none : Option Jvm.ClassFile.FieldType)) ∈ lw_all := lw_g (lw_at lw_m3 107 rfl) rfl
theorem q672 : (Jvm.Cond.methodLink "PageServer" (240 : Nat) ({ cls := "PageServer$Reader", name := "read", desc := "(LPageServer$Table;Ljava/util/ArrayList;)Z" } : Jvm.MethodName)) ∈ lw_all := lw_g (lw_at lw_m3 108 rfl) rfl
theorem q988 : (Jvm.Cond.methodLink "PageServer" (244 : Nat) ({ cls := "PageServer", name := "trailers", desc := "(LPageServer$Stream;)V" } : Jvm.MethodName)) ∈ lw_all := lw_g (lw_at lw_m4 184 rfl) rfl
theorem q989 : (Jvm.Cond.privateMethod ({ cls := "PageServer", name := "trailers", desc := "(LPageServer$Stream;)V" } : Jvm.MethodName)) ∈ lw_tbl := lw_at lw_m4 185 rfl
theorem q990 : (Jvm.Cond.instanceMethod ({ cls := "PageServer", name := "trailers", desc := "(LPageServer$Stream;)V" } : Jvm.MethodName)) ∈ lw_all := lw_g (lw_at lw_m4 186 rfl) rfl
theorem q991 : (Jvm.Cond.code ({ cls := "PageServer", name := "trailers", desc := "(LPageServer$Stream;)V" } : Jvm.MethodName) prog_1_method_26_code (4 : Nat) (Option.none : Option Jvm.ClassFile.FieldType)) ∈ lw_all := lw_g (lw_at lw_m4 187 rfl) rfl
theorem q992 : (Jvm.Cond.classLink "PageServer" (250 : Nat) "PageServer$Entry") ∈ lw_all := lw_g (lw_at lw_m4 188 rfl) rfl
theorem q993 : (Jvm.Cond.methodLink "PageServer" (252 : Nat) ({ cls := "PageServer$Entry", name := "name", desc := "()Ljava/lang/String;" } : Jvm.MethodName)) ∈ lw_all := lw_g (lw_at lw_m4 189 rfl) rfl
theorem q994 : (Jvm.Cond.methodLink "PageServer" (255 : Nat) ({ cls := "java/lang/String", name := "charAt", desc := "(I)C" } : Jvm.MethodName)) ∈ lw_all := lw_g (lw_at lw_m4 190 rfl) rfl
theorem q1009 : (Jvm.Cond.methodLink "PageServer" (247 : Nat) ({ cls := "PageServer", name := "request", desc := "()V" } : Jvm.MethodName)) ∈ lw_all := lw_g (lw_at lw_m4 205 rfl) rfl
theorem q1010 : (Jvm.Cond.privateMethod ({ cls := "PageServer", name := "request", desc := "()V" } : Jvm.MethodName)) ∈ lw_tbl := lw_at lw_m4 206 rfl
theorem q1011 : (Jvm.Cond.instanceMethod ({ cls := "PageServer", name := "request", desc := "()V" } : Jvm.MethodName)) ∈ lw_all := lw_g (lw_at lw_m4 207 rfl) rfl
theorem q1012 : (Jvm.Cond.code ({ cls := "PageServer", name := "request", desc := "()V" } : Jvm.MethodName) prog_1_method_30_code (7 : Nat) (Option.none : Option Jvm.ClassFile.FieldType)) ∈ lw_all := lw_g (lw_at lw_m4 208 rfl) rfl
theorem q1013 : (Jvm.Cond.stringRef "PageServer" (261 : Nat) ":m") ∈ lw_tbl := lw_at lw_m4 209 rfl
theorem q1014 : (Jvm.Cond.methodLink "PageServer" (263 : Nat) ({ cls := "PageServer$Entry", name := "value", desc := "()Ljava/lang/String;" } : Jvm.MethodName)) ∈ lw_all := lw_g (lw_at lw_m4 210 rfl) rfl
theorem q1018 : (Jvm.Cond.stringRef "PageServer" (266 : Nat) ":p") ∈ lw_tbl := lw_at lw_m4 214 rfl
theorem q1019 : (Jvm.Cond.methodLink "PageServer" (268 : Nat) ({ cls := "PageServer", name := "isName", desc := "(Ljava/lang/String;)Z" } : Jvm.MethodName)) ∈ lw_all := lw_g (lw_at lw_m4 215 rfl) rfl
theorem q1020 : (Jvm.Cond.static ({ cls := "PageServer", name := "isName", desc := "(Ljava/lang/String;)Z" } : Jvm.MethodName)) ∈ lw_all := lw_g (lw_at lw_m4 216 rfl) rfl
theorem q1021 : (Jvm.Cond.code ({ cls := "PageServer", name := "isName", desc := "(Ljava/lang/String;)Z" } : Jvm.MethodName) prog_1_method_27_code (3 : Nat) (Option.some Jvm.ClassFile.FieldType.boolean)) ∈ lw_all := lw_g (lw_at lw_m4 217 rfl) rfl
theorem q1022 : (Jvm.Cond.methodLink "PageServer" (259 : Nat) ({ cls := "java/lang/String", name := "length", desc := "()I" } : Jvm.MethodName)) ∈ lw_all := lw_g (lw_at lw_m4 218 rfl) rfl
theorem q1023 : (Jvm.Cond.methodLink "PageServer" (122 : Nat) ({ cls := "PageServer", name := "isLetter", desc := "(I)Z" } : Jvm.MethodName)) ∈ lw_all := lw_g (lw_at lw_m4 219 rfl) rfl
theorem q1024 : (Jvm.Cond.static ({ cls := "PageServer", name := "isLetter", desc := "(I)Z" } : Jvm.MethodName)) ∈ lw_all := lw_g (lw_at lw_m4 220 rfl) rfl
theorem q1025 : (Jvm.Cond.code ({ cls := "PageServer", name := "isLetter", desc := "(I)Z" } : Jvm.MethodName) prog_1_method_2_code (1 : Nat) (Option.some Jvm.ClassFile.FieldType.boolean)) ∈ lw_all := lw_g (lw_at lw_m4 221 rfl) rfl
theorem q1026 : (Jvm.Cond.stringRef "PageServer" (272 : Nat) "length") ∈ lw_tbl := lw_at lw_m4 222 rfl
theorem q1027 : (Jvm.Cond.methodLink "PageServer" (273 : Nat) ({ cls := "PageServer", name := "isNumber", desc := "(Ljava/lang/String;)Z" } : Jvm.MethodName)) ∈ lw_all := lw_g (lw_at lw_m4 223 rfl) rfl
theorem q1028 : (Jvm.Cond.static ({ cls := "PageServer", name := "isNumber", desc := "(Ljava/lang/String;)Z" } : Jvm.MethodName)) ∈ lw_all := lw_g (lw_at lw_m4 224 rfl) rfl
theorem q1029 : (Jvm.Cond.code ({ cls := "PageServer", name := "isNumber", desc := "(Ljava/lang/String;)Z" } : Jvm.MethodName) prog_1_method_28_code (3 : Nat) (Option.some Jvm.ClassFile.FieldType.boolean)) ∈ lw_all := lw_g (lw_at lw_m4 225 rfl) rfl
theorem q1030 : (Jvm.Cond.methodLink "PageServer" (276 : Nat) ({ cls := "PageServer", name := "numberOf", desc := "(Ljava/lang/String;)I" } : Jvm.MethodName)) ∈ lw_all := lw_g (lw_at lw_m4 226 rfl) rfl
theorem q1031 : (Jvm.Cond.static ({ cls := "PageServer", name := "numberOf", desc := "(Ljava/lang/String;)I" } : Jvm.MethodName)) ∈ lw_all := lw_g (lw_at lw_m4 227 rfl) rfl
theorem q1032 : (Jvm.Cond.code ({ cls := "PageServer", name := "numberOf", desc := "(Ljava/lang/String;)I" } : Jvm.MethodName) prog_1_method_29_code (3 : Nat) (Option.some Jvm.ClassFile.FieldType.int)) ∈ lw_all := lw_g (lw_at lw_m4 228 rfl) rfl
theorem q1033 : (Jvm.Cond.methodLink "PageServer" (280 : Nat) ({ cls := "PageServer$Stream", name := "begin", desc := "(II)LPageServer$Stream;" } : Jvm.MethodName)) ∈ lw_all := lw_g (lw_at lw_m4 229 rfl) rfl
theorem q1037 : (Jvm.Cond.methodLink "PageServer" (315 : Nat) ({ cls := "PageServer", name := "settings", desc := "()V" } : Jvm.MethodName)) ∈ lw_all := lw_g (lw_at lw_m4 233 rfl) rfl
theorem q1038 : (Jvm.Cond.privateMethod ({ cls := "PageServer", name := "settings", desc := "()V" } : Jvm.MethodName)) ∈ lw_tbl := lw_at lw_m4 234 rfl
theorem q1039 : (Jvm.Cond.instanceMethod ({ cls := "PageServer", name := "settings", desc := "()V" } : Jvm.MethodName)) ∈ lw_all := lw_g (lw_at lw_m4 235 rfl) rfl
theorem q1040 : (Jvm.Cond.code ({ cls := "PageServer", name := "settings", desc := "()V" } : Jvm.MethodName) prog_1_method_32_code (5 : Nat) (Option.none : Option Jvm.ClassFile.FieldType)) ∈ lw_all := lw_g (lw_at lw_m4 236 rfl) rfl
theorem q1041 : (Jvm.Cond.methodLink "PageServer" (318 : Nat) ({ cls := "PageServer", name := "ping", desc := "()V" } : Jvm.MethodName)) ∈ lw_all := lw_g (lw_at lw_m4 237 rfl) rfl
theorem q1042 : (Jvm.Cond.privateMethod ({ cls := "PageServer", name := "ping", desc := "()V" } : Jvm.MethodName)) ∈ lw_tbl := lw_at lw_m4 238 rfl
theorem q1043 : (Jvm.Cond.instanceMethod ({ cls := "PageServer", name := "ping", desc := "()V" } : Jvm.MethodName)) ∈ lw_all := lw_g (lw_at lw_m4 239 rfl) rfl
theorem q1044 : (Jvm.Cond.code ({ cls := "PageServer", name := "ping", desc := "()V" } : Jvm.MethodName) prog_1_method_33_code (2 : Nat) (Option.none : Option Jvm.ClassFile.FieldType)) ∈ lw_all := lw_g (lw_at lw_m5 0 rfl) rfl
theorem q1045 : (Jvm.Cond.methodLink "PageServer" (321 : Nat) ({ cls := "PageServer", name := "widen", desc := "()V" } : Jvm.MethodName)) ∈ lw_all := lw_g (lw_at lw_m5 1 rfl) rfl
theorem q1046 : (Jvm.Cond.privateMethod ({ cls := "PageServer", name := "widen", desc := "()V" } : Jvm.MethodName)) ∈ lw_tbl := lw_at lw_m5 2 rfl
theorem q1047 : (Jvm.Cond.instanceMethod ({ cls := "PageServer", name := "widen", desc := "()V" } : Jvm.MethodName)) ∈ lw_all := lw_g (lw_at lw_m5 3 rfl) rfl
theorem q1048 : (Jvm.Cond.code ({ cls := "PageServer", name := "widen", desc := "()V" } : Jvm.MethodName) prog_1_method_34_code (3 : Nat) (Option.none : Option Jvm.ClassFile.FieldType)) ∈ lw_all := lw_g (lw_at lw_m5 4 rfl) rfl
theorem q1049 : (Jvm.Cond.methodLink "PageServer" (327 : Nat) ({ cls := "PageServer", name := "reset", desc := "()V" } : Jvm.MethodName)) ∈ lw_all := lw_g (lw_at lw_m5 5 rfl) rfl
theorem q1050 : (Jvm.Cond.privateMethod ({ cls := "PageServer", name := "reset", desc := "()V" } : Jvm.MethodName)) ∈ lw_tbl := lw_at lw_m5 6 rfl
theorem q1051 : (Jvm.Cond.instanceMethod ({ cls := "PageServer", name := "reset", desc := "()V" } : Jvm.MethodName)) ∈ lw_all := lw_g (lw_at lw_m5 7 rfl) rfl
theorem q1052 : (Jvm.Cond.code ({ cls := "PageServer", name := "reset", desc := "()V" } : Jvm.MethodName) prog_1_method_37_code (1 : Nat) (Option.none : Option Jvm.ClassFile.FieldType)) ∈ lw_all := lw_g (lw_at lw_m5 8 rfl) rfl
theorem q1053 : (Jvm.Cond.methodLink "PageServer" (333 : Nat) ({ cls := "PageServer", name := "pump", desc := "()V" } : Jvm.MethodName)) ∈ lw_all := lw_g (lw_at lw_m5 9 rfl) rfl
theorem q1054 : (Jvm.Cond.privateMethod ({ cls := "PageServer", name := "pump", desc := "()V" } : Jvm.MethodName)) ∈ lw_tbl := lw_at lw_m5 10 rfl
theorem q1055 : (Jvm.Cond.instanceMethod ({ cls := "PageServer", name := "pump", desc := "()V" } : Jvm.MethodName)) ∈ lw_all := lw_g (lw_at lw_m5 11 rfl) rfl
theorem q1056 : (Jvm.Cond.code ({ cls := "PageServer", name := "pump", desc := "()V" } : Jvm.MethodName) prog_1_method_40_code (4 : Nat) (Option.none : Option Jvm.ClassFile.FieldType)) ∈ lw_all := lw_g (lw_at lw_m5 12 rfl) rfl
theorem q1057 : (Jvm.Cond.methodLink "PageServer" (336 : Nat) ({ cls := "PageServer", name := "turn", desc := "()LPageServer$Stream;" } : Jvm.MethodName)) ∈ lw_all := lw_g (lw_at lw_m5 13 rfl) rfl
theorem q1058 : (Jvm.Cond.privateMethod ({ cls := "PageServer", name := "turn", desc := "()LPageServer$Stream;" } : Jvm.MethodName)) ∈ lw_tbl := lw_at lw_m5 14 rfl
theorem q1059 : (Jvm.Cond.instanceMethod ({ cls := "PageServer", name := "turn", desc := "()LPageServer$Stream;" } : Jvm.MethodName)) ∈ lw_all := lw_g (lw_at lw_m5 15 rfl) rfl
theorem q1060 : (Jvm.Cond.code ({ cls := "PageServer", name := "turn", desc := "()LPageServer$Stream;" } : Jvm.MethodName) prog_1_method_39_code (4 : Nat) (Option.some (Jvm.ClassFile.FieldType.object "PageServer$Stream"))) ∈ lw_all := lw_g (lw_at lw_m5 16 rfl) rfl
theorem q1061 : (Jvm.Cond.methodLink "PageServer" (340 : Nat) ({ cls := "java/lang/Math", name := "min", desc := "(II)I" } : Jvm.MethodName)) ∈ lw_all := lw_g (lw_at lw_m5 17 rfl) rfl
theorem q1063 : (Jvm.Cond.instanceMethod ({ cls := "PageServer", name := "waiting", desc := "()I" } : Jvm.MethodName)) ∈ lw_all := lw_g (lw_at lw_m5 19 rfl) rfl
theorem q1064 : (Jvm.Cond.selects "PageServer" ({ cls := "PageServer", name := "waiting", desc := "()I" } : Jvm.MethodName) ({ cls := "PageServer", name := "waiting", desc := "()I" } : Jvm.MethodName)) ∈ lw_all := lw_g (lw_at lw_m5 20 rfl) rfl
theorem q1065 : (Jvm.Cond.code ({ cls := "PageServer", name := "waiting", desc := "()I" } : Jvm.MethodName) prog_1_method_43_code (1 : Nat) (Option.some Jvm.ClassFile.FieldType.int)) ∈ lw_all := lw_g (lw_at lw_m5 21 rfl) rfl
theorem q1067 : (Jvm.Cond.instanceMethod ({ cls := "PageServer", name := "take", desc := "(I)V" } : Jvm.MethodName)) ∈ lw_all := lw_g (lw_at lw_m5 23 rfl) rfl
theorem q1068 : (Jvm.Cond.selects "PageServer" ({ cls := "PageServer", name := "take", desc := "(I)V" } : Jvm.MethodName) ({ cls := "PageServer", name := "take", desc := "(I)V" } : Jvm.MethodName)) ∈ lw_all := lw_g (lw_at lw_m5 24 rfl) rfl
theorem q1069 : (Jvm.Cond.code ({ cls := "PageServer", name := "take", desc := "(I)V" } : Jvm.MethodName) prog_1_method_45_code (4 : Nat) (Option.none : Option Jvm.ClassFile.FieldType)) ∈ lw_all := lw_g (lw_at lw_m5 25 rfl) rfl
theorem q1071 : (Jvm.Cond.instanceMethod ({ cls := "PageServer", name := "away", desc := "()I" } : Jvm.MethodName)) ∈ lw_all := lw_g (lw_at lw_m5 27 rfl) rfl
theorem q1072 : (Jvm.Cond.selects "PageServer" ({ cls := "PageServer", name := "away", desc := "()I" } : Jvm.MethodName) ({ cls := "PageServer", name := "away", desc := "()I" } : Jvm.MethodName)) ∈ lw_all := lw_g (lw_at lw_m5 28 rfl) rfl
theorem q1073 : (Jvm.Cond.code ({ cls := "PageServer", name := "away", desc := "()I" } : Jvm.MethodName) prog_1_method_46_code (1 : Nat) (Option.some Jvm.ClassFile.FieldType.int)) ∈ lw_all := lw_g (lw_at lw_m5 29 rfl) rfl
theorem q1075 : (Jvm.Cond.instanceMethod ({ cls := "PageServer", name := "about", desc := "(I)I" } : Jvm.MethodName)) ∈ lw_all := lw_g (lw_at lw_m5 31 rfl) rfl
theorem q1076 : (Jvm.Cond.selects "PageServer" ({ cls := "PageServer", name := "about", desc := "(I)I" } : Jvm.MethodName) ({ cls := "PageServer", name := "about", desc := "(I)I" } : Jvm.MethodName)) ∈ lw_all := lw_g (lw_at lw_m5 32 rfl) rfl
theorem q1077 : (Jvm.Cond.code ({ cls := "PageServer", name := "about", desc := "(I)I" } : Jvm.MethodName) prog_1_method_47_code (2 : Nat) (Option.some Jvm.ClassFile.FieldType.int)) ∈ lw_all := lw_g (lw_at lw_m5 33 rfl) rfl
theorem q1078 : (Jvm.Cond.methodLink "PageServer" (362 : Nat) ({ cls := "PageServer$Table", name := "taken", desc := "()I" } : Jvm.MethodName)) ∈ lw_all := lw_g (lw_at lw_m5 34 rfl) rfl
theorem q1085 : (Jvm.Cond.instanceMethod ({ cls := "PageServer", name := "page", desc := "(IIII)I" } : Jvm.MethodName)) ∈ lw_all := lw_g (lw_at lw_m5 41 rfl) rfl
theorem q1086 : (Jvm.Cond.selects "PageServer" ({ cls := "PageServer", name := "page", desc := "(IIII)I" } : Jvm.MethodName) ({ cls := "PageServer", name := "page", desc := "(IIII)I" } : Jvm.MethodName)) ∈ lw_all := lw_g (lw_at lw_m5 42 rfl) rfl
theorem q1087 : (Jvm.Cond.code ({ cls := "PageServer", name := "page", desc := "(IIII)I" } : Jvm.MethodName) prog_1_method_10_code (7 : Nat) (Option.some Jvm.ClassFile.FieldType.int)) ∈ lw_all := lw_g (lw_at lw_m5 43 rfl) rfl
theorem q1088 : (Jvm.Cond.methodLink "PageServer" (146 : Nat) ({ cls := "PageServer", name := "isText", desc := "(I)Z" } : Jvm.MethodName)) ∈ lw_all := lw_g (lw_at lw_m5 44 rfl) rfl
theorem q1089 : (Jvm.Cond.static ({ cls := "PageServer", name := "isText", desc := "(I)Z" } : Jvm.MethodName)) ∈ lw_all := lw_g (lw_at lw_m5 45 rfl) rfl
theorem q1090 : (Jvm.Cond.code ({ cls := "PageServer", name := "isText", desc := "(I)Z" } : Jvm.MethodName) prog_1_method_7_code (5 : Nat) (Option.some Jvm.ClassFile.FieldType.boolean)) ∈ lw_all := lw_g (lw_at lw_m5 46 rfl) rfl
theorem q1091 : (Jvm.Cond.methodLink "PageServer" (149 : Nat) ({ cls := "PageServer", name := "need", desc := "(Z)V" } : Jvm.MethodName)) ∈ lw_all := lw_g (lw_at lw_m5 47 rfl) rfl
theorem q1092 : (Jvm.Cond.static ({ cls := "PageServer", name := "need", desc := "(Z)V" } : Jvm.MethodName)) ∈ lw_all := lw_g (lw_at lw_m5 48 rfl) rfl
theorem q1093 : (Jvm.Cond.code ({ cls := "PageServer", name := "need", desc := "(Z)V" } : Jvm.MethodName) prog_1_method_4_code (1 : Nat) (Option.none : Option Jvm.ClassFile.FieldType)) ∈ lw_all := lw_g (lw_at lw_m5 49 rfl) rfl
theorem q1094 : (Jvm.Cond.classLink "PageServer" (127 : Nat) "java/lang/StringBuilder") ∈ lw_all := lw_g (lw_at lw_m5 50 rfl) rfl
theorem q1095 : (Jvm.Cond.methodLink "PageServer" (153 : Nat) ({ cls := "java/lang/StringBuilder", name := "<init>", desc := "()V" } : Jvm.MethodName)) ∈ lw_all := lw_g (lw_at lw_m5 51 rfl) rfl
theorem q1096 : (Jvm.Cond.methodLink "PageServer" (126 : Nat) ({ cls := "java/lang/StringBuilder", name := "append", desc := "(C)Ljava/lang/StringBuilder;" } : Jvm.MethodName)) ∈ lw_all := lw_g (lw_at lw_m5 52 rfl) rfl
theorem q1097 : (Jvm.Cond.methodLink "PageServer" (154 : Nat) ({ cls := "PageServer", name := "append", desc := "(Ljava/lang/StringBuilder;I)V" } : Jvm.MethodName)) ∈ lw_all := lw_g (lw_at lw_m5 53 rfl) rfl
theorem q1098 : (Jvm.Cond.static ({ cls := "PageServer", name := "append", desc := "(Ljava/lang/StringBuilder;I)V" } : Jvm.MethodName)) ∈ lw_all := lw_g (lw_at lw_m5 54 rfl) rfl
theorem q1099 : (Jvm.Cond.code ({ cls := "PageServer", name := "append", desc := "(Ljava/lang/StringBuilder;I)V" } : Jvm.MethodName) prog_1_method_8_code (3 : Nat) (Option.none : Option Jvm.ClassFile.FieldType)) ∈ lw_all := lw_g (lw_at lw_m5 55 rfl) rfl
theorem q1100 : (Jvm.Cond.methodLink "PageServer" (157 : Nat) ({ cls := "java/lang/StringBuilder", name := "toString", desc := "()Ljava/lang/String;" } : Jvm.MethodName)) ∈ lw_all := lw_g (lw_at lw_m5 56 rfl) rfl
theorem q1102 : (Jvm.Cond.methodLinkNest "PageServer" (167 : Nat) ({ cls := "PageServer$Page", name := "<init>", desc := "(Ljava/lang/String;II)V" } : Jvm.MethodName) "PageServer") ∈ lw_tbl := lw_at lw_m5 58 rfl
theorem q1121 : (Jvm.Cond.instanceMethod ({ cls := "PageServer", name := "out", desc := "(I)I" } : Jvm.MethodName)) ∈ lw_all := lw_g (lw_at lw_m5 77 rfl) rfl
theorem q1122 : (Jvm.Cond.selects "PageServer" ({ cls := "PageServer", name := "out", desc := "(I)I" } : Jvm.MethodName) ({ cls := "PageServer", name := "out", desc := "(I)I" } : Jvm.MethodName)) ∈ lw_all := lw_g (lw_at lw_m5 78 rfl) rfl
theorem q1123 : (Jvm.Cond.code ({ cls := "PageServer", name := "out", desc := "(I)I" } : Jvm.MethodName) prog_1_method_44_code (2 : Nat) (Option.some Jvm.ClassFile.FieldType.int)) ∈ lw_all := lw_g (lw_at lw_m5 79 rfl) rfl
theorem q1124 : (Jvm.Cond.methodLink "PageServer" (356 : Nat) ({ cls := "PageServer", name := "find", desc := "(Z)V" } : Jvm.MethodName)) ∈ lw_all := lw_g (lw_at lw_m5 80 rfl) rfl
theorem q1125 : (Jvm.Cond.static ({ cls := "PageServer", name := "find", desc := "(Z)V" } : Jvm.MethodName)) ∈ lw_all := lw_g (lw_at lw_m5 81 rfl) rfl
theorem q1126 : (Jvm.Cond.code ({ cls := "PageServer", name := "find", desc := "(Z)V" } : Jvm.MethodName) prog_1_method_5_code (1 : Nat) (Option.none : Option Jvm.ClassFile.FieldType)) ∈ lw_all := lw_g (lw_at lw_m5 82 rfl) rfl
theorem q1127 : (Jvm.Cond.classLink "PageServer" (63 : Nat) "java/util/NoSuchElementException") ∈ lw_all := lw_g (lw_at lw_m5 83 rfl) rfl
theorem q1136 : (Jvm.Cond.methodLink "PageServer" (65 : Nat) ({ cls := "java/util/NoSuchElementException", name := "<init>", desc := "()V" } : Jvm.MethodName)) ∈ lw_all := lw_g (lw_at lw_m5 92 rfl) rfl
theorem q1146 : (Jvm.Cond.instanceMethod ({ cls := "PageServer", name := "stream", desc := "(II)I" } : Jvm.MethodName)) ∈ lw_all := lw_g (lw_at lw_m5 102 rfl) rfl
theorem q1147 : (Jvm.Cond.selects "PageServer" ({ cls := "PageServer", name := "stream", desc := "(II)I" } : Jvm.MethodName) ({ cls := "PageServer", name := "stream", desc := "(II)I" } : Jvm.MethodName)) ∈ lw_all := lw_g (lw_at lw_m5 103 rfl) rfl
theorem q1148 : (Jvm.Cond.code ({ cls := "PageServer", name := "stream", desc := "(II)I" } : Jvm.MethodName) prog_1_method_48_code (4 : Nat) (Option.some Jvm.ClassFile.FieldType.int)) ∈ lw_all := lw_g (lw_at lw_m5 104 rfl) rfl
theorem q1153 : (Jvm.Cond.instanceMethod ({ cls := "PageServer", name := "entry", desc := "(III)I" } : Jvm.MethodName)) ∈ lw_all := lw_g (lw_at lw_m5 109 rfl) rfl
theorem q1154 : (Jvm.Cond.selects "PageServer" ({ cls := "PageServer", name := "entry", desc := "(III)I" } : Jvm.MethodName) ({ cls := "PageServer", name := "entry", desc := "(III)I" } : Jvm.MethodName)) ∈ lw_all := lw_g (lw_at lw_m5 110 rfl) rfl
theorem q1155 : (Jvm.Cond.code ({ cls := "PageServer", name := "entry", desc := "(III)I" } : Jvm.MethodName) prog_1_method_49_code (6 : Nat) (Option.some Jvm.ClassFile.FieldType.int)) ∈ lw_all := lw_g (lw_at lw_m5 111 rfl) rfl
theorem q1156 : (Jvm.Cond.methodLink "PageServer" (365 : Nat) ({ cls := "PageServer$Table", name := "at", desc := "(I)LPageServer$Entry;" } : Jvm.MethodName)) ∈ lw_all := lw_g (lw_at lw_m5 112 rfl) rfl
theorem q1592 : (Jvm.Cond.castable "PageServer" "java/lang/Object") ∈ lw_tbl := lw_at lw_m7 68 rfl
theorem in_X1 : ∀ w ∈ wsX10, w ∈ lw_all := lw_in wsX10 [420, 422, 424, 426, 428, 430, 432, 434, 436, 438, 440, 442, 444, 446, 448, 450, 452, 454, 456, 458, 460, 462, 464, 466, 468, 470, 472] (by decide +kernel) (by decide +kernel)
/-! PageServer$Table -/
set_option maxRecDepth 100000
def RX2 : String := "PageServer$Table"
def TX2 : u_T := fun k => match k with
  | 0 => ("PageServer$Table", "fixed", "Ljava/util/ArrayList;", true)
  | 1 => ("PageServer$Table", "came", "Ljava/util/ArrayList;", true)
  | _ => ("PageServer$Table", "size", "I", false)
def tyX2 : Nat → FieldType := fun k => match k with
  | 0 => .object "java/util/ArrayList"
  | 1 => .object "java/util/ArrayList"
  | _ => .int
abbrev wsX20 : List Cond := u_ws RX2 TX2 3
theorem nmX2 : ∀ a, a < 3 → ∀ b, b < 3 → a ≠ b → (TX2 a).2.1 ≠ (TX2 b).2.1 := by decide +kernel
theorem tyX2_ok : ∀ k, k < 3 → parseFieldDescriptor (TX2 k).2.2.1 = some (tyX2 k) := by decide +kernel
abbrev cX2_init : ByteArray := prog_6_method_1_code
def yX2_init : MethodName := ⟨RX2, "<init>", "()V"⟩
def dkwX2_init_7 : List UInt8 := [182, 0, 34, 87, 177]
abbrev dktX2_init_7 : List UInt8 := dkwX2_init_7 ++ []
def dkwX2_init_6 : List UInt8 := [183, 0, 31, 182, 0, 34, 87, 42, 180, 0, 12, 187, 0, 25, 89, 18, 50, 18, 54, 183, 0, 31]
abbrev dktX2_init_6 : List UInt8 := dkwX2_init_6 ++ dktX2_init_7
def dkwX2_init_5 : List UInt8 := [18, 48, 18, 46, 183, 0, 31, 182, 0, 34, 87, 42, 180, 0, 12, 187, 0, 25, 89, 18, 50, 18, 52]
abbrev dktX2_init_5 : List UInt8 := dkwX2_init_5 ++ dktX2_init_6
def dkwX2_init_4 : List UInt8 := [187, 0, 25, 89, 18, 44, 18, 46, 183, 0, 31, 182, 0, 34, 87, 42, 180, 0, 12, 187, 0, 25, 89]
abbrev dktX2_init_4 : List UInt8 := dkwX2_init_4 ++ dktX2_init_5
def dkwX2_init_3 : List UInt8 := [180, 0, 12, 187, 0, 25, 89, 18, 40, 18, 42, 183, 0, 31, 182, 0, 34, 87, 42, 180, 0, 12]
abbrev dktX2_init_3 : List UInt8 := dkwX2_init_3 ++ dktX2_init_4
def dkwX2_init_2 : List UInt8 := [182, 0, 34, 87, 42, 180, 0, 12, 187, 0, 25, 89, 18, 27, 18, 38, 183, 0, 31, 182, 0, 34, 87, 42]
abbrev dktX2_init_2 : List UInt8 := dkwX2_init_2 ++ dktX2_init_3
def dkwX2_init_1 : List UInt8 := [181, 0, 18, 42, 16, 24, 181, 0, 21, 42, 180, 0, 12, 187, 0, 25, 89, 18, 27, 18, 29, 183, 0, 31]
abbrev dktX2_init_1 : List UInt8 := dkwX2_init_1 ++ dktX2_init_2
def dkwX2_init_0 : List UInt8 := [42, 183, 0, 3, 42, 187, 0, 9, 89, 183, 0, 11, 181, 0, 12, 42, 187, 0, 9, 89, 183, 0, 11]
abbrev dktX2_init_0 : List UInt8 := dkwX2_init_0 ++ dktX2_init_1
theorem dksX2_init_0 : cX2_init.data.toList.drop 0 = dktX2_init_0 := by decide +kernel
theorem dksX2_init_1 : cX2_init.data.toList.drop 23 = dktX2_init_1 := dk_seg dksX2_init_0 23 rfl rfl
theorem dksX2_init_2 : cX2_init.data.toList.drop 47 = dktX2_init_2 := dk_seg dksX2_init_1 24 rfl rfl
theorem dksX2_init_3 : cX2_init.data.toList.drop 71 = dktX2_init_3 := dk_seg dksX2_init_2 24 rfl rfl
theorem dksX2_init_4 : cX2_init.data.toList.drop 93 = dktX2_init_4 := dk_seg dksX2_init_3 22 rfl rfl
theorem dksX2_init_5 : cX2_init.data.toList.drop 116 = dktX2_init_5 := dk_seg dksX2_init_4 23 rfl rfl
theorem dksX2_init_6 : cX2_init.data.toList.drop 139 = dktX2_init_6 := dk_seg dksX2_init_5 23 rfl rfl
theorem dksX2_init_7 : cX2_init.data.toList.drop 161 = dktX2_init_7 := dk_seg dksX2_init_6 22 rfl rfl
theorem dX2_init_0 : decode cX2_init 0 = .ok (.aload_n 0, 1) := dk_42 (dk_at dksX2_init_0 0 rfl rfl)
theorem dX2_init_1 : decode cX2_init 1 = .ok (.invokespecial 3, 3) := dk_183 0 3 (dk_at dksX2_init_0 1 rfl rfl)
theorem dX2_init_4 : decode cX2_init 4 = .ok (.aload_n 0, 1) := dk_42 (dk_at dksX2_init_0 4 rfl rfl)
theorem dX2_init_5 : decode cX2_init 5 = .ok (.new 9, 3) := dk_187 0 9 (dk_at dksX2_init_0 5 rfl rfl)
theorem dX2_init_8 : decode cX2_init 8 = .ok (.dup, 1) := dk_89 (dk_at dksX2_init_0 8 rfl rfl)
theorem dX2_init_9 : decode cX2_init 9 = .ok (.invokespecial 11, 3) := dk_183 0 11 (dk_at dksX2_init_0 9 rfl rfl)
theorem dX2_init_12 : decode cX2_init 12 = .ok (.putfield 12, 3) := dk_181 0 12 (dk_at dksX2_init_0 12 rfl rfl)
theorem dX2_init_15 : decode cX2_init 15 = .ok (.aload_n 0, 1) := dk_42 (dk_at dksX2_init_0 15 rfl rfl)
theorem dX2_init_16 : decode cX2_init 16 = .ok (.new 9, 3) := dk_187 0 9 (dk_at dksX2_init_0 16 rfl rfl)
theorem dX2_init_19 : decode cX2_init 19 = .ok (.dup, 1) := dk_89 (dk_at dksX2_init_0 19 rfl rfl)
theorem dX2_init_20 : decode cX2_init 20 = .ok (.invokespecial 11, 3) := dk_183 0 11 (dk_at dksX2_init_0 20 rfl rfl)
theorem dX2_init_23 : decode cX2_init 23 = .ok (.putfield 18, 3) := dk_181 0 18 (dk_at dksX2_init_1 0 rfl rfl)
theorem dX2_init_26 : decode cX2_init 26 = .ok (.aload_n 0, 1) := dk_42 (dk_at dksX2_init_1 3 rfl rfl)
theorem dX2_init_27 : decode cX2_init 27 = .ok (.bipush 24, 2) := dk_16 24 (dk_at dksX2_init_1 4 rfl rfl)
theorem dX2_init_29 : decode cX2_init 29 = .ok (.putfield 21, 3) := dk_181 0 21 (dk_at dksX2_init_1 6 rfl rfl)
theorem dX2_init_32 : decode cX2_init 32 = .ok (.aload_n 0, 1) := dk_42 (dk_at dksX2_init_1 9 rfl rfl)
theorem dX2_init_33 : decode cX2_init 33 = .ok (.getfield 12, 3) := dk_180 0 12 (dk_at dksX2_init_1 10 rfl rfl)
theorem dX2_init_36 : decode cX2_init 36 = .ok (.new 25, 3) := dk_187 0 25 (dk_at dksX2_init_1 13 rfl rfl)
theorem dX2_init_39 : decode cX2_init 39 = .ok (.dup, 1) := dk_89 (dk_at dksX2_init_1 16 rfl rfl)
theorem dX2_init_40 : decode cX2_init 40 = .ok (.ldc 27, 2) := dk_18 27 (dk_at dksX2_init_1 17 rfl rfl)
theorem dX2_init_42 : decode cX2_init 42 = .ok (.ldc 29, 2) := dk_18 29 (dk_at dksX2_init_1 19 rfl rfl)
theorem dX2_init_44 : decode cX2_init 44 = .ok (.invokespecial 31, 3) := dk_183 0 31 (dk_at dksX2_init_1 21 rfl rfl)
theorem dX2_init_47 : decode cX2_init 47 = .ok (.invokevirtual 34, 3) := dk_182 0 34 (dk_at dksX2_init_2 0 rfl rfl)
theorem dX2_init_50 : decode cX2_init 50 = .ok (.pop, 1) := dk_87 (dk_at dksX2_init_2 3 rfl rfl)
theorem dX2_init_51 : decode cX2_init 51 = .ok (.aload_n 0, 1) := dk_42 (dk_at dksX2_init_2 4 rfl rfl)
theorem dX2_init_52 : decode cX2_init 52 = .ok (.getfield 12, 3) := dk_180 0 12 (dk_at dksX2_init_2 5 rfl rfl)
theorem dX2_init_55 : decode cX2_init 55 = .ok (.new 25, 3) := dk_187 0 25 (dk_at dksX2_init_2 8 rfl rfl)
theorem dX2_init_58 : decode cX2_init 58 = .ok (.dup, 1) := dk_89 (dk_at dksX2_init_2 11 rfl rfl)
theorem dX2_init_59 : decode cX2_init 59 = .ok (.ldc 27, 2) := dk_18 27 (dk_at dksX2_init_2 12 rfl rfl)
theorem dX2_init_61 : decode cX2_init 61 = .ok (.ldc 38, 2) := dk_18 38 (dk_at dksX2_init_2 14 rfl rfl)
theorem dX2_init_63 : decode cX2_init 63 = .ok (.invokespecial 31, 3) := dk_183 0 31 (dk_at dksX2_init_2 16 rfl rfl)
theorem dX2_init_66 : decode cX2_init 66 = .ok (.invokevirtual 34, 3) := dk_182 0 34 (dk_at dksX2_init_2 19 rfl rfl)
theorem dX2_init_69 : decode cX2_init 69 = .ok (.pop, 1) := dk_87 (dk_at dksX2_init_2 22 rfl rfl)
theorem dX2_init_70 : decode cX2_init 70 = .ok (.aload_n 0, 1) := dk_42 (dk_at dksX2_init_2 23 rfl rfl)
theorem dX2_init_71 : decode cX2_init 71 = .ok (.getfield 12, 3) := dk_180 0 12 (dk_at dksX2_init_3 0 rfl rfl)
theorem dX2_init_74 : decode cX2_init 74 = .ok (.new 25, 3) := dk_187 0 25 (dk_at dksX2_init_3 3 rfl rfl)
theorem dX2_init_77 : decode cX2_init 77 = .ok (.dup, 1) := dk_89 (dk_at dksX2_init_3 6 rfl rfl)
theorem dX2_init_78 : decode cX2_init 78 = .ok (.ldc 40, 2) := dk_18 40 (dk_at dksX2_init_3 7 rfl rfl)
theorem dX2_init_80 : decode cX2_init 80 = .ok (.ldc 42, 2) := dk_18 42 (dk_at dksX2_init_3 9 rfl rfl)
theorem dX2_init_82 : decode cX2_init 82 = .ok (.invokespecial 31, 3) := dk_183 0 31 (dk_at dksX2_init_3 11 rfl rfl)
theorem dX2_init_85 : decode cX2_init 85 = .ok (.invokevirtual 34, 3) := dk_182 0 34 (dk_at dksX2_init_3 14 rfl rfl)
theorem dX2_init_88 : decode cX2_init 88 = .ok (.pop, 1) := dk_87 (dk_at dksX2_init_3 17 rfl rfl)
theorem dX2_init_89 : decode cX2_init 89 = .ok (.aload_n 0, 1) := dk_42 (dk_at dksX2_init_3 18 rfl rfl)
theorem dX2_init_90 : decode cX2_init 90 = .ok (.getfield 12, 3) := dk_180 0 12 (dk_at dksX2_init_3 19 rfl rfl)
theorem dX2_init_93 : decode cX2_init 93 = .ok (.new 25, 3) := dk_187 0 25 (dk_at dksX2_init_4 0 rfl rfl)
theorem dX2_init_96 : decode cX2_init 96 = .ok (.dup, 1) := dk_89 (dk_at dksX2_init_4 3 rfl rfl)
theorem dX2_init_97 : decode cX2_init 97 = .ok (.ldc 44, 2) := dk_18 44 (dk_at dksX2_init_4 4 rfl rfl)
theorem dX2_init_99 : decode cX2_init 99 = .ok (.ldc 46, 2) := dk_18 46 (dk_at dksX2_init_4 6 rfl rfl)
theorem dX2_init_101 : decode cX2_init 101 = .ok (.invokespecial 31, 3) := dk_183 0 31 (dk_at dksX2_init_4 8 rfl rfl)
theorem dX2_init_104 : decode cX2_init 104 = .ok (.invokevirtual 34, 3) := dk_182 0 34 (dk_at dksX2_init_4 11 rfl rfl)
theorem dX2_init_107 : decode cX2_init 107 = .ok (.pop, 1) := dk_87 (dk_at dksX2_init_4 14 rfl rfl)
theorem dX2_init_108 : decode cX2_init 108 = .ok (.aload_n 0, 1) := dk_42 (dk_at dksX2_init_4 15 rfl rfl)
theorem dX2_init_109 : decode cX2_init 109 = .ok (.getfield 12, 3) := dk_180 0 12 (dk_at dksX2_init_4 16 rfl rfl)
theorem dX2_init_112 : decode cX2_init 112 = .ok (.new 25, 3) := dk_187 0 25 (dk_at dksX2_init_4 19 rfl rfl)
theorem dX2_init_115 : decode cX2_init 115 = .ok (.dup, 1) := dk_89 (dk_at dksX2_init_4 22 rfl rfl)
theorem dX2_init_116 : decode cX2_init 116 = .ok (.ldc 48, 2) := dk_18 48 (dk_at dksX2_init_5 0 rfl rfl)
theorem dX2_init_118 : decode cX2_init 118 = .ok (.ldc 46, 2) := dk_18 46 (dk_at dksX2_init_5 2 rfl rfl)
theorem dX2_init_120 : decode cX2_init 120 = .ok (.invokespecial 31, 3) := dk_183 0 31 (dk_at dksX2_init_5 4 rfl rfl)
theorem dX2_init_123 : decode cX2_init 123 = .ok (.invokevirtual 34, 3) := dk_182 0 34 (dk_at dksX2_init_5 7 rfl rfl)
theorem dX2_init_126 : decode cX2_init 126 = .ok (.pop, 1) := dk_87 (dk_at dksX2_init_5 10 rfl rfl)
theorem dX2_init_127 : decode cX2_init 127 = .ok (.aload_n 0, 1) := dk_42 (dk_at dksX2_init_5 11 rfl rfl)
theorem dX2_init_128 : decode cX2_init 128 = .ok (.getfield 12, 3) := dk_180 0 12 (dk_at dksX2_init_5 12 rfl rfl)
theorem dX2_init_131 : decode cX2_init 131 = .ok (.new 25, 3) := dk_187 0 25 (dk_at dksX2_init_5 15 rfl rfl)
theorem dX2_init_134 : decode cX2_init 134 = .ok (.dup, 1) := dk_89 (dk_at dksX2_init_5 18 rfl rfl)
theorem dX2_init_135 : decode cX2_init 135 = .ok (.ldc 50, 2) := dk_18 50 (dk_at dksX2_init_5 19 rfl rfl)
theorem dX2_init_137 : decode cX2_init 137 = .ok (.ldc 52, 2) := dk_18 52 (dk_at dksX2_init_5 21 rfl rfl)
theorem dX2_init_139 : decode cX2_init 139 = .ok (.invokespecial 31, 3) := dk_183 0 31 (dk_at dksX2_init_6 0 rfl rfl)
theorem dX2_init_142 : decode cX2_init 142 = .ok (.invokevirtual 34, 3) := dk_182 0 34 (dk_at dksX2_init_6 3 rfl rfl)
theorem dX2_init_145 : decode cX2_init 145 = .ok (.pop, 1) := dk_87 (dk_at dksX2_init_6 6 rfl rfl)
theorem dX2_init_146 : decode cX2_init 146 = .ok (.aload_n 0, 1) := dk_42 (dk_at dksX2_init_6 7 rfl rfl)
theorem dX2_init_147 : decode cX2_init 147 = .ok (.getfield 12, 3) := dk_180 0 12 (dk_at dksX2_init_6 8 rfl rfl)
theorem dX2_init_150 : decode cX2_init 150 = .ok (.new 25, 3) := dk_187 0 25 (dk_at dksX2_init_6 11 rfl rfl)
theorem dX2_init_153 : decode cX2_init 153 = .ok (.dup, 1) := dk_89 (dk_at dksX2_init_6 14 rfl rfl)
theorem dX2_init_154 : decode cX2_init 154 = .ok (.ldc 50, 2) := dk_18 50 (dk_at dksX2_init_6 15 rfl rfl)
theorem dX2_init_156 : decode cX2_init 156 = .ok (.ldc 54, 2) := dk_18 54 (dk_at dksX2_init_6 17 rfl rfl)
theorem dX2_init_158 : decode cX2_init 158 = .ok (.invokespecial 31, 3) := dk_183 0 31 (dk_at dksX2_init_6 19 rfl rfl)
theorem dX2_init_161 : decode cX2_init 161 = .ok (.invokevirtual 34, 3) := dk_182 0 34 (dk_at dksX2_init_7 0 rfl rfl)
theorem dX2_init_164 : decode cX2_init 164 = .ok (.pop, 1) := dk_87 (dk_at dksX2_init_7 3 rfl rfl)
theorem dX2_init_165 : decode cX2_init 165 = .ok (.return_, 1) := dk_177 (dk_at dksX2_init_7 4 rfl rfl)
abbrev cX2_begin : ByteArray := prog_6_method_2_code
def yX2_begin : MethodName := ⟨RX2, "begin", "()V"⟩
def dkwX2_begin_0 : List UInt8 := [42, 180, 0, 18, 182, 0, 56, 42, 16, 24, 181, 0, 21, 177]
abbrev dktX2_begin_0 : List UInt8 := dkwX2_begin_0 ++ []
theorem dksX2_begin_0 : cX2_begin.data.toList.drop 0 = dktX2_begin_0 := by decide +kernel
theorem dX2_begin_0 : decode cX2_begin 0 = .ok (.aload_n 0, 1) := dk_42 (dk_at dksX2_begin_0 0 rfl rfl)
theorem dX2_begin_1 : decode cX2_begin 1 = .ok (.getfield 18, 3) := dk_180 0 18 (dk_at dksX2_begin_0 1 rfl rfl)
theorem dX2_begin_4 : decode cX2_begin 4 = .ok (.invokevirtual 56, 3) := dk_182 0 56 (dk_at dksX2_begin_0 4 rfl rfl)
theorem dX2_begin_7 : decode cX2_begin 7 = .ok (.aload_n 0, 1) := dk_42 (dk_at dksX2_begin_0 7 rfl rfl)
theorem dX2_begin_8 : decode cX2_begin 8 = .ok (.bipush 24, 2) := dk_16 24 (dk_at dksX2_begin_0 8 rfl rfl)
theorem dX2_begin_10 : decode cX2_begin 10 = .ok (.putfield 21, 3) := dk_181 0 21 (dk_at dksX2_begin_0 10 rfl rfl)
theorem dX2_begin_13 : decode cX2_begin 13 = .ok (.return_, 1) := dk_177 (dk_at dksX2_begin_0 13 rfl rfl)
abbrev cX2_at : ByteArray := prog_6_method_7_code
def yX2_at : MethodName := ⟨RX2, "at", "(I)LPageServer$Entry;"⟩
def dkwX2_at_2 : List UInt8 := [4, 100, 16, 7, 100, 182, 0, 62, 192, 0, 25, 176]
abbrev dktX2_at_2 : List UInt8 := dkwX2_at_2 ++ []
def dkwX2_at_1 : List UInt8 := [163, 0, 19, 42, 180, 0, 12, 27, 4, 100, 182, 0, 62, 192, 0, 25, 167, 0, 19, 42, 180, 0, 18, 27]
abbrev dktX2_at_1 : List UInt8 := dkwX2_at_1 ++ dktX2_at_2
def dkwX2_at_0 : List UInt8 := [27, 4, 161, 0, 17, 27, 16, 7, 42, 180, 0, 18, 182, 0, 59, 96, 164, 0, 5, 1, 176, 27, 16, 7]
abbrev dktX2_at_0 : List UInt8 := dkwX2_at_0 ++ dktX2_at_1
theorem dksX2_at_0 : cX2_at.data.toList.drop 0 = dktX2_at_0 := by decide +kernel
theorem dksX2_at_1 : cX2_at.data.toList.drop 24 = dktX2_at_1 := dk_seg dksX2_at_0 24 rfl rfl
theorem dksX2_at_2 : cX2_at.data.toList.drop 48 = dktX2_at_2 := dk_seg dksX2_at_1 24 rfl rfl
theorem dX2_at_0 : decode cX2_at 0 = .ok (.iload_n 1, 1) := dk_27 (dk_at dksX2_at_0 0 rfl rfl)
theorem dX2_at_1 : decode cX2_at 1 = .ok (.iconst 1, 1) := dk_4 (dk_at dksX2_at_0 1 rfl rfl)
theorem dX2_at_2 : decode cX2_at 2 = .ok (.if_icmp .lt 17, 3) := dk_161 0 17 (dk_at dksX2_at_0 2 rfl rfl)
theorem dX2_at_5 : decode cX2_at 5 = .ok (.iload_n 1, 1) := dk_27 (dk_at dksX2_at_0 5 rfl rfl)
theorem dX2_at_6 : decode cX2_at 6 = .ok (.bipush 7, 2) := dk_16 7 (dk_at dksX2_at_0 6 rfl rfl)
theorem dX2_at_8 : decode cX2_at 8 = .ok (.aload_n 0, 1) := dk_42 (dk_at dksX2_at_0 8 rfl rfl)
theorem dX2_at_9 : decode cX2_at 9 = .ok (.getfield 18, 3) := dk_180 0 18 (dk_at dksX2_at_0 9 rfl rfl)
theorem dX2_at_12 : decode cX2_at 12 = .ok (.invokevirtual 59, 3) := dk_182 0 59 (dk_at dksX2_at_0 12 rfl rfl)
theorem dX2_at_15 : decode cX2_at 15 = .ok (.iadd, 1) := dk_96 (dk_at dksX2_at_0 15 rfl rfl)
theorem dX2_at_16 : decode cX2_at 16 = .ok (.if_icmp .le 5, 3) := dk_164 0 5 (dk_at dksX2_at_0 16 rfl rfl)
theorem dX2_at_19 : decode cX2_at 19 = .ok (.aconst_null, 1) := dk_1 (dk_at dksX2_at_0 19 rfl rfl)
theorem dX2_at_20 : decode cX2_at 20 = .ok (.areturn, 1) := dk_176 (dk_at dksX2_at_0 20 rfl rfl)
theorem dX2_at_21 : decode cX2_at 21 = .ok (.iload_n 1, 1) := dk_27 (dk_at dksX2_at_0 21 rfl rfl)
theorem dX2_at_22 : decode cX2_at 22 = .ok (.bipush 7, 2) := dk_16 7 (dk_at dksX2_at_0 22 rfl rfl)
theorem dX2_at_24 : decode cX2_at 24 = .ok (.if_icmp .gt 19, 3) := dk_163 0 19 (dk_at dksX2_at_1 0 rfl rfl)
theorem dX2_at_27 : decode cX2_at 27 = .ok (.aload_n 0, 1) := dk_42 (dk_at dksX2_at_1 3 rfl rfl)
theorem dX2_at_28 : decode cX2_at 28 = .ok (.getfield 12, 3) := dk_180 0 12 (dk_at dksX2_at_1 4 rfl rfl)
theorem dX2_at_31 : decode cX2_at 31 = .ok (.iload_n 1, 1) := dk_27 (dk_at dksX2_at_1 7 rfl rfl)
theorem dX2_at_32 : decode cX2_at 32 = .ok (.iconst 1, 1) := dk_4 (dk_at dksX2_at_1 8 rfl rfl)
theorem dX2_at_33 : decode cX2_at 33 = .ok (.isub, 1) := dk_100 (dk_at dksX2_at_1 9 rfl rfl)
theorem dX2_at_34 : decode cX2_at 34 = .ok (.invokevirtual 62, 3) := dk_182 0 62 (dk_at dksX2_at_1 10 rfl rfl)
theorem dX2_at_37 : decode cX2_at 37 = .ok (.checkcast 25, 3) := dk_192 0 25 (dk_at dksX2_at_1 13 rfl rfl)
theorem dX2_at_40 : decode cX2_at 40 = .ok (.goto 19, 3) := dk_167 0 19 (dk_at dksX2_at_1 16 rfl rfl)
theorem dX2_at_43 : decode cX2_at 43 = .ok (.aload_n 0, 1) := dk_42 (dk_at dksX2_at_1 19 rfl rfl)
theorem dX2_at_44 : decode cX2_at 44 = .ok (.getfield 18, 3) := dk_180 0 18 (dk_at dksX2_at_1 20 rfl rfl)
theorem dX2_at_47 : decode cX2_at 47 = .ok (.iload_n 1, 1) := dk_27 (dk_at dksX2_at_1 23 rfl rfl)
theorem dX2_at_48 : decode cX2_at 48 = .ok (.iconst 1, 1) := dk_4 (dk_at dksX2_at_2 0 rfl rfl)
theorem dX2_at_49 : decode cX2_at 49 = .ok (.isub, 1) := dk_100 (dk_at dksX2_at_2 1 rfl rfl)
theorem dX2_at_50 : decode cX2_at 50 = .ok (.bipush 7, 2) := dk_16 7 (dk_at dksX2_at_2 2 rfl rfl)
theorem dX2_at_52 : decode cX2_at 52 = .ok (.isub, 1) := dk_100 (dk_at dksX2_at_2 4 rfl rfl)
theorem dX2_at_53 : decode cX2_at 53 = .ok (.invokevirtual 62, 3) := dk_182 0 62 (dk_at dksX2_at_2 5 rfl rfl)
theorem dX2_at_56 : decode cX2_at 56 = .ok (.checkcast 25, 3) := dk_192 0 25 (dk_at dksX2_at_2 8 rfl rfl)
theorem dX2_at_59 : decode cX2_at 59 = .ok (.areturn, 1) := dk_176 (dk_at dksX2_at_2 11 rfl rfl)
abbrev cX2_add : ByteArray := prog_6_method_6_code
def yX2_add : MethodName := ⟨RX2, "add", "(LPageServer$Entry;)V"⟩
def dkwX2_add_1 : List UInt8 := [43, 182, 0, 79, 177]
abbrev dktX2_add_1 : List UInt8 := dkwX2_add_1 ++ []
def dkwX2_add_0 : List UInt8 := [42, 43, 182, 0, 66, 182, 0, 75, 43, 182, 0, 66, 42, 180, 0, 21, 163, 0, 12, 42, 180, 0, 18, 3]
abbrev dktX2_add_0 : List UInt8 := dkwX2_add_0 ++ dktX2_add_1
theorem dksX2_add_0 : cX2_add.data.toList.drop 0 = dktX2_add_0 := by decide +kernel
theorem dksX2_add_1 : cX2_add.data.toList.drop 24 = dktX2_add_1 := dk_seg dksX2_add_0 24 rfl rfl
theorem dX2_add_0 : decode cX2_add 0 = .ok (.aload_n 0, 1) := dk_42 (dk_at dksX2_add_0 0 rfl rfl)
theorem dX2_add_1 : decode cX2_add 1 = .ok (.aload_n 1, 1) := dk_43 (dk_at dksX2_add_0 1 rfl rfl)
theorem dX2_add_2 : decode cX2_add 2 = .ok (.invokevirtual 66, 3) := dk_182 0 66 (dk_at dksX2_add_0 2 rfl rfl)
theorem dX2_add_5 : decode cX2_add 5 = .ok (.invokevirtual 75, 3) := dk_182 0 75 (dk_at dksX2_add_0 5 rfl rfl)
theorem dX2_add_8 : decode cX2_add 8 = .ok (.aload_n 1, 1) := dk_43 (dk_at dksX2_add_0 8 rfl rfl)
theorem dX2_add_9 : decode cX2_add 9 = .ok (.invokevirtual 66, 3) := dk_182 0 66 (dk_at dksX2_add_0 9 rfl rfl)
theorem dX2_add_12 : decode cX2_add 12 = .ok (.aload_n 0, 1) := dk_42 (dk_at dksX2_add_0 12 rfl rfl)
theorem dX2_add_13 : decode cX2_add 13 = .ok (.getfield 21, 3) := dk_180 0 21 (dk_at dksX2_add_0 13 rfl rfl)
theorem dX2_add_16 : decode cX2_add 16 = .ok (.if_icmp .gt 12, 3) := dk_163 0 12 (dk_at dksX2_add_0 16 rfl rfl)
theorem dX2_add_19 : decode cX2_add 19 = .ok (.aload_n 0, 1) := dk_42 (dk_at dksX2_add_0 19 rfl rfl)
theorem dX2_add_20 : decode cX2_add 20 = .ok (.getfield 18, 3) := dk_180 0 18 (dk_at dksX2_add_0 20 rfl rfl)
theorem dX2_add_23 : decode cX2_add 23 = .ok (.iconst 0, 1) := dk_3 (dk_at dksX2_add_0 23 rfl rfl)
theorem dX2_add_24 : decode cX2_add 24 = .ok (.aload_n 1, 1) := dk_43 (dk_at dksX2_add_1 0 rfl rfl)
theorem dX2_add_25 : decode cX2_add 25 = .ok (.invokevirtual 79, 3) := dk_182 0 79 (dk_at dksX2_add_1 1 rfl rfl)
theorem dX2_add_28 : decode cX2_add 28 = .ok (.return_, 1) := dk_177 (dk_at dksX2_add_1 4 rfl rfl)
abbrev cX2_make : ByteArray := prog_6_method_4_code
def yX2_make : MethodName := ⟨RX2, "make", "(I)V"⟩
def dkwX2_make_1 : List UInt8 := [180, 0, 18, 42, 180, 0, 18, 182, 0, 59, 4, 100, 182, 0, 72, 87, 167, 255, 216, 177]
abbrev dktX2_make_1 : List UInt8 := dkwX2_make_1 ++ []
def dkwX2_make_0 : List UInt8 := [42, 180, 0, 18, 182, 0, 59, 158, 0, 36, 42, 182, 0, 69, 27, 96, 42, 180, 0, 21, 164, 0, 23, 42]
abbrev dktX2_make_0 : List UInt8 := dkwX2_make_0 ++ dktX2_make_1
theorem dksX2_make_0 : cX2_make.data.toList.drop 0 = dktX2_make_0 := by decide +kernel
theorem dksX2_make_1 : cX2_make.data.toList.drop 24 = dktX2_make_1 := dk_seg dksX2_make_0 24 rfl rfl
theorem dX2_make_0 : decode cX2_make 0 = .ok (.aload_n 0, 1) := dk_42 (dk_at dksX2_make_0 0 rfl rfl)
theorem dX2_make_1 : decode cX2_make 1 = .ok (.getfield 18, 3) := dk_180 0 18 (dk_at dksX2_make_0 1 rfl rfl)
theorem dX2_make_4 : decode cX2_make 4 = .ok (.invokevirtual 59, 3) := dk_182 0 59 (dk_at dksX2_make_0 4 rfl rfl)
theorem dX2_make_7 : decode cX2_make 7 = .ok (.ifCond .le 36, 3) := dk_158 0 36 (dk_at dksX2_make_0 7 rfl rfl)
theorem dX2_make_10 : decode cX2_make 10 = .ok (.aload_n 0, 1) := dk_42 (dk_at dksX2_make_0 10 rfl rfl)
theorem dX2_make_11 : decode cX2_make 11 = .ok (.invokevirtual 69, 3) := dk_182 0 69 (dk_at dksX2_make_0 11 rfl rfl)
theorem dX2_make_14 : decode cX2_make 14 = .ok (.iload_n 1, 1) := dk_27 (dk_at dksX2_make_0 14 rfl rfl)
theorem dX2_make_15 : decode cX2_make 15 = .ok (.iadd, 1) := dk_96 (dk_at dksX2_make_0 15 rfl rfl)
theorem dX2_make_16 : decode cX2_make 16 = .ok (.aload_n 0, 1) := dk_42 (dk_at dksX2_make_0 16 rfl rfl)
theorem dX2_make_17 : decode cX2_make 17 = .ok (.getfield 21, 3) := dk_180 0 21 (dk_at dksX2_make_0 17 rfl rfl)
theorem dX2_make_20 : decode cX2_make 20 = .ok (.if_icmp .le 23, 3) := dk_164 0 23 (dk_at dksX2_make_0 20 rfl rfl)
theorem dX2_make_23 : decode cX2_make 23 = .ok (.aload_n 0, 1) := dk_42 (dk_at dksX2_make_0 23 rfl rfl)
theorem dX2_make_24 : decode cX2_make 24 = .ok (.getfield 18, 3) := dk_180 0 18 (dk_at dksX2_make_1 0 rfl rfl)
theorem dX2_make_27 : decode cX2_make 27 = .ok (.aload_n 0, 1) := dk_42 (dk_at dksX2_make_1 3 rfl rfl)
theorem dX2_make_28 : decode cX2_make 28 = .ok (.getfield 18, 3) := dk_180 0 18 (dk_at dksX2_make_1 4 rfl rfl)
theorem dX2_make_31 : decode cX2_make 31 = .ok (.invokevirtual 59, 3) := dk_182 0 59 (dk_at dksX2_make_1 7 rfl rfl)
theorem dX2_make_34 : decode cX2_make 34 = .ok (.iconst 1, 1) := dk_4 (dk_at dksX2_make_1 10 rfl rfl)
theorem dX2_make_35 : decode cX2_make 35 = .ok (.isub, 1) := dk_100 (dk_at dksX2_make_1 11 rfl rfl)
theorem dX2_make_36 : decode cX2_make 36 = .ok (.invokevirtual 72, 3) := dk_182 0 72 (dk_at dksX2_make_1 12 rfl rfl)
theorem dX2_make_39 : decode cX2_make 39 = .ok (.pop, 1) := dk_87 (dk_at dksX2_make_1 15 rfl rfl)
theorem dX2_make_40 : decode cX2_make 40 = .ok (.goto (-40), 3) := dk_167 255 216 (dk_at dksX2_make_1 16 rfl rfl)
theorem dX2_make_43 : decode cX2_make 43 = .ok (.return_, 1) := dk_177 (dk_at dksX2_make_1 19 rfl rfl)
abbrev cX2_taken : ByteArray := prog_6_method_3_code
def yX2_taken : MethodName := ⟨RX2, "taken", "()I"⟩
def dkwX2_taken_1 : List UInt8 := [192, 0, 25, 78, 27, 45, 182, 0, 66, 96, 60, 132, 2, 1, 167, 255, 223, 27, 172]
abbrev dktX2_taken_1 : List UInt8 := dkwX2_taken_1 ++ []
def dkwX2_taken_0 : List UInt8 := [3, 60, 3, 61, 28, 42, 180, 0, 18, 182, 0, 59, 162, 0, 28, 42, 180, 0, 18, 28, 182, 0, 62]
abbrev dktX2_taken_0 : List UInt8 := dkwX2_taken_0 ++ dktX2_taken_1
theorem dksX2_taken_0 : cX2_taken.data.toList.drop 0 = dktX2_taken_0 := by decide +kernel
theorem dksX2_taken_1 : cX2_taken.data.toList.drop 23 = dktX2_taken_1 := dk_seg dksX2_taken_0 23 rfl rfl
theorem dX2_taken_0 : decode cX2_taken 0 = .ok (.iconst 0, 1) := dk_3 (dk_at dksX2_taken_0 0 rfl rfl)
theorem dX2_taken_1 : decode cX2_taken 1 = .ok (.istore_n 1, 1) := dk_60 (dk_at dksX2_taken_0 1 rfl rfl)
theorem dX2_taken_2 : decode cX2_taken 2 = .ok (.iconst 0, 1) := dk_3 (dk_at dksX2_taken_0 2 rfl rfl)
theorem dX2_taken_3 : decode cX2_taken 3 = .ok (.istore_n 2, 1) := dk_61 (dk_at dksX2_taken_0 3 rfl rfl)
theorem dX2_taken_4 : decode cX2_taken 4 = .ok (.iload_n 2, 1) := dk_28 (dk_at dksX2_taken_0 4 rfl rfl)
theorem dX2_taken_5 : decode cX2_taken 5 = .ok (.aload_n 0, 1) := dk_42 (dk_at dksX2_taken_0 5 rfl rfl)
theorem dX2_taken_6 : decode cX2_taken 6 = .ok (.getfield 18, 3) := dk_180 0 18 (dk_at dksX2_taken_0 6 rfl rfl)
theorem dX2_taken_9 : decode cX2_taken 9 = .ok (.invokevirtual 59, 3) := dk_182 0 59 (dk_at dksX2_taken_0 9 rfl rfl)
theorem dX2_taken_12 : decode cX2_taken 12 = .ok (.if_icmp .ge 28, 3) := dk_162 0 28 (dk_at dksX2_taken_0 12 rfl rfl)
theorem dX2_taken_15 : decode cX2_taken 15 = .ok (.aload_n 0, 1) := dk_42 (dk_at dksX2_taken_0 15 rfl rfl)
theorem dX2_taken_16 : decode cX2_taken 16 = .ok (.getfield 18, 3) := dk_180 0 18 (dk_at dksX2_taken_0 16 rfl rfl)
theorem dX2_taken_19 : decode cX2_taken 19 = .ok (.iload_n 2, 1) := dk_28 (dk_at dksX2_taken_0 19 rfl rfl)
theorem dX2_taken_20 : decode cX2_taken 20 = .ok (.invokevirtual 62, 3) := dk_182 0 62 (dk_at dksX2_taken_0 20 rfl rfl)
theorem dX2_taken_23 : decode cX2_taken 23 = .ok (.checkcast 25, 3) := dk_192 0 25 (dk_at dksX2_taken_1 0 rfl rfl)
theorem dX2_taken_26 : decode cX2_taken 26 = .ok (.astore_n 3, 1) := dk_78 (dk_at dksX2_taken_1 3 rfl rfl)
theorem dX2_taken_27 : decode cX2_taken 27 = .ok (.iload_n 1, 1) := dk_27 (dk_at dksX2_taken_1 4 rfl rfl)
theorem dX2_taken_28 : decode cX2_taken 28 = .ok (.aload_n 3, 1) := dk_45 (dk_at dksX2_taken_1 5 rfl rfl)
theorem dX2_taken_29 : decode cX2_taken 29 = .ok (.invokevirtual 66, 3) := dk_182 0 66 (dk_at dksX2_taken_1 6 rfl rfl)
theorem dX2_taken_32 : decode cX2_taken 32 = .ok (.iadd, 1) := dk_96 (dk_at dksX2_taken_1 9 rfl rfl)
theorem dX2_taken_33 : decode cX2_taken 33 = .ok (.istore_n 1, 1) := dk_60 (dk_at dksX2_taken_1 10 rfl rfl)
theorem dX2_taken_34 : decode cX2_taken 34 = .ok (.iinc 2 1, 3) := dk_132 2 1 (dk_at dksX2_taken_1 11 rfl rfl)
theorem dX2_taken_37 : decode cX2_taken 37 = .ok (.goto (-33), 3) := dk_167 255 223 (dk_at dksX2_taken_1 14 rfl rfl)
theorem dX2_taken_40 : decode cX2_taken 40 = .ok (.iload_n 1, 1) := dk_27 (dk_at dksX2_taken_1 17 rfl rfl)
theorem dX2_taken_41 : decode cX2_taken 41 = .ok (.ireturn, 1) := dk_172 (dk_at dksX2_taken_1 18 rfl rfl)
abbrev cX2_resize : ByteArray := prog_6_method_5_code
def yX2_resize : MethodName := ⟨RX2, "resize", "(I)V"⟩
def dkwX2_resize_0 : List UInt8 := [42, 27, 181, 0, 21, 42, 3, 182, 0, 75, 177]
abbrev dktX2_resize_0 : List UInt8 := dkwX2_resize_0 ++ []
theorem dksX2_resize_0 : cX2_resize.data.toList.drop 0 = dktX2_resize_0 := by decide +kernel
theorem dX2_resize_0 : decode cX2_resize 0 = .ok (.aload_n 0, 1) := dk_42 (dk_at dksX2_resize_0 0 rfl rfl)
theorem dX2_resize_1 : decode cX2_resize 1 = .ok (.iload_n 1, 1) := dk_27 (dk_at dksX2_resize_0 1 rfl rfl)
theorem dX2_resize_2 : decode cX2_resize 2 = .ok (.putfield 21, 3) := dk_181 0 21 (dk_at dksX2_resize_0 2 rfl rfl)
theorem dX2_resize_5 : decode cX2_resize 5 = .ok (.aload_n 0, 1) := dk_42 (dk_at dksX2_resize_0 5 rfl rfl)
theorem dX2_resize_6 : decode cX2_resize 6 = .ok (.iconst 0, 1) := dk_3 (dk_at dksX2_resize_0 6 rfl rfl)
theorem dX2_resize_7 : decode cX2_resize 7 = .ok (.invokevirtual 75, 3) := dk_182 0 75 (dk_at dksX2_resize_0 7 rfl rfl)
theorem dX2_resize_10 : decode cX2_resize 10 = .ok (.return_, 1) := dk_177 (dk_at dksX2_resize_0 10 rfl rfl)
theorem q89 : (Jvm.Cond.initialized "PageServer$Table") ∈ lw_all := lw_g (lw_at lw_m1 5 rfl) rfl
theorem q150 : (Jvm.Cond.instantiable "PageServer$Table" (3 : Nat)) ∈ lw_all := lw_g (lw_at lw_m1 66 rfl) rfl
theorem q152 : (Jvm.Cond.instanceMethod ({ cls := "PageServer$Table", name := "<init>", desc := "()V" } : Jvm.MethodName)) ∈ lw_all := lw_g (lw_at lw_m1 68 rfl) rfl
theorem q153 : (Jvm.Cond.code ({ cls := "PageServer$Table", name := "<init>", desc := "()V" } : Jvm.MethodName) prog_6_method_1_code (1 : Nat) (Option.none : Option Jvm.ClassFile.FieldType)) ∈ lw_all := lw_g (lw_at lw_m1 69 rfl) rfl
theorem q154 : (Jvm.Cond.methodLink "PageServer$Table" (3 : Nat) ({ cls := "java/lang/Object", name := "<init>", desc := "()V" } : Jvm.MethodName)) ∈ lw_all := lw_g (lw_at lw_m1 70 rfl) rfl
theorem q155 : (Jvm.Cond.classLink "PageServer$Table" (9 : Nat) "java/util/ArrayList") ∈ lw_all := lw_g (lw_at lw_m1 71 rfl) rfl
theorem q156 : (Jvm.Cond.methodLink "PageServer$Table" (11 : Nat) ({ cls := "java/util/ArrayList", name := "<init>", desc := "()V" } : Jvm.MethodName)) ∈ lw_all := lw_g (lw_at lw_m1 72 rfl) rfl
theorem q157 : (Jvm.Cond.classLink "PageServer$Table" (25 : Nat) "PageServer$Entry") ∈ lw_all := lw_g (lw_at lw_m1 73 rfl) rfl
theorem q159 : (Jvm.Cond.stringRef "PageServer$Table" (27 : Nat) ":m") ∈ lw_tbl := lw_at lw_m1 75 rfl
theorem q160 : (Jvm.Cond.stringRef "PageServer$Table" (29 : Nat) "GET") ∈ lw_tbl := lw_at lw_m1 76 rfl
theorem q161 : (Jvm.Cond.methodLinkNest "PageServer$Table" (31 : Nat) ({ cls := "PageServer$Entry", name := "<init>", desc := "(Ljava/lang/String;Ljava/lang/String;)V" } : Jvm.MethodName) "PageServer") ∈ lw_tbl := lw_at lw_m1 77 rfl
theorem q176 : (Jvm.Cond.methodLink "PageServer$Table" (34 : Nat) ({ cls := "java/util/ArrayList", name := "add", desc := "(Ljava/lang/Object;)Z" } : Jvm.MethodName)) ∈ lw_all := lw_g (lw_at lw_m1 92 rfl) rfl
theorem q213 : (Jvm.Cond.selects "PageServer$Table" ({ cls := "java/lang/Object", name := "getClass", desc := "()Ljava/lang/Class;" } : Jvm.MethodName) ({ cls := "java/lang/Object", name := "getClass", desc := "()Ljava/lang/Class;" } : Jvm.MethodName)) ∈ lw_all := lw_g (lw_at lw_m1 129 rfl) rfl
theorem q236 : (Jvm.Cond.stringRef "PageServer$Table" (38 : Nat) "HEAD") ∈ lw_tbl := lw_at lw_m1 152 rfl
theorem q237 : (Jvm.Cond.stringRef "PageServer$Table" (40 : Nat) ":p") ∈ lw_tbl := lw_at lw_m1 153 rfl
theorem q238 : (Jvm.Cond.stringRef "PageServer$Table" (42 : Nat) "/") ∈ lw_tbl := lw_at lw_m1 154 rfl
theorem q239 : (Jvm.Cond.stringRef "PageServer$Table" (44 : Nat) "host") ∈ lw_tbl := lw_at lw_m1 155 rfl
theorem q240 : (Jvm.Cond.stringRef "PageServer$Table" (46 : Nat) "") ∈ lw_tbl := lw_at lw_m1 156 rfl
theorem q241 : (Jvm.Cond.stringRef "PageServer$Table" (48 : Nat) "length") ∈ lw_tbl := lw_at lw_m1 157 rfl
theorem q242 : (Jvm.Cond.stringRef "PageServer$Table" (50 : Nat) ":s") ∈ lw_tbl := lw_at lw_m1 158 rfl
theorem q243 : (Jvm.Cond.stringRef "PageServer$Table" (52 : Nat) "200") ∈ lw_tbl := lw_at lw_m1 159 rfl
theorem q244 : (Jvm.Cond.stringRef "PageServer$Table" (54 : Nat) "404") ∈ lw_tbl := lw_at lw_m1 160 rfl
theorem q245 : (Jvm.Cond.fieldLink "PageServer$Table" (12 : Nat) "PageServer$Table" "fixed" "Ljava/util/ArrayList;") ∈ lw_all := lw_g (lw_at lw_m1 161 rfl) rfl
theorem q246 : (Jvm.Cond.fieldLink "PageServer$Table" (18 : Nat) "PageServer$Table" "came" "Ljava/util/ArrayList;") ∈ lw_all := lw_g (lw_at lw_m1 162 rfl) rfl
theorem q248 : (Jvm.Cond.fieldLink "PageServer$Table" (21 : Nat) "PageServer$Table" "size" "I") ∈ lw_all := lw_g (lw_at lw_m1 164 rfl) rfl
theorem q250 : (Jvm.Cond.laysFinal "PageServer$Table" "PageServer$Table" "fixed" "Ljava/util/ArrayList;") ∈ lw_all := lw_g (lw_at lw_m1 166 rfl) rfl
theorem q251 : (Jvm.Cond.soleField "PageServer$Table" "fixed") ∈ lw_all := lw_g (lw_at lw_m1 167 rfl) rfl
theorem q252 : (Jvm.Cond.laysFinal "PageServer$Table" "PageServer$Table" "came" "Ljava/util/ArrayList;") ∈ lw_all := lw_g (lw_at lw_m1 168 rfl) rfl
theorem q253 : (Jvm.Cond.soleField "PageServer$Table" "came") ∈ lw_all := lw_g (lw_at lw_m1 169 rfl) rfl
theorem q254 : (Jvm.Cond.lays "PageServer$Table" "PageServer$Table" "size" "I") ∈ lw_all := lw_g (lw_at lw_m1 170 rfl) rfl
theorem q255 : (Jvm.Cond.soleField "PageServer$Table" "size") ∈ lw_all := lw_g (lw_at lw_m1 171 rfl) rfl
theorem q256 : (Jvm.Cond.superclass "PageServer$Table" "java/lang/Object") ∈ lw_all := lw_g (lw_at lw_m1 172 rfl) rfl
theorem q378 : (Jvm.Cond.instanceMethod ({ cls := "PageServer$Table", name := "begin", desc := "()V" } : Jvm.MethodName)) ∈ lw_all := lw_g (lw_at lw_m2 54 rfl) rfl
theorem q379 : (Jvm.Cond.selects "PageServer$Table" ({ cls := "PageServer$Table", name := "begin", desc := "()V" } : Jvm.MethodName) ({ cls := "PageServer$Table", name := "begin", desc := "()V" } : Jvm.MethodName)) ∈ lw_all := lw_g (lw_at lw_m2 55 rfl) rfl
theorem q380 : (Jvm.Cond.code ({ cls := "PageServer$Table", name := "begin", desc := "()V" } : Jvm.MethodName) prog_6_method_2_code (1 : Nat) (Option.none : Option Jvm.ClassFile.FieldType)) ∈ lw_all := lw_g (lw_at lw_m2 56 rfl) rfl
theorem q381 : (Jvm.Cond.methodLink "PageServer$Table" (56 : Nat) ({ cls := "java/util/ArrayList", name := "clear", desc := "()V" } : Jvm.MethodName)) ∈ lw_all := lw_g (lw_at lw_m2 57 rfl) rfl
theorem q686 : (Jvm.Cond.instanceMethod ({ cls := "PageServer$Table", name := "at", desc := "(I)LPageServer$Entry;" } : Jvm.MethodName)) ∈ lw_all := lw_g (lw_at lw_m3 122 rfl) rfl
theorem q687 : (Jvm.Cond.selects "PageServer$Table" ({ cls := "PageServer$Table", name := "at", desc := "(I)LPageServer$Entry;" } : Jvm.MethodName) ({ cls := "PageServer$Table", name := "at", desc := "(I)LPageServer$Entry;" } : Jvm.MethodName)) ∈ lw_all := lw_g (lw_at lw_m3 123 rfl) rfl
theorem q688 : (Jvm.Cond.code ({ cls := "PageServer$Table", name := "at", desc := "(I)LPageServer$Entry;" } : Jvm.MethodName) prog_6_method_7_code (2 : Nat) (Option.some (Jvm.ClassFile.FieldType.object "PageServer$Entry"))) ∈ lw_all := lw_g (lw_at lw_m3 124 rfl) rfl
theorem q689 : (Jvm.Cond.methodLink "PageServer$Table" (59 : Nat) ({ cls := "java/util/ArrayList", name := "size", desc := "()I" } : Jvm.MethodName)) ∈ lw_all := lw_g (lw_at lw_m3 125 rfl) rfl
theorem q690 : (Jvm.Cond.methodLink "PageServer$Table" (62 : Nat) ({ cls := "java/util/ArrayList", name := "get", desc := "(I)Ljava/lang/Object;" } : Jvm.MethodName)) ∈ lw_all := lw_g (lw_at lw_m3 126 rfl) rfl
theorem q958 : (Jvm.Cond.instanceMethod ({ cls := "PageServer$Table", name := "add", desc := "(LPageServer$Entry;)V" } : Jvm.MethodName)) ∈ lw_all := lw_g (lw_at lw_m4 154 rfl) rfl
theorem q959 : (Jvm.Cond.selects "PageServer$Table" ({ cls := "PageServer$Table", name := "add", desc := "(LPageServer$Entry;)V" } : Jvm.MethodName) ({ cls := "PageServer$Table", name := "add", desc := "(LPageServer$Entry;)V" } : Jvm.MethodName)) ∈ lw_all := lw_g (lw_at lw_m4 155 rfl) rfl
theorem q960 : (Jvm.Cond.code ({ cls := "PageServer$Table", name := "add", desc := "(LPageServer$Entry;)V" } : Jvm.MethodName) prog_6_method_6_code (2 : Nat) (Option.none : Option Jvm.ClassFile.FieldType)) ∈ lw_all := lw_g (lw_at lw_m4 156 rfl) rfl
theorem q961 : (Jvm.Cond.methodLink "PageServer$Table" (66 : Nat) ({ cls := "PageServer$Entry", name := "takes", desc := "()I" } : Jvm.MethodName)) ∈ lw_all := lw_g (lw_at lw_m4 157 rfl) rfl
theorem q966 : (Jvm.Cond.methodLink "PageServer$Table" (75 : Nat) ({ cls := "PageServer$Table", name := "make", desc := "(I)V" } : Jvm.MethodName)) ∈ lw_all := lw_g (lw_at lw_m4 162 rfl) rfl
theorem q967 : (Jvm.Cond.privateMethod ({ cls := "PageServer$Table", name := "make", desc := "(I)V" } : Jvm.MethodName)) ∈ lw_tbl := lw_at lw_m4 163 rfl
theorem q968 : (Jvm.Cond.instanceMethod ({ cls := "PageServer$Table", name := "make", desc := "(I)V" } : Jvm.MethodName)) ∈ lw_all := lw_g (lw_at lw_m4 164 rfl) rfl
theorem q969 : (Jvm.Cond.code ({ cls := "PageServer$Table", name := "make", desc := "(I)V" } : Jvm.MethodName) prog_6_method_4_code (2 : Nat) (Option.none : Option Jvm.ClassFile.FieldType)) ∈ lw_all := lw_g (lw_at lw_m4 165 rfl) rfl
theorem q970 : (Jvm.Cond.methodLink "PageServer$Table" (69 : Nat) ({ cls := "PageServer$Table", name := "taken", desc := "()I" } : Jvm.MethodName)) ∈ lw_all := lw_g (lw_at lw_m4 166 rfl) rfl
theorem q971 : (Jvm.Cond.instanceMethod ({ cls := "PageServer$Table", name := "taken", desc := "()I" } : Jvm.MethodName)) ∈ lw_all := lw_g (lw_at lw_m4 167 rfl) rfl
theorem q972 : (Jvm.Cond.selects "PageServer$Table" ({ cls := "PageServer$Table", name := "taken", desc := "()I" } : Jvm.MethodName) ({ cls := "PageServer$Table", name := "taken", desc := "()I" } : Jvm.MethodName)) ∈ lw_all := lw_g (lw_at lw_m4 168 rfl) rfl
theorem q973 : (Jvm.Cond.code ({ cls := "PageServer$Table", name := "taken", desc := "()I" } : Jvm.MethodName) prog_6_method_3_code (4 : Nat) (Option.some Jvm.ClassFile.FieldType.int)) ∈ lw_all := lw_g (lw_at lw_m4 169 rfl) rfl
theorem q974 : (Jvm.Cond.methodLink "PageServer$Table" (72 : Nat) ({ cls := "java/util/ArrayList", name := "remove", desc := "(I)Ljava/lang/Object;" } : Jvm.MethodName)) ∈ lw_all := lw_g (lw_at lw_m4 170 rfl) rfl
theorem q975 : (Jvm.Cond.methodLink "PageServer$Table" (79 : Nat) ({ cls := "java/util/ArrayList", name := "add", desc := "(ILjava/lang/Object;)V" } : Jvm.MethodName)) ∈ lw_all := lw_g (lw_at lw_m4 171 rfl) rfl
theorem q985 : (Jvm.Cond.instanceMethod ({ cls := "PageServer$Table", name := "resize", desc := "(I)V" } : Jvm.MethodName)) ∈ lw_all := lw_g (lw_at lw_m4 181 rfl) rfl
theorem q986 : (Jvm.Cond.selects "PageServer$Table" ({ cls := "PageServer$Table", name := "resize", desc := "(I)V" } : Jvm.MethodName) ({ cls := "PageServer$Table", name := "resize", desc := "(I)V" } : Jvm.MethodName)) ∈ lw_all := lw_g (lw_at lw_m4 182 rfl) rfl
theorem q987 : (Jvm.Cond.code ({ cls := "PageServer$Table", name := "resize", desc := "(I)V" } : Jvm.MethodName) prog_6_method_5_code (2 : Nat) (Option.none : Option Jvm.ClassFile.FieldType)) ∈ lw_all := lw_g (lw_at lw_m4 183 rfl) rfl
theorem q1594 : (Jvm.Cond.castable "PageServer$Table" "java/lang/Object") ∈ lw_tbl := lw_at lw_m7 70 rfl
theorem in_X2 : ∀ w ∈ wsX20, w ∈ lw_all := lw_in wsX20 [250, 252, 254] (by decide +kernel) (by decide +kernel)
/-! PageServer$Entry -/
set_option maxRecDepth 100000
def RX3 : String := "PageServer$Entry"
def TX3 : u_T := fun k => match k with
  | 0 => ("PageServer$Entry", "name", "Ljava/lang/String;", true)
  | _ => ("PageServer$Entry", "value", "Ljava/lang/String;", true)
def tyX3 : Nat → FieldType := fun k => match k with
  | 0 => .object "java/lang/String"
  | _ => .object "java/lang/String"
abbrev wsX30 : List Cond := u_ws RX3 TX3 2
theorem nmX3 : ∀ a, a < 2 → ∀ b, b < 2 → a ≠ b → (TX3 a).2.1 ≠ (TX3 b).2.1 := by decide +kernel
theorem tyX3_ok : ∀ k, k < 2 → parseFieldDescriptor (TX3 k).2.2.1 = some (tyX3 k) := by decide +kernel
abbrev cX3_init : ByteArray := prog_2_method_1_code
def yX3_init : MethodName := ⟨RX3, "<init>", "(Ljava/lang/String;Ljava/lang/String;)V"⟩
def dkwX3_init_0 : List UInt8 := [42, 183, 0, 1, 42, 43, 181, 0, 7, 42, 44, 181, 0, 13, 177]
abbrev dktX3_init_0 : List UInt8 := dkwX3_init_0 ++ []
theorem dksX3_init_0 : cX3_init.data.toList.drop 0 = dktX3_init_0 := by decide +kernel
theorem dX3_init_0 : decode cX3_init 0 = .ok (.aload_n 0, 1) := dk_42 (dk_at dksX3_init_0 0 rfl rfl)
theorem dX3_init_1 : decode cX3_init 1 = .ok (.invokespecial 1, 3) := dk_183 0 1 (dk_at dksX3_init_0 1 rfl rfl)
theorem dX3_init_4 : decode cX3_init 4 = .ok (.aload_n 0, 1) := dk_42 (dk_at dksX3_init_0 4 rfl rfl)
theorem dX3_init_5 : decode cX3_init 5 = .ok (.aload_n 1, 1) := dk_43 (dk_at dksX3_init_0 5 rfl rfl)
theorem dX3_init_6 : decode cX3_init 6 = .ok (.putfield 7, 3) := dk_181 0 7 (dk_at dksX3_init_0 6 rfl rfl)
theorem dX3_init_9 : decode cX3_init 9 = .ok (.aload_n 0, 1) := dk_42 (dk_at dksX3_init_0 9 rfl rfl)
theorem dX3_init_10 : decode cX3_init 10 = .ok (.aload_n 2, 1) := dk_44 (dk_at dksX3_init_0 10 rfl rfl)
theorem dX3_init_11 : decode cX3_init 11 = .ok (.putfield 13, 3) := dk_181 0 13 (dk_at dksX3_init_0 11 rfl rfl)
theorem dX3_init_14 : decode cX3_init 14 = .ok (.return_, 1) := dk_177 (dk_at dksX3_init_0 14 rfl rfl)
abbrev cX3_name : ByteArray := prog_2_method_6_code
def yX3_name : MethodName := ⟨RX3, "name", "()Ljava/lang/String;"⟩
theorem dX3_name_0 : decode cX3_name 0 = .ok (.aload_n 0, 1) := by decide +kernel
theorem dX3_name_1 : decode cX3_name 1 = .ok (.getfield 7, 3) := by decide +kernel
theorem dX3_name_4 : decode cX3_name 4 = .ok (.areturn, 1) := by decide +kernel
abbrev cX3_takes : ByteArray := prog_2_method_2_code
def yX3_takes : MethodName := ⟨RX3, "takes", "()I"⟩
def dkwX3_takes_0 : List UInt8 := [5, 42, 180, 0, 7, 182, 0, 16, 96, 42, 180, 0, 13, 182, 0, 16, 96, 172]
abbrev dktX3_takes_0 : List UInt8 := dkwX3_takes_0 ++ []
theorem dksX3_takes_0 : cX3_takes.data.toList.drop 0 = dktX3_takes_0 := by decide +kernel
theorem dX3_takes_0 : decode cX3_takes 0 = .ok (.iconst 2, 1) := dk_5 (dk_at dksX3_takes_0 0 rfl rfl)
theorem dX3_takes_1 : decode cX3_takes 1 = .ok (.aload_n 0, 1) := dk_42 (dk_at dksX3_takes_0 1 rfl rfl)
theorem dX3_takes_2 : decode cX3_takes 2 = .ok (.getfield 7, 3) := dk_180 0 7 (dk_at dksX3_takes_0 2 rfl rfl)
theorem dX3_takes_5 : decode cX3_takes 5 = .ok (.invokevirtual 16, 3) := dk_182 0 16 (dk_at dksX3_takes_0 5 rfl rfl)
theorem dX3_takes_8 : decode cX3_takes 8 = .ok (.iadd, 1) := dk_96 (dk_at dksX3_takes_0 8 rfl rfl)
theorem dX3_takes_9 : decode cX3_takes 9 = .ok (.aload_n 0, 1) := dk_42 (dk_at dksX3_takes_0 9 rfl rfl)
theorem dX3_takes_10 : decode cX3_takes 10 = .ok (.getfield 13, 3) := dk_180 0 13 (dk_at dksX3_takes_0 10 rfl rfl)
theorem dX3_takes_13 : decode cX3_takes 13 = .ok (.invokevirtual 16, 3) := dk_182 0 16 (dk_at dksX3_takes_0 13 rfl rfl)
theorem dX3_takes_16 : decode cX3_takes 16 = .ok (.iadd, 1) := dk_96 (dk_at dksX3_takes_0 16 rfl rfl)
theorem dX3_takes_17 : decode cX3_takes 17 = .ok (.ireturn, 1) := dk_172 (dk_at dksX3_takes_0 17 rfl rfl)
abbrev cX3_value : ByteArray := prog_2_method_7_code
def yX3_value : MethodName := ⟨RX3, "value", "()Ljava/lang/String;"⟩
theorem dX3_value_0 : decode cX3_value 0 = .ok (.aload_n 0, 1) := by decide +kernel
theorem dX3_value_1 : decode cX3_value 1 = .ok (.getfield 13, 3) := by decide +kernel
theorem dX3_value_4 : decode cX3_value 4 = .ok (.areturn, 1) := by decide +kernel
theorem q91 : (Jvm.Cond.initialized "PageServer$Entry") ∈ lw_all := lw_g (lw_at lw_m1 7 rfl) rfl
theorem q158 : (Jvm.Cond.instantiable "PageServer$Entry" (2 : Nat)) ∈ lw_all := lw_g (lw_at lw_m1 74 rfl) rfl
theorem q162 : (Jvm.Cond.instanceMethod ({ cls := "PageServer$Entry", name := "<init>", desc := "(Ljava/lang/String;Ljava/lang/String;)V" } : Jvm.MethodName)) ∈ lw_all := lw_g (lw_at lw_m1 78 rfl) rfl
theorem q163 : (Jvm.Cond.code ({ cls := "PageServer$Entry", name := "<init>", desc := "(Ljava/lang/String;Ljava/lang/String;)V" } : Jvm.MethodName) prog_2_method_1_code (3 : Nat) (Option.none : Option Jvm.ClassFile.FieldType)) ∈ lw_all := lw_g (lw_at lw_m1 79 rfl) rfl
theorem q164 : (Jvm.Cond.methodLink "PageServer$Entry" (1 : Nat) ({ cls := "java/lang/Record", name := "<init>", desc := "()V" } : Jvm.MethodName)) ∈ lw_all := lw_g (lw_at lw_m1 80 rfl) rfl
theorem q168 : (Jvm.Cond.fieldLink "PageServer$Entry" (7 : Nat) "PageServer$Entry" "name" "Ljava/lang/String;") ∈ lw_all := lw_g (lw_at lw_m1 84 rfl) rfl
theorem q169 : (Jvm.Cond.fieldLink "PageServer$Entry" (13 : Nat) "PageServer$Entry" "value" "Ljava/lang/String;") ∈ lw_all := lw_g (lw_at lw_m1 85 rfl) rfl
theorem q170 : (Jvm.Cond.laysFinal "PageServer$Entry" "PageServer$Entry" "name" "Ljava/lang/String;") ∈ lw_all := lw_g (lw_at lw_m1 86 rfl) rfl
theorem q171 : (Jvm.Cond.soleField "PageServer$Entry" "name") ∈ lw_all := lw_g (lw_at lw_m1 87 rfl) rfl
theorem q172 : (Jvm.Cond.laysFinal "PageServer$Entry" "PageServer$Entry" "value" "Ljava/lang/String;") ∈ lw_all := lw_g (lw_at lw_m1 88 rfl) rfl
theorem q173 : (Jvm.Cond.soleField "PageServer$Entry" "value") ∈ lw_all := lw_g (lw_at lw_m1 89 rfl) rfl
theorem q174 : (Jvm.Cond.superclass "PageServer$Entry" "java/lang/Record") ∈ lw_all := lw_g (lw_at lw_m1 90 rfl) rfl
theorem q209 : (Jvm.Cond.selects "PageServer$Entry" ({ cls := "java/lang/Object", name := "getClass", desc := "()Ljava/lang/Class;" } : Jvm.MethodName) ({ cls := "java/lang/Object", name := "getClass", desc := "()Ljava/lang/Class;" } : Jvm.MethodName)) ∈ lw_all := lw_g (lw_at lw_m1 125 rfl) rfl
theorem q952 : (Jvm.Cond.instanceMethod ({ cls := "PageServer$Entry", name := "name", desc := "()Ljava/lang/String;" } : Jvm.MethodName)) ∈ lw_all := lw_g (lw_at lw_m4 148 rfl) rfl
theorem q953 : (Jvm.Cond.selects "PageServer$Entry" ({ cls := "PageServer$Entry", name := "name", desc := "()Ljava/lang/String;" } : Jvm.MethodName) ({ cls := "PageServer$Entry", name := "name", desc := "()Ljava/lang/String;" } : Jvm.MethodName)) ∈ lw_all := lw_g (lw_at lw_m4 149 rfl) rfl
theorem q954 : (Jvm.Cond.code ({ cls := "PageServer$Entry", name := "name", desc := "()Ljava/lang/String;" } : Jvm.MethodName) prog_2_method_6_code (1 : Nat) (Option.some (Jvm.ClassFile.FieldType.object "java/lang/String"))) ∈ lw_all := lw_g (lw_at lw_m4 150 rfl) rfl
theorem q962 : (Jvm.Cond.instanceMethod ({ cls := "PageServer$Entry", name := "takes", desc := "()I" } : Jvm.MethodName)) ∈ lw_all := lw_g (lw_at lw_m4 158 rfl) rfl
theorem q963 : (Jvm.Cond.selects "PageServer$Entry" ({ cls := "PageServer$Entry", name := "takes", desc := "()I" } : Jvm.MethodName) ({ cls := "PageServer$Entry", name := "takes", desc := "()I" } : Jvm.MethodName)) ∈ lw_all := lw_g (lw_at lw_m4 159 rfl) rfl
theorem q964 : (Jvm.Cond.code ({ cls := "PageServer$Entry", name := "takes", desc := "()I" } : Jvm.MethodName) prog_2_method_2_code (1 : Nat) (Option.some Jvm.ClassFile.FieldType.int)) ∈ lw_all := lw_g (lw_at lw_m4 160 rfl) rfl
theorem q965 : (Jvm.Cond.methodLink "PageServer$Entry" (16 : Nat) ({ cls := "java/lang/String", name := "length", desc := "()I" } : Jvm.MethodName)) ∈ lw_all := lw_g (lw_at lw_m4 161 rfl) rfl
theorem q1015 : (Jvm.Cond.instanceMethod ({ cls := "PageServer$Entry", name := "value", desc := "()Ljava/lang/String;" } : Jvm.MethodName)) ∈ lw_all := lw_g (lw_at lw_m4 211 rfl) rfl
theorem q1016 : (Jvm.Cond.selects "PageServer$Entry" ({ cls := "PageServer$Entry", name := "value", desc := "()Ljava/lang/String;" } : Jvm.MethodName) ({ cls := "PageServer$Entry", name := "value", desc := "()Ljava/lang/String;" } : Jvm.MethodName)) ∈ lw_all := lw_g (lw_at lw_m4 212 rfl) rfl
theorem q1017 : (Jvm.Cond.code ({ cls := "PageServer$Entry", name := "value", desc := "()Ljava/lang/String;" } : Jvm.MethodName) prog_2_method_7_code (1 : Nat) (Option.some (Jvm.ClassFile.FieldType.object "java/lang/String"))) ∈ lw_all := lw_g (lw_at lw_m4 213 rfl) rfl
theorem q1595 : (Jvm.Cond.castable "PageServer$Entry" "java/lang/Object") ∈ lw_tbl := lw_at lw_m7 71 rfl
theorem in_X3 : ∀ w ∈ wsX30, w ∈ lw_all := lw_in wsX30 [170, 172] (by decide +kernel) (by decide +kernel)
/-! PageServer$Reader -/
set_option maxRecDepth 100000
def RX4 : String := "PageServer$Reader"
def TX4 : u_T := fun k => match k with
  | 0 => ("PageServer$Reader", "row", "[B", true)
  | 1 => ("PageServer$Reader", "string", "Ljava/lang/StringBuilder;", true)
  | 2 => ("PageServer$Reader", "size", "I", false)
  | 3 => ("PageServer$Reader", "at", "I", false)
  | _ => ("PageServer$Reader", "good", "Z", false)
def tyX4 : Nat → FieldType := fun k => match k with
  | 0 => .array .byte
  | 1 => .object "java/lang/StringBuilder"
  | 2 => .int
  | 3 => .int
  | _ => .boolean
abbrev wsX40 : List Cond := u_ws RX4 TX4 5
theorem nmX4 : ∀ a, a < 5 → ∀ b, b < 5 → a ≠ b → (TX4 a).2.1 ≠ (TX4 b).2.1 := by decide +kernel
theorem tyX4_ok : ∀ k, k < 5 → parseFieldDescriptor (TX4 k).2.2.1 = some (tyX4 k) := by decide +kernel
abbrev cX4_init : ByteArray := prog_4_method_1_code
def yX4_init : MethodName := ⟨RX4, "<init>", "()V"⟩
def dkwX4_init_0 : List UInt8 := [42, 183, 0, 3, 42, 16, 100, 188, 8, 181, 0, 9, 42, 187, 0, 15, 89, 183, 0, 17, 181, 0, 18, 177]
abbrev dktX4_init_0 : List UInt8 := dkwX4_init_0 ++ []
theorem dksX4_init_0 : cX4_init.data.toList.drop 0 = dktX4_init_0 := by decide +kernel
theorem dX4_init_0 : decode cX4_init 0 = .ok (.aload_n 0, 1) := dk_42 (dk_at dksX4_init_0 0 rfl rfl)
theorem dX4_init_1 : decode cX4_init 1 = .ok (.invokespecial 3, 3) := dk_183 0 3 (dk_at dksX4_init_0 1 rfl rfl)
theorem dX4_init_4 : decode cX4_init 4 = .ok (.aload_n 0, 1) := dk_42 (dk_at dksX4_init_0 4 rfl rfl)
theorem dX4_init_5 : decode cX4_init 5 = .ok (.bipush 100, 2) := dk_16 100 (dk_at dksX4_init_0 5 rfl rfl)
theorem dX4_init_7 : decode cX4_init 7 = .ok (.newarray .byte, 2) := dk_188_8 (dk_at dksX4_init_0 7 rfl rfl)
theorem dX4_init_9 : decode cX4_init 9 = .ok (.putfield 9, 3) := dk_181 0 9 (dk_at dksX4_init_0 9 rfl rfl)
theorem dX4_init_12 : decode cX4_init 12 = .ok (.aload_n 0, 1) := dk_42 (dk_at dksX4_init_0 12 rfl rfl)
theorem dX4_init_13 : decode cX4_init 13 = .ok (.new 15, 3) := dk_187 0 15 (dk_at dksX4_init_0 13 rfl rfl)
theorem dX4_init_16 : decode cX4_init 16 = .ok (.dup, 1) := dk_89 (dk_at dksX4_init_0 16 rfl rfl)
theorem dX4_init_17 : decode cX4_init 17 = .ok (.invokespecial 17, 3) := dk_183 0 17 (dk_at dksX4_init_0 17 rfl rfl)
theorem dX4_init_20 : decode cX4_init 20 = .ok (.putfield 18, 3) := dk_181 0 18 (dk_at dksX4_init_0 20 rfl rfl)
theorem dX4_init_23 : decode cX4_init 23 = .ok (.return_, 1) := dk_177 (dk_at dksX4_init_0 23 rfl rfl)
abbrev cX4_read : ByteArray := prog_4_method_6_code
def yX4_read : MethodName := ⟨RX4, "read", "(LPageServer$Table;Ljava/util/ArrayList;)Z"⟩
def dkwX4_read_9 : List UInt8 := [180, 0, 22, 172]
abbrev dktX4_read_9 : List UInt8 := dkwX4_read_9 ++ []
def dkwX4_read_8 : List UInt8 := [182, 0, 84, 58, 4, 42, 180, 0, 22, 153, 0, 10, 44, 25, 4, 182, 0, 80, 87, 167, 255, 66, 42]
abbrev dktX4_read_8 : List UInt8 := dkwX4_read_8 ++ dktX4_read_9
def dkwX4_read_7 : List UInt8 := [182, 0, 92, 167, 0, 39, 29, 16, 15, 164, 0, 11, 42, 3, 181, 0, 22, 167, 0, 25, 42, 43, 29]
abbrev dktX4_read_7 : List UInt8 := dkwX4_read_7 ++ dktX4_read_8
def dkwX4_read_6 : List UInt8 := [163, 0, 7, 4, 167, 0, 4, 3, 181, 0, 22, 42, 180, 0, 22, 153, 0, 50, 43, 29, 16, 32, 100]
abbrev dktX4_read_6 : List UInt8 := dkwX4_read_6 ++ dktX4_read_7
def dkwX4_read_5 : List UInt8 := [167, 0, 88, 29, 16, 31, 164, 0, 46, 42, 44, 182, 0, 90, 154, 0, 16, 29, 16, 32, 100, 16, 24]
abbrev dktX4_read_5 : List UInt8 := dkwX4_read_5 ++ dktX4_read_6
def dkwX4_read_4 : List UInt8 := [153, 0, 9, 43, 25, 4, 182, 0, 87, 42, 180, 0, 22, 153, 0, 10, 44, 25, 4, 182, 0, 80, 87]
abbrev dktX4_read_4 : List UInt8 := dkwX4_read_4 ++ dktX4_read_5
def dkwX4_read_3 : List UInt8 := [167, 0, 135, 29, 16, 63, 164, 0, 44, 42, 43, 29, 16, 64, 100, 182, 0, 84, 58, 4, 42, 180, 0, 22]
abbrev dktX4_read_3 : List UInt8 := dkwX4_read_3 ++ dktX4_read_4
def dkwX4_read_2 : List UInt8 := [17, 0, 128, 100, 182, 0, 58, 58, 4, 42, 180, 0, 22, 153, 0, 10, 44, 25, 4, 182, 0, 80, 87]
abbrev dktX4_read_2 : List UInt8 := dkwX4_read_2 ++ dktX4_read_3
def dkwX4_read_1 : List UInt8 := [180, 0, 26, 42, 180, 0, 30, 162, 0, 178, 42, 182, 0, 33, 62, 29, 16, 127, 164, 0, 32, 42, 43, 29]
abbrev dktX4_read_1 : List UInt8 := dkwX4_read_1 ++ dktX4_read_2
def dkwX4_read_0 : List UInt8 := [42, 3, 181, 0, 26, 42, 4, 181, 0, 22, 44, 182, 0, 75, 42, 180, 0, 22, 153, 0, 189, 42]
abbrev dktX4_read_0 : List UInt8 := dkwX4_read_0 ++ dktX4_read_1
theorem dksX4_read_0 : cX4_read.data.toList.drop 0 = dktX4_read_0 := by decide +kernel
theorem dksX4_read_1 : cX4_read.data.toList.drop 22 = dktX4_read_1 := dk_seg dksX4_read_0 22 rfl rfl
theorem dksX4_read_2 : cX4_read.data.toList.drop 46 = dktX4_read_2 := dk_seg dksX4_read_1 24 rfl rfl
theorem dksX4_read_3 : cX4_read.data.toList.drop 69 = dktX4_read_3 := dk_seg dksX4_read_2 23 rfl rfl
theorem dksX4_read_4 : cX4_read.data.toList.drop 93 = dktX4_read_4 := dk_seg dksX4_read_3 24 rfl rfl
theorem dksX4_read_5 : cX4_read.data.toList.drop 116 = dktX4_read_5 := dk_seg dksX4_read_4 23 rfl rfl
theorem dksX4_read_6 : cX4_read.data.toList.drop 139 = dktX4_read_6 := dk_seg dksX4_read_5 23 rfl rfl
theorem dksX4_read_7 : cX4_read.data.toList.drop 162 = dktX4_read_7 := dk_seg dksX4_read_6 23 rfl rfl
theorem dksX4_read_8 : cX4_read.data.toList.drop 185 = dktX4_read_8 := dk_seg dksX4_read_7 23 rfl rfl
theorem dksX4_read_9 : cX4_read.data.toList.drop 208 = dktX4_read_9 := dk_seg dksX4_read_8 23 rfl rfl
theorem dX4_read_0 : decode cX4_read 0 = .ok (.aload_n 0, 1) := dk_42 (dk_at dksX4_read_0 0 rfl rfl)
theorem dX4_read_1 : decode cX4_read 1 = .ok (.iconst 0, 1) := dk_3 (dk_at dksX4_read_0 1 rfl rfl)
theorem dX4_read_2 : decode cX4_read 2 = .ok (.putfield 26, 3) := dk_181 0 26 (dk_at dksX4_read_0 2 rfl rfl)
theorem dX4_read_5 : decode cX4_read 5 = .ok (.aload_n 0, 1) := dk_42 (dk_at dksX4_read_0 5 rfl rfl)
theorem dX4_read_6 : decode cX4_read 6 = .ok (.iconst 1, 1) := dk_4 (dk_at dksX4_read_0 6 rfl rfl)
theorem dX4_read_7 : decode cX4_read 7 = .ok (.putfield 22, 3) := dk_181 0 22 (dk_at dksX4_read_0 7 rfl rfl)
theorem dX4_read_10 : decode cX4_read 10 = .ok (.aload_n 2, 1) := dk_44 (dk_at dksX4_read_0 10 rfl rfl)
theorem dX4_read_11 : decode cX4_read 11 = .ok (.invokevirtual 75, 3) := dk_182 0 75 (dk_at dksX4_read_0 11 rfl rfl)
theorem dX4_read_14 : decode cX4_read 14 = .ok (.aload_n 0, 1) := dk_42 (dk_at dksX4_read_0 14 rfl rfl)
theorem dX4_read_15 : decode cX4_read 15 = .ok (.getfield 22, 3) := dk_180 0 22 (dk_at dksX4_read_0 15 rfl rfl)
theorem dX4_read_18 : decode cX4_read 18 = .ok (.ifCond .eq 189, 3) := dk_153 0 189 (dk_at dksX4_read_0 18 rfl rfl)
theorem dX4_read_21 : decode cX4_read 21 = .ok (.aload_n 0, 1) := dk_42 (dk_at dksX4_read_0 21 rfl rfl)
theorem dX4_read_22 : decode cX4_read 22 = .ok (.getfield 26, 3) := dk_180 0 26 (dk_at dksX4_read_1 0 rfl rfl)
theorem dX4_read_25 : decode cX4_read 25 = .ok (.aload_n 0, 1) := dk_42 (dk_at dksX4_read_1 3 rfl rfl)
theorem dX4_read_26 : decode cX4_read 26 = .ok (.getfield 30, 3) := dk_180 0 30 (dk_at dksX4_read_1 4 rfl rfl)
theorem dX4_read_29 : decode cX4_read 29 = .ok (.if_icmp .ge 178, 3) := dk_162 0 178 (dk_at dksX4_read_1 7 rfl rfl)
theorem dX4_read_32 : decode cX4_read 32 = .ok (.aload_n 0, 1) := dk_42 (dk_at dksX4_read_1 10 rfl rfl)
theorem dX4_read_33 : decode cX4_read 33 = .ok (.invokevirtual 33, 3) := dk_182 0 33 (dk_at dksX4_read_1 11 rfl rfl)
theorem dX4_read_36 : decode cX4_read 36 = .ok (.istore_n 3, 1) := dk_62 (dk_at dksX4_read_1 14 rfl rfl)
theorem dX4_read_37 : decode cX4_read 37 = .ok (.iload_n 3, 1) := dk_29 (dk_at dksX4_read_1 15 rfl rfl)
theorem dX4_read_38 : decode cX4_read 38 = .ok (.bipush 127, 2) := dk_16 127 (dk_at dksX4_read_1 16 rfl rfl)
theorem dX4_read_40 : decode cX4_read 40 = .ok (.if_icmp .le 32, 3) := dk_164 0 32 (dk_at dksX4_read_1 18 rfl rfl)
theorem dX4_read_43 : decode cX4_read 43 = .ok (.aload_n 0, 1) := dk_42 (dk_at dksX4_read_1 21 rfl rfl)
theorem dX4_read_44 : decode cX4_read 44 = .ok (.aload_n 1, 1) := dk_43 (dk_at dksX4_read_1 22 rfl rfl)
theorem dX4_read_45 : decode cX4_read 45 = .ok (.iload_n 3, 1) := dk_29 (dk_at dksX4_read_1 23 rfl rfl)
theorem dX4_read_46 : decode cX4_read 46 = .ok (.sipush 128, 3) := dk_17 0 128 (dk_at dksX4_read_2 0 rfl rfl)
theorem dX4_read_49 : decode cX4_read 49 = .ok (.isub, 1) := dk_100 (dk_at dksX4_read_2 3 rfl rfl)
theorem dX4_read_50 : decode cX4_read 50 = .ok (.invokevirtual 58, 3) := dk_182 0 58 (dk_at dksX4_read_2 4 rfl rfl)
theorem dX4_read_53 : decode cX4_read 53 = .ok (.astore 4, 2) := dk_58 4 (dk_at dksX4_read_2 7 rfl rfl)
theorem dX4_read_55 : decode cX4_read 55 = .ok (.aload_n 0, 1) := dk_42 (dk_at dksX4_read_2 9 rfl rfl)
theorem dX4_read_56 : decode cX4_read 56 = .ok (.getfield 22, 3) := dk_180 0 22 (dk_at dksX4_read_2 10 rfl rfl)
theorem dX4_read_59 : decode cX4_read 59 = .ok (.ifCond .eq 10, 3) := dk_153 0 10 (dk_at dksX4_read_2 13 rfl rfl)
theorem dX4_read_62 : decode cX4_read 62 = .ok (.aload_n 2, 1) := dk_44 (dk_at dksX4_read_2 16 rfl rfl)
theorem dX4_read_63 : decode cX4_read 63 = .ok (.aload 4, 2) := dk_25 4 (dk_at dksX4_read_2 17 rfl rfl)
theorem dX4_read_65 : decode cX4_read 65 = .ok (.invokevirtual 80, 3) := dk_182 0 80 (dk_at dksX4_read_2 19 rfl rfl)
theorem dX4_read_68 : decode cX4_read 68 = .ok (.pop, 1) := dk_87 (dk_at dksX4_read_2 22 rfl rfl)
theorem dX4_read_69 : decode cX4_read 69 = .ok (.goto 135, 3) := dk_167 0 135 (dk_at dksX4_read_3 0 rfl rfl)
theorem dX4_read_72 : decode cX4_read 72 = .ok (.iload_n 3, 1) := dk_29 (dk_at dksX4_read_3 3 rfl rfl)
theorem dX4_read_73 : decode cX4_read 73 = .ok (.bipush 63, 2) := dk_16 63 (dk_at dksX4_read_3 4 rfl rfl)
theorem dX4_read_75 : decode cX4_read 75 = .ok (.if_icmp .le 44, 3) := dk_164 0 44 (dk_at dksX4_read_3 6 rfl rfl)
theorem dX4_read_78 : decode cX4_read 78 = .ok (.aload_n 0, 1) := dk_42 (dk_at dksX4_read_3 9 rfl rfl)
theorem dX4_read_79 : decode cX4_read 79 = .ok (.aload_n 1, 1) := dk_43 (dk_at dksX4_read_3 10 rfl rfl)
theorem dX4_read_80 : decode cX4_read 80 = .ok (.iload_n 3, 1) := dk_29 (dk_at dksX4_read_3 11 rfl rfl)
theorem dX4_read_81 : decode cX4_read 81 = .ok (.bipush 64, 2) := dk_16 64 (dk_at dksX4_read_3 12 rfl rfl)
theorem dX4_read_83 : decode cX4_read 83 = .ok (.isub, 1) := dk_100 (dk_at dksX4_read_3 14 rfl rfl)
theorem dX4_read_84 : decode cX4_read 84 = .ok (.invokevirtual 84, 3) := dk_182 0 84 (dk_at dksX4_read_3 15 rfl rfl)
theorem dX4_read_87 : decode cX4_read 87 = .ok (.astore 4, 2) := dk_58 4 (dk_at dksX4_read_3 18 rfl rfl)
theorem dX4_read_89 : decode cX4_read 89 = .ok (.aload_n 0, 1) := dk_42 (dk_at dksX4_read_3 20 rfl rfl)
theorem dX4_read_90 : decode cX4_read 90 = .ok (.getfield 22, 3) := dk_180 0 22 (dk_at dksX4_read_3 21 rfl rfl)
theorem dX4_read_93 : decode cX4_read 93 = .ok (.ifCond .eq 9, 3) := dk_153 0 9 (dk_at dksX4_read_4 0 rfl rfl)
theorem dX4_read_96 : decode cX4_read 96 = .ok (.aload_n 1, 1) := dk_43 (dk_at dksX4_read_4 3 rfl rfl)
theorem dX4_read_97 : decode cX4_read 97 = .ok (.aload 4, 2) := dk_25 4 (dk_at dksX4_read_4 4 rfl rfl)
theorem dX4_read_99 : decode cX4_read 99 = .ok (.invokevirtual 87, 3) := dk_182 0 87 (dk_at dksX4_read_4 6 rfl rfl)
theorem dX4_read_102 : decode cX4_read 102 = .ok (.aload_n 0, 1) := dk_42 (dk_at dksX4_read_4 9 rfl rfl)
theorem dX4_read_103 : decode cX4_read 103 = .ok (.getfield 22, 3) := dk_180 0 22 (dk_at dksX4_read_4 10 rfl rfl)
theorem dX4_read_106 : decode cX4_read 106 = .ok (.ifCond .eq 10, 3) := dk_153 0 10 (dk_at dksX4_read_4 13 rfl rfl)
theorem dX4_read_109 : decode cX4_read 109 = .ok (.aload_n 2, 1) := dk_44 (dk_at dksX4_read_4 16 rfl rfl)
theorem dX4_read_110 : decode cX4_read 110 = .ok (.aload 4, 2) := dk_25 4 (dk_at dksX4_read_4 17 rfl rfl)
theorem dX4_read_112 : decode cX4_read 112 = .ok (.invokevirtual 80, 3) := dk_182 0 80 (dk_at dksX4_read_4 19 rfl rfl)
theorem dX4_read_115 : decode cX4_read 115 = .ok (.pop, 1) := dk_87 (dk_at dksX4_read_4 22 rfl rfl)
theorem dX4_read_116 : decode cX4_read 116 = .ok (.goto 88, 3) := dk_167 0 88 (dk_at dksX4_read_5 0 rfl rfl)
theorem dX4_read_119 : decode cX4_read 119 = .ok (.iload_n 3, 1) := dk_29 (dk_at dksX4_read_5 3 rfl rfl)
theorem dX4_read_120 : decode cX4_read 120 = .ok (.bipush 31, 2) := dk_16 31 (dk_at dksX4_read_5 4 rfl rfl)
theorem dX4_read_122 : decode cX4_read 122 = .ok (.if_icmp .le 46, 3) := dk_164 0 46 (dk_at dksX4_read_5 6 rfl rfl)
theorem dX4_read_125 : decode cX4_read 125 = .ok (.aload_n 0, 1) := dk_42 (dk_at dksX4_read_5 9 rfl rfl)
theorem dX4_read_126 : decode cX4_read 126 = .ok (.aload_n 2, 1) := dk_44 (dk_at dksX4_read_5 10 rfl rfl)
theorem dX4_read_127 : decode cX4_read 127 = .ok (.invokevirtual 90, 3) := dk_182 0 90 (dk_at dksX4_read_5 11 rfl rfl)
theorem dX4_read_130 : decode cX4_read 130 = .ok (.ifCond .ne 16, 3) := dk_154 0 16 (dk_at dksX4_read_5 14 rfl rfl)
theorem dX4_read_133 : decode cX4_read 133 = .ok (.iload_n 3, 1) := dk_29 (dk_at dksX4_read_5 17 rfl rfl)
theorem dX4_read_134 : decode cX4_read 134 = .ok (.bipush 32, 2) := dk_16 32 (dk_at dksX4_read_5 18 rfl rfl)
theorem dX4_read_136 : decode cX4_read 136 = .ok (.isub, 1) := dk_100 (dk_at dksX4_read_5 20 rfl rfl)
theorem dX4_read_137 : decode cX4_read 137 = .ok (.bipush 24, 2) := dk_16 24 (dk_at dksX4_read_5 21 rfl rfl)
theorem dX4_read_139 : decode cX4_read 139 = .ok (.if_icmp .gt 7, 3) := dk_163 0 7 (dk_at dksX4_read_6 0 rfl rfl)
theorem dX4_read_142 : decode cX4_read 142 = .ok (.iconst 1, 1) := dk_4 (dk_at dksX4_read_6 3 rfl rfl)
theorem dX4_read_143 : decode cX4_read 143 = .ok (.goto 4, 3) := dk_167 0 4 (dk_at dksX4_read_6 4 rfl rfl)
theorem dX4_read_146 : decode cX4_read 146 = .ok (.iconst 0, 1) := dk_3 (dk_at dksX4_read_6 7 rfl rfl)
theorem dX4_read_147 : decode cX4_read 147 = .ok (.putfield 22, 3) := dk_181 0 22 (dk_at dksX4_read_6 8 rfl rfl)
theorem dX4_read_150 : decode cX4_read 150 = .ok (.aload_n 0, 1) := dk_42 (dk_at dksX4_read_6 11 rfl rfl)
theorem dX4_read_151 : decode cX4_read 151 = .ok (.getfield 22, 3) := dk_180 0 22 (dk_at dksX4_read_6 12 rfl rfl)
theorem dX4_read_154 : decode cX4_read 154 = .ok (.ifCond .eq 50, 3) := dk_153 0 50 (dk_at dksX4_read_6 15 rfl rfl)
theorem dX4_read_157 : decode cX4_read 157 = .ok (.aload_n 1, 1) := dk_43 (dk_at dksX4_read_6 18 rfl rfl)
theorem dX4_read_158 : decode cX4_read 158 = .ok (.iload_n 3, 1) := dk_29 (dk_at dksX4_read_6 19 rfl rfl)
theorem dX4_read_159 : decode cX4_read 159 = .ok (.bipush 32, 2) := dk_16 32 (dk_at dksX4_read_6 20 rfl rfl)
theorem dX4_read_161 : decode cX4_read 161 = .ok (.isub, 1) := dk_100 (dk_at dksX4_read_6 22 rfl rfl)
theorem dX4_read_162 : decode cX4_read 162 = .ok (.invokevirtual 92, 3) := dk_182 0 92 (dk_at dksX4_read_7 0 rfl rfl)
theorem dX4_read_165 : decode cX4_read 165 = .ok (.goto 39, 3) := dk_167 0 39 (dk_at dksX4_read_7 3 rfl rfl)
theorem dX4_read_168 : decode cX4_read 168 = .ok (.iload_n 3, 1) := dk_29 (dk_at dksX4_read_7 6 rfl rfl)
theorem dX4_read_169 : decode cX4_read 169 = .ok (.bipush 15, 2) := dk_16 15 (dk_at dksX4_read_7 7 rfl rfl)
theorem dX4_read_171 : decode cX4_read 171 = .ok (.if_icmp .le 11, 3) := dk_164 0 11 (dk_at dksX4_read_7 9 rfl rfl)
theorem dX4_read_174 : decode cX4_read 174 = .ok (.aload_n 0, 1) := dk_42 (dk_at dksX4_read_7 12 rfl rfl)
theorem dX4_read_175 : decode cX4_read 175 = .ok (.iconst 0, 1) := dk_3 (dk_at dksX4_read_7 13 rfl rfl)
theorem dX4_read_176 : decode cX4_read 176 = .ok (.putfield 22, 3) := dk_181 0 22 (dk_at dksX4_read_7 14 rfl rfl)
theorem dX4_read_179 : decode cX4_read 179 = .ok (.goto 25, 3) := dk_167 0 25 (dk_at dksX4_read_7 17 rfl rfl)
theorem dX4_read_182 : decode cX4_read 182 = .ok (.aload_n 0, 1) := dk_42 (dk_at dksX4_read_7 20 rfl rfl)
theorem dX4_read_183 : decode cX4_read 183 = .ok (.aload_n 1, 1) := dk_43 (dk_at dksX4_read_7 21 rfl rfl)
theorem dX4_read_184 : decode cX4_read 184 = .ok (.iload_n 3, 1) := dk_29 (dk_at dksX4_read_7 22 rfl rfl)
theorem dX4_read_185 : decode cX4_read 185 = .ok (.invokevirtual 84, 3) := dk_182 0 84 (dk_at dksX4_read_8 0 rfl rfl)
theorem dX4_read_188 : decode cX4_read 188 = .ok (.astore 4, 2) := dk_58 4 (dk_at dksX4_read_8 3 rfl rfl)
theorem dX4_read_190 : decode cX4_read 190 = .ok (.aload_n 0, 1) := dk_42 (dk_at dksX4_read_8 5 rfl rfl)
theorem dX4_read_191 : decode cX4_read 191 = .ok (.getfield 22, 3) := dk_180 0 22 (dk_at dksX4_read_8 6 rfl rfl)
theorem dX4_read_194 : decode cX4_read 194 = .ok (.ifCond .eq 10, 3) := dk_153 0 10 (dk_at dksX4_read_8 9 rfl rfl)
theorem dX4_read_197 : decode cX4_read 197 = .ok (.aload_n 2, 1) := dk_44 (dk_at dksX4_read_8 12 rfl rfl)
theorem dX4_read_198 : decode cX4_read 198 = .ok (.aload 4, 2) := dk_25 4 (dk_at dksX4_read_8 13 rfl rfl)
theorem dX4_read_200 : decode cX4_read 200 = .ok (.invokevirtual 80, 3) := dk_182 0 80 (dk_at dksX4_read_8 15 rfl rfl)
theorem dX4_read_203 : decode cX4_read 203 = .ok (.pop, 1) := dk_87 (dk_at dksX4_read_8 18 rfl rfl)
theorem dX4_read_204 : decode cX4_read 204 = .ok (.goto (-190), 3) := dk_167 255 66 (dk_at dksX4_read_8 19 rfl rfl)
theorem dX4_read_207 : decode cX4_read 207 = .ok (.aload_n 0, 1) := dk_42 (dk_at dksX4_read_8 22 rfl rfl)
theorem dX4_read_208 : decode cX4_read 208 = .ok (.getfield 22, 3) := dk_180 0 22 (dk_at dksX4_read_9 0 rfl rfl)
theorem dX4_read_211 : decode cX4_read 211 = .ok (.ireturn, 1) := dk_172 (dk_at dksX4_read_9 3 rfl rfl)
abbrev cX4_next : ByteArray := prog_4_method_2_code
def yX4_next : MethodName := ⟨RX4, "next", "()I"⟩
def dkwX4_next_2 : List UInt8 := [180, 0, 9, 42, 180, 0, 26, 4, 100, 51, 17, 0, 255, 126, 172]
abbrev dktX4_next_2 : List UInt8 := dkwX4_next_2 ++ []
def dkwX4_next_1 : List UInt8 := [181, 0, 22, 42, 180, 0, 22, 154, 0, 5, 3, 172, 42, 89, 180, 0, 26, 4, 96, 181, 0, 26, 42]
abbrev dktX4_next_1 : List UInt8 := dkwX4_next_1 ++ dktX4_next_2
def dkwX4_next_0 : List UInt8 := [42, 42, 180, 0, 22, 153, 0, 18, 42, 180, 0, 26, 42, 180, 0, 30, 162, 0, 7, 4, 167, 0, 4, 3]
abbrev dktX4_next_0 : List UInt8 := dkwX4_next_0 ++ dktX4_next_1
theorem dksX4_next_0 : cX4_next.data.toList.drop 0 = dktX4_next_0 := by decide +kernel
theorem dksX4_next_1 : cX4_next.data.toList.drop 24 = dktX4_next_1 := dk_seg dksX4_next_0 24 rfl rfl
theorem dksX4_next_2 : cX4_next.data.toList.drop 47 = dktX4_next_2 := dk_seg dksX4_next_1 23 rfl rfl
theorem dX4_next_0 : decode cX4_next 0 = .ok (.aload_n 0, 1) := dk_42 (dk_at dksX4_next_0 0 rfl rfl)
theorem dX4_next_1 : decode cX4_next 1 = .ok (.aload_n 0, 1) := dk_42 (dk_at dksX4_next_0 1 rfl rfl)
theorem dX4_next_2 : decode cX4_next 2 = .ok (.getfield 22, 3) := dk_180 0 22 (dk_at dksX4_next_0 2 rfl rfl)
theorem dX4_next_5 : decode cX4_next 5 = .ok (.ifCond .eq 18, 3) := dk_153 0 18 (dk_at dksX4_next_0 5 rfl rfl)
theorem dX4_next_8 : decode cX4_next 8 = .ok (.aload_n 0, 1) := dk_42 (dk_at dksX4_next_0 8 rfl rfl)
theorem dX4_next_9 : decode cX4_next 9 = .ok (.getfield 26, 3) := dk_180 0 26 (dk_at dksX4_next_0 9 rfl rfl)
theorem dX4_next_12 : decode cX4_next 12 = .ok (.aload_n 0, 1) := dk_42 (dk_at dksX4_next_0 12 rfl rfl)
theorem dX4_next_13 : decode cX4_next 13 = .ok (.getfield 30, 3) := dk_180 0 30 (dk_at dksX4_next_0 13 rfl rfl)
theorem dX4_next_16 : decode cX4_next 16 = .ok (.if_icmp .ge 7, 3) := dk_162 0 7 (dk_at dksX4_next_0 16 rfl rfl)
theorem dX4_next_19 : decode cX4_next 19 = .ok (.iconst 1, 1) := dk_4 (dk_at dksX4_next_0 19 rfl rfl)
theorem dX4_next_20 : decode cX4_next 20 = .ok (.goto 4, 3) := dk_167 0 4 (dk_at dksX4_next_0 20 rfl rfl)
theorem dX4_next_23 : decode cX4_next 23 = .ok (.iconst 0, 1) := dk_3 (dk_at dksX4_next_0 23 rfl rfl)
theorem dX4_next_24 : decode cX4_next 24 = .ok (.putfield 22, 3) := dk_181 0 22 (dk_at dksX4_next_1 0 rfl rfl)
theorem dX4_next_27 : decode cX4_next 27 = .ok (.aload_n 0, 1) := dk_42 (dk_at dksX4_next_1 3 rfl rfl)
theorem dX4_next_28 : decode cX4_next 28 = .ok (.getfield 22, 3) := dk_180 0 22 (dk_at dksX4_next_1 4 rfl rfl)
theorem dX4_next_31 : decode cX4_next 31 = .ok (.ifCond .ne 5, 3) := dk_154 0 5 (dk_at dksX4_next_1 7 rfl rfl)
theorem dX4_next_34 : decode cX4_next 34 = .ok (.iconst 0, 1) := dk_3 (dk_at dksX4_next_1 10 rfl rfl)
theorem dX4_next_35 : decode cX4_next 35 = .ok (.ireturn, 1) := dk_172 (dk_at dksX4_next_1 11 rfl rfl)
theorem dX4_next_36 : decode cX4_next 36 = .ok (.aload_n 0, 1) := dk_42 (dk_at dksX4_next_1 12 rfl rfl)
theorem dX4_next_37 : decode cX4_next 37 = .ok (.dup, 1) := dk_89 (dk_at dksX4_next_1 13 rfl rfl)
theorem dX4_next_38 : decode cX4_next 38 = .ok (.getfield 26, 3) := dk_180 0 26 (dk_at dksX4_next_1 14 rfl rfl)
theorem dX4_next_41 : decode cX4_next 41 = .ok (.iconst 1, 1) := dk_4 (dk_at dksX4_next_1 17 rfl rfl)
theorem dX4_next_42 : decode cX4_next 42 = .ok (.iadd, 1) := dk_96 (dk_at dksX4_next_1 18 rfl rfl)
theorem dX4_next_43 : decode cX4_next 43 = .ok (.putfield 26, 3) := dk_181 0 26 (dk_at dksX4_next_1 19 rfl rfl)
theorem dX4_next_46 : decode cX4_next 46 = .ok (.aload_n 0, 1) := dk_42 (dk_at dksX4_next_1 22 rfl rfl)
theorem dX4_next_47 : decode cX4_next 47 = .ok (.getfield 9, 3) := dk_180 0 9 (dk_at dksX4_next_2 0 rfl rfl)
theorem dX4_next_50 : decode cX4_next 50 = .ok (.aload_n 0, 1) := dk_42 (dk_at dksX4_next_2 3 rfl rfl)
theorem dX4_next_51 : decode cX4_next 51 = .ok (.getfield 26, 3) := dk_180 0 26 (dk_at dksX4_next_2 4 rfl rfl)
theorem dX4_next_54 : decode cX4_next 54 = .ok (.iconst 1, 1) := dk_4 (dk_at dksX4_next_2 7 rfl rfl)
theorem dX4_next_55 : decode cX4_next 55 = .ok (.isub, 1) := dk_100 (dk_at dksX4_next_2 8 rfl rfl)
theorem dX4_next_56 : decode cX4_next 56 = .ok (.baload, 1) := dk_51 (dk_at dksX4_next_2 9 rfl rfl)
theorem dX4_next_57 : decode cX4_next 57 = .ok (.sipush 255, 3) := dk_17 0 255 (dk_at dksX4_next_2 10 rfl rfl)
theorem dX4_next_60 : decode cX4_next 60 = .ok (.iand, 1) := dk_126 (dk_at dksX4_next_2 13 rfl rfl)
theorem dX4_next_61 : decode cX4_next 61 = .ok (.ireturn, 1) := dk_172 (dk_at dksX4_next_2 14 rfl rfl)
abbrev cX4_known : ByteArray := prog_4_method_4_code
def yX4_known : MethodName := ⟨RX4, "known", "(LPageServer$Table;I)LPageServer$Entry;"⟩
def dkwX4_known_1 : List UInt8 := [181, 0, 22, 45, 176]
abbrev dktX4_known_1 : List UInt8 := dkwX4_known_1 ++ []
def dkwX4_known_0 : List UInt8 := [43, 28, 182, 0, 53, 78, 42, 42, 180, 0, 22, 153, 0, 11, 45, 198, 0, 7, 4, 167, 0, 4, 3]
abbrev dktX4_known_0 : List UInt8 := dkwX4_known_0 ++ dktX4_known_1
theorem dksX4_known_0 : cX4_known.data.toList.drop 0 = dktX4_known_0 := by decide +kernel
theorem dksX4_known_1 : cX4_known.data.toList.drop 23 = dktX4_known_1 := dk_seg dksX4_known_0 23 rfl rfl
theorem dX4_known_0 : decode cX4_known 0 = .ok (.aload_n 1, 1) := dk_43 (dk_at dksX4_known_0 0 rfl rfl)
theorem dX4_known_1 : decode cX4_known 1 = .ok (.iload_n 2, 1) := dk_28 (dk_at dksX4_known_0 1 rfl rfl)
theorem dX4_known_2 : decode cX4_known 2 = .ok (.invokevirtual 53, 3) := dk_182 0 53 (dk_at dksX4_known_0 2 rfl rfl)
theorem dX4_known_5 : decode cX4_known 5 = .ok (.astore_n 3, 1) := dk_78 (dk_at dksX4_known_0 5 rfl rfl)
theorem dX4_known_6 : decode cX4_known 6 = .ok (.aload_n 0, 1) := dk_42 (dk_at dksX4_known_0 6 rfl rfl)
theorem dX4_known_7 : decode cX4_known 7 = .ok (.aload_n 0, 1) := dk_42 (dk_at dksX4_known_0 7 rfl rfl)
theorem dX4_known_8 : decode cX4_known 8 = .ok (.getfield 22, 3) := dk_180 0 22 (dk_at dksX4_known_0 8 rfl rfl)
theorem dX4_known_11 : decode cX4_known 11 = .ok (.ifCond .eq 11, 3) := dk_153 0 11 (dk_at dksX4_known_0 11 rfl rfl)
theorem dX4_known_14 : decode cX4_known 14 = .ok (.aload_n 3, 1) := dk_45 (dk_at dksX4_known_0 14 rfl rfl)
theorem dX4_known_15 : decode cX4_known 15 = .ok (.ifnull 7, 3) := dk_198 0 7 (dk_at dksX4_known_0 15 rfl rfl)
theorem dX4_known_18 : decode cX4_known 18 = .ok (.iconst 1, 1) := dk_4 (dk_at dksX4_known_0 18 rfl rfl)
theorem dX4_known_19 : decode cX4_known 19 = .ok (.goto 4, 3) := dk_167 0 4 (dk_at dksX4_known_0 19 rfl rfl)
theorem dX4_known_22 : decode cX4_known 22 = .ok (.iconst 0, 1) := dk_3 (dk_at dksX4_known_0 22 rfl rfl)
theorem dX4_known_23 : decode cX4_known 23 = .ok (.putfield 22, 3) := dk_181 0 22 (dk_at dksX4_known_1 0 rfl rfl)
theorem dX4_known_26 : decode cX4_known 26 = .ok (.aload_n 3, 1) := dk_45 (dk_at dksX4_known_1 3 rfl rfl)
theorem dX4_known_27 : decode cX4_known 27 = .ok (.areturn, 1) := dk_176 (dk_at dksX4_known_1 4 rfl rfl)
abbrev cX4_literal : ByteArray := prog_4_method_5_code
def yX4_literal : MethodName := ⟨RX4, "literal", "(LPageServer$Table;I)LPageServer$Entry;"⟩
def dkwX4_literal_3 : List UInt8 := [25, 5, 183, 0, 72, 176]
abbrev dktX4_literal_3 : List UInt8 := dkwX4_literal_3 ++ []
def dkwX4_literal_2 : List UInt8 := [180, 0, 22, 153, 0, 11, 42, 3, 182, 0, 62, 167, 0, 5, 18, 65, 58, 5, 187, 0, 68, 89, 25, 4]
abbrev dktX4_literal_2 : List UInt8 := dkwX4_literal_2 ++ dktX4_literal_3
def dkwX4_literal_1 : List UInt8 := [153, 0, 11, 42, 4, 182, 0, 62, 167, 0, 12, 18, 65, 167, 0, 7, 45, 182, 0, 67, 58, 4, 42]
abbrev dktX4_literal_1 : List UInt8 := dkwX4_literal_1 ++ dktX4_literal_2
def dkwX4_literal_0 : List UInt8 := [28, 154, 0, 7, 1, 167, 0, 9, 42, 43, 28, 182, 0, 58, 78, 45, 199, 0, 23, 42, 180, 0, 22]
abbrev dktX4_literal_0 : List UInt8 := dkwX4_literal_0 ++ dktX4_literal_1
theorem dksX4_literal_0 : cX4_literal.data.toList.drop 0 = dktX4_literal_0 := by decide +kernel
theorem dksX4_literal_1 : cX4_literal.data.toList.drop 23 = dktX4_literal_1 := dk_seg dksX4_literal_0 23 rfl rfl
theorem dksX4_literal_2 : cX4_literal.data.toList.drop 46 = dktX4_literal_2 := dk_seg dksX4_literal_1 23 rfl rfl
theorem dksX4_literal_3 : cX4_literal.data.toList.drop 70 = dktX4_literal_3 := dk_seg dksX4_literal_2 24 rfl rfl
theorem dX4_literal_0 : decode cX4_literal 0 = .ok (.iload_n 2, 1) := dk_28 (dk_at dksX4_literal_0 0 rfl rfl)
theorem dX4_literal_1 : decode cX4_literal 1 = .ok (.ifCond .ne 7, 3) := dk_154 0 7 (dk_at dksX4_literal_0 1 rfl rfl)
theorem dX4_literal_4 : decode cX4_literal 4 = .ok (.aconst_null, 1) := dk_1 (dk_at dksX4_literal_0 4 rfl rfl)
theorem dX4_literal_5 : decode cX4_literal 5 = .ok (.goto 9, 3) := dk_167 0 9 (dk_at dksX4_literal_0 5 rfl rfl)
theorem dX4_literal_8 : decode cX4_literal 8 = .ok (.aload_n 0, 1) := dk_42 (dk_at dksX4_literal_0 8 rfl rfl)
theorem dX4_literal_9 : decode cX4_literal 9 = .ok (.aload_n 1, 1) := dk_43 (dk_at dksX4_literal_0 9 rfl rfl)
theorem dX4_literal_10 : decode cX4_literal 10 = .ok (.iload_n 2, 1) := dk_28 (dk_at dksX4_literal_0 10 rfl rfl)
theorem dX4_literal_11 : decode cX4_literal 11 = .ok (.invokevirtual 58, 3) := dk_182 0 58 (dk_at dksX4_literal_0 11 rfl rfl)
theorem dX4_literal_14 : decode cX4_literal 14 = .ok (.astore_n 3, 1) := dk_78 (dk_at dksX4_literal_0 14 rfl rfl)
theorem dX4_literal_15 : decode cX4_literal 15 = .ok (.aload_n 3, 1) := dk_45 (dk_at dksX4_literal_0 15 rfl rfl)
theorem dX4_literal_16 : decode cX4_literal 16 = .ok (.ifnonnull 23, 3) := dk_199 0 23 (dk_at dksX4_literal_0 16 rfl rfl)
theorem dX4_literal_19 : decode cX4_literal 19 = .ok (.aload_n 0, 1) := dk_42 (dk_at dksX4_literal_0 19 rfl rfl)
theorem dX4_literal_20 : decode cX4_literal 20 = .ok (.getfield 22, 3) := dk_180 0 22 (dk_at dksX4_literal_0 20 rfl rfl)
theorem dX4_literal_23 : decode cX4_literal 23 = .ok (.ifCond .eq 11, 3) := dk_153 0 11 (dk_at dksX4_literal_1 0 rfl rfl)
theorem dX4_literal_26 : decode cX4_literal 26 = .ok (.aload_n 0, 1) := dk_42 (dk_at dksX4_literal_1 3 rfl rfl)
theorem dX4_literal_27 : decode cX4_literal 27 = .ok (.iconst 1, 1) := dk_4 (dk_at dksX4_literal_1 4 rfl rfl)
theorem dX4_literal_28 : decode cX4_literal 28 = .ok (.invokevirtual 62, 3) := dk_182 0 62 (dk_at dksX4_literal_1 5 rfl rfl)
theorem dX4_literal_31 : decode cX4_literal 31 = .ok (.goto 12, 3) := dk_167 0 12 (dk_at dksX4_literal_1 8 rfl rfl)
theorem dX4_literal_34 : decode cX4_literal 34 = .ok (.ldc 65, 2) := dk_18 65 (dk_at dksX4_literal_1 11 rfl rfl)
theorem dX4_literal_36 : decode cX4_literal 36 = .ok (.goto 7, 3) := dk_167 0 7 (dk_at dksX4_literal_1 13 rfl rfl)
theorem dX4_literal_39 : decode cX4_literal 39 = .ok (.aload_n 3, 1) := dk_45 (dk_at dksX4_literal_1 16 rfl rfl)
theorem dX4_literal_40 : decode cX4_literal 40 = .ok (.invokevirtual 67, 3) := dk_182 0 67 (dk_at dksX4_literal_1 17 rfl rfl)
theorem dX4_literal_43 : decode cX4_literal 43 = .ok (.astore 4, 2) := dk_58 4 (dk_at dksX4_literal_1 20 rfl rfl)
theorem dX4_literal_45 : decode cX4_literal 45 = .ok (.aload_n 0, 1) := dk_42 (dk_at dksX4_literal_1 22 rfl rfl)
theorem dX4_literal_46 : decode cX4_literal 46 = .ok (.getfield 22, 3) := dk_180 0 22 (dk_at dksX4_literal_2 0 rfl rfl)
theorem dX4_literal_49 : decode cX4_literal 49 = .ok (.ifCond .eq 11, 3) := dk_153 0 11 (dk_at dksX4_literal_2 3 rfl rfl)
theorem dX4_literal_52 : decode cX4_literal 52 = .ok (.aload_n 0, 1) := dk_42 (dk_at dksX4_literal_2 6 rfl rfl)
theorem dX4_literal_53 : decode cX4_literal 53 = .ok (.iconst 0, 1) := dk_3 (dk_at dksX4_literal_2 7 rfl rfl)
theorem dX4_literal_54 : decode cX4_literal 54 = .ok (.invokevirtual 62, 3) := dk_182 0 62 (dk_at dksX4_literal_2 8 rfl rfl)
theorem dX4_literal_57 : decode cX4_literal 57 = .ok (.goto 5, 3) := dk_167 0 5 (dk_at dksX4_literal_2 11 rfl rfl)
theorem dX4_literal_60 : decode cX4_literal 60 = .ok (.ldc 65, 2) := dk_18 65 (dk_at dksX4_literal_2 14 rfl rfl)
theorem dX4_literal_62 : decode cX4_literal 62 = .ok (.astore 5, 2) := dk_58 5 (dk_at dksX4_literal_2 16 rfl rfl)
theorem dX4_literal_64 : decode cX4_literal 64 = .ok (.new 68, 3) := dk_187 0 68 (dk_at dksX4_literal_2 18 rfl rfl)
theorem dX4_literal_67 : decode cX4_literal 67 = .ok (.dup, 1) := dk_89 (dk_at dksX4_literal_2 21 rfl rfl)
theorem dX4_literal_68 : decode cX4_literal 68 = .ok (.aload 4, 2) := dk_25 4 (dk_at dksX4_literal_2 22 rfl rfl)
theorem dX4_literal_70 : decode cX4_literal 70 = .ok (.aload 5, 2) := dk_25 5 (dk_at dksX4_literal_3 0 rfl rfl)
theorem dX4_literal_72 : decode cX4_literal 72 = .ok (.invokespecial 72, 3) := dk_183 0 72 (dk_at dksX4_literal_3 2 rfl rfl)
theorem dX4_literal_75 : decode cX4_literal 75 = .ok (.areturn, 1) := dk_176 (dk_at dksX4_literal_3 5 rfl rfl)
abbrev cX4_string : ByteArray := prog_4_method_3_code
def yX4_string : MethodName := ⟨RX4, "string", "(I)Ljava/lang/String;"⟩
def dkwX4_string_4 : List UInt8 := [182, 0, 45, 87, 132, 3, 1, 167, 255, 196, 42, 180, 0, 18, 182, 0, 49, 176]
abbrev dktX4_string_4 : List UInt8 := dkwX4_string_4 ++ []
def dkwX4_string_3 : List UInt8 := [16, 126, 184, 0, 41, 154, 0, 7, 4, 167, 0, 4, 3, 181, 0, 22, 42, 180, 0, 18, 21, 4, 146]
abbrev dktX4_string_3 : List UInt8 := dkwX4_string_3 ++ dktX4_string_4
def dkwX4_string_2 : List UInt8 := [180, 0, 22, 153, 0, 54, 42, 182, 0, 33, 54, 4, 42, 42, 180, 0, 22, 153, 0, 19, 21, 4, 16, 33]
abbrev dktX4_string_2 : List UInt8 := dkwX4_string_2 ++ dktX4_string_3
def dkwX4_string_1 : List UInt8 := [16, 20, 184, 0, 41, 154, 0, 7, 4, 167, 0, 4, 3, 181, 0, 22, 3, 62, 29, 28, 162, 0, 61, 42]
abbrev dktX4_string_1 : List UInt8 := dkwX4_string_1 ++ dktX4_string_2
def dkwX4_string_0 : List UInt8 := [42, 182, 0, 33, 61, 42, 180, 0, 18, 3, 182, 0, 37, 42, 42, 180, 0, 22, 153, 0, 17, 28, 27]
abbrev dktX4_string_0 : List UInt8 := dkwX4_string_0 ++ dktX4_string_1
theorem dksX4_string_0 : cX4_string.data.toList.drop 0 = dktX4_string_0 := by decide +kernel
theorem dksX4_string_1 : cX4_string.data.toList.drop 23 = dktX4_string_1 := dk_seg dksX4_string_0 23 rfl rfl
theorem dksX4_string_2 : cX4_string.data.toList.drop 47 = dktX4_string_2 := dk_seg dksX4_string_1 24 rfl rfl
theorem dksX4_string_3 : cX4_string.data.toList.drop 71 = dktX4_string_3 := dk_seg dksX4_string_2 24 rfl rfl
theorem dksX4_string_4 : cX4_string.data.toList.drop 94 = dktX4_string_4 := dk_seg dksX4_string_3 23 rfl rfl
theorem dX4_string_0 : decode cX4_string 0 = .ok (.aload_n 0, 1) := dk_42 (dk_at dksX4_string_0 0 rfl rfl)
theorem dX4_string_1 : decode cX4_string 1 = .ok (.invokevirtual 33, 3) := dk_182 0 33 (dk_at dksX4_string_0 1 rfl rfl)
theorem dX4_string_4 : decode cX4_string 4 = .ok (.istore_n 2, 1) := dk_61 (dk_at dksX4_string_0 4 rfl rfl)
theorem dX4_string_5 : decode cX4_string 5 = .ok (.aload_n 0, 1) := dk_42 (dk_at dksX4_string_0 5 rfl rfl)
theorem dX4_string_6 : decode cX4_string 6 = .ok (.getfield 18, 3) := dk_180 0 18 (dk_at dksX4_string_0 6 rfl rfl)
theorem dX4_string_9 : decode cX4_string 9 = .ok (.iconst 0, 1) := dk_3 (dk_at dksX4_string_0 9 rfl rfl)
theorem dX4_string_10 : decode cX4_string 10 = .ok (.invokevirtual 37, 3) := dk_182 0 37 (dk_at dksX4_string_0 10 rfl rfl)
theorem dX4_string_13 : decode cX4_string 13 = .ok (.aload_n 0, 1) := dk_42 (dk_at dksX4_string_0 13 rfl rfl)
theorem dX4_string_14 : decode cX4_string 14 = .ok (.aload_n 0, 1) := dk_42 (dk_at dksX4_string_0 14 rfl rfl)
theorem dX4_string_15 : decode cX4_string 15 = .ok (.getfield 22, 3) := dk_180 0 22 (dk_at dksX4_string_0 15 rfl rfl)
theorem dX4_string_18 : decode cX4_string 18 = .ok (.ifCond .eq 17, 3) := dk_153 0 17 (dk_at dksX4_string_0 18 rfl rfl)
theorem dX4_string_21 : decode cX4_string 21 = .ok (.iload_n 2, 1) := dk_28 (dk_at dksX4_string_0 21 rfl rfl)
theorem dX4_string_22 : decode cX4_string 22 = .ok (.iload_n 1, 1) := dk_27 (dk_at dksX4_string_0 22 rfl rfl)
theorem dX4_string_23 : decode cX4_string 23 = .ok (.bipush 20, 2) := dk_16 20 (dk_at dksX4_string_1 0 rfl rfl)
theorem dX4_string_25 : decode cX4_string 25 = .ok (.invokestatic 41, 3) := dk_184 0 41 (dk_at dksX4_string_1 2 rfl rfl)
theorem dX4_string_28 : decode cX4_string 28 = .ok (.ifCond .ne 7, 3) := dk_154 0 7 (dk_at dksX4_string_1 5 rfl rfl)
theorem dX4_string_31 : decode cX4_string 31 = .ok (.iconst 1, 1) := dk_4 (dk_at dksX4_string_1 8 rfl rfl)
theorem dX4_string_32 : decode cX4_string 32 = .ok (.goto 4, 3) := dk_167 0 4 (dk_at dksX4_string_1 9 rfl rfl)
theorem dX4_string_35 : decode cX4_string 35 = .ok (.iconst 0, 1) := dk_3 (dk_at dksX4_string_1 12 rfl rfl)
theorem dX4_string_36 : decode cX4_string 36 = .ok (.putfield 22, 3) := dk_181 0 22 (dk_at dksX4_string_1 13 rfl rfl)
theorem dX4_string_39 : decode cX4_string 39 = .ok (.iconst 0, 1) := dk_3 (dk_at dksX4_string_1 16 rfl rfl)
theorem dX4_string_40 : decode cX4_string 40 = .ok (.istore_n 3, 1) := dk_62 (dk_at dksX4_string_1 17 rfl rfl)
theorem dX4_string_41 : decode cX4_string 41 = .ok (.iload_n 3, 1) := dk_29 (dk_at dksX4_string_1 18 rfl rfl)
theorem dX4_string_42 : decode cX4_string 42 = .ok (.iload_n 2, 1) := dk_28 (dk_at dksX4_string_1 19 rfl rfl)
theorem dX4_string_43 : decode cX4_string 43 = .ok (.if_icmp .ge 61, 3) := dk_162 0 61 (dk_at dksX4_string_1 20 rfl rfl)
theorem dX4_string_46 : decode cX4_string 46 = .ok (.aload_n 0, 1) := dk_42 (dk_at dksX4_string_1 23 rfl rfl)
theorem dX4_string_47 : decode cX4_string 47 = .ok (.getfield 22, 3) := dk_180 0 22 (dk_at dksX4_string_2 0 rfl rfl)
theorem dX4_string_50 : decode cX4_string 50 = .ok (.ifCond .eq 54, 3) := dk_153 0 54 (dk_at dksX4_string_2 3 rfl rfl)
theorem dX4_string_53 : decode cX4_string 53 = .ok (.aload_n 0, 1) := dk_42 (dk_at dksX4_string_2 6 rfl rfl)
theorem dX4_string_54 : decode cX4_string 54 = .ok (.invokevirtual 33, 3) := dk_182 0 33 (dk_at dksX4_string_2 7 rfl rfl)
theorem dX4_string_57 : decode cX4_string 57 = .ok (.istore 4, 2) := dk_54 4 (dk_at dksX4_string_2 10 rfl rfl)
theorem dX4_string_59 : decode cX4_string 59 = .ok (.aload_n 0, 1) := dk_42 (dk_at dksX4_string_2 12 rfl rfl)
theorem dX4_string_60 : decode cX4_string 60 = .ok (.aload_n 0, 1) := dk_42 (dk_at dksX4_string_2 13 rfl rfl)
theorem dX4_string_61 : decode cX4_string 61 = .ok (.getfield 22, 3) := dk_180 0 22 (dk_at dksX4_string_2 14 rfl rfl)
theorem dX4_string_64 : decode cX4_string 64 = .ok (.ifCond .eq 19, 3) := dk_153 0 19 (dk_at dksX4_string_2 17 rfl rfl)
theorem dX4_string_67 : decode cX4_string 67 = .ok (.iload 4, 2) := dk_21 4 (dk_at dksX4_string_2 20 rfl rfl)
theorem dX4_string_69 : decode cX4_string 69 = .ok (.bipush 33, 2) := dk_16 33 (dk_at dksX4_string_2 22 rfl rfl)
theorem dX4_string_71 : decode cX4_string 71 = .ok (.bipush 126, 2) := dk_16 126 (dk_at dksX4_string_3 0 rfl rfl)
theorem dX4_string_73 : decode cX4_string 73 = .ok (.invokestatic 41, 3) := dk_184 0 41 (dk_at dksX4_string_3 2 rfl rfl)
theorem dX4_string_76 : decode cX4_string 76 = .ok (.ifCond .ne 7, 3) := dk_154 0 7 (dk_at dksX4_string_3 5 rfl rfl)
theorem dX4_string_79 : decode cX4_string 79 = .ok (.iconst 1, 1) := dk_4 (dk_at dksX4_string_3 8 rfl rfl)
theorem dX4_string_80 : decode cX4_string 80 = .ok (.goto 4, 3) := dk_167 0 4 (dk_at dksX4_string_3 9 rfl rfl)
theorem dX4_string_83 : decode cX4_string 83 = .ok (.iconst 0, 1) := dk_3 (dk_at dksX4_string_3 12 rfl rfl)
theorem dX4_string_84 : decode cX4_string 84 = .ok (.putfield 22, 3) := dk_181 0 22 (dk_at dksX4_string_3 13 rfl rfl)
theorem dX4_string_87 : decode cX4_string 87 = .ok (.aload_n 0, 1) := dk_42 (dk_at dksX4_string_3 16 rfl rfl)
theorem dX4_string_88 : decode cX4_string 88 = .ok (.getfield 18, 3) := dk_180 0 18 (dk_at dksX4_string_3 17 rfl rfl)
theorem dX4_string_91 : decode cX4_string 91 = .ok (.iload 4, 2) := dk_21 4 (dk_at dksX4_string_3 20 rfl rfl)
theorem dX4_string_93 : decode cX4_string 93 = .ok (.i2c, 1) := dk_146 (dk_at dksX4_string_3 22 rfl rfl)
theorem dX4_string_94 : decode cX4_string 94 = .ok (.invokevirtual 45, 3) := dk_182 0 45 (dk_at dksX4_string_4 0 rfl rfl)
theorem dX4_string_97 : decode cX4_string 97 = .ok (.pop, 1) := dk_87 (dk_at dksX4_string_4 3 rfl rfl)
theorem dX4_string_98 : decode cX4_string 98 = .ok (.iinc 3 1, 3) := dk_132 3 1 (dk_at dksX4_string_4 4 rfl rfl)
theorem dX4_string_101 : decode cX4_string 101 = .ok (.goto (-60), 3) := dk_167 255 196 (dk_at dksX4_string_4 7 rfl rfl)
theorem dX4_string_104 : decode cX4_string 104 = .ok (.aload_n 0, 1) := dk_42 (dk_at dksX4_string_4 10 rfl rfl)
theorem dX4_string_105 : decode cX4_string 105 = .ok (.getfield 18, 3) := dk_180 0 18 (dk_at dksX4_string_4 11 rfl rfl)
theorem dX4_string_108 : decode cX4_string 108 = .ok (.invokevirtual 49, 3) := dk_182 0 49 (dk_at dksX4_string_4 14 rfl rfl)
theorem dX4_string_111 : decode cX4_string 111 = .ok (.areturn, 1) := dk_176 (dk_at dksX4_string_4 17 rfl rfl)
theorem q96 : (Jvm.Cond.initialized "PageServer$Reader") ∈ lw_all := lw_g (lw_at lw_m1 12 rfl) rfl
theorem q211 : (Jvm.Cond.selects "PageServer$Reader" ({ cls := "java/lang/Object", name := "getClass", desc := "()Ljava/lang/Class;" } : Jvm.MethodName) ({ cls := "java/lang/Object", name := "getClass", desc := "()Ljava/lang/Class;" } : Jvm.MethodName)) ∈ lw_all := lw_g (lw_at lw_m1 127 rfl) rfl
theorem q258 : (Jvm.Cond.instantiable "PageServer$Reader" (5 : Nat)) ∈ lw_all := lw_g (lw_at lw_m1 174 rfl) rfl
theorem q260 : (Jvm.Cond.instanceMethod ({ cls := "PageServer$Reader", name := "<init>", desc := "()V" } : Jvm.MethodName)) ∈ lw_all := lw_g (lw_at lw_m1 176 rfl) rfl
theorem q261 : (Jvm.Cond.code ({ cls := "PageServer$Reader", name := "<init>", desc := "()V" } : Jvm.MethodName) prog_4_method_1_code (1 : Nat) (Option.none : Option Jvm.ClassFile.FieldType)) ∈ lw_all := lw_g (lw_at lw_m1 177 rfl) rfl
theorem q262 : (Jvm.Cond.methodLink "PageServer$Reader" (3 : Nat) ({ cls := "java/lang/Object", name := "<init>", desc := "()V" } : Jvm.MethodName)) ∈ lw_all := lw_g (lw_at lw_m1 178 rfl) rfl
theorem q263 : (Jvm.Cond.classLink "PageServer$Reader" (15 : Nat) "java/lang/StringBuilder") ∈ lw_all := lw_g (lw_at lw_m1 179 rfl) rfl
theorem q265 : (Jvm.Cond.methodLink "PageServer$Reader" (17 : Nat) ({ cls := "java/lang/StringBuilder", name := "<init>", desc := "()V" } : Jvm.MethodName)) ∈ lw_all := lw_g (lw_at lw_m1 181 rfl) rfl
theorem q295 : (Jvm.Cond.fieldLink "PageServer$Reader" (9 : Nat) "PageServer$Reader" "row" "[B") ∈ lw_all := lw_g (lw_at lw_m1 211 rfl) rfl
theorem q297 : (Jvm.Cond.fieldLink "PageServer$Reader" (18 : Nat) "PageServer$Reader" "string" "Ljava/lang/StringBuilder;") ∈ lw_all := lw_g (lw_at lw_m1 213 rfl) rfl
theorem q298 : (Jvm.Cond.fieldLink "PageServer$Reader" (30 : Nat) "PageServer$Reader" "size" "I") ∈ lw_all := lw_g (lw_at lw_m1 214 rfl) rfl
theorem q300 : (Jvm.Cond.fieldLink "PageServer$Reader" (26 : Nat) "PageServer$Reader" "at" "I") ∈ lw_all := lw_g (lw_at lw_m1 216 rfl) rfl
theorem q301 : (Jvm.Cond.fieldLink "PageServer$Reader" (22 : Nat) "PageServer$Reader" "good" "Z") ∈ lw_all := lw_g (lw_at lw_m1 217 rfl) rfl
theorem q302 : (Jvm.Cond.laysFinal "PageServer$Reader" "PageServer$Reader" "row" "[B") ∈ lw_all := lw_g (lw_at lw_m1 218 rfl) rfl
theorem q303 : (Jvm.Cond.soleField "PageServer$Reader" "row") ∈ lw_all := lw_g (lw_at lw_m1 219 rfl) rfl
theorem q304 : (Jvm.Cond.laysFinal "PageServer$Reader" "PageServer$Reader" "string" "Ljava/lang/StringBuilder;") ∈ lw_all := lw_g (lw_at lw_m1 220 rfl) rfl
theorem q305 : (Jvm.Cond.soleField "PageServer$Reader" "string") ∈ lw_all := lw_g (lw_at lw_m1 221 rfl) rfl
theorem q306 : (Jvm.Cond.lays "PageServer$Reader" "PageServer$Reader" "size" "I") ∈ lw_all := lw_g (lw_at lw_m1 222 rfl) rfl
theorem q307 : (Jvm.Cond.soleField "PageServer$Reader" "size") ∈ lw_all := lw_g (lw_at lw_m1 223 rfl) rfl
theorem q308 : (Jvm.Cond.lays "PageServer$Reader" "PageServer$Reader" "at" "I") ∈ lw_all := lw_g (lw_at lw_m1 224 rfl) rfl
theorem q309 : (Jvm.Cond.soleField "PageServer$Reader" "at") ∈ lw_all := lw_g (lw_at lw_m1 225 rfl) rfl
theorem q310 : (Jvm.Cond.lays "PageServer$Reader" "PageServer$Reader" "good" "Z") ∈ lw_all := lw_g (lw_at lw_m1 226 rfl) rfl
theorem q311 : (Jvm.Cond.soleField "PageServer$Reader" "good") ∈ lw_all := lw_g (lw_at lw_m1 227 rfl) rfl
theorem q312 : (Jvm.Cond.superclass "PageServer$Reader" "java/lang/Object") ∈ lw_all := lw_g (lw_at lw_m1 228 rfl) rfl
theorem q673 : (Jvm.Cond.instanceMethod ({ cls := "PageServer$Reader", name := "read", desc := "(LPageServer$Table;Ljava/util/ArrayList;)Z" } : Jvm.MethodName)) ∈ lw_all := lw_g (lw_at lw_m3 109 rfl) rfl
theorem q674 : (Jvm.Cond.selects "PageServer$Reader" ({ cls := "PageServer$Reader", name := "read", desc := "(LPageServer$Table;Ljava/util/ArrayList;)Z" } : Jvm.MethodName) ({ cls := "PageServer$Reader", name := "read", desc := "(LPageServer$Table;Ljava/util/ArrayList;)Z" } : Jvm.MethodName)) ∈ lw_all := lw_g (lw_at lw_m3 110 rfl) rfl
theorem q675 : (Jvm.Cond.code ({ cls := "PageServer$Reader", name := "read", desc := "(LPageServer$Table;Ljava/util/ArrayList;)Z" } : Jvm.MethodName) prog_4_method_6_code (5 : Nat) (Option.some Jvm.ClassFile.FieldType.boolean)) ∈ lw_all := lw_g (lw_at lw_m3 111 rfl) rfl
theorem q676 : (Jvm.Cond.methodLink "PageServer$Reader" (75 : Nat) ({ cls := "java/util/ArrayList", name := "clear", desc := "()V" } : Jvm.MethodName)) ∈ lw_all := lw_g (lw_at lw_m3 112 rfl) rfl
theorem q677 : (Jvm.Cond.methodLink "PageServer$Reader" (33 : Nat) ({ cls := "PageServer$Reader", name := "next", desc := "()I" } : Jvm.MethodName)) ∈ lw_all := lw_g (lw_at lw_m3 113 rfl) rfl
theorem q678 : (Jvm.Cond.instanceMethod ({ cls := "PageServer$Reader", name := "next", desc := "()I" } : Jvm.MethodName)) ∈ lw_all := lw_g (lw_at lw_m3 114 rfl) rfl
theorem q679 : (Jvm.Cond.selects "PageServer$Reader" ({ cls := "PageServer$Reader", name := "next", desc := "()I" } : Jvm.MethodName) ({ cls := "PageServer$Reader", name := "next", desc := "()I" } : Jvm.MethodName)) ∈ lw_all := lw_g (lw_at lw_m3 115 rfl) rfl
theorem q680 : (Jvm.Cond.code ({ cls := "PageServer$Reader", name := "next", desc := "()I" } : Jvm.MethodName) prog_4_method_2_code (1 : Nat) (Option.some Jvm.ClassFile.FieldType.int)) ∈ lw_all := lw_g (lw_at lw_m3 116 rfl) rfl
theorem q681 : (Jvm.Cond.methodLink "PageServer$Reader" (58 : Nat) ({ cls := "PageServer$Reader", name := "known", desc := "(LPageServer$Table;I)LPageServer$Entry;" } : Jvm.MethodName)) ∈ lw_all := lw_g (lw_at lw_m3 117 rfl) rfl
theorem q682 : (Jvm.Cond.privateMethod ({ cls := "PageServer$Reader", name := "known", desc := "(LPageServer$Table;I)LPageServer$Entry;" } : Jvm.MethodName)) ∈ lw_tbl := lw_at lw_m3 118 rfl
theorem q683 : (Jvm.Cond.instanceMethod ({ cls := "PageServer$Reader", name := "known", desc := "(LPageServer$Table;I)LPageServer$Entry;" } : Jvm.MethodName)) ∈ lw_all := lw_g (lw_at lw_m3 119 rfl) rfl
theorem q684 : (Jvm.Cond.code ({ cls := "PageServer$Reader", name := "known", desc := "(LPageServer$Table;I)LPageServer$Entry;" } : Jvm.MethodName) prog_4_method_4_code (4 : Nat) (Option.some (Jvm.ClassFile.FieldType.object "PageServer$Entry"))) ∈ lw_all := lw_g (lw_at lw_m3 120 rfl) rfl
theorem q685 : (Jvm.Cond.methodLink "PageServer$Reader" (53 : Nat) ({ cls := "PageServer$Table", name := "at", desc := "(I)LPageServer$Entry;" } : Jvm.MethodName)) ∈ lw_all := lw_g (lw_at lw_m3 121 rfl) rfl
theorem q691 : (Jvm.Cond.methodLink "PageServer$Reader" (80 : Nat) ({ cls := "java/util/ArrayList", name := "add", desc := "(Ljava/lang/Object;)Z" } : Jvm.MethodName)) ∈ lw_all := lw_g (lw_at lw_m3 127 rfl) rfl
theorem q692 : (Jvm.Cond.methodLink "PageServer$Reader" (84 : Nat) ({ cls := "PageServer$Reader", name := "literal", desc := "(LPageServer$Table;I)LPageServer$Entry;" } : Jvm.MethodName)) ∈ lw_all := lw_g (lw_at lw_m3 128 rfl) rfl
theorem q693 : (Jvm.Cond.privateMethod ({ cls := "PageServer$Reader", name := "literal", desc := "(LPageServer$Table;I)LPageServer$Entry;" } : Jvm.MethodName)) ∈ lw_tbl := lw_at lw_m3 129 rfl
theorem q694 : (Jvm.Cond.instanceMethod ({ cls := "PageServer$Reader", name := "literal", desc := "(LPageServer$Table;I)LPageServer$Entry;" } : Jvm.MethodName)) ∈ lw_all := lw_g (lw_at lw_m3 130 rfl) rfl
theorem q695 : (Jvm.Cond.code ({ cls := "PageServer$Reader", name := "literal", desc := "(LPageServer$Table;I)LPageServer$Entry;" } : Jvm.MethodName) prog_4_method_5_code (6 : Nat) (Option.some (Jvm.ClassFile.FieldType.object "PageServer$Entry"))) ∈ lw_all := lw_g (lw_at lw_m3 131 rfl) rfl
theorem q696 : (Jvm.Cond.methodLink "PageServer$Reader" (62 : Nat) ({ cls := "PageServer$Reader", name := "string", desc := "(I)Ljava/lang/String;" } : Jvm.MethodName)) ∈ lw_all := lw_g (lw_at lw_m3 132 rfl) rfl
theorem q697 : (Jvm.Cond.instanceMethod ({ cls := "PageServer$Reader", name := "string", desc := "(I)Ljava/lang/String;" } : Jvm.MethodName)) ∈ lw_all := lw_g (lw_at lw_m3 133 rfl) rfl
theorem q698 : (Jvm.Cond.selects "PageServer$Reader" ({ cls := "PageServer$Reader", name := "string", desc := "(I)Ljava/lang/String;" } : Jvm.MethodName) ({ cls := "PageServer$Reader", name := "string", desc := "(I)Ljava/lang/String;" } : Jvm.MethodName)) ∈ lw_all := lw_g (lw_at lw_m3 134 rfl) rfl
theorem q699 : (Jvm.Cond.code ({ cls := "PageServer$Reader", name := "string", desc := "(I)Ljava/lang/String;" } : Jvm.MethodName) prog_4_method_3_code (5 : Nat) (Option.some (Jvm.ClassFile.FieldType.object "java/lang/String"))) ∈ lw_all := lw_g (lw_at lw_m3 135 rfl) rfl
theorem q700 : (Jvm.Cond.methodLink "PageServer$Reader" (37 : Nat) ({ cls := "java/lang/StringBuilder", name := "setLength", desc := "(I)V" } : Jvm.MethodName)) ∈ lw_all := lw_g (lw_at lw_m3 136 rfl) rfl
theorem q928 : (Jvm.Cond.methodLinkNest "PageServer$Reader" (41 : Nat) ({ cls := "PageServer", name := "outside", desc := "(III)Z" } : Jvm.MethodName) "PageServer") ∈ lw_tbl := lw_at lw_m4 124 rfl
theorem q929 : (Jvm.Cond.methodLink "PageServer$Reader" (45 : Nat) ({ cls := "java/lang/StringBuilder", name := "append", desc := "(C)Ljava/lang/StringBuilder;" } : Jvm.MethodName)) ∈ lw_all := lw_g (lw_at lw_m4 125 rfl) rfl
theorem q949 : (Jvm.Cond.methodLink "PageServer$Reader" (49 : Nat) ({ cls := "java/lang/StringBuilder", name := "toString", desc := "()Ljava/lang/String;" } : Jvm.MethodName)) ∈ lw_all := lw_g (lw_at lw_m4 145 rfl) rfl
theorem q950 : (Jvm.Cond.stringRef "PageServer$Reader" (65 : Nat) "") ∈ lw_tbl := lw_at lw_m4 146 rfl
theorem q951 : (Jvm.Cond.methodLink "PageServer$Reader" (67 : Nat) ({ cls := "PageServer$Entry", name := "name", desc := "()Ljava/lang/String;" } : Jvm.MethodName)) ∈ lw_all := lw_g (lw_at lw_m4 147 rfl) rfl
theorem q955 : (Jvm.Cond.classLink "PageServer$Reader" (68 : Nat) "PageServer$Entry") ∈ lw_all := lw_g (lw_at lw_m4 151 rfl) rfl
theorem q956 : (Jvm.Cond.methodLinkNest "PageServer$Reader" (72 : Nat) ({ cls := "PageServer$Entry", name := "<init>", desc := "(Ljava/lang/String;Ljava/lang/String;)V" } : Jvm.MethodName) "PageServer") ∈ lw_tbl := lw_at lw_m4 152 rfl
theorem q957 : (Jvm.Cond.methodLink "PageServer$Reader" (87 : Nat) ({ cls := "PageServer$Table", name := "add", desc := "(LPageServer$Entry;)V" } : Jvm.MethodName)) ∈ lw_all := lw_g (lw_at lw_m4 153 rfl) rfl
theorem q983 : (Jvm.Cond.methodLink "PageServer$Reader" (90 : Nat) ({ cls := "java/util/ArrayList", name := "size", desc := "()I" } : Jvm.MethodName)) ∈ lw_all := lw_g (lw_at lw_m4 179 rfl) rfl
theorem q984 : (Jvm.Cond.methodLink "PageServer$Reader" (92 : Nat) ({ cls := "PageServer$Table", name := "resize", desc := "(I)V" } : Jvm.MethodName)) ∈ lw_all := lw_g (lw_at lw_m4 180 rfl) rfl
theorem q1596 : (Jvm.Cond.castable "PageServer$Reader" "java/lang/Object") ∈ lw_tbl := lw_at lw_m7 72 rfl
theorem in_X4 : ∀ w ∈ wsX40, w ∈ lw_all := lw_in wsX40 [302, 304, 306, 308, 310] (by decide +kernel) (by decide +kernel)
/-! PageServer$Stream -/
set_option maxRecDepth 100000
def RX5 : String := "PageServer$Stream"
def TX5 : u_T := fun k => match k with
  | 0 => ("PageServer$Stream", "number", "I", false)
  | 1 => ("PageServer$Stream", "window", "I", false)
  | 2 => ("PageServer$Stream", "counted", "I", false)
  | 3 => ("PageServer$Stream", "length", "I", false)
  | 4 => ("PageServer$Stream", "left", "I", false)
  | 5 => ("PageServer$Stream", "b", "I", false)
  | 6 => ("PageServer$Stream", "closed", "Z", false)
  | 7 => ("PageServer$Stream", "method", "Ljava/lang/String;", false)
  | _ => ("PageServer$Stream", "path", "Ljava/lang/String;", false)
def tyX5 : Nat → FieldType := fun k => match k with
  | 0 => .int
  | 1 => .int
  | 2 => .int
  | 3 => .int
  | 4 => .int
  | 5 => .int
  | 6 => .boolean
  | 7 => .object "java/lang/String"
  | _ => .object "java/lang/String"
abbrev wsX50 : List Cond := u_ws RX5 TX5 9
theorem nmX5 : ∀ a, a < 9 → ∀ b, b < 9 → a ≠ b → (TX5 a).2.1 ≠ (TX5 b).2.1 := by decide +kernel
theorem tyX5_ok : ∀ k, k < 9 → parseFieldDescriptor (TX5 k).2.2.1 = some (tyX5 k) := by decide +kernel
abbrev cX5_init : ByteArray := prog_5_method_1_code
def yX5_init : MethodName := ⟨RX5, "<init>", "()V"⟩
theorem dX5_init_0 : decode cX5_init 0 = .ok (.aload_n 0, 1) := by decide +kernel
theorem dX5_init_1 : decode cX5_init 1 = .ok (.invokespecial 3, 3) := by decide +kernel
theorem dX5_init_4 : decode cX5_init 4 = .ok (.return_, 1) := by decide +kernel
abbrev cX5_begin : ByteArray := prog_5_method_2_code
def yX5_begin : MethodName := ⟨RX5, "begin", "(II)LPageServer$Stream;"⟩
def dkwX5_begin_1 : List UInt8 := [181, 0, 24, 42, 3, 181, 0, 27, 42, 176]
abbrev dktX5_begin_1 : List UInt8 := dkwX5_begin_1 ++ []
def dkwX5_begin_0 : List UInt8 := [42, 27, 181, 0, 9, 42, 28, 181, 0, 15, 42, 3, 181, 0, 18, 42, 2, 181, 0, 21, 42, 3]
abbrev dktX5_begin_0 : List UInt8 := dkwX5_begin_0 ++ dktX5_begin_1
theorem dksX5_begin_0 : cX5_begin.data.toList.drop 0 = dktX5_begin_0 := by decide +kernel
theorem dksX5_begin_1 : cX5_begin.data.toList.drop 22 = dktX5_begin_1 := dk_seg dksX5_begin_0 22 rfl rfl
theorem dX5_begin_0 : decode cX5_begin 0 = .ok (.aload_n 0, 1) := dk_42 (dk_at dksX5_begin_0 0 rfl rfl)
theorem dX5_begin_1 : decode cX5_begin 1 = .ok (.iload_n 1, 1) := dk_27 (dk_at dksX5_begin_0 1 rfl rfl)
theorem dX5_begin_2 : decode cX5_begin 2 = .ok (.putfield 9, 3) := dk_181 0 9 (dk_at dksX5_begin_0 2 rfl rfl)
theorem dX5_begin_5 : decode cX5_begin 5 = .ok (.aload_n 0, 1) := dk_42 (dk_at dksX5_begin_0 5 rfl rfl)
theorem dX5_begin_6 : decode cX5_begin 6 = .ok (.iload_n 2, 1) := dk_28 (dk_at dksX5_begin_0 6 rfl rfl)
theorem dX5_begin_7 : decode cX5_begin 7 = .ok (.putfield 15, 3) := dk_181 0 15 (dk_at dksX5_begin_0 7 rfl rfl)
theorem dX5_begin_10 : decode cX5_begin 10 = .ok (.aload_n 0, 1) := dk_42 (dk_at dksX5_begin_0 10 rfl rfl)
theorem dX5_begin_11 : decode cX5_begin 11 = .ok (.iconst 0, 1) := dk_3 (dk_at dksX5_begin_0 11 rfl rfl)
theorem dX5_begin_12 : decode cX5_begin 12 = .ok (.putfield 18, 3) := dk_181 0 18 (dk_at dksX5_begin_0 12 rfl rfl)
theorem dX5_begin_15 : decode cX5_begin 15 = .ok (.aload_n 0, 1) := dk_42 (dk_at dksX5_begin_0 15 rfl rfl)
theorem dX5_begin_16 : decode cX5_begin 16 = .ok (.iconst (-1), 1) := dk_2 (dk_at dksX5_begin_0 16 rfl rfl)
theorem dX5_begin_17 : decode cX5_begin 17 = .ok (.putfield 21, 3) := dk_181 0 21 (dk_at dksX5_begin_0 17 rfl rfl)
theorem dX5_begin_20 : decode cX5_begin 20 = .ok (.aload_n 0, 1) := dk_42 (dk_at dksX5_begin_0 20 rfl rfl)
theorem dX5_begin_21 : decode cX5_begin 21 = .ok (.iconst 0, 1) := dk_3 (dk_at dksX5_begin_0 21 rfl rfl)
theorem dX5_begin_22 : decode cX5_begin 22 = .ok (.putfield 24, 3) := dk_181 0 24 (dk_at dksX5_begin_1 0 rfl rfl)
theorem dX5_begin_25 : decode cX5_begin 25 = .ok (.aload_n 0, 1) := dk_42 (dk_at dksX5_begin_1 3 rfl rfl)
theorem dX5_begin_26 : decode cX5_begin 26 = .ok (.iconst 0, 1) := dk_3 (dk_at dksX5_begin_1 4 rfl rfl)
theorem dX5_begin_27 : decode cX5_begin 27 = .ok (.putfield 27, 3) := dk_181 0 27 (dk_at dksX5_begin_1 5 rfl rfl)
theorem dX5_begin_30 : decode cX5_begin 30 = .ok (.aload_n 0, 1) := dk_42 (dk_at dksX5_begin_1 8 rfl rfl)
theorem dX5_begin_31 : decode cX5_begin 31 = .ok (.areturn, 1) := dk_176 (dk_at dksX5_begin_1 9 rfl rfl)
theorem q101 : (Jvm.Cond.initialized "PageServer$Stream") ∈ lw_all := lw_g (lw_at lw_m1 17 rfl) rfl
theorem q212 : (Jvm.Cond.selects "PageServer$Stream" ({ cls := "java/lang/Object", name := "getClass", desc := "()Ljava/lang/Class;" } : Jvm.MethodName) ({ cls := "java/lang/Object", name := "getClass", desc := "()Ljava/lang/Class;" } : Jvm.MethodName)) ∈ lw_all := lw_g (lw_at lw_m1 128 rfl) rfl
theorem q314 : (Jvm.Cond.instantiable "PageServer$Stream" (9 : Nat)) ∈ lw_all := lw_g (lw_at lw_m1 230 rfl) rfl
theorem q316 : (Jvm.Cond.instanceMethod ({ cls := "PageServer$Stream", name := "<init>", desc := "()V" } : Jvm.MethodName)) ∈ lw_all := lw_g (lw_at lw_m1 232 rfl) rfl
theorem q317 : (Jvm.Cond.code ({ cls := "PageServer$Stream", name := "<init>", desc := "()V" } : Jvm.MethodName) prog_5_method_1_code (1 : Nat) (Option.none : Option Jvm.ClassFile.FieldType)) ∈ lw_all := lw_g (lw_at lw_m1 233 rfl) rfl
theorem q318 : (Jvm.Cond.methodLink "PageServer$Stream" (3 : Nat) ({ cls := "java/lang/Object", name := "<init>", desc := "()V" } : Jvm.MethodName)) ∈ lw_all := lw_g (lw_at lw_m1 234 rfl) rfl
theorem q319 : (Jvm.Cond.fieldLink "PageServer$Stream" (9 : Nat) "PageServer$Stream" "number" "I") ∈ lw_all := lw_g (lw_at lw_m1 235 rfl) rfl
theorem q321 : (Jvm.Cond.fieldLink "PageServer$Stream" (15 : Nat) "PageServer$Stream" "window" "I") ∈ lw_all := lw_g (lw_at lw_m1 237 rfl) rfl
theorem q323 : (Jvm.Cond.fieldLink "PageServer$Stream" (18 : Nat) "PageServer$Stream" "counted" "I") ∈ lw_all := lw_g (lw_at lw_m1 239 rfl) rfl
theorem q325 : (Jvm.Cond.fieldLink "PageServer$Stream" (21 : Nat) "PageServer$Stream" "length" "I") ∈ lw_all := lw_g (lw_at lw_m2 1 rfl) rfl
theorem q327 : (Jvm.Cond.fieldLink "PageServer$Stream" (24 : Nat) "PageServer$Stream" "left" "I") ∈ lw_all := lw_g (lw_at lw_m2 3 rfl) rfl
theorem q330 : (Jvm.Cond.fieldLink "PageServer$Stream" (27 : Nat) "PageServer$Stream" "closed" "Z") ∈ lw_all := lw_g (lw_at lw_m2 6 rfl) rfl
theorem q334 : (Jvm.Cond.lays "PageServer$Stream" "PageServer$Stream" "number" "I") ∈ lw_all := lw_g (lw_at lw_m2 10 rfl) rfl
theorem q335 : (Jvm.Cond.soleField "PageServer$Stream" "number") ∈ lw_all := lw_g (lw_at lw_m2 11 rfl) rfl
theorem q336 : (Jvm.Cond.lays "PageServer$Stream" "PageServer$Stream" "window" "I") ∈ lw_all := lw_g (lw_at lw_m2 12 rfl) rfl
theorem q337 : (Jvm.Cond.soleField "PageServer$Stream" "window") ∈ lw_all := lw_g (lw_at lw_m2 13 rfl) rfl
theorem q338 : (Jvm.Cond.lays "PageServer$Stream" "PageServer$Stream" "counted" "I") ∈ lw_all := lw_g (lw_at lw_m2 14 rfl) rfl
theorem q339 : (Jvm.Cond.soleField "PageServer$Stream" "counted") ∈ lw_all := lw_g (lw_at lw_m2 15 rfl) rfl
theorem q340 : (Jvm.Cond.lays "PageServer$Stream" "PageServer$Stream" "length" "I") ∈ lw_all := lw_g (lw_at lw_m2 16 rfl) rfl
theorem q341 : (Jvm.Cond.soleField "PageServer$Stream" "length") ∈ lw_all := lw_g (lw_at lw_m2 17 rfl) rfl
theorem q342 : (Jvm.Cond.lays "PageServer$Stream" "PageServer$Stream" "left" "I") ∈ lw_all := lw_g (lw_at lw_m2 18 rfl) rfl
theorem q343 : (Jvm.Cond.soleField "PageServer$Stream" "left") ∈ lw_all := lw_g (lw_at lw_m2 19 rfl) rfl
theorem q344 : (Jvm.Cond.lays "PageServer$Stream" "PageServer$Stream" "b" "I") ∈ lw_all := lw_g (lw_at lw_m2 20 rfl) rfl
theorem q345 : (Jvm.Cond.soleField "PageServer$Stream" "b") ∈ lw_all := lw_g (lw_at lw_m2 21 rfl) rfl
theorem q346 : (Jvm.Cond.lays "PageServer$Stream" "PageServer$Stream" "closed" "Z") ∈ lw_all := lw_g (lw_at lw_m2 22 rfl) rfl
theorem q347 : (Jvm.Cond.soleField "PageServer$Stream" "closed") ∈ lw_all := lw_g (lw_at lw_m2 23 rfl) rfl
theorem q348 : (Jvm.Cond.lays "PageServer$Stream" "PageServer$Stream" "method" "Ljava/lang/String;") ∈ lw_all := lw_g (lw_at lw_m2 24 rfl) rfl
theorem q349 : (Jvm.Cond.soleField "PageServer$Stream" "method") ∈ lw_all := lw_g (lw_at lw_m2 25 rfl) rfl
theorem q350 : (Jvm.Cond.lays "PageServer$Stream" "PageServer$Stream" "path" "Ljava/lang/String;") ∈ lw_all := lw_g (lw_at lw_m2 26 rfl) rfl
theorem q351 : (Jvm.Cond.soleField "PageServer$Stream" "path") ∈ lw_all := lw_g (lw_at lw_m2 27 rfl) rfl
theorem q352 : (Jvm.Cond.superclass "PageServer$Stream" "java/lang/Object") ∈ lw_all := lw_g (lw_at lw_m2 28 rfl) rfl
theorem q1034 : (Jvm.Cond.instanceMethod ({ cls := "PageServer$Stream", name := "begin", desc := "(II)LPageServer$Stream;" } : Jvm.MethodName)) ∈ lw_all := lw_g (lw_at lw_m4 230 rfl) rfl
theorem q1035 : (Jvm.Cond.selects "PageServer$Stream" ({ cls := "PageServer$Stream", name := "begin", desc := "(II)LPageServer$Stream;" } : Jvm.MethodName) ({ cls := "PageServer$Stream", name := "begin", desc := "(II)LPageServer$Stream;" } : Jvm.MethodName)) ∈ lw_all := lw_g (lw_at lw_m4 231 rfl) rfl
theorem q1036 : (Jvm.Cond.code ({ cls := "PageServer$Stream", name := "begin", desc := "(II)LPageServer$Stream;" } : Jvm.MethodName) prog_5_method_2_code (3 : Nat) (Option.some (Jvm.ClassFile.FieldType.object "PageServer$Stream"))) ∈ lw_all := lw_g (lw_at lw_m4 232 rfl) rfl
theorem q1598 : (Jvm.Cond.castable "PageServer$Stream" "java/lang/Object") ∈ lw_tbl := lw_at lw_m7 74 rfl
theorem in_X5 : ∀ w ∈ wsX50, w ∈ lw_all := lw_in wsX50 [334, 336, 338, 340, 342, 344, 346, 348, 350] (by decide +kernel) (by decide +kernel)
/-! PageServer$Page -/
set_option maxRecDepth 100000
def RX7 : String := "PageServer$Page"
def TX7 : u_T := fun k => match k with
  | 0 => ("PageServer$Page", "path", "Ljava/lang/String;", true)
  | 1 => ("PageServer$Page", "size", "I", true)
  | _ => ("PageServer$Page", "b", "I", true)
def tyX7 : Nat → FieldType := fun k => match k with
  | 0 => .object "java/lang/String"
  | 1 => .int
  | _ => .int
abbrev wsX70 : List Cond := u_ws RX7 TX7 3
theorem nmX7 : ∀ a, a < 3 → ∀ b, b < 3 → a ≠ b → (TX7 a).2.1 ≠ (TX7 b).2.1 := by decide +kernel
theorem tyX7_ok : ∀ k, k < 3 → parseFieldDescriptor (TX7 k).2.2.1 = some (tyX7 k) := by decide +kernel
abbrev cX7_path : ByteArray := prog_3_method_5_code
def yX7_path : MethodName := ⟨RX7, "path", "()Ljava/lang/String;"⟩
theorem dX7_path_0 : decode cX7_path 0 = .ok (.aload_n 0, 1) := by decide +kernel
theorem dX7_path_1 : decode cX7_path 1 = .ok (.getfield 7, 3) := by decide +kernel
theorem dX7_path_4 : decode cX7_path 4 = .ok (.areturn, 1) := by decide +kernel
abbrev cX7_size : ByteArray := prog_3_method_6_code
def yX7_size : MethodName := ⟨RX7, "size", "()I"⟩
theorem dX7_size_0 : decode cX7_size 0 = .ok (.aload_n 0, 1) := by decide +kernel
theorem dX7_size_1 : decode cX7_size 1 = .ok (.getfield 13, 3) := by decide +kernel
theorem dX7_size_4 : decode cX7_size 4 = .ok (.ireturn, 1) := by decide +kernel
abbrev cX7_b : ByteArray := prog_3_method_7_code
def yX7_b : MethodName := ⟨RX7, "b", "()I"⟩
theorem dX7_b_0 : decode cX7_b 0 = .ok (.aload_n 0, 1) := by decide +kernel
theorem dX7_b_1 : decode cX7_b 1 = .ok (.getfield 17, 3) := by decide +kernel
theorem dX7_b_4 : decode cX7_b 4 = .ok (.ireturn, 1) := by decide +kernel
abbrev cX7_init : ByteArray := prog_3_method_1_code
def yX7_init : MethodName := ⟨RX7, "<init>", "(Ljava/lang/String;II)V"⟩
def dkwX7_init_0 : List UInt8 := [42, 183, 0, 1, 42, 43, 181, 0, 7, 42, 28, 181, 0, 13, 42, 29, 181, 0, 17, 177]
abbrev dktX7_init_0 : List UInt8 := dkwX7_init_0 ++ []
theorem dksX7_init_0 : cX7_init.data.toList.drop 0 = dktX7_init_0 := by decide +kernel
theorem dX7_init_0 : decode cX7_init 0 = .ok (.aload_n 0, 1) := dk_42 (dk_at dksX7_init_0 0 rfl rfl)
theorem dX7_init_1 : decode cX7_init 1 = .ok (.invokespecial 1, 3) := dk_183 0 1 (dk_at dksX7_init_0 1 rfl rfl)
theorem dX7_init_4 : decode cX7_init 4 = .ok (.aload_n 0, 1) := dk_42 (dk_at dksX7_init_0 4 rfl rfl)
theorem dX7_init_5 : decode cX7_init 5 = .ok (.aload_n 1, 1) := dk_43 (dk_at dksX7_init_0 5 rfl rfl)
theorem dX7_init_6 : decode cX7_init 6 = .ok (.putfield 7, 3) := dk_181 0 7 (dk_at dksX7_init_0 6 rfl rfl)
theorem dX7_init_9 : decode cX7_init 9 = .ok (.aload_n 0, 1) := dk_42 (dk_at dksX7_init_0 9 rfl rfl)
theorem dX7_init_10 : decode cX7_init 10 = .ok (.iload_n 2, 1) := dk_28 (dk_at dksX7_init_0 10 rfl rfl)
theorem dX7_init_11 : decode cX7_init 11 = .ok (.putfield 13, 3) := dk_181 0 13 (dk_at dksX7_init_0 11 rfl rfl)
theorem dX7_init_14 : decode cX7_init 14 = .ok (.aload_n 0, 1) := dk_42 (dk_at dksX7_init_0 14 rfl rfl)
theorem dX7_init_15 : decode cX7_init 15 = .ok (.iload_n 3, 1) := dk_29 (dk_at dksX7_init_0 15 rfl rfl)
theorem dX7_init_16 : decode cX7_init 16 = .ok (.putfield 17, 3) := dk_181 0 17 (dk_at dksX7_init_0 16 rfl rfl)
theorem dX7_init_19 : decode cX7_init 19 = .ok (.return_, 1) := dk_177 (dk_at dksX7_init_0 19 rfl rfl)
theorem q113 : (Jvm.Cond.initialized "PageServer$Page") ∈ lw_all := lw_g (lw_at lw_m1 29 rfl) rfl
theorem q210 : (Jvm.Cond.selects "PageServer$Page" ({ cls := "java/lang/Object", name := "getClass", desc := "()Ljava/lang/Class;" } : Jvm.MethodName) ({ cls := "java/lang/Object", name := "getClass", desc := "()Ljava/lang/Class;" } : Jvm.MethodName)) ∈ lw_all := lw_g (lw_at lw_m1 126 rfl) rfl
theorem q649 : (Jvm.Cond.instanceMethod ({ cls := "PageServer$Page", name := "path", desc := "()Ljava/lang/String;" } : Jvm.MethodName)) ∈ lw_all := lw_g (lw_at lw_m3 85 rfl) rfl
theorem q650 : (Jvm.Cond.selects "PageServer$Page" ({ cls := "PageServer$Page", name := "path", desc := "()Ljava/lang/String;" } : Jvm.MethodName) ({ cls := "PageServer$Page", name := "path", desc := "()Ljava/lang/String;" } : Jvm.MethodName)) ∈ lw_all := lw_g (lw_at lw_m3 86 rfl) rfl
theorem q651 : (Jvm.Cond.code ({ cls := "PageServer$Page", name := "path", desc := "()Ljava/lang/String;" } : Jvm.MethodName) prog_3_method_5_code (1 : Nat) (Option.some (Jvm.ClassFile.FieldType.object "java/lang/String"))) ∈ lw_all := lw_g (lw_at lw_m3 87 rfl) rfl
theorem q653 : (Jvm.Cond.instanceMethod ({ cls := "PageServer$Page", name := "size", desc := "()I" } : Jvm.MethodName)) ∈ lw_all := lw_g (lw_at lw_m3 89 rfl) rfl
theorem q654 : (Jvm.Cond.selects "PageServer$Page" ({ cls := "PageServer$Page", name := "size", desc := "()I" } : Jvm.MethodName) ({ cls := "PageServer$Page", name := "size", desc := "()I" } : Jvm.MethodName)) ∈ lw_all := lw_g (lw_at lw_m3 90 rfl) rfl
theorem q655 : (Jvm.Cond.code ({ cls := "PageServer$Page", name := "size", desc := "()I" } : Jvm.MethodName) prog_3_method_6_code (1 : Nat) (Option.some Jvm.ClassFile.FieldType.int)) ∈ lw_all := lw_g (lw_at lw_m3 91 rfl) rfl
theorem q657 : (Jvm.Cond.instanceMethod ({ cls := "PageServer$Page", name := "b", desc := "()I" } : Jvm.MethodName)) ∈ lw_all := lw_g (lw_at lw_m3 93 rfl) rfl
theorem q658 : (Jvm.Cond.selects "PageServer$Page" ({ cls := "PageServer$Page", name := "b", desc := "()I" } : Jvm.MethodName) ({ cls := "PageServer$Page", name := "b", desc := "()I" } : Jvm.MethodName)) ∈ lw_all := lw_g (lw_at lw_m3 94 rfl) rfl
theorem q659 : (Jvm.Cond.code ({ cls := "PageServer$Page", name := "b", desc := "()I" } : Jvm.MethodName) prog_3_method_7_code (1 : Nat) (Option.some Jvm.ClassFile.FieldType.int)) ∈ lw_all := lw_g (lw_at lw_m3 95 rfl) rfl
theorem q1101 : (Jvm.Cond.instantiable "PageServer$Page" (3 : Nat)) ∈ lw_all := lw_g (lw_at lw_m5 57 rfl) rfl
theorem q1103 : (Jvm.Cond.instanceMethod ({ cls := "PageServer$Page", name := "<init>", desc := "(Ljava/lang/String;II)V" } : Jvm.MethodName)) ∈ lw_all := lw_g (lw_at lw_m5 59 rfl) rfl
theorem q1104 : (Jvm.Cond.code ({ cls := "PageServer$Page", name := "<init>", desc := "(Ljava/lang/String;II)V" } : Jvm.MethodName) prog_3_method_1_code (4 : Nat) (Option.none : Option Jvm.ClassFile.FieldType)) ∈ lw_all := lw_g (lw_at lw_m5 60 rfl) rfl
theorem q1105 : (Jvm.Cond.methodLink "PageServer$Page" (1 : Nat) ({ cls := "java/lang/Record", name := "<init>", desc := "()V" } : Jvm.MethodName)) ∈ lw_all := lw_g (lw_at lw_m5 61 rfl) rfl
theorem q1106 : (Jvm.Cond.fieldLink "PageServer$Page" (7 : Nat) "PageServer$Page" "path" "Ljava/lang/String;") ∈ lw_all := lw_g (lw_at lw_m5 62 rfl) rfl
theorem q1107 : (Jvm.Cond.fieldLink "PageServer$Page" (13 : Nat) "PageServer$Page" "size" "I") ∈ lw_all := lw_g (lw_at lw_m5 63 rfl) rfl
theorem q1108 : (Jvm.Cond.fieldLink "PageServer$Page" (17 : Nat) "PageServer$Page" "b" "I") ∈ lw_all := lw_g (lw_at lw_m5 64 rfl) rfl
theorem q1109 : (Jvm.Cond.laysFinal "PageServer$Page" "PageServer$Page" "path" "Ljava/lang/String;") ∈ lw_all := lw_g (lw_at lw_m5 65 rfl) rfl
theorem q1110 : (Jvm.Cond.soleField "PageServer$Page" "path") ∈ lw_all := lw_g (lw_at lw_m5 66 rfl) rfl
theorem q1111 : (Jvm.Cond.laysFinal "PageServer$Page" "PageServer$Page" "size" "I") ∈ lw_all := lw_g (lw_at lw_m5 67 rfl) rfl
theorem q1112 : (Jvm.Cond.soleField "PageServer$Page" "size") ∈ lw_all := lw_g (lw_at lw_m5 68 rfl) rfl
theorem q1113 : (Jvm.Cond.laysFinal "PageServer$Page" "PageServer$Page" "b" "I") ∈ lw_all := lw_g (lw_at lw_m5 69 rfl) rfl
theorem q1114 : (Jvm.Cond.soleField "PageServer$Page" "b") ∈ lw_all := lw_g (lw_at lw_m5 70 rfl) rfl
theorem q1115 : (Jvm.Cond.superclass "PageServer$Page" "java/lang/Record") ∈ lw_all := lw_g (lw_at lw_m5 71 rfl) rfl
theorem q1603 : (Jvm.Cond.castable "PageServer$Page" "java/lang/Object") ∈ lw_tbl := lw_at lw_m7 79 rfl
theorem in_X7 : ∀ w ∈ wsX70, w ∈ lw_all := lw_in wsX70 [1109, 1111, 1113] (by decide +kernel) (by decide +kernel)
