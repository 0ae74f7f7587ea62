/-! DeadListPool -/
set_option maxRecDepth 100000
def RX0 : String := "DeadListPool"
def TX0 : u_T := fun k => match k with
  | 0 => ("DeadListPool", "sizes", "[I", true)
  | 1 => ("DeadListPool", "births", "[I", true)
  | 2 => ("DeadListPool", "time", "I", false)
  | 3 => ("DeadListPool", "freedInAll", "I", false)
  | 4 => ("DeadListPool", "things", "[Ljava/lang/Object;", true)
  | 5 => ("DeadListPool", "merged", "[I", true)
  | 6 => ("DeadListPool", "own", "[LDeadListPool$Snapshot;", true)
  | 7 => ("DeadListPool", "sheets", "[LDeadListPool$Sheet;", true)
  | 8 => ("DeadListPool", "kept", "LDeadListPool$Copy;", true)
  | 9 => ("DeadListPool", "thought", "LDeadListPool$Copy;", true)
  | _ => ("DeadListPool", "hasImage", "Z", false)
def tyX0 : Nat → FieldType := fun k => match k with
  | 0 => .array .int
  | 1 => .array .int
  | 2 => .int
  | 3 => .int
  | 4 => .array (.object "java/lang/Object")
  | 5 => .array .int
  | 6 => .array (.object "DeadListPool$Snapshot")
  | 7 => .array (.object "DeadListPool$Sheet")
  | 8 => .object "DeadListPool$Copy"
  | 9 => .object "DeadListPool$Copy"
  | _ => .boolean
abbrev wsX00 : List Cond := u_ws RX0 TX0 11
theorem nmX0 : ∀ a, a < 11 → ∀ b, b < 11 → a ≠ b → (TX0 a).2.1 ≠ (TX0 b).2.1 := by decide +kernel
theorem tyX0_ok : ∀ k, k < 11 → parseFieldDescriptor (TX0 k).2.2.1 = some (tyX0 k) := by decide +kernel
abbrev cX0_init : ByteArray := prog_1_method_1_code
def yX0_init : MethodName := ⟨RX0, "<init>", "()V"⟩
def dkwX0_init_5 : List UInt8 := [183, 0, 42, 181, 0, 47, 177]
abbrev dktX0_init_5 : List UInt8 := dkwX0_init_5 ++ []
def dkwX0_init_4 : List UInt8 := [183, 0, 35, 83, 181, 0, 36, 42, 187, 0, 40, 89, 183, 0, 42, 181, 0, 43, 42, 187, 0, 40, 89]
abbrev dktX0_init_4 : List UInt8 := dkwX0_init_4 ++ dktX0_init_5
def dkwX0_init_3 : List UInt8 := [187, 0, 33, 89, 183, 0, 35, 83, 89, 5, 187, 0, 33, 89, 183, 0, 35, 83, 89, 6, 187, 0, 33, 89]
abbrev dktX0_init_3 : List UInt8 := dkwX0_init_3 ++ dktX0_init_4
def dkwX0_init_2 : List UInt8 := [189, 0, 27, 181, 0, 29, 42, 7, 189, 0, 33, 89, 3, 187, 0, 33, 89, 183, 0, 35, 83, 89, 4]
abbrev dktX0_init_2 : List UInt8 := dkwX0_init_2 ++ dktX0_init_3
def dkwX0_init_1 : List UInt8 := [181, 0, 16, 42, 16, 20, 189, 0, 2, 181, 0, 20, 42, 16, 24, 188, 10, 181, 0, 24, 42, 16, 20]
abbrev dktX0_init_1 : List UInt8 := dkwX0_init_1 ++ dktX0_init_2
def dkwX0_init_0 : List UInt8 := [42, 183, 0, 1, 42, 16, 96, 188, 10, 181, 0, 9, 42, 16, 96, 188, 10, 181, 0, 13, 42, 4]
abbrev dktX0_init_0 : List UInt8 := dkwX0_init_0 ++ dktX0_init_1
theorem dksX0_init_0 : cX0_init.data.toList.drop 0 = dktX0_init_0 := by decide +kernel
theorem dksX0_init_1 : cX0_init.data.toList.drop 22 = dktX0_init_1 := dk_seg dksX0_init_0 22 rfl rfl
theorem dksX0_init_2 : cX0_init.data.toList.drop 45 = dktX0_init_2 := dk_seg dksX0_init_1 23 rfl rfl
theorem dksX0_init_3 : cX0_init.data.toList.drop 68 = dktX0_init_3 := dk_seg dksX0_init_2 23 rfl rfl
theorem dksX0_init_4 : cX0_init.data.toList.drop 92 = dktX0_init_4 := dk_seg dksX0_init_3 24 rfl rfl
theorem dksX0_init_5 : cX0_init.data.toList.drop 115 = dktX0_init_5 := dk_seg dksX0_init_4 23 rfl rfl
theorem dX0_init_0 : decode cX0_init 0 = .ok (.aload_n 0, 1) := dk_42 (dk_at dksX0_init_0 0 rfl rfl)
theorem dX0_init_1 : decode cX0_init 1 = .ok (.invokespecial 1, 3) := dk_183 0 1 (dk_at dksX0_init_0 1 rfl rfl)
theorem dX0_init_4 : decode cX0_init 4 = .ok (.aload_n 0, 1) := dk_42 (dk_at dksX0_init_0 4 rfl rfl)
theorem dX0_init_5 : decode cX0_init 5 = .ok (.bipush 96, 2) := dk_16 96 (dk_at dksX0_init_0 5 rfl rfl)
theorem dX0_init_7 : decode cX0_init 7 = .ok (.newarray .int, 2) := dk_188_10 (dk_at dksX0_init_0 7 rfl rfl)
theorem dX0_init_9 : decode cX0_init 9 = .ok (.putfield 9, 3) := dk_181 0 9 (dk_at dksX0_init_0 9 rfl rfl)
theorem dX0_init_12 : decode cX0_init 12 = .ok (.aload_n 0, 1) := dk_42 (dk_at dksX0_init_0 12 rfl rfl)
theorem dX0_init_13 : decode cX0_init 13 = .ok (.bipush 96, 2) := dk_16 96 (dk_at dksX0_init_0 13 rfl rfl)
theorem dX0_init_15 : decode cX0_init 15 = .ok (.newarray .int, 2) := dk_188_10 (dk_at dksX0_init_0 15 rfl rfl)
theorem dX0_init_17 : decode cX0_init 17 = .ok (.putfield 13, 3) := dk_181 0 13 (dk_at dksX0_init_0 17 rfl rfl)
theorem dX0_init_20 : decode cX0_init 20 = .ok (.aload_n 0, 1) := dk_42 (dk_at dksX0_init_0 20 rfl rfl)
theorem dX0_init_21 : decode cX0_init 21 = .ok (.iconst 1, 1) := dk_4 (dk_at dksX0_init_0 21 rfl rfl)
theorem dX0_init_22 : decode cX0_init 22 = .ok (.putfield 16, 3) := dk_181 0 16 (dk_at dksX0_init_1 0 rfl rfl)
theorem dX0_init_25 : decode cX0_init 25 = .ok (.aload_n 0, 1) := dk_42 (dk_at dksX0_init_1 3 rfl rfl)
theorem dX0_init_26 : decode cX0_init 26 = .ok (.bipush 20, 2) := dk_16 20 (dk_at dksX0_init_1 4 rfl rfl)
theorem dX0_init_28 : decode cX0_init 28 = .ok (.anewarray 2, 3) := dk_189 0 2 (dk_at dksX0_init_1 6 rfl rfl)
theorem dX0_init_31 : decode cX0_init 31 = .ok (.putfield 20, 3) := dk_181 0 20 (dk_at dksX0_init_1 9 rfl rfl)
theorem dX0_init_34 : decode cX0_init 34 = .ok (.aload_n 0, 1) := dk_42 (dk_at dksX0_init_1 12 rfl rfl)
theorem dX0_init_35 : decode cX0_init 35 = .ok (.bipush 24, 2) := dk_16 24 (dk_at dksX0_init_1 13 rfl rfl)
theorem dX0_init_37 : decode cX0_init 37 = .ok (.newarray .int, 2) := dk_188_10 (dk_at dksX0_init_1 15 rfl rfl)
theorem dX0_init_39 : decode cX0_init 39 = .ok (.putfield 24, 3) := dk_181 0 24 (dk_at dksX0_init_1 17 rfl rfl)
theorem dX0_init_42 : decode cX0_init 42 = .ok (.aload_n 0, 1) := dk_42 (dk_at dksX0_init_1 20 rfl rfl)
theorem dX0_init_43 : decode cX0_init 43 = .ok (.bipush 20, 2) := dk_16 20 (dk_at dksX0_init_1 21 rfl rfl)
theorem dX0_init_45 : decode cX0_init 45 = .ok (.anewarray 27, 3) := dk_189 0 27 (dk_at dksX0_init_2 0 rfl rfl)
theorem dX0_init_48 : decode cX0_init 48 = .ok (.putfield 29, 3) := dk_181 0 29 (dk_at dksX0_init_2 3 rfl rfl)
theorem dX0_init_51 : decode cX0_init 51 = .ok (.aload_n 0, 1) := dk_42 (dk_at dksX0_init_2 6 rfl rfl)
theorem dX0_init_52 : decode cX0_init 52 = .ok (.iconst 4, 1) := dk_7 (dk_at dksX0_init_2 7 rfl rfl)
theorem dX0_init_53 : decode cX0_init 53 = .ok (.anewarray 33, 3) := dk_189 0 33 (dk_at dksX0_init_2 8 rfl rfl)
theorem dX0_init_56 : decode cX0_init 56 = .ok (.dup, 1) := dk_89 (dk_at dksX0_init_2 11 rfl rfl)
theorem dX0_init_57 : decode cX0_init 57 = .ok (.iconst 0, 1) := dk_3 (dk_at dksX0_init_2 12 rfl rfl)
theorem dX0_init_58 : decode cX0_init 58 = .ok (.new 33, 3) := dk_187 0 33 (dk_at dksX0_init_2 13 rfl rfl)
theorem dX0_init_61 : decode cX0_init 61 = .ok (.dup, 1) := dk_89 (dk_at dksX0_init_2 16 rfl rfl)
theorem dX0_init_62 : decode cX0_init 62 = .ok (.invokespecial 35, 3) := dk_183 0 35 (dk_at dksX0_init_2 17 rfl rfl)
theorem dX0_init_65 : decode cX0_init 65 = .ok (.aastore, 1) := dk_83 (dk_at dksX0_init_2 20 rfl rfl)
theorem dX0_init_66 : decode cX0_init 66 = .ok (.dup, 1) := dk_89 (dk_at dksX0_init_2 21 rfl rfl)
theorem dX0_init_67 : decode cX0_init 67 = .ok (.iconst 1, 1) := dk_4 (dk_at dksX0_init_2 22 rfl rfl)
theorem dX0_init_68 : decode cX0_init 68 = .ok (.new 33, 3) := dk_187 0 33 (dk_at dksX0_init_3 0 rfl rfl)
theorem dX0_init_71 : decode cX0_init 71 = .ok (.dup, 1) := dk_89 (dk_at dksX0_init_3 3 rfl rfl)
theorem dX0_init_72 : decode cX0_init 72 = .ok (.invokespecial 35, 3) := dk_183 0 35 (dk_at dksX0_init_3 4 rfl rfl)
theorem dX0_init_75 : decode cX0_init 75 = .ok (.aastore, 1) := dk_83 (dk_at dksX0_init_3 7 rfl rfl)
theorem dX0_init_76 : decode cX0_init 76 = .ok (.dup, 1) := dk_89 (dk_at dksX0_init_3 8 rfl rfl)
theorem dX0_init_77 : decode cX0_init 77 = .ok (.iconst 2, 1) := dk_5 (dk_at dksX0_init_3 9 rfl rfl)
theorem dX0_init_78 : decode cX0_init 78 = .ok (.new 33, 3) := dk_187 0 33 (dk_at dksX0_init_3 10 rfl rfl)
theorem dX0_init_81 : decode cX0_init 81 = .ok (.dup, 1) := dk_89 (dk_at dksX0_init_3 13 rfl rfl)
theorem dX0_init_82 : decode cX0_init 82 = .ok (.invokespecial 35, 3) := dk_183 0 35 (dk_at dksX0_init_3 14 rfl rfl)
theorem dX0_init_85 : decode cX0_init 85 = .ok (.aastore, 1) := dk_83 (dk_at dksX0_init_3 17 rfl rfl)
theorem dX0_init_86 : decode cX0_init 86 = .ok (.dup, 1) := dk_89 (dk_at dksX0_init_3 18 rfl rfl)
theorem dX0_init_87 : decode cX0_init 87 = .ok (.iconst 3, 1) := dk_6 (dk_at dksX0_init_3 19 rfl rfl)
theorem dX0_init_88 : decode cX0_init 88 = .ok (.new 33, 3) := dk_187 0 33 (dk_at dksX0_init_3 20 rfl rfl)
theorem dX0_init_91 : decode cX0_init 91 = .ok (.dup, 1) := dk_89 (dk_at dksX0_init_3 23 rfl rfl)
theorem dX0_init_92 : decode cX0_init 92 = .ok (.invokespecial 35, 3) := dk_183 0 35 (dk_at dksX0_init_4 0 rfl rfl)
theorem dX0_init_95 : decode cX0_init 95 = .ok (.aastore, 1) := dk_83 (dk_at dksX0_init_4 3 rfl rfl)
theorem dX0_init_96 : decode cX0_init 96 = .ok (.putfield 36, 3) := dk_181 0 36 (dk_at dksX0_init_4 4 rfl rfl)
theorem dX0_init_99 : decode cX0_init 99 = .ok (.aload_n 0, 1) := dk_42 (dk_at dksX0_init_4 7 rfl rfl)
theorem dX0_init_100 : decode cX0_init 100 = .ok (.new 40, 3) := dk_187 0 40 (dk_at dksX0_init_4 8 rfl rfl)
theorem dX0_init_103 : decode cX0_init 103 = .ok (.dup, 1) := dk_89 (dk_at dksX0_init_4 11 rfl rfl)
theorem dX0_init_104 : decode cX0_init 104 = .ok (.invokespecial 42, 3) := dk_183 0 42 (dk_at dksX0_init_4 12 rfl rfl)
theorem dX0_init_107 : decode cX0_init 107 = .ok (.putfield 43, 3) := dk_181 0 43 (dk_at dksX0_init_4 15 rfl rfl)
theorem dX0_init_110 : decode cX0_init 110 = .ok (.aload_n 0, 1) := dk_42 (dk_at dksX0_init_4 18 rfl rfl)
theorem dX0_init_111 : decode cX0_init 111 = .ok (.new 40, 3) := dk_187 0 40 (dk_at dksX0_init_4 19 rfl rfl)
theorem dX0_init_114 : decode cX0_init 114 = .ok (.dup, 1) := dk_89 (dk_at dksX0_init_4 22 rfl rfl)
theorem dX0_init_115 : decode cX0_init 115 = .ok (.invokespecial 42, 3) := dk_183 0 42 (dk_at dksX0_init_5 0 rfl rfl)
theorem dX0_init_118 : decode cX0_init 118 = .ok (.putfield 47, 3) := dk_181 0 47 (dk_at dksX0_init_5 3 rfl rfl)
theorem dX0_init_121 : decode cX0_init 121 = .ok (.return_, 1) := dk_177 (dk_at dksX0_init_5 6 rfl rfl)
abbrev cX0_files : ByteArray := prog_1_method_18_code
def yX0_files : MethodName := ⟨RX0, "files", "(I)I"⟩
def dkwX0_files_2 : List UInt8 := [167, 0, 15, 187, 0, 111, 89, 42, 180, 0, 16, 27, 183, 0, 113, 182, 0, 115, 172]
abbrev dktX0_files_2 : List UInt8 := dkwX0_files_2 ++ []
def dkwX0_files_1 : List UInt8 := [160, 0, 6, 16, 252, 172, 42, 27, 2, 160, 0, 18, 187, 0, 93, 89, 42, 180, 0, 16, 1, 183, 0, 108]
abbrev dktX0_files_1 : List UInt8 := dkwX0_files_1 ++ dktX0_files_2
def dkwX0_files_0 : List UInt8 := [27, 133, 20, 0, 104, 20, 0, 106, 184, 0, 74, 154, 0, 6, 16, 254, 172, 42, 182, 0, 81, 2]
abbrev dktX0_files_0 : List UInt8 := dkwX0_files_0 ++ dktX0_files_1
theorem dksX0_files_0 : cX0_files.data.toList.drop 0 = dktX0_files_0 := by decide +kernel
theorem dksX0_files_1 : cX0_files.data.toList.drop 22 = dktX0_files_1 := dk_seg dksX0_files_0 22 rfl rfl
theorem dksX0_files_2 : cX0_files.data.toList.drop 46 = dktX0_files_2 := dk_seg dksX0_files_1 24 rfl rfl
theorem dX0_files_0 : decode cX0_files 0 = .ok (.iload_n 1, 1) := dk_27 (dk_at dksX0_files_0 0 rfl rfl)
theorem dX0_files_1 : decode cX0_files 1 = .ok (.i2l, 1) := dk_133 (dk_at dksX0_files_0 1 rfl rfl)
theorem dX0_files_2 : decode cX0_files 2 = .ok (.ldc2_w 104, 3) := dk_20 0 104 (dk_at dksX0_files_0 2 rfl rfl)
theorem dX0_files_5 : decode cX0_files 5 = .ok (.ldc2_w 106, 3) := dk_20 0 106 (dk_at dksX0_files_0 5 rfl rfl)
theorem dX0_files_8 : decode cX0_files 8 = .ok (.invokestatic 74, 3) := dk_184 0 74 (dk_at dksX0_files_0 8 rfl rfl)
theorem dX0_files_11 : decode cX0_files 11 = .ok (.ifCond .ne 6, 3) := dk_154 0 6 (dk_at dksX0_files_0 11 rfl rfl)
theorem dX0_files_14 : decode cX0_files 14 = .ok (.bipush (-2), 2) := dk_16 254 (dk_at dksX0_files_0 14 rfl rfl)
theorem dX0_files_16 : decode cX0_files 16 = .ok (.ireturn, 1) := dk_172 (dk_at dksX0_files_0 16 rfl rfl)
theorem dX0_files_17 : decode cX0_files 17 = .ok (.aload_n 0, 1) := dk_42 (dk_at dksX0_files_0 17 rfl rfl)
theorem dX0_files_18 : decode cX0_files 18 = .ok (.invokevirtual 81, 3) := dk_182 0 81 (dk_at dksX0_files_0 18 rfl rfl)
theorem dX0_files_21 : decode cX0_files 21 = .ok (.iconst (-1), 1) := dk_2 (dk_at dksX0_files_0 21 rfl rfl)
theorem dX0_files_22 : decode cX0_files 22 = .ok (.if_icmp .ne 6, 3) := dk_160 0 6 (dk_at dksX0_files_1 0 rfl rfl)
theorem dX0_files_25 : decode cX0_files 25 = .ok (.bipush (-4), 2) := dk_16 252 (dk_at dksX0_files_1 3 rfl rfl)
theorem dX0_files_27 : decode cX0_files 27 = .ok (.ireturn, 1) := dk_172 (dk_at dksX0_files_1 5 rfl rfl)
theorem dX0_files_28 : decode cX0_files 28 = .ok (.aload_n 0, 1) := dk_42 (dk_at dksX0_files_1 6 rfl rfl)
theorem dX0_files_29 : decode cX0_files 29 = .ok (.iload_n 1, 1) := dk_27 (dk_at dksX0_files_1 7 rfl rfl)
theorem dX0_files_30 : decode cX0_files 30 = .ok (.iconst (-1), 1) := dk_2 (dk_at dksX0_files_1 8 rfl rfl)
theorem dX0_files_31 : decode cX0_files 31 = .ok (.if_icmp .ne 18, 3) := dk_160 0 18 (dk_at dksX0_files_1 9 rfl rfl)
theorem dX0_files_34 : decode cX0_files 34 = .ok (.new 93, 3) := dk_187 0 93 (dk_at dksX0_files_1 12 rfl rfl)
theorem dX0_files_37 : decode cX0_files 37 = .ok (.dup, 1) := dk_89 (dk_at dksX0_files_1 15 rfl rfl)
theorem dX0_files_38 : decode cX0_files 38 = .ok (.aload_n 0, 1) := dk_42 (dk_at dksX0_files_1 16 rfl rfl)
theorem dX0_files_39 : decode cX0_files 39 = .ok (.getfield 16, 3) := dk_180 0 16 (dk_at dksX0_files_1 17 rfl rfl)
theorem dX0_files_42 : decode cX0_files 42 = .ok (.aconst_null, 1) := dk_1 (dk_at dksX0_files_1 20 rfl rfl)
theorem dX0_files_43 : decode cX0_files 43 = .ok (.invokespecial 108, 3) := dk_183 0 108 (dk_at dksX0_files_1 21 rfl rfl)
theorem dX0_files_46 : decode cX0_files 46 = .ok (.goto 15, 3) := dk_167 0 15 (dk_at dksX0_files_2 0 rfl rfl)
theorem dX0_files_49 : decode cX0_files 49 = .ok (.new 111, 3) := dk_187 0 111 (dk_at dksX0_files_2 3 rfl rfl)
theorem dX0_files_52 : decode cX0_files 52 = .ok (.dup, 1) := dk_89 (dk_at dksX0_files_2 6 rfl rfl)
theorem dX0_files_53 : decode cX0_files 53 = .ok (.aload_n 0, 1) := dk_42 (dk_at dksX0_files_2 7 rfl rfl)
theorem dX0_files_54 : decode cX0_files 54 = .ok (.getfield 16, 3) := dk_180 0 16 (dk_at dksX0_files_2 8 rfl rfl)
theorem dX0_files_57 : decode cX0_files 57 = .ok (.iload_n 1, 1) := dk_27 (dk_at dksX0_files_2 11 rfl rfl)
theorem dX0_files_58 : decode cX0_files 58 = .ok (.invokespecial 113, 3) := dk_183 0 113 (dk_at dksX0_files_2 12 rfl rfl)
theorem dX0_files_61 : decode cX0_files 61 = .ok (.invokevirtual 115, 3) := dk_182 0 115 (dk_at dksX0_files_2 15 rfl rfl)
theorem dX0_files_64 : decode cX0_files 64 = .ok (.ireturn, 1) := dk_172 (dk_at dksX0_files_2 18 rfl rfl)
abbrev cX0_in : ByteArray := prog_1_method_2_code
def yX0_in : MethodName := ⟨RX0, "in", "(JJJ)Z"⟩
def dkwX0_in_0 : List UInt8 := [30, 32, 148, 155, 0, 14, 30, 22, 4, 148, 157, 0, 7, 4, 167, 0, 4, 3, 172]
abbrev dktX0_in_0 : List UInt8 := dkwX0_in_0 ++ []
theorem dksX0_in_0 : cX0_in.data.toList.drop 0 = dktX0_in_0 := by decide +kernel
theorem dX0_in_0 : decode cX0_in 0 = .ok (.lload_n 0, 1) := dk_30 (dk_at dksX0_in_0 0 rfl rfl)
theorem dX0_in_1 : decode cX0_in 1 = .ok (.lload_n 2, 1) := dk_32 (dk_at dksX0_in_0 1 rfl rfl)
theorem dX0_in_2 : decode cX0_in 2 = .ok (.lcmp, 1) := dk_148 (dk_at dksX0_in_0 2 rfl rfl)
theorem dX0_in_3 : decode cX0_in 3 = .ok (.ifCond .lt 14, 3) := dk_155 0 14 (dk_at dksX0_in_0 3 rfl rfl)
theorem dX0_in_6 : decode cX0_in 6 = .ok (.lload_n 0, 1) := dk_30 (dk_at dksX0_in_0 6 rfl rfl)
theorem dX0_in_7 : decode cX0_in 7 = .ok (.lload 4, 2) := dk_22 4 (dk_at dksX0_in_0 7 rfl rfl)
theorem dX0_in_9 : decode cX0_in 9 = .ok (.lcmp, 1) := dk_148 (dk_at dksX0_in_0 9 rfl rfl)
theorem dX0_in_10 : decode cX0_in 10 = .ok (.ifCond .gt 7, 3) := dk_157 0 7 (dk_at dksX0_in_0 10 rfl rfl)
theorem dX0_in_13 : decode cX0_in 13 = .ok (.iconst 1, 1) := dk_4 (dk_at dksX0_in_0 13 rfl rfl)
theorem dX0_in_14 : decode cX0_in 14 = .ok (.goto 4, 3) := dk_167 0 4 (dk_at dksX0_in_0 14 rfl rfl)
theorem dX0_in_17 : decode cX0_in 17 = .ok (.iconst 0, 1) := dk_3 (dk_at dksX0_in_0 17 rfl rfl)
theorem dX0_in_18 : decode cX0_in 18 = .ok (.ireturn, 1) := dk_172 (dk_at dksX0_in_0 18 rfl rfl)
abbrev cX0_leastThing : ByteArray := prog_1_method_12_code
def yX0_leastThing : MethodName := ⟨RX0, "leastThing", "()I"⟩
def dkwX0_leastThing_1 : List UInt8 := [167, 255, 236, 2, 172]
abbrev dktX0_leastThing_1 : List UInt8 := dkwX0_leastThing_1 ++ []
def dkwX0_leastThing_0 : List UInt8 := [3, 60, 27, 16, 20, 162, 0, 20, 42, 180, 0, 20, 27, 50, 199, 0, 5, 27, 172, 132, 1, 1]
abbrev dktX0_leastThing_0 : List UInt8 := dkwX0_leastThing_0 ++ dktX0_leastThing_1
theorem dksX0_leastThing_0 : cX0_leastThing.data.toList.drop 0 = dktX0_leastThing_0 := by decide +kernel
theorem dksX0_leastThing_1 : cX0_leastThing.data.toList.drop 22 = dktX0_leastThing_1 := dk_seg dksX0_leastThing_0 22 rfl rfl
theorem dX0_leastThing_0 : decode cX0_leastThing 0 = .ok (.iconst 0, 1) := dk_3 (dk_at dksX0_leastThing_0 0 rfl rfl)
theorem dX0_leastThing_1 : decode cX0_leastThing 1 = .ok (.istore_n 1, 1) := dk_60 (dk_at dksX0_leastThing_0 1 rfl rfl)
theorem dX0_leastThing_2 : decode cX0_leastThing 2 = .ok (.iload_n 1, 1) := dk_27 (dk_at dksX0_leastThing_0 2 rfl rfl)
theorem dX0_leastThing_3 : decode cX0_leastThing 3 = .ok (.bipush 20, 2) := dk_16 20 (dk_at dksX0_leastThing_0 3 rfl rfl)
theorem dX0_leastThing_5 : decode cX0_leastThing 5 = .ok (.if_icmp .ge 20, 3) := dk_162 0 20 (dk_at dksX0_leastThing_0 5 rfl rfl)
theorem dX0_leastThing_8 : decode cX0_leastThing 8 = .ok (.aload_n 0, 1) := dk_42 (dk_at dksX0_leastThing_0 8 rfl rfl)
theorem dX0_leastThing_9 : decode cX0_leastThing 9 = .ok (.getfield 20, 3) := dk_180 0 20 (dk_at dksX0_leastThing_0 9 rfl rfl)
theorem dX0_leastThing_12 : decode cX0_leastThing 12 = .ok (.iload_n 1, 1) := dk_27 (dk_at dksX0_leastThing_0 12 rfl rfl)
theorem dX0_leastThing_13 : decode cX0_leastThing 13 = .ok (.aaload, 1) := dk_50 (dk_at dksX0_leastThing_0 13 rfl rfl)
theorem dX0_leastThing_14 : decode cX0_leastThing 14 = .ok (.ifnonnull 5, 3) := dk_199 0 5 (dk_at dksX0_leastThing_0 14 rfl rfl)
theorem dX0_leastThing_17 : decode cX0_leastThing 17 = .ok (.iload_n 1, 1) := dk_27 (dk_at dksX0_leastThing_0 17 rfl rfl)
theorem dX0_leastThing_18 : decode cX0_leastThing 18 = .ok (.ireturn, 1) := dk_172 (dk_at dksX0_leastThing_0 18 rfl rfl)
theorem dX0_leastThing_19 : decode cX0_leastThing 19 = .ok (.iinc 1 1, 3) := dk_132 1 1 (dk_at dksX0_leastThing_0 19 rfl rfl)
theorem dX0_leastThing_22 : decode cX0_leastThing 22 = .ok (.goto (-20), 3) := dk_167 255 236 (dk_at dksX0_leastThing_1 0 rfl rfl)
theorem dX0_leastThing_25 : decode cX0_leastThing 25 = .ok (.iconst (-1), 1) := dk_2 (dk_at dksX0_leastThing_1 3 rfl rfl)
theorem dX0_leastThing_26 : decode cX0_leastThing 26 = .ok (.ireturn, 1) := dk_172 (dk_at dksX0_leastThing_1 4 rfl rfl)
abbrev cX0_takesPlace : ByteArray := prog_1_method_13_code
def yX0_takesPlace : MethodName := ⟨RX0, "takesPlace", "(LDeadListPool$Holder;)I"⟩
def dkwX0_takesPlace_0 : List UInt8 := [42, 182, 0, 81, 61, 43, 28, 181, 0, 78, 42, 180, 0, 20, 28, 43, 83, 28, 172]
abbrev dktX0_takesPlace_0 : List UInt8 := dkwX0_takesPlace_0 ++ []
theorem dksX0_takesPlace_0 : cX0_takesPlace.data.toList.drop 0 = dktX0_takesPlace_0 := by decide +kernel
theorem dX0_takesPlace_0 : decode cX0_takesPlace 0 = .ok (.aload_n 0, 1) := dk_42 (dk_at dksX0_takesPlace_0 0 rfl rfl)
theorem dX0_takesPlace_1 : decode cX0_takesPlace 1 = .ok (.invokevirtual 81, 3) := dk_182 0 81 (dk_at dksX0_takesPlace_0 1 rfl rfl)
theorem dX0_takesPlace_4 : decode cX0_takesPlace 4 = .ok (.istore_n 2, 1) := dk_61 (dk_at dksX0_takesPlace_0 4 rfl rfl)
theorem dX0_takesPlace_5 : decode cX0_takesPlace 5 = .ok (.aload_n 1, 1) := dk_43 (dk_at dksX0_takesPlace_0 5 rfl rfl)
theorem dX0_takesPlace_6 : decode cX0_takesPlace 6 = .ok (.iload_n 2, 1) := dk_28 (dk_at dksX0_takesPlace_0 6 rfl rfl)
theorem dX0_takesPlace_7 : decode cX0_takesPlace 7 = .ok (.putfield 78, 3) := dk_181 0 78 (dk_at dksX0_takesPlace_0 7 rfl rfl)
theorem dX0_takesPlace_10 : decode cX0_takesPlace 10 = .ok (.aload_n 0, 1) := dk_42 (dk_at dksX0_takesPlace_0 10 rfl rfl)
theorem dX0_takesPlace_11 : decode cX0_takesPlace 11 = .ok (.getfield 20, 3) := dk_180 0 20 (dk_at dksX0_takesPlace_0 11 rfl rfl)
theorem dX0_takesPlace_14 : decode cX0_takesPlace 14 = .ok (.iload_n 2, 1) := dk_28 (dk_at dksX0_takesPlace_0 14 rfl rfl)
theorem dX0_takesPlace_15 : decode cX0_takesPlace 15 = .ok (.aload_n 1, 1) := dk_43 (dk_at dksX0_takesPlace_0 15 rfl rfl)
theorem dX0_takesPlace_16 : decode cX0_takesPlace 16 = .ok (.aastore, 1) := dk_83 (dk_at dksX0_takesPlace_0 16 rfl rfl)
theorem dX0_takesPlace_17 : decode cX0_takesPlace 17 = .ok (.iload_n 2, 1) := dk_28 (dk_at dksX0_takesPlace_0 17 rfl rfl)
theorem dX0_takesPlace_18 : decode cX0_takesPlace 18 = .ok (.ireturn, 1) := dk_172 (dk_at dksX0_takesPlace_0 18 rfl rfl)
abbrev cX0_write : ByteArray := prog_1_method_24_code
def yX0_write : MethodName := ⟨RX0, "write", "(III)I"⟩
def dkwX0_write_2 : List UInt8 := [58, 4, 16, 245, 172, 58, 4, 16, 243, 172]
abbrev dktX0_write_2 : List UInt8 := dkwX0_write_2 ++ []
def dkwX0_write_1 : List UInt8 := [16, 254, 172, 42, 42, 27, 182, 0, 161, 192, 0, 93, 28, 29, 182, 0, 165, 172, 58, 4, 16, 244, 172]
abbrev dktX0_write_1 : List UInt8 := dkwX0_write_1 ++ dktX0_write_2
def dkwX0_write_0 : List UInt8 := [28, 133, 9, 20, 0, 159, 184, 0, 74, 153, 0, 15, 29, 133, 10, 20, 0, 106, 184, 0, 74, 154, 0, 6]
abbrev dktX0_write_0 : List UInt8 := dkwX0_write_0 ++ dktX0_write_1
theorem dksX0_write_0 : cX0_write.data.toList.drop 0 = dktX0_write_0 := by decide +kernel
theorem dksX0_write_1 : cX0_write.data.toList.drop 24 = dktX0_write_1 := dk_seg dksX0_write_0 24 rfl rfl
theorem dksX0_write_2 : cX0_write.data.toList.drop 47 = dktX0_write_2 := dk_seg dksX0_write_1 23 rfl rfl
theorem dX0_write_0 : decode cX0_write 0 = .ok (.iload_n 2, 1) := dk_28 (dk_at dksX0_write_0 0 rfl rfl)
theorem dX0_write_1 : decode cX0_write 1 = .ok (.i2l, 1) := dk_133 (dk_at dksX0_write_0 1 rfl rfl)
theorem dX0_write_2 : decode cX0_write 2 = .ok (.lconst 0, 1) := dk_9 (dk_at dksX0_write_0 2 rfl rfl)
theorem dX0_write_3 : decode cX0_write 3 = .ok (.ldc2_w 159, 3) := dk_20 0 159 (dk_at dksX0_write_0 3 rfl rfl)
theorem dX0_write_6 : decode cX0_write 6 = .ok (.invokestatic 74, 3) := dk_184 0 74 (dk_at dksX0_write_0 6 rfl rfl)
theorem dX0_write_9 : decode cX0_write 9 = .ok (.ifCond .eq 15, 3) := dk_153 0 15 (dk_at dksX0_write_0 9 rfl rfl)
theorem dX0_write_12 : decode cX0_write 12 = .ok (.iload_n 3, 1) := dk_29 (dk_at dksX0_write_0 12 rfl rfl)
theorem dX0_write_13 : decode cX0_write 13 = .ok (.i2l, 1) := dk_133 (dk_at dksX0_write_0 13 rfl rfl)
theorem dX0_write_14 : decode cX0_write 14 = .ok (.lconst 1, 1) := dk_10 (dk_at dksX0_write_0 14 rfl rfl)
theorem dX0_write_15 : decode cX0_write 15 = .ok (.ldc2_w 106, 3) := dk_20 0 106 (dk_at dksX0_write_0 15 rfl rfl)
theorem dX0_write_18 : decode cX0_write 18 = .ok (.invokestatic 74, 3) := dk_184 0 74 (dk_at dksX0_write_0 18 rfl rfl)
theorem dX0_write_21 : decode cX0_write 21 = .ok (.ifCond .ne 6, 3) := dk_154 0 6 (dk_at dksX0_write_0 21 rfl rfl)
theorem dX0_write_24 : decode cX0_write 24 = .ok (.bipush (-2), 2) := dk_16 254 (dk_at dksX0_write_1 0 rfl rfl)
theorem dX0_write_26 : decode cX0_write 26 = .ok (.ireturn, 1) := dk_172 (dk_at dksX0_write_1 2 rfl rfl)
theorem dX0_write_27 : decode cX0_write 27 = .ok (.aload_n 0, 1) := dk_42 (dk_at dksX0_write_1 3 rfl rfl)
theorem dX0_write_28 : decode cX0_write 28 = .ok (.aload_n 0, 1) := dk_42 (dk_at dksX0_write_1 4 rfl rfl)
theorem dX0_write_29 : decode cX0_write 29 = .ok (.iload_n 1, 1) := dk_27 (dk_at dksX0_write_1 5 rfl rfl)
theorem dX0_write_30 : decode cX0_write 30 = .ok (.invokevirtual 161, 3) := dk_182 0 161 (dk_at dksX0_write_1 6 rfl rfl)
theorem dX0_write_33 : decode cX0_write 33 = .ok (.checkcast 93, 3) := dk_192 0 93 (dk_at dksX0_write_1 9 rfl rfl)
theorem dX0_write_36 : decode cX0_write 36 = .ok (.iload_n 2, 1) := dk_28 (dk_at dksX0_write_1 12 rfl rfl)
theorem dX0_write_37 : decode cX0_write 37 = .ok (.iload_n 3, 1) := dk_29 (dk_at dksX0_write_1 13 rfl rfl)
theorem dX0_write_38 : decode cX0_write 38 = .ok (.invokevirtual 165, 3) := dk_182 0 165 (dk_at dksX0_write_1 14 rfl rfl)
theorem dX0_write_41 : decode cX0_write 41 = .ok (.ireturn, 1) := dk_172 (dk_at dksX0_write_1 17 rfl rfl)
theorem dX0_write_42 : decode cX0_write 42 = .ok (.astore 4, 2) := dk_58 4 (dk_at dksX0_write_1 18 rfl rfl)
theorem dX0_write_44 : decode cX0_write 44 = .ok (.bipush (-12), 2) := dk_16 244 (dk_at dksX0_write_1 20 rfl rfl)
theorem dX0_write_46 : decode cX0_write 46 = .ok (.ireturn, 1) := dk_172 (dk_at dksX0_write_1 22 rfl rfl)
theorem dX0_write_47 : decode cX0_write 47 = .ok (.astore 4, 2) := dk_58 4 (dk_at dksX0_write_2 0 rfl rfl)
theorem dX0_write_49 : decode cX0_write 49 = .ok (.bipush (-11), 2) := dk_16 245 (dk_at dksX0_write_2 2 rfl rfl)
theorem dX0_write_51 : decode cX0_write 51 = .ok (.ireturn, 1) := dk_172 (dk_at dksX0_write_2 4 rfl rfl)
theorem dX0_write_52 : decode cX0_write 52 = .ok (.astore 4, 2) := dk_58 4 (dk_at dksX0_write_2 5 rfl rfl)
theorem dX0_write_54 : decode cX0_write 54 = .ok (.bipush (-13), 2) := dk_16 243 (dk_at dksX0_write_2 7 rfl rfl)
theorem dX0_write_56 : decode cX0_write 56 = .ok (.ireturn, 1) := dk_172 (dk_at dksX0_write_2 9 rfl rfl)
abbrev cX0_thingAt : ByteArray := prog_1_method_6_code
def yX0_thingAt : MethodName := ⟨RX0, "thingAt", "(I)Ljava/lang/Object;"⟩
def dkwX0_thingAt_0 : List UInt8 := [27, 16, 20, 184, 0, 56, 42, 180, 0, 20, 27, 50, 176]
abbrev dktX0_thingAt_0 : List UInt8 := dkwX0_thingAt_0 ++ []
theorem dksX0_thingAt_0 : cX0_thingAt.data.toList.drop 0 = dktX0_thingAt_0 := by decide +kernel
theorem dX0_thingAt_0 : decode cX0_thingAt 0 = .ok (.iload_n 1, 1) := dk_27 (dk_at dksX0_thingAt_0 0 rfl rfl)
theorem dX0_thingAt_1 : decode cX0_thingAt 1 = .ok (.bipush 20, 2) := dk_16 20 (dk_at dksX0_thingAt_0 1 rfl rfl)
theorem dX0_thingAt_3 : decode cX0_thingAt 3 = .ok (.invokestatic 56, 3) := dk_184 0 56 (dk_at dksX0_thingAt_0 3 rfl rfl)
theorem dX0_thingAt_6 : decode cX0_thingAt 6 = .ok (.aload_n 0, 1) := dk_42 (dk_at dksX0_thingAt_0 6 rfl rfl)
theorem dX0_thingAt_7 : decode cX0_thingAt 7 = .ok (.getfield 20, 3) := dk_180 0 20 (dk_at dksX0_thingAt_0 7 rfl rfl)
theorem dX0_thingAt_10 : decode cX0_thingAt 10 = .ok (.iload_n 1, 1) := dk_27 (dk_at dksX0_thingAt_0 10 rfl rfl)
theorem dX0_thingAt_11 : decode cX0_thingAt 11 = .ok (.aaload, 1) := dk_50 (dk_at dksX0_thingAt_0 11 rfl rfl)
theorem dX0_thingAt_12 : decode cX0_thingAt 12 = .ok (.areturn, 1) := dk_176 (dk_at dksX0_thingAt_0 12 rfl rfl)
abbrev cX0_asksPlace : ByteArray := prog_1_method_5_code
def yX0_asksPlace : MethodName := ⟨RX0, "asksPlace", "(II)V"⟩
def dkwX0_asksPlace_0 : List UInt8 := [26, 155, 0, 8, 26, 27, 161, 0, 11, 187, 0, 53, 89, 183, 0, 55, 191, 177]
abbrev dktX0_asksPlace_0 : List UInt8 := dkwX0_asksPlace_0 ++ []
theorem dksX0_asksPlace_0 : cX0_asksPlace.data.toList.drop 0 = dktX0_asksPlace_0 := by decide +kernel
theorem dX0_asksPlace_0 : decode cX0_asksPlace 0 = .ok (.iload_n 0, 1) := dk_26 (dk_at dksX0_asksPlace_0 0 rfl rfl)
theorem dX0_asksPlace_1 : decode cX0_asksPlace 1 = .ok (.ifCond .lt 8, 3) := dk_155 0 8 (dk_at dksX0_asksPlace_0 1 rfl rfl)
theorem dX0_asksPlace_4 : decode cX0_asksPlace 4 = .ok (.iload_n 0, 1) := dk_26 (dk_at dksX0_asksPlace_0 4 rfl rfl)
theorem dX0_asksPlace_5 : decode cX0_asksPlace 5 = .ok (.iload_n 1, 1) := dk_27 (dk_at dksX0_asksPlace_0 5 rfl rfl)
theorem dX0_asksPlace_6 : decode cX0_asksPlace 6 = .ok (.if_icmp .lt 11, 3) := dk_161 0 11 (dk_at dksX0_asksPlace_0 6 rfl rfl)
theorem dX0_asksPlace_9 : decode cX0_asksPlace 9 = .ok (.new 53, 3) := dk_187 0 53 (dk_at dksX0_asksPlace_0 9 rfl rfl)
theorem dX0_asksPlace_12 : decode cX0_asksPlace 12 = .ok (.dup, 1) := dk_89 (dk_at dksX0_asksPlace_0 12 rfl rfl)
theorem dX0_asksPlace_13 : decode cX0_asksPlace 13 = .ok (.invokespecial 55, 3) := dk_183 0 55 (dk_at dksX0_asksPlace_0 13 rfl rfl)
theorem dX0_asksPlace_16 : decode cX0_asksPlace 16 = .ok (.athrow, 1) := dk_191 (dk_at dksX0_asksPlace_0 16 rfl rfl)
theorem dX0_asksPlace_17 : decode cX0_asksPlace 17 = .ok (.return_, 1) := dk_177 (dk_at dksX0_asksPlace_0 17 rfl rfl)
abbrev cX0_writes : ByteArray := prog_1_method_23_code
def yX0_writes : MethodName := ⟨RX0, "writes", "(LDeadListPool$Folder;II)I"⟩
def dkwX0_writes_4 : List UInt8 := [21, 4, 79, 21, 4, 172]
abbrev dktX0_writes_4 : List UInt8 := dkwX0_writes_4 ++ []
def dkwX0_writes_3 : List UInt8 := [180, 0, 9, 21, 4, 29, 79, 42, 180, 0, 13, 21, 4, 42, 180, 0, 16, 79, 43, 180, 0, 132, 28]
abbrev dktX0_writes_3 : List UInt8 := dkwX0_writes_3 ++ dktX0_writes_4
def dkwX0_writes_2 : List UInt8 := [159, 0, 12, 43, 22, 5, 182, 0, 151, 154, 0, 6, 16, 252, 172, 42, 43, 28, 182, 0, 155, 42]
abbrev dktX0_writes_2 : List UInt8 := dkwX0_writes_2 ++ dktX0_writes_3
def dkwX0_writes_1 : List UInt8 := [3, 167, 0, 14, 42, 180, 0, 9, 43, 180, 0, 132, 28, 46, 46, 133, 101, 55, 5, 21, 4, 2]
abbrev dktX0_writes_1 : List UInt8 := dkwX0_writes_1 ++ dktX0_writes_2
def dkwX0_writes_0 : List UInt8 := [42, 182, 0, 144, 54, 4, 42, 43, 182, 0, 147, 29, 133, 97, 43, 180, 0, 132, 28, 46, 2, 160, 0, 7]
abbrev dktX0_writes_0 : List UInt8 := dkwX0_writes_0 ++ dktX0_writes_1
theorem dksX0_writes_0 : cX0_writes.data.toList.drop 0 = dktX0_writes_0 := by decide +kernel
theorem dksX0_writes_1 : cX0_writes.data.toList.drop 24 = dktX0_writes_1 := dk_seg dksX0_writes_0 24 rfl rfl
theorem dksX0_writes_2 : cX0_writes.data.toList.drop 46 = dktX0_writes_2 := dk_seg dksX0_writes_1 22 rfl rfl
theorem dksX0_writes_3 : cX0_writes.data.toList.drop 68 = dktX0_writes_3 := dk_seg dksX0_writes_2 22 rfl rfl
theorem dksX0_writes_4 : cX0_writes.data.toList.drop 91 = dktX0_writes_4 := dk_seg dksX0_writes_3 23 rfl rfl
theorem dX0_writes_0 : decode cX0_writes 0 = .ok (.aload_n 0, 1) := dk_42 (dk_at dksX0_writes_0 0 rfl rfl)
theorem dX0_writes_1 : decode cX0_writes 1 = .ok (.invokevirtual 144, 3) := dk_182 0 144 (dk_at dksX0_writes_0 1 rfl rfl)
theorem dX0_writes_4 : decode cX0_writes 4 = .ok (.istore 4, 2) := dk_54 4 (dk_at dksX0_writes_0 4 rfl rfl)
theorem dX0_writes_6 : decode cX0_writes 6 = .ok (.aload_n 0, 1) := dk_42 (dk_at dksX0_writes_0 6 rfl rfl)
theorem dX0_writes_7 : decode cX0_writes 7 = .ok (.aload_n 1, 1) := dk_43 (dk_at dksX0_writes_0 7 rfl rfl)
theorem dX0_writes_8 : decode cX0_writes 8 = .ok (.invokevirtual 147, 3) := dk_182 0 147 (dk_at dksX0_writes_0 8 rfl rfl)
theorem dX0_writes_11 : decode cX0_writes 11 = .ok (.iload_n 3, 1) := dk_29 (dk_at dksX0_writes_0 11 rfl rfl)
theorem dX0_writes_12 : decode cX0_writes 12 = .ok (.i2l, 1) := dk_133 (dk_at dksX0_writes_0 12 rfl rfl)
theorem dX0_writes_13 : decode cX0_writes 13 = .ok (.ladd, 1) := dk_97 (dk_at dksX0_writes_0 13 rfl rfl)
theorem dX0_writes_14 : decode cX0_writes 14 = .ok (.aload_n 1, 1) := dk_43 (dk_at dksX0_writes_0 14 rfl rfl)
theorem dX0_writes_15 : decode cX0_writes 15 = .ok (.getfield 132, 3) := dk_180 0 132 (dk_at dksX0_writes_0 15 rfl rfl)
theorem dX0_writes_18 : decode cX0_writes 18 = .ok (.iload_n 2, 1) := dk_28 (dk_at dksX0_writes_0 18 rfl rfl)
theorem dX0_writes_19 : decode cX0_writes 19 = .ok (.iaload, 1) := dk_46 (dk_at dksX0_writes_0 19 rfl rfl)
theorem dX0_writes_20 : decode cX0_writes 20 = .ok (.iconst (-1), 1) := dk_2 (dk_at dksX0_writes_0 20 rfl rfl)
theorem dX0_writes_21 : decode cX0_writes 21 = .ok (.if_icmp .ne 7, 3) := dk_160 0 7 (dk_at dksX0_writes_0 21 rfl rfl)
theorem dX0_writes_24 : decode cX0_writes 24 = .ok (.iconst 0, 1) := dk_3 (dk_at dksX0_writes_1 0 rfl rfl)
theorem dX0_writes_25 : decode cX0_writes 25 = .ok (.goto 14, 3) := dk_167 0 14 (dk_at dksX0_writes_1 1 rfl rfl)
theorem dX0_writes_28 : decode cX0_writes 28 = .ok (.aload_n 0, 1) := dk_42 (dk_at dksX0_writes_1 4 rfl rfl)
theorem dX0_writes_29 : decode cX0_writes 29 = .ok (.getfield 9, 3) := dk_180 0 9 (dk_at dksX0_writes_1 5 rfl rfl)
theorem dX0_writes_32 : decode cX0_writes 32 = .ok (.aload_n 1, 1) := dk_43 (dk_at dksX0_writes_1 8 rfl rfl)
theorem dX0_writes_33 : decode cX0_writes 33 = .ok (.getfield 132, 3) := dk_180 0 132 (dk_at dksX0_writes_1 9 rfl rfl)
theorem dX0_writes_36 : decode cX0_writes 36 = .ok (.iload_n 2, 1) := dk_28 (dk_at dksX0_writes_1 12 rfl rfl)
theorem dX0_writes_37 : decode cX0_writes 37 = .ok (.iaload, 1) := dk_46 (dk_at dksX0_writes_1 13 rfl rfl)
theorem dX0_writes_38 : decode cX0_writes 38 = .ok (.iaload, 1) := dk_46 (dk_at dksX0_writes_1 14 rfl rfl)
theorem dX0_writes_39 : decode cX0_writes 39 = .ok (.i2l, 1) := dk_133 (dk_at dksX0_writes_1 15 rfl rfl)
theorem dX0_writes_40 : decode cX0_writes 40 = .ok (.lsub, 1) := dk_101 (dk_at dksX0_writes_1 16 rfl rfl)
theorem dX0_writes_41 : decode cX0_writes 41 = .ok (.lstore 5, 2) := dk_55 5 (dk_at dksX0_writes_1 17 rfl rfl)
theorem dX0_writes_43 : decode cX0_writes 43 = .ok (.iload 4, 2) := dk_21 4 (dk_at dksX0_writes_1 19 rfl rfl)
theorem dX0_writes_45 : decode cX0_writes 45 = .ok (.iconst (-1), 1) := dk_2 (dk_at dksX0_writes_1 21 rfl rfl)
theorem dX0_writes_46 : decode cX0_writes 46 = .ok (.if_icmp .eq 12, 3) := dk_159 0 12 (dk_at dksX0_writes_2 0 rfl rfl)
theorem dX0_writes_49 : decode cX0_writes 49 = .ok (.aload_n 1, 1) := dk_43 (dk_at dksX0_writes_2 3 rfl rfl)
theorem dX0_writes_50 : decode cX0_writes 50 = .ok (.lload 5, 2) := dk_22 5 (dk_at dksX0_writes_2 4 rfl rfl)
theorem dX0_writes_52 : decode cX0_writes 52 = .ok (.invokevirtual 151, 3) := dk_182 0 151 (dk_at dksX0_writes_2 6 rfl rfl)
theorem dX0_writes_55 : decode cX0_writes 55 = .ok (.ifCond .ne 6, 3) := dk_154 0 6 (dk_at dksX0_writes_2 9 rfl rfl)
theorem dX0_writes_58 : decode cX0_writes 58 = .ok (.bipush (-4), 2) := dk_16 252 (dk_at dksX0_writes_2 12 rfl rfl)
theorem dX0_writes_60 : decode cX0_writes 60 = .ok (.ireturn, 1) := dk_172 (dk_at dksX0_writes_2 14 rfl rfl)
theorem dX0_writes_61 : decode cX0_writes 61 = .ok (.aload_n 0, 1) := dk_42 (dk_at dksX0_writes_2 15 rfl rfl)
theorem dX0_writes_62 : decode cX0_writes 62 = .ok (.aload_n 1, 1) := dk_43 (dk_at dksX0_writes_2 16 rfl rfl)
theorem dX0_writes_63 : decode cX0_writes 63 = .ok (.iload_n 2, 1) := dk_28 (dk_at dksX0_writes_2 17 rfl rfl)
theorem dX0_writes_64 : decode cX0_writes 64 = .ok (.invokevirtual 155, 3) := dk_182 0 155 (dk_at dksX0_writes_2 18 rfl rfl)
theorem dX0_writes_67 : decode cX0_writes 67 = .ok (.aload_n 0, 1) := dk_42 (dk_at dksX0_writes_2 21 rfl rfl)
theorem dX0_writes_68 : decode cX0_writes 68 = .ok (.getfield 9, 3) := dk_180 0 9 (dk_at dksX0_writes_3 0 rfl rfl)
theorem dX0_writes_71 : decode cX0_writes 71 = .ok (.iload 4, 2) := dk_21 4 (dk_at dksX0_writes_3 3 rfl rfl)
theorem dX0_writes_73 : decode cX0_writes 73 = .ok (.iload_n 3, 1) := dk_29 (dk_at dksX0_writes_3 5 rfl rfl)
theorem dX0_writes_74 : decode cX0_writes 74 = .ok (.iastore, 1) := dk_79 (dk_at dksX0_writes_3 6 rfl rfl)
theorem dX0_writes_75 : decode cX0_writes 75 = .ok (.aload_n 0, 1) := dk_42 (dk_at dksX0_writes_3 7 rfl rfl)
theorem dX0_writes_76 : decode cX0_writes 76 = .ok (.getfield 13, 3) := dk_180 0 13 (dk_at dksX0_writes_3 8 rfl rfl)
theorem dX0_writes_79 : decode cX0_writes 79 = .ok (.iload 4, 2) := dk_21 4 (dk_at dksX0_writes_3 11 rfl rfl)
theorem dX0_writes_81 : decode cX0_writes 81 = .ok (.aload_n 0, 1) := dk_42 (dk_at dksX0_writes_3 13 rfl rfl)
theorem dX0_writes_82 : decode cX0_writes 82 = .ok (.getfield 16, 3) := dk_180 0 16 (dk_at dksX0_writes_3 14 rfl rfl)
theorem dX0_writes_85 : decode cX0_writes 85 = .ok (.iastore, 1) := dk_79 (dk_at dksX0_writes_3 17 rfl rfl)
theorem dX0_writes_86 : decode cX0_writes 86 = .ok (.aload_n 1, 1) := dk_43 (dk_at dksX0_writes_3 18 rfl rfl)
theorem dX0_writes_87 : decode cX0_writes 87 = .ok (.getfield 132, 3) := dk_180 0 132 (dk_at dksX0_writes_3 19 rfl rfl)
theorem dX0_writes_90 : decode cX0_writes 90 = .ok (.iload_n 2, 1) := dk_28 (dk_at dksX0_writes_3 22 rfl rfl)
theorem dX0_writes_91 : decode cX0_writes 91 = .ok (.iload 4, 2) := dk_21 4 (dk_at dksX0_writes_4 0 rfl rfl)
theorem dX0_writes_93 : decode cX0_writes 93 = .ok (.iastore, 1) := dk_79 (dk_at dksX0_writes_4 2 rfl rfl)
theorem dX0_writes_94 : decode cX0_writes 94 = .ok (.iload 4, 2) := dk_21 4 (dk_at dksX0_writes_4 3 rfl rfl)
theorem dX0_writes_96 : decode cX0_writes 96 = .ok (.ireturn, 1) := dk_172 (dk_at dksX0_writes_4 5 rfl rfl)
abbrev cX0_leastBlock : ByteArray := prog_1_method_3_code
def yX0_leastBlock : MethodName := ⟨RX0, "leastBlock", "()I"⟩
def dkwX0_leastBlock_1 : List UInt8 := [167, 255, 236, 2, 172]
abbrev dktX0_leastBlock_1 : List UInt8 := dkwX0_leastBlock_1 ++ []
def dkwX0_leastBlock_0 : List UInt8 := [3, 60, 27, 16, 96, 162, 0, 20, 42, 180, 0, 9, 27, 46, 154, 0, 5, 27, 172, 132, 1, 1]
abbrev dktX0_leastBlock_0 : List UInt8 := dkwX0_leastBlock_0 ++ dktX0_leastBlock_1
theorem dksX0_leastBlock_0 : cX0_leastBlock.data.toList.drop 0 = dktX0_leastBlock_0 := by decide +kernel
theorem dksX0_leastBlock_1 : cX0_leastBlock.data.toList.drop 22 = dktX0_leastBlock_1 := dk_seg dksX0_leastBlock_0 22 rfl rfl
theorem dX0_leastBlock_0 : decode cX0_leastBlock 0 = .ok (.iconst 0, 1) := dk_3 (dk_at dksX0_leastBlock_0 0 rfl rfl)
theorem dX0_leastBlock_1 : decode cX0_leastBlock 1 = .ok (.istore_n 1, 1) := dk_60 (dk_at dksX0_leastBlock_0 1 rfl rfl)
theorem dX0_leastBlock_2 : decode cX0_leastBlock 2 = .ok (.iload_n 1, 1) := dk_27 (dk_at dksX0_leastBlock_0 2 rfl rfl)
theorem dX0_leastBlock_3 : decode cX0_leastBlock 3 = .ok (.bipush 96, 2) := dk_16 96 (dk_at dksX0_leastBlock_0 3 rfl rfl)
theorem dX0_leastBlock_5 : decode cX0_leastBlock 5 = .ok (.if_icmp .ge 20, 3) := dk_162 0 20 (dk_at dksX0_leastBlock_0 5 rfl rfl)
theorem dX0_leastBlock_8 : decode cX0_leastBlock 8 = .ok (.aload_n 0, 1) := dk_42 (dk_at dksX0_leastBlock_0 8 rfl rfl)
theorem dX0_leastBlock_9 : decode cX0_leastBlock 9 = .ok (.getfield 9, 3) := dk_180 0 9 (dk_at dksX0_leastBlock_0 9 rfl rfl)
theorem dX0_leastBlock_12 : decode cX0_leastBlock 12 = .ok (.iload_n 1, 1) := dk_27 (dk_at dksX0_leastBlock_0 12 rfl rfl)
theorem dX0_leastBlock_13 : decode cX0_leastBlock 13 = .ok (.iaload, 1) := dk_46 (dk_at dksX0_leastBlock_0 13 rfl rfl)
theorem dX0_leastBlock_14 : decode cX0_leastBlock 14 = .ok (.ifCond .ne 5, 3) := dk_154 0 5 (dk_at dksX0_leastBlock_0 14 rfl rfl)
theorem dX0_leastBlock_17 : decode cX0_leastBlock 17 = .ok (.iload_n 1, 1) := dk_27 (dk_at dksX0_leastBlock_0 17 rfl rfl)
theorem dX0_leastBlock_18 : decode cX0_leastBlock 18 = .ok (.ireturn, 1) := dk_172 (dk_at dksX0_leastBlock_0 18 rfl rfl)
theorem dX0_leastBlock_19 : decode cX0_leastBlock 19 = .ok (.iinc 1 1, 3) := dk_132 1 1 (dk_at dksX0_leastBlock_0 19 rfl rfl)
theorem dX0_leastBlock_22 : decode cX0_leastBlock 22 = .ok (.goto (-20), 3) := dk_167 255 236 (dk_at dksX0_leastBlock_1 0 rfl rfl)
theorem dX0_leastBlock_25 : decode cX0_leastBlock 25 = .ok (.iconst (-1), 1) := dk_2 (dk_at dksX0_leastBlock_1 3 rfl rfl)
theorem dX0_leastBlock_26 : decode cX0_leastBlock 26 = .ok (.ireturn, 1) := dk_172 (dk_at dksX0_leastBlock_1 4 rfl rfl)
abbrev cX0_spaceOf : ByteArray := prog_1_method_19_code
def yX0_spaceOf : MethodName := ⟨RX0, "spaceOf", "(LDeadListPool$Holder;)J"⟩
def dkwX0_spaceOf_2 : List UInt8 := [167, 255, 215, 32, 173]
abbrev dktX0_spaceOf_2 : List UInt8 := dkwX0_spaceOf_2 ++ []
def dkwX0_spaceOf_1 : List UInt8 := [9, 167, 0, 16, 42, 180, 0, 9, 43, 180, 0, 119, 21, 4, 46, 46, 133, 97, 65, 132, 4, 1]
abbrev dktX0_spaceOf_1 : List UInt8 := dkwX0_spaceOf_1 ++ dktX0_spaceOf_2
def dkwX0_spaceOf_0 : List UInt8 := [9, 65, 3, 54, 4, 21, 4, 16, 12, 162, 0, 40, 32, 43, 180, 0, 119, 21, 4, 46, 2, 160, 0, 7]
abbrev dktX0_spaceOf_0 : List UInt8 := dkwX0_spaceOf_0 ++ dktX0_spaceOf_1
theorem dksX0_spaceOf_0 : cX0_spaceOf.data.toList.drop 0 = dktX0_spaceOf_0 := by decide +kernel
theorem dksX0_spaceOf_1 : cX0_spaceOf.data.toList.drop 24 = dktX0_spaceOf_1 := dk_seg dksX0_spaceOf_0 24 rfl rfl
theorem dksX0_spaceOf_2 : cX0_spaceOf.data.toList.drop 46 = dktX0_spaceOf_2 := dk_seg dksX0_spaceOf_1 22 rfl rfl
theorem dX0_spaceOf_0 : decode cX0_spaceOf 0 = .ok (.lconst 0, 1) := dk_9 (dk_at dksX0_spaceOf_0 0 rfl rfl)
theorem dX0_spaceOf_1 : decode cX0_spaceOf 1 = .ok (.lstore_n 2, 1) := dk_65 (dk_at dksX0_spaceOf_0 1 rfl rfl)
theorem dX0_spaceOf_2 : decode cX0_spaceOf 2 = .ok (.iconst 0, 1) := dk_3 (dk_at dksX0_spaceOf_0 2 rfl rfl)
theorem dX0_spaceOf_3 : decode cX0_spaceOf 3 = .ok (.istore 4, 2) := dk_54 4 (dk_at dksX0_spaceOf_0 3 rfl rfl)
theorem dX0_spaceOf_5 : decode cX0_spaceOf 5 = .ok (.iload 4, 2) := dk_21 4 (dk_at dksX0_spaceOf_0 5 rfl rfl)
theorem dX0_spaceOf_7 : decode cX0_spaceOf 7 = .ok (.bipush 12, 2) := dk_16 12 (dk_at dksX0_spaceOf_0 7 rfl rfl)
theorem dX0_spaceOf_9 : decode cX0_spaceOf 9 = .ok (.if_icmp .ge 40, 3) := dk_162 0 40 (dk_at dksX0_spaceOf_0 9 rfl rfl)
theorem dX0_spaceOf_12 : decode cX0_spaceOf 12 = .ok (.lload_n 2, 1) := dk_32 (dk_at dksX0_spaceOf_0 12 rfl rfl)
theorem dX0_spaceOf_13 : decode cX0_spaceOf 13 = .ok (.aload_n 1, 1) := dk_43 (dk_at dksX0_spaceOf_0 13 rfl rfl)
theorem dX0_spaceOf_14 : decode cX0_spaceOf 14 = .ok (.getfield 119, 3) := dk_180 0 119 (dk_at dksX0_spaceOf_0 14 rfl rfl)
theorem dX0_spaceOf_17 : decode cX0_spaceOf 17 = .ok (.iload 4, 2) := dk_21 4 (dk_at dksX0_spaceOf_0 17 rfl rfl)
theorem dX0_spaceOf_19 : decode cX0_spaceOf 19 = .ok (.iaload, 1) := dk_46 (dk_at dksX0_spaceOf_0 19 rfl rfl)
theorem dX0_spaceOf_20 : decode cX0_spaceOf 20 = .ok (.iconst (-1), 1) := dk_2 (dk_at dksX0_spaceOf_0 20 rfl rfl)
theorem dX0_spaceOf_21 : decode cX0_spaceOf 21 = .ok (.if_icmp .ne 7, 3) := dk_160 0 7 (dk_at dksX0_spaceOf_0 21 rfl rfl)
theorem dX0_spaceOf_24 : decode cX0_spaceOf 24 = .ok (.lconst 0, 1) := dk_9 (dk_at dksX0_spaceOf_1 0 rfl rfl)
theorem dX0_spaceOf_25 : decode cX0_spaceOf 25 = .ok (.goto 16, 3) := dk_167 0 16 (dk_at dksX0_spaceOf_1 1 rfl rfl)
theorem dX0_spaceOf_28 : decode cX0_spaceOf 28 = .ok (.aload_n 0, 1) := dk_42 (dk_at dksX0_spaceOf_1 4 rfl rfl)
theorem dX0_spaceOf_29 : decode cX0_spaceOf 29 = .ok (.getfield 9, 3) := dk_180 0 9 (dk_at dksX0_spaceOf_1 5 rfl rfl)
theorem dX0_spaceOf_32 : decode cX0_spaceOf 32 = .ok (.aload_n 1, 1) := dk_43 (dk_at dksX0_spaceOf_1 8 rfl rfl)
theorem dX0_spaceOf_33 : decode cX0_spaceOf 33 = .ok (.getfield 119, 3) := dk_180 0 119 (dk_at dksX0_spaceOf_1 9 rfl rfl)
theorem dX0_spaceOf_36 : decode cX0_spaceOf 36 = .ok (.iload 4, 2) := dk_21 4 (dk_at dksX0_spaceOf_1 12 rfl rfl)
theorem dX0_spaceOf_38 : decode cX0_spaceOf 38 = .ok (.iaload, 1) := dk_46 (dk_at dksX0_spaceOf_1 14 rfl rfl)
theorem dX0_spaceOf_39 : decode cX0_spaceOf 39 = .ok (.iaload, 1) := dk_46 (dk_at dksX0_spaceOf_1 15 rfl rfl)
theorem dX0_spaceOf_40 : decode cX0_spaceOf 40 = .ok (.i2l, 1) := dk_133 (dk_at dksX0_spaceOf_1 16 rfl rfl)
theorem dX0_spaceOf_41 : decode cX0_spaceOf 41 = .ok (.ladd, 1) := dk_97 (dk_at dksX0_spaceOf_1 17 rfl rfl)
theorem dX0_spaceOf_42 : decode cX0_spaceOf 42 = .ok (.lstore_n 2, 1) := dk_65 (dk_at dksX0_spaceOf_1 18 rfl rfl)
theorem dX0_spaceOf_43 : decode cX0_spaceOf 43 = .ok (.iinc 4 1, 3) := dk_132 4 1 (dk_at dksX0_spaceOf_1 19 rfl rfl)
theorem dX0_spaceOf_46 : decode cX0_spaceOf 46 = .ok (.goto (-41), 3) := dk_167 255 215 (dk_at dksX0_spaceOf_2 0 rfl rfl)
theorem dX0_spaceOf_49 : decode cX0_spaceOf 49 = .ok (.lload_n 2, 1) := dk_32 (dk_at dksX0_spaceOf_2 3 rfl rfl)
theorem dX0_spaceOf_50 : decode cX0_spaceOf 50 = .ok (.lreturn, 1) := dk_173 (dk_at dksX0_spaceOf_2 4 rfl rfl)
abbrev cX0_leaves : ByteArray := prog_1_method_22_code
def yX0_leaves : MethodName := ⟨RX0, "leaves", "(LDeadListPool$Folder;I)V"⟩
def dkwX0_leaves_1 : List UInt8 := [29, 46, 43, 182, 0, 133, 164, 0, 11, 42, 29, 182, 0, 136, 167, 0, 9, 42, 43, 29, 182, 0, 140, 177]
abbrev dktX0_leaves_1 : List UInt8 := dkwX0_leaves_1 ++ []
def dkwX0_leaves_0 : List UInt8 := [43, 180, 0, 132, 28, 46, 62, 43, 180, 0, 132, 28, 2, 79, 29, 2, 160, 0, 4, 177, 42, 180, 0, 13]
abbrev dktX0_leaves_0 : List UInt8 := dkwX0_leaves_0 ++ dktX0_leaves_1
theorem dksX0_leaves_0 : cX0_leaves.data.toList.drop 0 = dktX0_leaves_0 := by decide +kernel
theorem dksX0_leaves_1 : cX0_leaves.data.toList.drop 24 = dktX0_leaves_1 := dk_seg dksX0_leaves_0 24 rfl rfl
theorem dX0_leaves_0 : decode cX0_leaves 0 = .ok (.aload_n 1, 1) := dk_43 (dk_at dksX0_leaves_0 0 rfl rfl)
theorem dX0_leaves_1 : decode cX0_leaves 1 = .ok (.getfield 132, 3) := dk_180 0 132 (dk_at dksX0_leaves_0 1 rfl rfl)
theorem dX0_leaves_4 : decode cX0_leaves 4 = .ok (.iload_n 2, 1) := dk_28 (dk_at dksX0_leaves_0 4 rfl rfl)
theorem dX0_leaves_5 : decode cX0_leaves 5 = .ok (.iaload, 1) := dk_46 (dk_at dksX0_leaves_0 5 rfl rfl)
theorem dX0_leaves_6 : decode cX0_leaves 6 = .ok (.istore_n 3, 1) := dk_62 (dk_at dksX0_leaves_0 6 rfl rfl)
theorem dX0_leaves_7 : decode cX0_leaves 7 = .ok (.aload_n 1, 1) := dk_43 (dk_at dksX0_leaves_0 7 rfl rfl)
theorem dX0_leaves_8 : decode cX0_leaves 8 = .ok (.getfield 132, 3) := dk_180 0 132 (dk_at dksX0_leaves_0 8 rfl rfl)
theorem dX0_leaves_11 : decode cX0_leaves 11 = .ok (.iload_n 2, 1) := dk_28 (dk_at dksX0_leaves_0 11 rfl rfl)
theorem dX0_leaves_12 : decode cX0_leaves 12 = .ok (.iconst (-1), 1) := dk_2 (dk_at dksX0_leaves_0 12 rfl rfl)
theorem dX0_leaves_13 : decode cX0_leaves 13 = .ok (.iastore, 1) := dk_79 (dk_at dksX0_leaves_0 13 rfl rfl)
theorem dX0_leaves_14 : decode cX0_leaves 14 = .ok (.iload_n 3, 1) := dk_29 (dk_at dksX0_leaves_0 14 rfl rfl)
theorem dX0_leaves_15 : decode cX0_leaves 15 = .ok (.iconst (-1), 1) := dk_2 (dk_at dksX0_leaves_0 15 rfl rfl)
theorem dX0_leaves_16 : decode cX0_leaves 16 = .ok (.if_icmp .ne 4, 3) := dk_160 0 4 (dk_at dksX0_leaves_0 16 rfl rfl)
theorem dX0_leaves_19 : decode cX0_leaves 19 = .ok (.return_, 1) := dk_177 (dk_at dksX0_leaves_0 19 rfl rfl)
theorem dX0_leaves_20 : decode cX0_leaves 20 = .ok (.aload_n 0, 1) := dk_42 (dk_at dksX0_leaves_0 20 rfl rfl)
theorem dX0_leaves_21 : decode cX0_leaves 21 = .ok (.getfield 13, 3) := dk_180 0 13 (dk_at dksX0_leaves_0 21 rfl rfl)
theorem dX0_leaves_24 : decode cX0_leaves 24 = .ok (.iload_n 3, 1) := dk_29 (dk_at dksX0_leaves_1 0 rfl rfl)
theorem dX0_leaves_25 : decode cX0_leaves 25 = .ok (.iaload, 1) := dk_46 (dk_at dksX0_leaves_1 1 rfl rfl)
theorem dX0_leaves_26 : decode cX0_leaves 26 = .ok (.aload_n 1, 1) := dk_43 (dk_at dksX0_leaves_1 2 rfl rfl)
theorem dX0_leaves_27 : decode cX0_leaves 27 = .ok (.invokevirtual 133, 3) := dk_182 0 133 (dk_at dksX0_leaves_1 3 rfl rfl)
theorem dX0_leaves_30 : decode cX0_leaves 30 = .ok (.if_icmp .le 11, 3) := dk_164 0 11 (dk_at dksX0_leaves_1 6 rfl rfl)
theorem dX0_leaves_33 : decode cX0_leaves 33 = .ok (.aload_n 0, 1) := dk_42 (dk_at dksX0_leaves_1 9 rfl rfl)
theorem dX0_leaves_34 : decode cX0_leaves 34 = .ok (.iload_n 3, 1) := dk_29 (dk_at dksX0_leaves_1 10 rfl rfl)
theorem dX0_leaves_35 : decode cX0_leaves 35 = .ok (.invokevirtual 136, 3) := dk_182 0 136 (dk_at dksX0_leaves_1 11 rfl rfl)
theorem dX0_leaves_38 : decode cX0_leaves 38 = .ok (.goto 9, 3) := dk_167 0 9 (dk_at dksX0_leaves_1 14 rfl rfl)
theorem dX0_leaves_41 : decode cX0_leaves 41 = .ok (.aload_n 0, 1) := dk_42 (dk_at dksX0_leaves_1 17 rfl rfl)
theorem dX0_leaves_42 : decode cX0_leaves 42 = .ok (.aload_n 1, 1) := dk_43 (dk_at dksX0_leaves_1 18 rfl rfl)
theorem dX0_leaves_43 : decode cX0_leaves 43 = .ok (.iload_n 3, 1) := dk_29 (dk_at dksX0_leaves_1 19 rfl rfl)
theorem dX0_leaves_44 : decode cX0_leaves 44 = .ok (.invokevirtual 140, 3) := dk_182 0 140 (dk_at dksX0_leaves_1 20 rfl rfl)
theorem dX0_leaves_47 : decode cX0_leaves 47 = .ok (.return_, 1) := dk_177 (dk_at dksX0_leaves_1 23 rfl rfl)
abbrev cX0_frees : ByteArray := prog_1_method_4_code
def yX0_frees : MethodName := ⟨RX0, "frees", "(I)V"⟩
def dkwX0_frees_0 : List UInt8 := [42, 180, 0, 9, 27, 3, 79, 42, 89, 180, 0, 50, 4, 96, 181, 0, 50, 177]
abbrev dktX0_frees_0 : List UInt8 := dkwX0_frees_0 ++ []
theorem dksX0_frees_0 : cX0_frees.data.toList.drop 0 = dktX0_frees_0 := by decide +kernel
theorem dX0_frees_0 : decode cX0_frees 0 = .ok (.aload_n 0, 1) := dk_42 (dk_at dksX0_frees_0 0 rfl rfl)
theorem dX0_frees_1 : decode cX0_frees 1 = .ok (.getfield 9, 3) := dk_180 0 9 (dk_at dksX0_frees_0 1 rfl rfl)
theorem dX0_frees_4 : decode cX0_frees 4 = .ok (.iload_n 1, 1) := dk_27 (dk_at dksX0_frees_0 4 rfl rfl)
theorem dX0_frees_5 : decode cX0_frees 5 = .ok (.iconst 0, 1) := dk_3 (dk_at dksX0_frees_0 5 rfl rfl)
theorem dX0_frees_6 : decode cX0_frees 6 = .ok (.iastore, 1) := dk_79 (dk_at dksX0_frees_0 6 rfl rfl)
theorem dX0_frees_7 : decode cX0_frees 7 = .ok (.aload_n 0, 1) := dk_42 (dk_at dksX0_frees_0 7 rfl rfl)
theorem dX0_frees_8 : decode cX0_frees 8 = .ok (.dup, 1) := dk_89 (dk_at dksX0_frees_0 8 rfl rfl)
theorem dX0_frees_9 : decode cX0_frees 9 = .ok (.getfield 50, 3) := dk_180 0 50 (dk_at dksX0_frees_0 9 rfl rfl)
theorem dX0_frees_12 : decode cX0_frees 12 = .ok (.iconst 1, 1) := dk_4 (dk_at dksX0_frees_0 12 rfl rfl)
theorem dX0_frees_13 : decode cX0_frees 13 = .ok (.iadd, 1) := dk_96 (dk_at dksX0_frees_0 13 rfl rfl)
theorem dX0_frees_14 : decode cX0_frees 14 = .ok (.putfield 50, 3) := dk_181 0 50 (dk_at dksX0_frees_0 14 rfl rfl)
theorem dX0_frees_17 : decode cX0_frees 17 = .ok (.return_, 1) := dk_177 (dk_at dksX0_frees_0 17 rfl rfl)
abbrev cX0_dies : ByteArray := prog_1_method_21_code
def yX0_dies : MethodName := ⟨RX0, "dies", "(LDeadListPool$Holder;I)V"⟩
def dkwX0_dies_2 : List UInt8 := [180, 0, 125, 29, 28, 79, 43, 89, 180, 0, 122, 4, 96, 181, 0, 122, 177]
abbrev dktX0_dies_2 : List UInt8 := dkwX0_dies_2 ++ []
def dkwX0_dies_1 : List UInt8 := [153, 0, 23, 43, 180, 0, 125, 29, 43, 180, 0, 125, 29, 4, 100, 46, 79, 132, 3, 255, 167, 255, 219, 43]
abbrev dktX0_dies_1 : List UInt8 := dkwX0_dies_1 ++ dktX0_dies_2
def dkwX0_dies_0 : List UInt8 := [43, 180, 0, 122, 62, 29, 158, 0, 39, 42, 28, 43, 180, 0, 125, 29, 4, 100, 46, 182, 0, 128]
abbrev dktX0_dies_0 : List UInt8 := dkwX0_dies_0 ++ dktX0_dies_1
theorem dksX0_dies_0 : cX0_dies.data.toList.drop 0 = dktX0_dies_0 := by decide +kernel
theorem dksX0_dies_1 : cX0_dies.data.toList.drop 22 = dktX0_dies_1 := dk_seg dksX0_dies_0 22 rfl rfl
theorem dksX0_dies_2 : cX0_dies.data.toList.drop 46 = dktX0_dies_2 := dk_seg dksX0_dies_1 24 rfl rfl
theorem dX0_dies_0 : decode cX0_dies 0 = .ok (.aload_n 1, 1) := dk_43 (dk_at dksX0_dies_0 0 rfl rfl)
theorem dX0_dies_1 : decode cX0_dies 1 = .ok (.getfield 122, 3) := dk_180 0 122 (dk_at dksX0_dies_0 1 rfl rfl)
theorem dX0_dies_4 : decode cX0_dies 4 = .ok (.istore_n 3, 1) := dk_62 (dk_at dksX0_dies_0 4 rfl rfl)
theorem dX0_dies_5 : decode cX0_dies 5 = .ok (.iload_n 3, 1) := dk_29 (dk_at dksX0_dies_0 5 rfl rfl)
theorem dX0_dies_6 : decode cX0_dies 6 = .ok (.ifCond .le 39, 3) := dk_158 0 39 (dk_at dksX0_dies_0 6 rfl rfl)
theorem dX0_dies_9 : decode cX0_dies 9 = .ok (.aload_n 0, 1) := dk_42 (dk_at dksX0_dies_0 9 rfl rfl)
theorem dX0_dies_10 : decode cX0_dies 10 = .ok (.iload_n 2, 1) := dk_28 (dk_at dksX0_dies_0 10 rfl rfl)
theorem dX0_dies_11 : decode cX0_dies 11 = .ok (.aload_n 1, 1) := dk_43 (dk_at dksX0_dies_0 11 rfl rfl)
theorem dX0_dies_12 : decode cX0_dies 12 = .ok (.getfield 125, 3) := dk_180 0 125 (dk_at dksX0_dies_0 12 rfl rfl)
theorem dX0_dies_15 : decode cX0_dies 15 = .ok (.iload_n 3, 1) := dk_29 (dk_at dksX0_dies_0 15 rfl rfl)
theorem dX0_dies_16 : decode cX0_dies 16 = .ok (.iconst 1, 1) := dk_4 (dk_at dksX0_dies_0 16 rfl rfl)
theorem dX0_dies_17 : decode cX0_dies 17 = .ok (.isub, 1) := dk_100 (dk_at dksX0_dies_0 17 rfl rfl)
theorem dX0_dies_18 : decode cX0_dies 18 = .ok (.iaload, 1) := dk_46 (dk_at dksX0_dies_0 18 rfl rfl)
theorem dX0_dies_19 : decode cX0_dies 19 = .ok (.invokevirtual 128, 3) := dk_182 0 128 (dk_at dksX0_dies_0 19 rfl rfl)
theorem dX0_dies_22 : decode cX0_dies 22 = .ok (.ifCond .eq 23, 3) := dk_153 0 23 (dk_at dksX0_dies_1 0 rfl rfl)
theorem dX0_dies_25 : decode cX0_dies 25 = .ok (.aload_n 1, 1) := dk_43 (dk_at dksX0_dies_1 3 rfl rfl)
theorem dX0_dies_26 : decode cX0_dies 26 = .ok (.getfield 125, 3) := dk_180 0 125 (dk_at dksX0_dies_1 4 rfl rfl)
theorem dX0_dies_29 : decode cX0_dies 29 = .ok (.iload_n 3, 1) := dk_29 (dk_at dksX0_dies_1 7 rfl rfl)
theorem dX0_dies_30 : decode cX0_dies 30 = .ok (.aload_n 1, 1) := dk_43 (dk_at dksX0_dies_1 8 rfl rfl)
theorem dX0_dies_31 : decode cX0_dies 31 = .ok (.getfield 125, 3) := dk_180 0 125 (dk_at dksX0_dies_1 9 rfl rfl)
theorem dX0_dies_34 : decode cX0_dies 34 = .ok (.iload_n 3, 1) := dk_29 (dk_at dksX0_dies_1 12 rfl rfl)
theorem dX0_dies_35 : decode cX0_dies 35 = .ok (.iconst 1, 1) := dk_4 (dk_at dksX0_dies_1 13 rfl rfl)
theorem dX0_dies_36 : decode cX0_dies 36 = .ok (.isub, 1) := dk_100 (dk_at dksX0_dies_1 14 rfl rfl)
theorem dX0_dies_37 : decode cX0_dies 37 = .ok (.iaload, 1) := dk_46 (dk_at dksX0_dies_1 15 rfl rfl)
theorem dX0_dies_38 : decode cX0_dies 38 = .ok (.iastore, 1) := dk_79 (dk_at dksX0_dies_1 16 rfl rfl)
theorem dX0_dies_39 : decode cX0_dies 39 = .ok (.iinc 3 (-1), 3) := dk_132 3 255 (dk_at dksX0_dies_1 17 rfl rfl)
theorem dX0_dies_42 : decode cX0_dies 42 = .ok (.goto (-37), 3) := dk_167 255 219 (dk_at dksX0_dies_1 20 rfl rfl)
theorem dX0_dies_45 : decode cX0_dies 45 = .ok (.aload_n 1, 1) := dk_43 (dk_at dksX0_dies_1 23 rfl rfl)
theorem dX0_dies_46 : decode cX0_dies 46 = .ok (.getfield 125, 3) := dk_180 0 125 (dk_at dksX0_dies_2 0 rfl rfl)
theorem dX0_dies_49 : decode cX0_dies 49 = .ok (.iload_n 3, 1) := dk_29 (dk_at dksX0_dies_2 3 rfl rfl)
theorem dX0_dies_50 : decode cX0_dies 50 = .ok (.iload_n 2, 1) := dk_28 (dk_at dksX0_dies_2 4 rfl rfl)
theorem dX0_dies_51 : decode cX0_dies 51 = .ok (.iastore, 1) := dk_79 (dk_at dksX0_dies_2 5 rfl rfl)
theorem dX0_dies_52 : decode cX0_dies 52 = .ok (.aload_n 1, 1) := dk_43 (dk_at dksX0_dies_2 6 rfl rfl)
theorem dX0_dies_53 : decode cX0_dies 53 = .ok (.dup, 1) := dk_89 (dk_at dksX0_dies_2 7 rfl rfl)
theorem dX0_dies_54 : decode cX0_dies 54 = .ok (.getfield 122, 3) := dk_180 0 122 (dk_at dksX0_dies_2 8 rfl rfl)
theorem dX0_dies_57 : decode cX0_dies 57 = .ok (.iconst 1, 1) := dk_4 (dk_at dksX0_dies_2 11 rfl rfl)
theorem dX0_dies_58 : decode cX0_dies 58 = .ok (.iadd, 1) := dk_96 (dk_at dksX0_dies_2 12 rfl rfl)
theorem dX0_dies_59 : decode cX0_dies 59 = .ok (.putfield 122, 3) := dk_181 0 122 (dk_at dksX0_dies_2 13 rfl rfl)
theorem dX0_dies_62 : decode cX0_dies 62 = .ok (.return_, 1) := dk_177 (dk_at dksX0_dies_2 16 rfl rfl)
abbrev cX0_isLater : ByteArray := prog_1_method_20_code
def yX0_isLater : MethodName := ⟨RX0, "isLater", "(II)Z"⟩
def dkwX0_isLater_1 : List UInt8 := [180, 0, 13, 28, 46, 160, 0, 12, 27, 28, 162, 0, 7, 4, 167, 0, 4, 3, 172]
abbrev dktX0_isLater_1 : List UInt8 := dkwX0_isLater_1 ++ []
def dkwX0_isLater_0 : List UInt8 := [42, 180, 0, 13, 27, 46, 42, 180, 0, 13, 28, 46, 163, 0, 23, 42, 180, 0, 13, 27, 46, 42]
abbrev dktX0_isLater_0 : List UInt8 := dkwX0_isLater_0 ++ dktX0_isLater_1
theorem dksX0_isLater_0 : cX0_isLater.data.toList.drop 0 = dktX0_isLater_0 := by decide +kernel
theorem dksX0_isLater_1 : cX0_isLater.data.toList.drop 22 = dktX0_isLater_1 := dk_seg dksX0_isLater_0 22 rfl rfl
theorem dX0_isLater_0 : decode cX0_isLater 0 = .ok (.aload_n 0, 1) := dk_42 (dk_at dksX0_isLater_0 0 rfl rfl)
theorem dX0_isLater_1 : decode cX0_isLater 1 = .ok (.getfield 13, 3) := dk_180 0 13 (dk_at dksX0_isLater_0 1 rfl rfl)
theorem dX0_isLater_4 : decode cX0_isLater 4 = .ok (.iload_n 1, 1) := dk_27 (dk_at dksX0_isLater_0 4 rfl rfl)
theorem dX0_isLater_5 : decode cX0_isLater 5 = .ok (.iaload, 1) := dk_46 (dk_at dksX0_isLater_0 5 rfl rfl)
theorem dX0_isLater_6 : decode cX0_isLater 6 = .ok (.aload_n 0, 1) := dk_42 (dk_at dksX0_isLater_0 6 rfl rfl)
theorem dX0_isLater_7 : decode cX0_isLater 7 = .ok (.getfield 13, 3) := dk_180 0 13 (dk_at dksX0_isLater_0 7 rfl rfl)
theorem dX0_isLater_10 : decode cX0_isLater 10 = .ok (.iload_n 2, 1) := dk_28 (dk_at dksX0_isLater_0 10 rfl rfl)
theorem dX0_isLater_11 : decode cX0_isLater 11 = .ok (.iaload, 1) := dk_46 (dk_at dksX0_isLater_0 11 rfl rfl)
theorem dX0_isLater_12 : decode cX0_isLater 12 = .ok (.if_icmp .gt 23, 3) := dk_163 0 23 (dk_at dksX0_isLater_0 12 rfl rfl)
theorem dX0_isLater_15 : decode cX0_isLater 15 = .ok (.aload_n 0, 1) := dk_42 (dk_at dksX0_isLater_0 15 rfl rfl)
theorem dX0_isLater_16 : decode cX0_isLater 16 = .ok (.getfield 13, 3) := dk_180 0 13 (dk_at dksX0_isLater_0 16 rfl rfl)
theorem dX0_isLater_19 : decode cX0_isLater 19 = .ok (.iload_n 1, 1) := dk_27 (dk_at dksX0_isLater_0 19 rfl rfl)
theorem dX0_isLater_20 : decode cX0_isLater 20 = .ok (.iaload, 1) := dk_46 (dk_at dksX0_isLater_0 20 rfl rfl)
theorem dX0_isLater_21 : decode cX0_isLater 21 = .ok (.aload_n 0, 1) := dk_42 (dk_at dksX0_isLater_0 21 rfl rfl)
theorem dX0_isLater_22 : decode cX0_isLater 22 = .ok (.getfield 13, 3) := dk_180 0 13 (dk_at dksX0_isLater_1 0 rfl rfl)
theorem dX0_isLater_25 : decode cX0_isLater 25 = .ok (.iload_n 2, 1) := dk_28 (dk_at dksX0_isLater_1 3 rfl rfl)
theorem dX0_isLater_26 : decode cX0_isLater 26 = .ok (.iaload, 1) := dk_46 (dk_at dksX0_isLater_1 4 rfl rfl)
theorem dX0_isLater_27 : decode cX0_isLater 27 = .ok (.if_icmp .ne 12, 3) := dk_160 0 12 (dk_at dksX0_isLater_1 5 rfl rfl)
theorem dX0_isLater_30 : decode cX0_isLater 30 = .ok (.iload_n 1, 1) := dk_27 (dk_at dksX0_isLater_1 8 rfl rfl)
theorem dX0_isLater_31 : decode cX0_isLater 31 = .ok (.iload_n 2, 1) := dk_28 (dk_at dksX0_isLater_1 9 rfl rfl)
theorem dX0_isLater_32 : decode cX0_isLater 32 = .ok (.if_icmp .ge 7, 3) := dk_162 0 7 (dk_at dksX0_isLater_1 10 rfl rfl)
theorem dX0_isLater_35 : decode cX0_isLater 35 = .ok (.iconst 1, 1) := dk_4 (dk_at dksX0_isLater_1 13 rfl rfl)
theorem dX0_isLater_36 : decode cX0_isLater 36 = .ok (.goto 4, 3) := dk_167 0 4 (dk_at dksX0_isLater_1 14 rfl rfl)
theorem dX0_isLater_39 : decode cX0_isLater 39 = .ok (.iconst 0, 1) := dk_3 (dk_at dksX0_isLater_1 17 rfl rfl)
theorem dX0_isLater_40 : decode cX0_isLater 40 = .ok (.ireturn, 1) := dk_172 (dk_at dksX0_isLater_1 18 rfl rfl)
abbrev cX0_erase : ByteArray := prog_1_method_26_code
def yX0_erase : MethodName := ⟨RX0, "erase", "(II)I"⟩
def dkwX0_erase_1 : List UInt8 := [28, 182, 0, 173, 172, 78, 16, 244, 172, 78, 16, 245, 172, 78, 16, 243, 172]
abbrev dktX0_erase_1 : List UInt8 := dkwX0_erase_1 ++ []
def dkwX0_erase_0 : List UInt8 := [28, 133, 9, 20, 0, 159, 184, 0, 74, 154, 0, 6, 16, 254, 172, 42, 42, 27, 182, 0, 161, 192, 0, 93]
abbrev dktX0_erase_0 : List UInt8 := dkwX0_erase_0 ++ dktX0_erase_1
theorem dksX0_erase_0 : cX0_erase.data.toList.drop 0 = dktX0_erase_0 := by decide +kernel
theorem dksX0_erase_1 : cX0_erase.data.toList.drop 24 = dktX0_erase_1 := dk_seg dksX0_erase_0 24 rfl rfl
theorem dX0_erase_0 : decode cX0_erase 0 = .ok (.iload_n 2, 1) := dk_28 (dk_at dksX0_erase_0 0 rfl rfl)
theorem dX0_erase_1 : decode cX0_erase 1 = .ok (.i2l, 1) := dk_133 (dk_at dksX0_erase_0 1 rfl rfl)
theorem dX0_erase_2 : decode cX0_erase 2 = .ok (.lconst 0, 1) := dk_9 (dk_at dksX0_erase_0 2 rfl rfl)
theorem dX0_erase_3 : decode cX0_erase 3 = .ok (.ldc2_w 159, 3) := dk_20 0 159 (dk_at dksX0_erase_0 3 rfl rfl)
theorem dX0_erase_6 : decode cX0_erase 6 = .ok (.invokestatic 74, 3) := dk_184 0 74 (dk_at dksX0_erase_0 6 rfl rfl)
theorem dX0_erase_9 : decode cX0_erase 9 = .ok (.ifCond .ne 6, 3) := dk_154 0 6 (dk_at dksX0_erase_0 9 rfl rfl)
theorem dX0_erase_12 : decode cX0_erase 12 = .ok (.bipush (-2), 2) := dk_16 254 (dk_at dksX0_erase_0 12 rfl rfl)
theorem dX0_erase_14 : decode cX0_erase 14 = .ok (.ireturn, 1) := dk_172 (dk_at dksX0_erase_0 14 rfl rfl)
theorem dX0_erase_15 : decode cX0_erase 15 = .ok (.aload_n 0, 1) := dk_42 (dk_at dksX0_erase_0 15 rfl rfl)
theorem dX0_erase_16 : decode cX0_erase 16 = .ok (.aload_n 0, 1) := dk_42 (dk_at dksX0_erase_0 16 rfl rfl)
theorem dX0_erase_17 : decode cX0_erase 17 = .ok (.iload_n 1, 1) := dk_27 (dk_at dksX0_erase_0 17 rfl rfl)
theorem dX0_erase_18 : decode cX0_erase 18 = .ok (.invokevirtual 161, 3) := dk_182 0 161 (dk_at dksX0_erase_0 18 rfl rfl)
theorem dX0_erase_21 : decode cX0_erase 21 = .ok (.checkcast 93, 3) := dk_192 0 93 (dk_at dksX0_erase_0 21 rfl rfl)
theorem dX0_erase_24 : decode cX0_erase 24 = .ok (.iload_n 2, 1) := dk_28 (dk_at dksX0_erase_1 0 rfl rfl)
theorem dX0_erase_25 : decode cX0_erase 25 = .ok (.invokevirtual 173, 3) := dk_182 0 173 (dk_at dksX0_erase_1 1 rfl rfl)
theorem dX0_erase_28 : decode cX0_erase 28 = .ok (.ireturn, 1) := dk_172 (dk_at dksX0_erase_1 4 rfl rfl)
theorem dX0_erase_29 : decode cX0_erase 29 = .ok (.astore_n 3, 1) := dk_78 (dk_at dksX0_erase_1 5 rfl rfl)
theorem dX0_erase_30 : decode cX0_erase 30 = .ok (.bipush (-12), 2) := dk_16 244 (dk_at dksX0_erase_1 6 rfl rfl)
theorem dX0_erase_32 : decode cX0_erase 32 = .ok (.ireturn, 1) := dk_172 (dk_at dksX0_erase_1 8 rfl rfl)
theorem dX0_erase_33 : decode cX0_erase 33 = .ok (.astore_n 3, 1) := dk_78 (dk_at dksX0_erase_1 9 rfl rfl)
theorem dX0_erase_34 : decode cX0_erase 34 = .ok (.bipush (-11), 2) := dk_16 245 (dk_at dksX0_erase_1 10 rfl rfl)
theorem dX0_erase_36 : decode cX0_erase 36 = .ok (.ireturn, 1) := dk_172 (dk_at dksX0_erase_1 12 rfl rfl)
theorem dX0_erase_37 : decode cX0_erase 37 = .ok (.astore_n 3, 1) := dk_78 (dk_at dksX0_erase_1 13 rfl rfl)
theorem dX0_erase_38 : decode cX0_erase 38 = .ok (.bipush (-13), 2) := dk_16 243 (dk_at dksX0_erase_1 14 rfl rfl)
theorem dX0_erase_40 : decode cX0_erase 40 = .ok (.ireturn, 1) := dk_172 (dk_at dksX0_erase_1 16 rfl rfl)
abbrev cX0_erases : ByteArray := prog_1_method_25_code
def yX0_erases : MethodName := ⟨RX0, "erases", "(LDeadListPool$Folder;I)I"⟩
def dkwX0_erases_0 : List UInt8 := [43, 180, 0, 132, 28, 46, 62, 42, 43, 28, 182, 0, 155, 29, 172]
abbrev dktX0_erases_0 : List UInt8 := dkwX0_erases_0 ++ []
theorem dksX0_erases_0 : cX0_erases.data.toList.drop 0 = dktX0_erases_0 := by decide +kernel
theorem dX0_erases_0 : decode cX0_erases 0 = .ok (.aload_n 1, 1) := dk_43 (dk_at dksX0_erases_0 0 rfl rfl)
theorem dX0_erases_1 : decode cX0_erases 1 = .ok (.getfield 132, 3) := dk_180 0 132 (dk_at dksX0_erases_0 1 rfl rfl)
theorem dX0_erases_4 : decode cX0_erases 4 = .ok (.iload_n 2, 1) := dk_28 (dk_at dksX0_erases_0 4 rfl rfl)
theorem dX0_erases_5 : decode cX0_erases 5 = .ok (.iaload, 1) := dk_46 (dk_at dksX0_erases_0 5 rfl rfl)
theorem dX0_erases_6 : decode cX0_erases 6 = .ok (.istore_n 3, 1) := dk_62 (dk_at dksX0_erases_0 6 rfl rfl)
theorem dX0_erases_7 : decode cX0_erases 7 = .ok (.aload_n 0, 1) := dk_42 (dk_at dksX0_erases_0 7 rfl rfl)
theorem dX0_erases_8 : decode cX0_erases 8 = .ok (.aload_n 1, 1) := dk_43 (dk_at dksX0_erases_0 8 rfl rfl)
theorem dX0_erases_9 : decode cX0_erases 9 = .ok (.iload_n 2, 1) := dk_28 (dk_at dksX0_erases_0 9 rfl rfl)
theorem dX0_erases_10 : decode cX0_erases 10 = .ok (.invokevirtual 155, 3) := dk_182 0 155 (dk_at dksX0_erases_0 10 rfl rfl)
theorem dX0_erases_13 : decode cX0_erases 13 = .ok (.iload_n 3, 1) := dk_29 (dk_at dksX0_erases_0 13 rfl rfl)
theorem dX0_erases_14 : decode cX0_erases 14 = .ok (.ireturn, 1) := dk_172 (dk_at dksX0_erases_0 14 rfl rfl)
abbrev cX0_snap : ByteArray := prog_1_method_28_code
def yX0_snap : MethodName := ⟨RX0, "snap", "(II)I"⟩
def dkwX0_snap_1 : List UInt8 := [160, 0, 7, 4, 167, 0, 4, 3, 182, 0, 185, 172, 78, 16, 244, 172, 78, 16, 245, 172, 78, 16, 243, 172]
abbrev dktX0_snap_1 : List UInt8 := dkwX0_snap_1 ++ []
def dkwX0_snap_0 : List UInt8 := [28, 133, 9, 10, 184, 0, 74, 154, 0, 6, 16, 254, 172, 42, 42, 27, 182, 0, 161, 192, 0, 93, 28, 4]
abbrev dktX0_snap_0 : List UInt8 := dkwX0_snap_0 ++ dktX0_snap_1
theorem dksX0_snap_0 : cX0_snap.data.toList.drop 0 = dktX0_snap_0 := by decide +kernel
theorem dksX0_snap_1 : cX0_snap.data.toList.drop 24 = dktX0_snap_1 := dk_seg dksX0_snap_0 24 rfl rfl
theorem dX0_snap_0 : decode cX0_snap 0 = .ok (.iload_n 2, 1) := dk_28 (dk_at dksX0_snap_0 0 rfl rfl)
theorem dX0_snap_1 : decode cX0_snap 1 = .ok (.i2l, 1) := dk_133 (dk_at dksX0_snap_0 1 rfl rfl)
theorem dX0_snap_2 : decode cX0_snap 2 = .ok (.lconst 0, 1) := dk_9 (dk_at dksX0_snap_0 2 rfl rfl)
theorem dX0_snap_3 : decode cX0_snap 3 = .ok (.lconst 1, 1) := dk_10 (dk_at dksX0_snap_0 3 rfl rfl)
theorem dX0_snap_4 : decode cX0_snap 4 = .ok (.invokestatic 74, 3) := dk_184 0 74 (dk_at dksX0_snap_0 4 rfl rfl)
theorem dX0_snap_7 : decode cX0_snap 7 = .ok (.ifCond .ne 6, 3) := dk_154 0 6 (dk_at dksX0_snap_0 7 rfl rfl)
theorem dX0_snap_10 : decode cX0_snap 10 = .ok (.bipush (-2), 2) := dk_16 254 (dk_at dksX0_snap_0 10 rfl rfl)
theorem dX0_snap_12 : decode cX0_snap 12 = .ok (.ireturn, 1) := dk_172 (dk_at dksX0_snap_0 12 rfl rfl)
theorem dX0_snap_13 : decode cX0_snap 13 = .ok (.aload_n 0, 1) := dk_42 (dk_at dksX0_snap_0 13 rfl rfl)
theorem dX0_snap_14 : decode cX0_snap 14 = .ok (.aload_n 0, 1) := dk_42 (dk_at dksX0_snap_0 14 rfl rfl)
theorem dX0_snap_15 : decode cX0_snap 15 = .ok (.iload_n 1, 1) := dk_27 (dk_at dksX0_snap_0 15 rfl rfl)
theorem dX0_snap_16 : decode cX0_snap 16 = .ok (.invokevirtual 161, 3) := dk_182 0 161 (dk_at dksX0_snap_0 16 rfl rfl)
theorem dX0_snap_19 : decode cX0_snap 19 = .ok (.checkcast 93, 3) := dk_192 0 93 (dk_at dksX0_snap_0 19 rfl rfl)
theorem dX0_snap_22 : decode cX0_snap 22 = .ok (.iload_n 2, 1) := dk_28 (dk_at dksX0_snap_0 22 rfl rfl)
theorem dX0_snap_23 : decode cX0_snap 23 = .ok (.iconst 1, 1) := dk_4 (dk_at dksX0_snap_0 23 rfl rfl)
theorem dX0_snap_24 : decode cX0_snap 24 = .ok (.if_icmp .ne 7, 3) := dk_160 0 7 (dk_at dksX0_snap_1 0 rfl rfl)
theorem dX0_snap_27 : decode cX0_snap 27 = .ok (.iconst 1, 1) := dk_4 (dk_at dksX0_snap_1 3 rfl rfl)
theorem dX0_snap_28 : decode cX0_snap 28 = .ok (.goto 4, 3) := dk_167 0 4 (dk_at dksX0_snap_1 4 rfl rfl)
theorem dX0_snap_31 : decode cX0_snap 31 = .ok (.iconst 0, 1) := dk_3 (dk_at dksX0_snap_1 7 rfl rfl)
theorem dX0_snap_32 : decode cX0_snap 32 = .ok (.invokevirtual 185, 3) := dk_182 0 185 (dk_at dksX0_snap_1 8 rfl rfl)
theorem dX0_snap_35 : decode cX0_snap 35 = .ok (.ireturn, 1) := dk_172 (dk_at dksX0_snap_1 11 rfl rfl)
theorem dX0_snap_36 : decode cX0_snap 36 = .ok (.astore_n 3, 1) := dk_78 (dk_at dksX0_snap_1 12 rfl rfl)
theorem dX0_snap_37 : decode cX0_snap 37 = .ok (.bipush (-12), 2) := dk_16 244 (dk_at dksX0_snap_1 13 rfl rfl)
theorem dX0_snap_39 : decode cX0_snap 39 = .ok (.ireturn, 1) := dk_172 (dk_at dksX0_snap_1 15 rfl rfl)
theorem dX0_snap_40 : decode cX0_snap 40 = .ok (.astore_n 3, 1) := dk_78 (dk_at dksX0_snap_1 16 rfl rfl)
theorem dX0_snap_41 : decode cX0_snap 41 = .ok (.bipush (-11), 2) := dk_16 245 (dk_at dksX0_snap_1 17 rfl rfl)
theorem dX0_snap_43 : decode cX0_snap 43 = .ok (.ireturn, 1) := dk_172 (dk_at dksX0_snap_1 19 rfl rfl)
theorem dX0_snap_44 : decode cX0_snap 44 = .ok (.astore_n 3, 1) := dk_78 (dk_at dksX0_snap_1 20 rfl rfl)
theorem dX0_snap_45 : decode cX0_snap 45 = .ok (.bipush (-13), 2) := dk_16 243 (dk_at dksX0_snap_1 21 rfl rfl)
theorem dX0_snap_47 : decode cX0_snap 47 = .ok (.ireturn, 1) := dk_172 (dk_at dksX0_snap_1 23 rfl rfl)
abbrev cX0_snaps : ByteArray := prog_1_method_27_code
def yX0_snaps : MethodName := ⟨RX0, "snaps", "(LDeadListPool$Folder;Z)I"⟩
def dkwX0_snaps_3 : List UInt8 := [180, 0, 16, 4, 96, 181, 0, 16, 21, 5, 172]
abbrev dktX0_snaps_3 : List UInt8 := dkwX0_snaps_3 ++ []
def dkwX0_snaps_2 : List UInt8 := [58, 4, 42, 25, 4, 182, 0, 115, 54, 5, 43, 25, 4, 181, 0, 92, 43, 3, 181, 0, 184, 42, 89]
abbrev dktX0_snaps_2 : List UInt8 := dkwX0_snaps_2 ++ dktX0_snaps_3
def dkwX0_snaps_1 : List UInt8 := [42, 180, 0, 16, 43, 183, 0, 180, 167, 0, 15, 187, 0, 27, 89, 42, 180, 0, 16, 43, 183, 0, 183]
abbrev dktX0_snaps_1 : List UInt8 := dkwX0_snaps_1 ++ dktX0_snaps_2
def dkwX0_snaps_0 : List UInt8 := [43, 180, 0, 177, 62, 42, 182, 0, 81, 2, 160, 0, 6, 16, 252, 172, 28, 153, 0, 18, 187, 0, 178, 89]
abbrev dktX0_snaps_0 : List UInt8 := dkwX0_snaps_0 ++ dktX0_snaps_1
theorem dksX0_snaps_0 : cX0_snaps.data.toList.drop 0 = dktX0_snaps_0 := by decide +kernel
theorem dksX0_snaps_1 : cX0_snaps.data.toList.drop 24 = dktX0_snaps_1 := dk_seg dksX0_snaps_0 24 rfl rfl
theorem dksX0_snaps_2 : cX0_snaps.data.toList.drop 47 = dktX0_snaps_2 := dk_seg dksX0_snaps_1 23 rfl rfl
theorem dksX0_snaps_3 : cX0_snaps.data.toList.drop 70 = dktX0_snaps_3 := dk_seg dksX0_snaps_2 23 rfl rfl
theorem dX0_snaps_0 : decode cX0_snaps 0 = .ok (.aload_n 1, 1) := dk_43 (dk_at dksX0_snaps_0 0 rfl rfl)
theorem dX0_snaps_1 : decode cX0_snaps 1 = .ok (.getfield 177, 3) := dk_180 0 177 (dk_at dksX0_snaps_0 1 rfl rfl)
theorem dX0_snaps_4 : decode cX0_snaps 4 = .ok (.istore_n 3, 1) := dk_62 (dk_at dksX0_snaps_0 4 rfl rfl)
theorem dX0_snaps_5 : decode cX0_snaps 5 = .ok (.aload_n 0, 1) := dk_42 (dk_at dksX0_snaps_0 5 rfl rfl)
theorem dX0_snaps_6 : decode cX0_snaps 6 = .ok (.invokevirtual 81, 3) := dk_182 0 81 (dk_at dksX0_snaps_0 6 rfl rfl)
theorem dX0_snaps_9 : decode cX0_snaps 9 = .ok (.iconst (-1), 1) := dk_2 (dk_at dksX0_snaps_0 9 rfl rfl)
theorem dX0_snaps_10 : decode cX0_snaps 10 = .ok (.if_icmp .ne 6, 3) := dk_160 0 6 (dk_at dksX0_snaps_0 10 rfl rfl)
theorem dX0_snaps_13 : decode cX0_snaps 13 = .ok (.bipush (-4), 2) := dk_16 252 (dk_at dksX0_snaps_0 13 rfl rfl)
theorem dX0_snaps_15 : decode cX0_snaps 15 = .ok (.ireturn, 1) := dk_172 (dk_at dksX0_snaps_0 15 rfl rfl)
theorem dX0_snaps_16 : decode cX0_snaps 16 = .ok (.iload_n 2, 1) := dk_28 (dk_at dksX0_snaps_0 16 rfl rfl)
theorem dX0_snaps_17 : decode cX0_snaps 17 = .ok (.ifCond .eq 18, 3) := dk_153 0 18 (dk_at dksX0_snaps_0 17 rfl rfl)
theorem dX0_snaps_20 : decode cX0_snaps 20 = .ok (.new 178, 3) := dk_187 0 178 (dk_at dksX0_snaps_0 20 rfl rfl)
theorem dX0_snaps_23 : decode cX0_snaps 23 = .ok (.dup, 1) := dk_89 (dk_at dksX0_snaps_0 23 rfl rfl)
theorem dX0_snaps_24 : decode cX0_snaps 24 = .ok (.aload_n 0, 1) := dk_42 (dk_at dksX0_snaps_1 0 rfl rfl)
theorem dX0_snaps_25 : decode cX0_snaps 25 = .ok (.getfield 16, 3) := dk_180 0 16 (dk_at dksX0_snaps_1 1 rfl rfl)
theorem dX0_snaps_28 : decode cX0_snaps 28 = .ok (.aload_n 1, 1) := dk_43 (dk_at dksX0_snaps_1 4 rfl rfl)
theorem dX0_snaps_29 : decode cX0_snaps 29 = .ok (.invokespecial 180, 3) := dk_183 0 180 (dk_at dksX0_snaps_1 5 rfl rfl)
theorem dX0_snaps_32 : decode cX0_snaps 32 = .ok (.goto 15, 3) := dk_167 0 15 (dk_at dksX0_snaps_1 8 rfl rfl)
theorem dX0_snaps_35 : decode cX0_snaps 35 = .ok (.new 27, 3) := dk_187 0 27 (dk_at dksX0_snaps_1 11 rfl rfl)
theorem dX0_snaps_38 : decode cX0_snaps 38 = .ok (.dup, 1) := dk_89 (dk_at dksX0_snaps_1 14 rfl rfl)
theorem dX0_snaps_39 : decode cX0_snaps 39 = .ok (.aload_n 0, 1) := dk_42 (dk_at dksX0_snaps_1 15 rfl rfl)
theorem dX0_snaps_40 : decode cX0_snaps 40 = .ok (.getfield 16, 3) := dk_180 0 16 (dk_at dksX0_snaps_1 16 rfl rfl)
theorem dX0_snaps_43 : decode cX0_snaps 43 = .ok (.aload_n 1, 1) := dk_43 (dk_at dksX0_snaps_1 19 rfl rfl)
theorem dX0_snaps_44 : decode cX0_snaps 44 = .ok (.invokespecial 183, 3) := dk_183 0 183 (dk_at dksX0_snaps_1 20 rfl rfl)
theorem dX0_snaps_47 : decode cX0_snaps 47 = .ok (.astore 4, 2) := dk_58 4 (dk_at dksX0_snaps_2 0 rfl rfl)
theorem dX0_snaps_49 : decode cX0_snaps 49 = .ok (.aload_n 0, 1) := dk_42 (dk_at dksX0_snaps_2 2 rfl rfl)
theorem dX0_snaps_50 : decode cX0_snaps 50 = .ok (.aload 4, 2) := dk_25 4 (dk_at dksX0_snaps_2 3 rfl rfl)
theorem dX0_snaps_52 : decode cX0_snaps 52 = .ok (.invokevirtual 115, 3) := dk_182 0 115 (dk_at dksX0_snaps_2 5 rfl rfl)
theorem dX0_snaps_55 : decode cX0_snaps 55 = .ok (.istore 5, 2) := dk_54 5 (dk_at dksX0_snaps_2 8 rfl rfl)
theorem dX0_snaps_57 : decode cX0_snaps 57 = .ok (.aload_n 1, 1) := dk_43 (dk_at dksX0_snaps_2 10 rfl rfl)
theorem dX0_snaps_58 : decode cX0_snaps 58 = .ok (.aload 4, 2) := dk_25 4 (dk_at dksX0_snaps_2 11 rfl rfl)
theorem dX0_snaps_60 : decode cX0_snaps 60 = .ok (.putfield 92, 3) := dk_181 0 92 (dk_at dksX0_snaps_2 13 rfl rfl)
theorem dX0_snaps_63 : decode cX0_snaps 63 = .ok (.aload_n 1, 1) := dk_43 (dk_at dksX0_snaps_2 16 rfl rfl)
theorem dX0_snaps_64 : decode cX0_snaps 64 = .ok (.iconst 0, 1) := dk_3 (dk_at dksX0_snaps_2 17 rfl rfl)
theorem dX0_snaps_65 : decode cX0_snaps 65 = .ok (.putfield 184, 3) := dk_181 0 184 (dk_at dksX0_snaps_2 18 rfl rfl)
theorem dX0_snaps_68 : decode cX0_snaps 68 = .ok (.aload_n 0, 1) := dk_42 (dk_at dksX0_snaps_2 21 rfl rfl)
theorem dX0_snaps_69 : decode cX0_snaps 69 = .ok (.dup, 1) := dk_89 (dk_at dksX0_snaps_2 22 rfl rfl)
theorem dX0_snaps_70 : decode cX0_snaps 70 = .ok (.getfield 16, 3) := dk_180 0 16 (dk_at dksX0_snaps_3 0 rfl rfl)
theorem dX0_snaps_73 : decode cX0_snaps 73 = .ok (.iconst 1, 1) := dk_4 (dk_at dksX0_snaps_3 3 rfl rfl)
theorem dX0_snaps_74 : decode cX0_snaps 74 = .ok (.iadd, 1) := dk_96 (dk_at dksX0_snaps_3 4 rfl rfl)
theorem dX0_snaps_75 : decode cX0_snaps 75 = .ok (.putfield 16, 3) := dk_181 0 16 (dk_at dksX0_snaps_3 5 rfl rfl)
theorem dX0_snaps_78 : decode cX0_snaps 78 = .ok (.iload 5, 2) := dk_21 5 (dk_at dksX0_snaps_3 8 rfl rfl)
theorem dX0_snaps_80 : decode cX0_snaps 80 = .ok (.ireturn, 1) := dk_172 (dk_at dksX0_snaps_3 10 rfl rfl)
abbrev cX0_tag : ByteArray := prog_1_method_29_code
def yX0_tag : MethodName := ⟨RX0, "tag", "(II)I"⟩
def dkwX0_tag_2 : List UInt8 := [16, 243, 172]
abbrev dktX0_tag_2 : List UInt8 := dkwX0_tag_2 ++ []
def dkwX0_tag_1 : List UInt8 := [45, 182, 0, 191, 54, 4, 45, 28, 182, 0, 194, 21, 4, 172, 78, 16, 244, 172, 78, 16, 245, 172, 78]
abbrev dktX0_tag_1 : List UInt8 := dkwX0_tag_1 ++ dktX0_tag_2
def dkwX0_tag_0 : List UInt8 := [28, 133, 9, 20, 0, 189, 184, 0, 74, 154, 0, 6, 16, 254, 172, 42, 27, 182, 0, 161, 192, 0, 178, 78]
abbrev dktX0_tag_0 : List UInt8 := dkwX0_tag_0 ++ dktX0_tag_1
theorem dksX0_tag_0 : cX0_tag.data.toList.drop 0 = dktX0_tag_0 := by decide +kernel
theorem dksX0_tag_1 : cX0_tag.data.toList.drop 24 = dktX0_tag_1 := dk_seg dksX0_tag_0 24 rfl rfl
theorem dksX0_tag_2 : cX0_tag.data.toList.drop 47 = dktX0_tag_2 := dk_seg dksX0_tag_1 23 rfl rfl
theorem dX0_tag_0 : decode cX0_tag 0 = .ok (.iload_n 2, 1) := dk_28 (dk_at dksX0_tag_0 0 rfl rfl)
theorem dX0_tag_1 : decode cX0_tag 1 = .ok (.i2l, 1) := dk_133 (dk_at dksX0_tag_0 1 rfl rfl)
theorem dX0_tag_2 : decode cX0_tag 2 = .ok (.lconst 0, 1) := dk_9 (dk_at dksX0_tag_0 2 rfl rfl)
theorem dX0_tag_3 : decode cX0_tag 3 = .ok (.ldc2_w 189, 3) := dk_20 0 189 (dk_at dksX0_tag_0 3 rfl rfl)
theorem dX0_tag_6 : decode cX0_tag 6 = .ok (.invokestatic 74, 3) := dk_184 0 74 (dk_at dksX0_tag_0 6 rfl rfl)
theorem dX0_tag_9 : decode cX0_tag 9 = .ok (.ifCond .ne 6, 3) := dk_154 0 6 (dk_at dksX0_tag_0 9 rfl rfl)
theorem dX0_tag_12 : decode cX0_tag 12 = .ok (.bipush (-2), 2) := dk_16 254 (dk_at dksX0_tag_0 12 rfl rfl)
theorem dX0_tag_14 : decode cX0_tag 14 = .ok (.ireturn, 1) := dk_172 (dk_at dksX0_tag_0 14 rfl rfl)
theorem dX0_tag_15 : decode cX0_tag 15 = .ok (.aload_n 0, 1) := dk_42 (dk_at dksX0_tag_0 15 rfl rfl)
theorem dX0_tag_16 : decode cX0_tag 16 = .ok (.iload_n 1, 1) := dk_27 (dk_at dksX0_tag_0 16 rfl rfl)
theorem dX0_tag_17 : decode cX0_tag 17 = .ok (.invokevirtual 161, 3) := dk_182 0 161 (dk_at dksX0_tag_0 17 rfl rfl)
theorem dX0_tag_20 : decode cX0_tag 20 = .ok (.checkcast 178, 3) := dk_192 0 178 (dk_at dksX0_tag_0 20 rfl rfl)
theorem dX0_tag_23 : decode cX0_tag 23 = .ok (.astore_n 3, 1) := dk_78 (dk_at dksX0_tag_0 23 rfl rfl)
theorem dX0_tag_24 : decode cX0_tag 24 = .ok (.aload_n 3, 1) := dk_45 (dk_at dksX0_tag_1 0 rfl rfl)
theorem dX0_tag_25 : decode cX0_tag 25 = .ok (.invokevirtual 191, 3) := dk_182 0 191 (dk_at dksX0_tag_1 1 rfl rfl)
theorem dX0_tag_28 : decode cX0_tag 28 = .ok (.istore 4, 2) := dk_54 4 (dk_at dksX0_tag_1 4 rfl rfl)
theorem dX0_tag_30 : decode cX0_tag 30 = .ok (.aload_n 3, 1) := dk_45 (dk_at dksX0_tag_1 6 rfl rfl)
theorem dX0_tag_31 : decode cX0_tag 31 = .ok (.iload_n 2, 1) := dk_28 (dk_at dksX0_tag_1 7 rfl rfl)
theorem dX0_tag_32 : decode cX0_tag 32 = .ok (.invokevirtual 194, 3) := dk_182 0 194 (dk_at dksX0_tag_1 8 rfl rfl)
theorem dX0_tag_35 : decode cX0_tag 35 = .ok (.iload 4, 2) := dk_21 4 (dk_at dksX0_tag_1 11 rfl rfl)
theorem dX0_tag_37 : decode cX0_tag 37 = .ok (.ireturn, 1) := dk_172 (dk_at dksX0_tag_1 13 rfl rfl)
theorem dX0_tag_38 : decode cX0_tag 38 = .ok (.astore_n 3, 1) := dk_78 (dk_at dksX0_tag_1 14 rfl rfl)
theorem dX0_tag_39 : decode cX0_tag 39 = .ok (.bipush (-12), 2) := dk_16 244 (dk_at dksX0_tag_1 15 rfl rfl)
theorem dX0_tag_41 : decode cX0_tag 41 = .ok (.ireturn, 1) := dk_172 (dk_at dksX0_tag_1 17 rfl rfl)
theorem dX0_tag_42 : decode cX0_tag 42 = .ok (.astore_n 3, 1) := dk_78 (dk_at dksX0_tag_1 18 rfl rfl)
theorem dX0_tag_43 : decode cX0_tag 43 = .ok (.bipush (-11), 2) := dk_16 245 (dk_at dksX0_tag_1 19 rfl rfl)
theorem dX0_tag_45 : decode cX0_tag 45 = .ok (.ireturn, 1) := dk_172 (dk_at dksX0_tag_1 21 rfl rfl)
theorem dX0_tag_46 : decode cX0_tag 46 = .ok (.astore_n 3, 1) := dk_78 (dk_at dksX0_tag_1 22 rfl rfl)
theorem dX0_tag_47 : decode cX0_tag 47 = .ok (.bipush (-13), 2) := dk_16 243 (dk_at dksX0_tag_2 0 rfl rfl)
theorem dX0_tag_49 : decode cX0_tag 49 = .ok (.ireturn, 1) := dk_172 (dk_at dksX0_tag_2 2 rfl rfl)
abbrev cX0_mark : ByteArray := prog_1_method_30_code
def yX0_mark : MethodName := ⟨RX0, "mark", "(I)I"⟩
def dkwX0_mark_2 : List UInt8 := [172, 77, 16, 244, 172, 77, 16, 245, 172, 77, 16, 243, 172]
abbrev dktX0_mark_2 : List UInt8 := dkwX0_mark_2 ++ []
def dkwX0_mark_1 : List UInt8 := [182, 0, 81, 54, 4, 21, 4, 2, 160, 0, 6, 16, 252, 172, 42, 180, 0, 20, 21, 4, 45, 83, 21, 4]
abbrev dktX0_mark_1 : List UInt8 := dkwX0_mark_1 ++ dktX0_mark_2
def dkwX0_mark_0 : List UInt8 := [42, 27, 182, 0, 161, 192, 0, 27, 77, 187, 0, 60, 89, 44, 180, 0, 197, 183, 0, 198, 78, 42]
abbrev dktX0_mark_0 : List UInt8 := dkwX0_mark_0 ++ dktX0_mark_1
theorem dksX0_mark_0 : cX0_mark.data.toList.drop 0 = dktX0_mark_0 := by decide +kernel
theorem dksX0_mark_1 : cX0_mark.data.toList.drop 22 = dktX0_mark_1 := dk_seg dksX0_mark_0 22 rfl rfl
theorem dksX0_mark_2 : cX0_mark.data.toList.drop 46 = dktX0_mark_2 := dk_seg dksX0_mark_1 24 rfl rfl
theorem dX0_mark_0 : decode cX0_mark 0 = .ok (.aload_n 0, 1) := dk_42 (dk_at dksX0_mark_0 0 rfl rfl)
theorem dX0_mark_1 : decode cX0_mark 1 = .ok (.iload_n 1, 1) := dk_27 (dk_at dksX0_mark_0 1 rfl rfl)
theorem dX0_mark_2 : decode cX0_mark 2 = .ok (.invokevirtual 161, 3) := dk_182 0 161 (dk_at dksX0_mark_0 2 rfl rfl)
theorem dX0_mark_5 : decode cX0_mark 5 = .ok (.checkcast 27, 3) := dk_192 0 27 (dk_at dksX0_mark_0 5 rfl rfl)
theorem dX0_mark_8 : decode cX0_mark 8 = .ok (.astore_n 2, 1) := dk_77 (dk_at dksX0_mark_0 8 rfl rfl)
theorem dX0_mark_9 : decode cX0_mark 9 = .ok (.new 60, 3) := dk_187 0 60 (dk_at dksX0_mark_0 9 rfl rfl)
theorem dX0_mark_12 : decode cX0_mark 12 = .ok (.dup, 1) := dk_89 (dk_at dksX0_mark_0 12 rfl rfl)
theorem dX0_mark_13 : decode cX0_mark 13 = .ok (.aload_n 2, 1) := dk_44 (dk_at dksX0_mark_0 13 rfl rfl)
theorem dX0_mark_14 : decode cX0_mark 14 = .ok (.getfield 197, 3) := dk_180 0 197 (dk_at dksX0_mark_0 14 rfl rfl)
theorem dX0_mark_17 : decode cX0_mark 17 = .ok (.invokespecial 198, 3) := dk_183 0 198 (dk_at dksX0_mark_0 17 rfl rfl)
theorem dX0_mark_20 : decode cX0_mark 20 = .ok (.astore_n 3, 1) := dk_78 (dk_at dksX0_mark_0 20 rfl rfl)
theorem dX0_mark_21 : decode cX0_mark 21 = .ok (.aload_n 0, 1) := dk_42 (dk_at dksX0_mark_0 21 rfl rfl)
theorem dX0_mark_22 : decode cX0_mark 22 = .ok (.invokevirtual 81, 3) := dk_182 0 81 (dk_at dksX0_mark_1 0 rfl rfl)
theorem dX0_mark_25 : decode cX0_mark 25 = .ok (.istore 4, 2) := dk_54 4 (dk_at dksX0_mark_1 3 rfl rfl)
theorem dX0_mark_27 : decode cX0_mark 27 = .ok (.iload 4, 2) := dk_21 4 (dk_at dksX0_mark_1 5 rfl rfl)
theorem dX0_mark_29 : decode cX0_mark 29 = .ok (.iconst (-1), 1) := dk_2 (dk_at dksX0_mark_1 7 rfl rfl)
theorem dX0_mark_30 : decode cX0_mark 30 = .ok (.if_icmp .ne 6, 3) := dk_160 0 6 (dk_at dksX0_mark_1 8 rfl rfl)
theorem dX0_mark_33 : decode cX0_mark 33 = .ok (.bipush (-4), 2) := dk_16 252 (dk_at dksX0_mark_1 11 rfl rfl)
theorem dX0_mark_35 : decode cX0_mark 35 = .ok (.ireturn, 1) := dk_172 (dk_at dksX0_mark_1 13 rfl rfl)
theorem dX0_mark_36 : decode cX0_mark 36 = .ok (.aload_n 0, 1) := dk_42 (dk_at dksX0_mark_1 14 rfl rfl)
theorem dX0_mark_37 : decode cX0_mark 37 = .ok (.getfield 20, 3) := dk_180 0 20 (dk_at dksX0_mark_1 15 rfl rfl)
theorem dX0_mark_40 : decode cX0_mark 40 = .ok (.iload 4, 2) := dk_21 4 (dk_at dksX0_mark_1 18 rfl rfl)
theorem dX0_mark_42 : decode cX0_mark 42 = .ok (.aload_n 3, 1) := dk_45 (dk_at dksX0_mark_1 20 rfl rfl)
theorem dX0_mark_43 : decode cX0_mark 43 = .ok (.aastore, 1) := dk_83 (dk_at dksX0_mark_1 21 rfl rfl)
theorem dX0_mark_44 : decode cX0_mark 44 = .ok (.iload 4, 2) := dk_21 4 (dk_at dksX0_mark_1 22 rfl rfl)
theorem dX0_mark_46 : decode cX0_mark 46 = .ok (.ireturn, 1) := dk_172 (dk_at dksX0_mark_2 0 rfl rfl)
theorem dX0_mark_47 : decode cX0_mark 47 = .ok (.astore_n 2, 1) := dk_77 (dk_at dksX0_mark_2 1 rfl rfl)
theorem dX0_mark_48 : decode cX0_mark 48 = .ok (.bipush (-12), 2) := dk_16 244 (dk_at dksX0_mark_2 2 rfl rfl)
theorem dX0_mark_50 : decode cX0_mark 50 = .ok (.ireturn, 1) := dk_172 (dk_at dksX0_mark_2 4 rfl rfl)
theorem dX0_mark_51 : decode cX0_mark 51 = .ok (.astore_n 2, 1) := dk_77 (dk_at dksX0_mark_2 5 rfl rfl)
theorem dX0_mark_52 : decode cX0_mark 52 = .ok (.bipush (-11), 2) := dk_16 245 (dk_at dksX0_mark_2 6 rfl rfl)
theorem dX0_mark_54 : decode cX0_mark 54 = .ok (.ireturn, 1) := dk_172 (dk_at dksX0_mark_2 8 rfl rfl)
theorem dX0_mark_55 : decode cX0_mark 55 = .ok (.astore_n 2, 1) := dk_77 (dk_at dksX0_mark_2 9 rfl rfl)
theorem dX0_mark_56 : decode cX0_mark 56 = .ok (.bipush (-13), 2) := dk_16 243 (dk_at dksX0_mark_2 10 rfl rfl)
theorem dX0_mark_58 : decode cX0_mark 58 = .ok (.ireturn, 1) := dk_172 (dk_at dksX0_mark_2 12 rfl rfl)
abbrev cX0_fork : ByteArray := prog_1_method_32_code
def yX0_fork : MethodName := ⟨RX0, "fork", "(I)I"⟩
def dkwX0_fork_1 : List UInt8 := [172]
abbrev dktX0_fork_1 : List UInt8 := dkwX0_fork_1 ++ []
def dkwX0_fork_0 : List UInt8 := [42, 42, 27, 182, 0, 161, 192, 0, 27, 182, 0, 205, 172, 77, 16, 244, 172, 77, 16, 245, 172, 77, 16, 243]
abbrev dktX0_fork_0 : List UInt8 := dkwX0_fork_0 ++ dktX0_fork_1
theorem dksX0_fork_0 : cX0_fork.data.toList.drop 0 = dktX0_fork_0 := by decide +kernel
theorem dksX0_fork_1 : cX0_fork.data.toList.drop 24 = dktX0_fork_1 := dk_seg dksX0_fork_0 24 rfl rfl
theorem dX0_fork_0 : decode cX0_fork 0 = .ok (.aload_n 0, 1) := dk_42 (dk_at dksX0_fork_0 0 rfl rfl)
theorem dX0_fork_1 : decode cX0_fork 1 = .ok (.aload_n 0, 1) := dk_42 (dk_at dksX0_fork_0 1 rfl rfl)
theorem dX0_fork_2 : decode cX0_fork 2 = .ok (.iload_n 1, 1) := dk_27 (dk_at dksX0_fork_0 2 rfl rfl)
theorem dX0_fork_3 : decode cX0_fork 3 = .ok (.invokevirtual 161, 3) := dk_182 0 161 (dk_at dksX0_fork_0 3 rfl rfl)
theorem dX0_fork_6 : decode cX0_fork 6 = .ok (.checkcast 27, 3) := dk_192 0 27 (dk_at dksX0_fork_0 6 rfl rfl)
theorem dX0_fork_9 : decode cX0_fork 9 = .ok (.invokevirtual 205, 3) := dk_182 0 205 (dk_at dksX0_fork_0 9 rfl rfl)
theorem dX0_fork_12 : decode cX0_fork 12 = .ok (.ireturn, 1) := dk_172 (dk_at dksX0_fork_0 12 rfl rfl)
theorem dX0_fork_13 : decode cX0_fork 13 = .ok (.astore_n 2, 1) := dk_77 (dk_at dksX0_fork_0 13 rfl rfl)
theorem dX0_fork_14 : decode cX0_fork 14 = .ok (.bipush (-12), 2) := dk_16 244 (dk_at dksX0_fork_0 14 rfl rfl)
theorem dX0_fork_16 : decode cX0_fork 16 = .ok (.ireturn, 1) := dk_172 (dk_at dksX0_fork_0 16 rfl rfl)
theorem dX0_fork_17 : decode cX0_fork 17 = .ok (.astore_n 2, 1) := dk_77 (dk_at dksX0_fork_0 17 rfl rfl)
theorem dX0_fork_18 : decode cX0_fork 18 = .ok (.bipush (-11), 2) := dk_16 245 (dk_at dksX0_fork_0 18 rfl rfl)
theorem dX0_fork_20 : decode cX0_fork 20 = .ok (.ireturn, 1) := dk_172 (dk_at dksX0_fork_0 20 rfl rfl)
theorem dX0_fork_21 : decode cX0_fork 21 = .ok (.astore_n 2, 1) := dk_77 (dk_at dksX0_fork_0 21 rfl rfl)
theorem dX0_fork_22 : decode cX0_fork 22 = .ok (.bipush (-13), 2) := dk_16 243 (dk_at dksX0_fork_0 22 rfl rfl)
theorem dX0_fork_24 : decode cX0_fork 24 = .ok (.ireturn, 1) := dk_172 (dk_at dksX0_fork_1 0 rfl rfl)
abbrev cX0_forks : ByteArray := prog_1_method_31_code
def yX0_forks : MethodName := ⟨RX0, "forks", "(LDeadListPool$Snapshot;)I"⟩
def dkwX0_forks_1 : List UInt8 := [43, 183, 0, 108, 78, 45, 43, 182, 0, 201, 42, 45, 182, 0, 115, 172]
abbrev dktX0_forks_1 : List UInt8 := dkwX0_forks_1 ++ []
def dkwX0_forks_0 : List UInt8 := [43, 180, 0, 200, 61, 42, 182, 0, 81, 2, 160, 0, 6, 16, 252, 172, 187, 0, 93, 89, 42, 180, 0, 16]
abbrev dktX0_forks_0 : List UInt8 := dkwX0_forks_0 ++ dktX0_forks_1
theorem dksX0_forks_0 : cX0_forks.data.toList.drop 0 = dktX0_forks_0 := by decide +kernel
theorem dksX0_forks_1 : cX0_forks.data.toList.drop 24 = dktX0_forks_1 := dk_seg dksX0_forks_0 24 rfl rfl
theorem dX0_forks_0 : decode cX0_forks 0 = .ok (.aload_n 1, 1) := dk_43 (dk_at dksX0_forks_0 0 rfl rfl)
theorem dX0_forks_1 : decode cX0_forks 1 = .ok (.getfield 200, 3) := dk_180 0 200 (dk_at dksX0_forks_0 1 rfl rfl)
theorem dX0_forks_4 : decode cX0_forks 4 = .ok (.istore_n 2, 1) := dk_61 (dk_at dksX0_forks_0 4 rfl rfl)
theorem dX0_forks_5 : decode cX0_forks 5 = .ok (.aload_n 0, 1) := dk_42 (dk_at dksX0_forks_0 5 rfl rfl)
theorem dX0_forks_6 : decode cX0_forks 6 = .ok (.invokevirtual 81, 3) := dk_182 0 81 (dk_at dksX0_forks_0 6 rfl rfl)
theorem dX0_forks_9 : decode cX0_forks 9 = .ok (.iconst (-1), 1) := dk_2 (dk_at dksX0_forks_0 9 rfl rfl)
theorem dX0_forks_10 : decode cX0_forks 10 = .ok (.if_icmp .ne 6, 3) := dk_160 0 6 (dk_at dksX0_forks_0 10 rfl rfl)
theorem dX0_forks_13 : decode cX0_forks 13 = .ok (.bipush (-4), 2) := dk_16 252 (dk_at dksX0_forks_0 13 rfl rfl)
theorem dX0_forks_15 : decode cX0_forks 15 = .ok (.ireturn, 1) := dk_172 (dk_at dksX0_forks_0 15 rfl rfl)
theorem dX0_forks_16 : decode cX0_forks 16 = .ok (.new 93, 3) := dk_187 0 93 (dk_at dksX0_forks_0 16 rfl rfl)
theorem dX0_forks_19 : decode cX0_forks 19 = .ok (.dup, 1) := dk_89 (dk_at dksX0_forks_0 19 rfl rfl)
theorem dX0_forks_20 : decode cX0_forks 20 = .ok (.aload_n 0, 1) := dk_42 (dk_at dksX0_forks_0 20 rfl rfl)
theorem dX0_forks_21 : decode cX0_forks 21 = .ok (.getfield 16, 3) := dk_180 0 16 (dk_at dksX0_forks_0 21 rfl rfl)
theorem dX0_forks_24 : decode cX0_forks 24 = .ok (.aload_n 1, 1) := dk_43 (dk_at dksX0_forks_1 0 rfl rfl)
theorem dX0_forks_25 : decode cX0_forks 25 = .ok (.invokespecial 108, 3) := dk_183 0 108 (dk_at dksX0_forks_1 1 rfl rfl)
theorem dX0_forks_28 : decode cX0_forks 28 = .ok (.astore_n 3, 1) := dk_78 (dk_at dksX0_forks_1 4 rfl rfl)
theorem dX0_forks_29 : decode cX0_forks 29 = .ok (.aload_n 3, 1) := dk_45 (dk_at dksX0_forks_1 5 rfl rfl)
theorem dX0_forks_30 : decode cX0_forks 30 = .ok (.aload_n 1, 1) := dk_43 (dk_at dksX0_forks_1 6 rfl rfl)
theorem dX0_forks_31 : decode cX0_forks 31 = .ok (.invokevirtual 201, 3) := dk_182 0 201 (dk_at dksX0_forks_1 7 rfl rfl)
theorem dX0_forks_34 : decode cX0_forks 34 = .ok (.aload_n 0, 1) := dk_42 (dk_at dksX0_forks_1 10 rfl rfl)
theorem dX0_forks_35 : decode cX0_forks 35 = .ok (.aload_n 3, 1) := dk_45 (dk_at dksX0_forks_1 11 rfl rfl)
theorem dX0_forks_36 : decode cX0_forks 36 = .ok (.invokevirtual 115, 3) := dk_182 0 115 (dk_at dksX0_forks_1 12 rfl rfl)
theorem dX0_forks_39 : decode cX0_forks 39 = .ok (.ireturn, 1) := dk_172 (dk_at dksX0_forks_1 15 rfl rfl)
abbrev cX0_remove : ByteArray := prog_1_method_38_code
def yX0_remove : MethodName := ⟨RX0, "remove", "(I)I"⟩
def dkwX0_remove_3 : List UInt8 := [153, 0, 14, 42, 44, 192, 0, 27, 182, 0, 238, 167, 0, 5, 16, 253, 172]
abbrev dktX0_remove_3 : List UInt8 := dkwX0_remove_3 ++ []
def dkwX0_remove_2 : List UInt8 := [193, 0, 93, 153, 0, 12, 42, 44, 192, 0, 93, 182, 0, 231, 172, 42, 44, 192, 0, 27, 182, 0, 234]
abbrev dktX0_remove_2 : List UInt8 := dkwX0_remove_2 ++ dktX0_remove_3
def dkwX0_remove_1 : List UInt8 := [199, 0, 6, 16, 245, 172, 44, 193, 0, 60, 153, 0, 12, 42, 180, 0, 20, 27, 1, 83, 3, 172, 44]
abbrev dktX0_remove_1 : List UInt8 := dkwX0_remove_1 ++ dktX0_remove_2
def dkwX0_remove_0 : List UInt8 := [27, 133, 9, 20, 0, 72, 184, 0, 74, 154, 0, 6, 16, 244, 172, 42, 180, 0, 20, 27, 50, 77, 44]
abbrev dktX0_remove_0 : List UInt8 := dkwX0_remove_0 ++ dktX0_remove_1
theorem dksX0_remove_0 : cX0_remove.data.toList.drop 0 = dktX0_remove_0 := by decide +kernel
theorem dksX0_remove_1 : cX0_remove.data.toList.drop 23 = dktX0_remove_1 := dk_seg dksX0_remove_0 23 rfl rfl
theorem dksX0_remove_2 : cX0_remove.data.toList.drop 46 = dktX0_remove_2 := dk_seg dksX0_remove_1 23 rfl rfl
theorem dksX0_remove_3 : cX0_remove.data.toList.drop 69 = dktX0_remove_3 := dk_seg dksX0_remove_2 23 rfl rfl
theorem dX0_remove_0 : decode cX0_remove 0 = .ok (.iload_n 1, 1) := dk_27 (dk_at dksX0_remove_0 0 rfl rfl)
theorem dX0_remove_1 : decode cX0_remove 1 = .ok (.i2l, 1) := dk_133 (dk_at dksX0_remove_0 1 rfl rfl)
theorem dX0_remove_2 : decode cX0_remove 2 = .ok (.lconst 0, 1) := dk_9 (dk_at dksX0_remove_0 2 rfl rfl)
theorem dX0_remove_3 : decode cX0_remove 3 = .ok (.ldc2_w 72, 3) := dk_20 0 72 (dk_at dksX0_remove_0 3 rfl rfl)
theorem dX0_remove_6 : decode cX0_remove 6 = .ok (.invokestatic 74, 3) := dk_184 0 74 (dk_at dksX0_remove_0 6 rfl rfl)
theorem dX0_remove_9 : decode cX0_remove 9 = .ok (.ifCond .ne 6, 3) := dk_154 0 6 (dk_at dksX0_remove_0 9 rfl rfl)
theorem dX0_remove_12 : decode cX0_remove 12 = .ok (.bipush (-12), 2) := dk_16 244 (dk_at dksX0_remove_0 12 rfl rfl)
theorem dX0_remove_14 : decode cX0_remove 14 = .ok (.ireturn, 1) := dk_172 (dk_at dksX0_remove_0 14 rfl rfl)
theorem dX0_remove_15 : decode cX0_remove 15 = .ok (.aload_n 0, 1) := dk_42 (dk_at dksX0_remove_0 15 rfl rfl)
theorem dX0_remove_16 : decode cX0_remove 16 = .ok (.getfield 20, 3) := dk_180 0 20 (dk_at dksX0_remove_0 16 rfl rfl)
theorem dX0_remove_19 : decode cX0_remove 19 = .ok (.iload_n 1, 1) := dk_27 (dk_at dksX0_remove_0 19 rfl rfl)
theorem dX0_remove_20 : decode cX0_remove 20 = .ok (.aaload, 1) := dk_50 (dk_at dksX0_remove_0 20 rfl rfl)
theorem dX0_remove_21 : decode cX0_remove 21 = .ok (.astore_n 2, 1) := dk_77 (dk_at dksX0_remove_0 21 rfl rfl)
theorem dX0_remove_22 : decode cX0_remove 22 = .ok (.aload_n 2, 1) := dk_44 (dk_at dksX0_remove_0 22 rfl rfl)
theorem dX0_remove_23 : decode cX0_remove 23 = .ok (.ifnonnull 6, 3) := dk_199 0 6 (dk_at dksX0_remove_1 0 rfl rfl)
theorem dX0_remove_26 : decode cX0_remove 26 = .ok (.bipush (-11), 2) := dk_16 245 (dk_at dksX0_remove_1 3 rfl rfl)
theorem dX0_remove_28 : decode cX0_remove 28 = .ok (.ireturn, 1) := dk_172 (dk_at dksX0_remove_1 5 rfl rfl)
theorem dX0_remove_29 : decode cX0_remove 29 = .ok (.aload_n 2, 1) := dk_44 (dk_at dksX0_remove_1 6 rfl rfl)
theorem dX0_remove_30 : decode cX0_remove 30 = .ok (.instanceof 60, 3) := dk_193 0 60 (dk_at dksX0_remove_1 7 rfl rfl)
theorem dX0_remove_33 : decode cX0_remove 33 = .ok (.ifCond .eq 12, 3) := dk_153 0 12 (dk_at dksX0_remove_1 10 rfl rfl)
theorem dX0_remove_36 : decode cX0_remove 36 = .ok (.aload_n 0, 1) := dk_42 (dk_at dksX0_remove_1 13 rfl rfl)
theorem dX0_remove_37 : decode cX0_remove 37 = .ok (.getfield 20, 3) := dk_180 0 20 (dk_at dksX0_remove_1 14 rfl rfl)
theorem dX0_remove_40 : decode cX0_remove 40 = .ok (.iload_n 1, 1) := dk_27 (dk_at dksX0_remove_1 17 rfl rfl)
theorem dX0_remove_41 : decode cX0_remove 41 = .ok (.aconst_null, 1) := dk_1 (dk_at dksX0_remove_1 18 rfl rfl)
theorem dX0_remove_42 : decode cX0_remove 42 = .ok (.aastore, 1) := dk_83 (dk_at dksX0_remove_1 19 rfl rfl)
theorem dX0_remove_43 : decode cX0_remove 43 = .ok (.iconst 0, 1) := dk_3 (dk_at dksX0_remove_1 20 rfl rfl)
theorem dX0_remove_44 : decode cX0_remove 44 = .ok (.ireturn, 1) := dk_172 (dk_at dksX0_remove_1 21 rfl rfl)
theorem dX0_remove_45 : decode cX0_remove 45 = .ok (.aload_n 2, 1) := dk_44 (dk_at dksX0_remove_1 22 rfl rfl)
theorem dX0_remove_46 : decode cX0_remove 46 = .ok (.instanceof 93, 3) := dk_193 0 93 (dk_at dksX0_remove_2 0 rfl rfl)
theorem dX0_remove_49 : decode cX0_remove 49 = .ok (.ifCond .eq 12, 3) := dk_153 0 12 (dk_at dksX0_remove_2 3 rfl rfl)
theorem dX0_remove_52 : decode cX0_remove 52 = .ok (.aload_n 0, 1) := dk_42 (dk_at dksX0_remove_2 6 rfl rfl)
theorem dX0_remove_53 : decode cX0_remove 53 = .ok (.aload_n 2, 1) := dk_44 (dk_at dksX0_remove_2 7 rfl rfl)
theorem dX0_remove_54 : decode cX0_remove 54 = .ok (.checkcast 93, 3) := dk_192 0 93 (dk_at dksX0_remove_2 8 rfl rfl)
theorem dX0_remove_57 : decode cX0_remove 57 = .ok (.invokevirtual 231, 3) := dk_182 0 231 (dk_at dksX0_remove_2 11 rfl rfl)
theorem dX0_remove_60 : decode cX0_remove 60 = .ok (.ireturn, 1) := dk_172 (dk_at dksX0_remove_2 14 rfl rfl)
theorem dX0_remove_61 : decode cX0_remove 61 = .ok (.aload_n 0, 1) := dk_42 (dk_at dksX0_remove_2 15 rfl rfl)
theorem dX0_remove_62 : decode cX0_remove 62 = .ok (.aload_n 2, 1) := dk_44 (dk_at dksX0_remove_2 16 rfl rfl)
theorem dX0_remove_63 : decode cX0_remove 63 = .ok (.checkcast 27, 3) := dk_192 0 27 (dk_at dksX0_remove_2 17 rfl rfl)
theorem dX0_remove_66 : decode cX0_remove 66 = .ok (.invokevirtual 234, 3) := dk_182 0 234 (dk_at dksX0_remove_2 20 rfl rfl)
theorem dX0_remove_69 : decode cX0_remove 69 = .ok (.ifCond .eq 14, 3) := dk_153 0 14 (dk_at dksX0_remove_3 0 rfl rfl)
theorem dX0_remove_72 : decode cX0_remove 72 = .ok (.aload_n 0, 1) := dk_42 (dk_at dksX0_remove_3 3 rfl rfl)
theorem dX0_remove_73 : decode cX0_remove 73 = .ok (.aload_n 2, 1) := dk_44 (dk_at dksX0_remove_3 4 rfl rfl)
theorem dX0_remove_74 : decode cX0_remove 74 = .ok (.checkcast 27, 3) := dk_192 0 27 (dk_at dksX0_remove_3 5 rfl rfl)
theorem dX0_remove_77 : decode cX0_remove 77 = .ok (.invokevirtual 238, 3) := dk_182 0 238 (dk_at dksX0_remove_3 8 rfl rfl)
theorem dX0_remove_80 : decode cX0_remove 80 = .ok (.goto 5, 3) := dk_167 0 5 (dk_at dksX0_remove_3 11 rfl rfl)
theorem dX0_remove_83 : decode cX0_remove 83 = .ok (.bipush (-3), 2) := dk_16 253 (dk_at dksX0_remove_3 14 rfl rfl)
theorem dX0_remove_85 : decode cX0_remove 85 = .ok (.ireturn, 1) := dk_172 (dk_at dksX0_remove_3 16 rfl rfl)
abbrev cX0_removesFiles : ByteArray := prog_1_method_37_code
def yX0_removesFiles : MethodName := ⟨RX0, "removesFiles", "(LDeadListPool$Folder;)I"⟩
def dkwX0_removesFiles_1 : List UInt8 := [182, 0, 228, 172]
abbrev dktX0_removesFiles_1 : List UInt8 := dkwX0_removesFiles_1 ++ []
def dkwX0_removesFiles_0 : List UInt8 := [42, 43, 182, 0, 224, 158, 0, 6, 16, 253, 172, 42, 180, 0, 20, 43, 180, 0, 177, 1, 83, 42, 43]
abbrev dktX0_removesFiles_0 : List UInt8 := dkwX0_removesFiles_0 ++ dktX0_removesFiles_1
theorem dksX0_removesFiles_0 : cX0_removesFiles.data.toList.drop 0 = dktX0_removesFiles_0 := by decide +kernel
theorem dksX0_removesFiles_1 : cX0_removesFiles.data.toList.drop 23 = dktX0_removesFiles_1 := dk_seg dksX0_removesFiles_0 23 rfl rfl
theorem dX0_removesFiles_0 : decode cX0_removesFiles 0 = .ok (.aload_n 0, 1) := dk_42 (dk_at dksX0_removesFiles_0 0 rfl rfl)
theorem dX0_removesFiles_1 : decode cX0_removesFiles 1 = .ok (.aload_n 1, 1) := dk_43 (dk_at dksX0_removesFiles_0 1 rfl rfl)
theorem dX0_removesFiles_2 : decode cX0_removesFiles 2 = .ok (.invokevirtual 224, 3) := dk_182 0 224 (dk_at dksX0_removesFiles_0 2 rfl rfl)
theorem dX0_removesFiles_5 : decode cX0_removesFiles 5 = .ok (.ifCond .le 6, 3) := dk_158 0 6 (dk_at dksX0_removesFiles_0 5 rfl rfl)
theorem dX0_removesFiles_8 : decode cX0_removesFiles 8 = .ok (.bipush (-3), 2) := dk_16 253 (dk_at dksX0_removesFiles_0 8 rfl rfl)
theorem dX0_removesFiles_10 : decode cX0_removesFiles 10 = .ok (.ireturn, 1) := dk_172 (dk_at dksX0_removesFiles_0 10 rfl rfl)
theorem dX0_removesFiles_11 : decode cX0_removesFiles 11 = .ok (.aload_n 0, 1) := dk_42 (dk_at dksX0_removesFiles_0 11 rfl rfl)
theorem dX0_removesFiles_12 : decode cX0_removesFiles 12 = .ok (.getfield 20, 3) := dk_180 0 20 (dk_at dksX0_removesFiles_0 12 rfl rfl)
theorem dX0_removesFiles_15 : decode cX0_removesFiles 15 = .ok (.aload_n 1, 1) := dk_43 (dk_at dksX0_removesFiles_0 15 rfl rfl)
theorem dX0_removesFiles_16 : decode cX0_removesFiles 16 = .ok (.getfield 177, 3) := dk_180 0 177 (dk_at dksX0_removesFiles_0 16 rfl rfl)
theorem dX0_removesFiles_19 : decode cX0_removesFiles 19 = .ok (.aconst_null, 1) := dk_1 (dk_at dksX0_removesFiles_0 19 rfl rfl)
theorem dX0_removesFiles_20 : decode cX0_removesFiles 20 = .ok (.aastore, 1) := dk_83 (dk_at dksX0_removesFiles_0 20 rfl rfl)
theorem dX0_removesFiles_21 : decode cX0_removesFiles 21 = .ok (.aload_n 0, 1) := dk_42 (dk_at dksX0_removesFiles_0 21 rfl rfl)
theorem dX0_removesFiles_22 : decode cX0_removesFiles 22 = .ok (.aload_n 1, 1) := dk_43 (dk_at dksX0_removesFiles_0 22 rfl rfl)
theorem dX0_removesFiles_23 : decode cX0_removesFiles 23 = .ok (.invokevirtual 228, 3) := dk_182 0 228 (dk_at dksX0_removesFiles_1 0 rfl rfl)
theorem dX0_removesFiles_26 : decode cX0_removesFiles 26 = .ok (.ireturn, 1) := dk_172 (dk_at dksX0_removesFiles_1 3 rfl rfl)
abbrev cX0_ownMany : ByteArray := prog_1_method_17_code
def yX0_ownMany : MethodName := ⟨RX0, "ownMany", "(LDeadListPool$Folder;)I"⟩
def dkwX0_ownMany_1 : List UInt8 := [180, 0, 95, 43, 166, 0, 7, 4, 167, 0, 4, 3, 96, 61, 132, 3, 1, 167, 255, 219, 28, 172]
abbrev dktX0_ownMany_1 : List UInt8 := dkwX0_ownMany_1 ++ []
def dkwX0_ownMany_0 : List UInt8 := [3, 61, 3, 62, 29, 16, 20, 162, 0, 37, 28, 42, 29, 182, 0, 100, 198, 0, 19, 42, 29, 182, 0, 100]
abbrev dktX0_ownMany_0 : List UInt8 := dkwX0_ownMany_0 ++ dktX0_ownMany_1
theorem dksX0_ownMany_0 : cX0_ownMany.data.toList.drop 0 = dktX0_ownMany_0 := by decide +kernel
theorem dksX0_ownMany_1 : cX0_ownMany.data.toList.drop 24 = dktX0_ownMany_1 := dk_seg dksX0_ownMany_0 24 rfl rfl
theorem dX0_ownMany_0 : decode cX0_ownMany 0 = .ok (.iconst 0, 1) := dk_3 (dk_at dksX0_ownMany_0 0 rfl rfl)
theorem dX0_ownMany_1 : decode cX0_ownMany 1 = .ok (.istore_n 2, 1) := dk_61 (dk_at dksX0_ownMany_0 1 rfl rfl)
theorem dX0_ownMany_2 : decode cX0_ownMany 2 = .ok (.iconst 0, 1) := dk_3 (dk_at dksX0_ownMany_0 2 rfl rfl)
theorem dX0_ownMany_3 : decode cX0_ownMany 3 = .ok (.istore_n 3, 1) := dk_62 (dk_at dksX0_ownMany_0 3 rfl rfl)
theorem dX0_ownMany_4 : decode cX0_ownMany 4 = .ok (.iload_n 3, 1) := dk_29 (dk_at dksX0_ownMany_0 4 rfl rfl)
theorem dX0_ownMany_5 : decode cX0_ownMany 5 = .ok (.bipush 20, 2) := dk_16 20 (dk_at dksX0_ownMany_0 5 rfl rfl)
theorem dX0_ownMany_7 : decode cX0_ownMany 7 = .ok (.if_icmp .ge 37, 3) := dk_162 0 37 (dk_at dksX0_ownMany_0 7 rfl rfl)
theorem dX0_ownMany_10 : decode cX0_ownMany 10 = .ok (.iload_n 2, 1) := dk_28 (dk_at dksX0_ownMany_0 10 rfl rfl)
theorem dX0_ownMany_11 : decode cX0_ownMany 11 = .ok (.aload_n 0, 1) := dk_42 (dk_at dksX0_ownMany_0 11 rfl rfl)
theorem dX0_ownMany_12 : decode cX0_ownMany 12 = .ok (.iload_n 3, 1) := dk_29 (dk_at dksX0_ownMany_0 12 rfl rfl)
theorem dX0_ownMany_13 : decode cX0_ownMany 13 = .ok (.invokevirtual 100, 3) := dk_182 0 100 (dk_at dksX0_ownMany_0 13 rfl rfl)
theorem dX0_ownMany_16 : decode cX0_ownMany 16 = .ok (.ifnull 19, 3) := dk_198 0 19 (dk_at dksX0_ownMany_0 16 rfl rfl)
theorem dX0_ownMany_19 : decode cX0_ownMany 19 = .ok (.aload_n 0, 1) := dk_42 (dk_at dksX0_ownMany_0 19 rfl rfl)
theorem dX0_ownMany_20 : decode cX0_ownMany 20 = .ok (.iload_n 3, 1) := dk_29 (dk_at dksX0_ownMany_0 20 rfl rfl)
theorem dX0_ownMany_21 : decode cX0_ownMany 21 = .ok (.invokevirtual 100, 3) := dk_182 0 100 (dk_at dksX0_ownMany_0 21 rfl rfl)
theorem dX0_ownMany_24 : decode cX0_ownMany 24 = .ok (.getfield 95, 3) := dk_180 0 95 (dk_at dksX0_ownMany_1 0 rfl rfl)
theorem dX0_ownMany_27 : decode cX0_ownMany 27 = .ok (.aload_n 1, 1) := dk_43 (dk_at dksX0_ownMany_1 3 rfl rfl)
theorem dX0_ownMany_28 : decode cX0_ownMany 28 = .ok (.if_acmp .ne 7, 3) := dk_166 0 7 (dk_at dksX0_ownMany_1 4 rfl rfl)
theorem dX0_ownMany_31 : decode cX0_ownMany 31 = .ok (.iconst 1, 1) := dk_4 (dk_at dksX0_ownMany_1 7 rfl rfl)
theorem dX0_ownMany_32 : decode cX0_ownMany 32 = .ok (.goto 4, 3) := dk_167 0 4 (dk_at dksX0_ownMany_1 8 rfl rfl)
theorem dX0_ownMany_35 : decode cX0_ownMany 35 = .ok (.iconst 0, 1) := dk_3 (dk_at dksX0_ownMany_1 11 rfl rfl)
theorem dX0_ownMany_36 : decode cX0_ownMany 36 = .ok (.iadd, 1) := dk_96 (dk_at dksX0_ownMany_1 12 rfl rfl)
theorem dX0_ownMany_37 : decode cX0_ownMany 37 = .ok (.istore_n 2, 1) := dk_61 (dk_at dksX0_ownMany_1 13 rfl rfl)
theorem dX0_ownMany_38 : decode cX0_ownMany 38 = .ok (.iinc 3 1, 3) := dk_132 3 1 (dk_at dksX0_ownMany_1 14 rfl rfl)
theorem dX0_ownMany_41 : decode cX0_ownMany 41 = .ok (.goto (-37), 3) := dk_167 255 219 (dk_at dksX0_ownMany_1 17 rfl rfl)
theorem dX0_ownMany_44 : decode cX0_ownMany 44 = .ok (.iload_n 2, 1) := dk_28 (dk_at dksX0_ownMany_1 20 rfl rfl)
theorem dX0_ownMany_45 : decode cX0_ownMany 45 = .ok (.ireturn, 1) := dk_172 (dk_at dksX0_ownMany_1 21 rfl rfl)
abbrev cX0_snapshotAt : ByteArray := prog_1_method_10_code
def yX0_snapshotAt : MethodName := ⟨RX0, "snapshotAt", "(I)LDeadListPool$Snapshot;"⟩
def dkwX0_snapshotAt_1 : List UInt8 := [42, 180, 0, 20, 27, 50, 192, 0, 27, 167, 0, 4, 1, 176]
abbrev dktX0_snapshotAt_1 : List UInt8 := dkwX0_snapshotAt_1 ++ []
def dkwX0_snapshotAt_0 : List UInt8 := [27, 133, 9, 20, 0, 72, 184, 0, 74, 153, 0, 27, 42, 180, 0, 20, 27, 50, 193, 0, 27, 153, 0, 15]
abbrev dktX0_snapshotAt_0 : List UInt8 := dkwX0_snapshotAt_0 ++ dktX0_snapshotAt_1
theorem dksX0_snapshotAt_0 : cX0_snapshotAt.data.toList.drop 0 = dktX0_snapshotAt_0 := by decide +kernel
theorem dksX0_snapshotAt_1 : cX0_snapshotAt.data.toList.drop 24 = dktX0_snapshotAt_1 := dk_seg dksX0_snapshotAt_0 24 rfl rfl
theorem dX0_snapshotAt_0 : decode cX0_snapshotAt 0 = .ok (.iload_n 1, 1) := dk_27 (dk_at dksX0_snapshotAt_0 0 rfl rfl)
theorem dX0_snapshotAt_1 : decode cX0_snapshotAt 1 = .ok (.i2l, 1) := dk_133 (dk_at dksX0_snapshotAt_0 1 rfl rfl)
theorem dX0_snapshotAt_2 : decode cX0_snapshotAt 2 = .ok (.lconst 0, 1) := dk_9 (dk_at dksX0_snapshotAt_0 2 rfl rfl)
theorem dX0_snapshotAt_3 : decode cX0_snapshotAt 3 = .ok (.ldc2_w 72, 3) := dk_20 0 72 (dk_at dksX0_snapshotAt_0 3 rfl rfl)
theorem dX0_snapshotAt_6 : decode cX0_snapshotAt 6 = .ok (.invokestatic 74, 3) := dk_184 0 74 (dk_at dksX0_snapshotAt_0 6 rfl rfl)
theorem dX0_snapshotAt_9 : decode cX0_snapshotAt 9 = .ok (.ifCond .eq 27, 3) := dk_153 0 27 (dk_at dksX0_snapshotAt_0 9 rfl rfl)
theorem dX0_snapshotAt_12 : decode cX0_snapshotAt 12 = .ok (.aload_n 0, 1) := dk_42 (dk_at dksX0_snapshotAt_0 12 rfl rfl)
theorem dX0_snapshotAt_13 : decode cX0_snapshotAt 13 = .ok (.getfield 20, 3) := dk_180 0 20 (dk_at dksX0_snapshotAt_0 13 rfl rfl)
theorem dX0_snapshotAt_16 : decode cX0_snapshotAt 16 = .ok (.iload_n 1, 1) := dk_27 (dk_at dksX0_snapshotAt_0 16 rfl rfl)
theorem dX0_snapshotAt_17 : decode cX0_snapshotAt 17 = .ok (.aaload, 1) := dk_50 (dk_at dksX0_snapshotAt_0 17 rfl rfl)
theorem dX0_snapshotAt_18 : decode cX0_snapshotAt 18 = .ok (.instanceof 27, 3) := dk_193 0 27 (dk_at dksX0_snapshotAt_0 18 rfl rfl)
theorem dX0_snapshotAt_21 : decode cX0_snapshotAt 21 = .ok (.ifCond .eq 15, 3) := dk_153 0 15 (dk_at dksX0_snapshotAt_0 21 rfl rfl)
theorem dX0_snapshotAt_24 : decode cX0_snapshotAt 24 = .ok (.aload_n 0, 1) := dk_42 (dk_at dksX0_snapshotAt_1 0 rfl rfl)
theorem dX0_snapshotAt_25 : decode cX0_snapshotAt 25 = .ok (.getfield 20, 3) := dk_180 0 20 (dk_at dksX0_snapshotAt_1 1 rfl rfl)
theorem dX0_snapshotAt_28 : decode cX0_snapshotAt 28 = .ok (.iload_n 1, 1) := dk_27 (dk_at dksX0_snapshotAt_1 4 rfl rfl)
theorem dX0_snapshotAt_29 : decode cX0_snapshotAt 29 = .ok (.aaload, 1) := dk_50 (dk_at dksX0_snapshotAt_1 5 rfl rfl)
theorem dX0_snapshotAt_30 : decode cX0_snapshotAt 30 = .ok (.checkcast 27, 3) := dk_192 0 27 (dk_at dksX0_snapshotAt_1 6 rfl rfl)
theorem dX0_snapshotAt_33 : decode cX0_snapshotAt 33 = .ok (.goto 4, 3) := dk_167 0 4 (dk_at dksX0_snapshotAt_1 9 rfl rfl)
theorem dX0_snapshotAt_36 : decode cX0_snapshotAt 36 = .ok (.aconst_null, 1) := dk_1 (dk_at dksX0_snapshotAt_1 12 rfl rfl)
theorem dX0_snapshotAt_37 : decode cX0_snapshotAt 37 = .ok (.areturn, 1) := dk_176 (dk_at dksX0_snapshotAt_1 13 rfl rfl)
abbrev cX0_freesLive : ByteArray := prog_1_method_36_code
def yX0_freesLive : MethodName := ⟨RX0, "freesLive", "(LDeadListPool$Folder;)I"⟩
def dkwX0_freesLive_2 : List UInt8 := [132, 2, 1, 132, 3, 1, 167, 255, 206, 28, 172]
abbrev dktX0_freesLive_2 : List UInt8 := dkwX0_freesLive_2 ++ []
def dkwX0_freesLive_1 : List UInt8 := [43, 180, 0, 132, 29, 46, 46, 43, 182, 0, 133, 164, 0, 16, 42, 43, 180, 0, 132, 29, 46, 182, 0, 136]
abbrev dktX0_freesLive_1 : List UInt8 := dkwX0_freesLive_1 ++ dktX0_freesLive_2
def dkwX0_freesLive_0 : List UInt8 := [3, 61, 3, 62, 29, 16, 12, 162, 0, 50, 43, 180, 0, 132, 29, 46, 2, 159, 0, 34, 42, 180, 0, 13]
abbrev dktX0_freesLive_0 : List UInt8 := dkwX0_freesLive_0 ++ dktX0_freesLive_1
theorem dksX0_freesLive_0 : cX0_freesLive.data.toList.drop 0 = dktX0_freesLive_0 := by decide +kernel
theorem dksX0_freesLive_1 : cX0_freesLive.data.toList.drop 24 = dktX0_freesLive_1 := dk_seg dksX0_freesLive_0 24 rfl rfl
theorem dksX0_freesLive_2 : cX0_freesLive.data.toList.drop 48 = dktX0_freesLive_2 := dk_seg dksX0_freesLive_1 24 rfl rfl
theorem dX0_freesLive_0 : decode cX0_freesLive 0 = .ok (.iconst 0, 1) := dk_3 (dk_at dksX0_freesLive_0 0 rfl rfl)
theorem dX0_freesLive_1 : decode cX0_freesLive 1 = .ok (.istore_n 2, 1) := dk_61 (dk_at dksX0_freesLive_0 1 rfl rfl)
theorem dX0_freesLive_2 : decode cX0_freesLive 2 = .ok (.iconst 0, 1) := dk_3 (dk_at dksX0_freesLive_0 2 rfl rfl)
theorem dX0_freesLive_3 : decode cX0_freesLive 3 = .ok (.istore_n 3, 1) := dk_62 (dk_at dksX0_freesLive_0 3 rfl rfl)
theorem dX0_freesLive_4 : decode cX0_freesLive 4 = .ok (.iload_n 3, 1) := dk_29 (dk_at dksX0_freesLive_0 4 rfl rfl)
theorem dX0_freesLive_5 : decode cX0_freesLive 5 = .ok (.bipush 12, 2) := dk_16 12 (dk_at dksX0_freesLive_0 5 rfl rfl)
theorem dX0_freesLive_7 : decode cX0_freesLive 7 = .ok (.if_icmp .ge 50, 3) := dk_162 0 50 (dk_at dksX0_freesLive_0 7 rfl rfl)
theorem dX0_freesLive_10 : decode cX0_freesLive 10 = .ok (.aload_n 1, 1) := dk_43 (dk_at dksX0_freesLive_0 10 rfl rfl)
theorem dX0_freesLive_11 : decode cX0_freesLive 11 = .ok (.getfield 132, 3) := dk_180 0 132 (dk_at dksX0_freesLive_0 11 rfl rfl)
theorem dX0_freesLive_14 : decode cX0_freesLive 14 = .ok (.iload_n 3, 1) := dk_29 (dk_at dksX0_freesLive_0 14 rfl rfl)
theorem dX0_freesLive_15 : decode cX0_freesLive 15 = .ok (.iaload, 1) := dk_46 (dk_at dksX0_freesLive_0 15 rfl rfl)
theorem dX0_freesLive_16 : decode cX0_freesLive 16 = .ok (.iconst (-1), 1) := dk_2 (dk_at dksX0_freesLive_0 16 rfl rfl)
theorem dX0_freesLive_17 : decode cX0_freesLive 17 = .ok (.if_icmp .eq 34, 3) := dk_159 0 34 (dk_at dksX0_freesLive_0 17 rfl rfl)
theorem dX0_freesLive_20 : decode cX0_freesLive 20 = .ok (.aload_n 0, 1) := dk_42 (dk_at dksX0_freesLive_0 20 rfl rfl)
theorem dX0_freesLive_21 : decode cX0_freesLive 21 = .ok (.getfield 13, 3) := dk_180 0 13 (dk_at dksX0_freesLive_0 21 rfl rfl)
theorem dX0_freesLive_24 : decode cX0_freesLive 24 = .ok (.aload_n 1, 1) := dk_43 (dk_at dksX0_freesLive_1 0 rfl rfl)
theorem dX0_freesLive_25 : decode cX0_freesLive 25 = .ok (.getfield 132, 3) := dk_180 0 132 (dk_at dksX0_freesLive_1 1 rfl rfl)
theorem dX0_freesLive_28 : decode cX0_freesLive 28 = .ok (.iload_n 3, 1) := dk_29 (dk_at dksX0_freesLive_1 4 rfl rfl)
theorem dX0_freesLive_29 : decode cX0_freesLive 29 = .ok (.iaload, 1) := dk_46 (dk_at dksX0_freesLive_1 5 rfl rfl)
theorem dX0_freesLive_30 : decode cX0_freesLive 30 = .ok (.iaload, 1) := dk_46 (dk_at dksX0_freesLive_1 6 rfl rfl)
theorem dX0_freesLive_31 : decode cX0_freesLive 31 = .ok (.aload_n 1, 1) := dk_43 (dk_at dksX0_freesLive_1 7 rfl rfl)
theorem dX0_freesLive_32 : decode cX0_freesLive 32 = .ok (.invokevirtual 133, 3) := dk_182 0 133 (dk_at dksX0_freesLive_1 8 rfl rfl)
theorem dX0_freesLive_35 : decode cX0_freesLive 35 = .ok (.if_icmp .le 16, 3) := dk_164 0 16 (dk_at dksX0_freesLive_1 11 rfl rfl)
theorem dX0_freesLive_38 : decode cX0_freesLive 38 = .ok (.aload_n 0, 1) := dk_42 (dk_at dksX0_freesLive_1 14 rfl rfl)
theorem dX0_freesLive_39 : decode cX0_freesLive 39 = .ok (.aload_n 1, 1) := dk_43 (dk_at dksX0_freesLive_1 15 rfl rfl)
theorem dX0_freesLive_40 : decode cX0_freesLive 40 = .ok (.getfield 132, 3) := dk_180 0 132 (dk_at dksX0_freesLive_1 16 rfl rfl)
theorem dX0_freesLive_43 : decode cX0_freesLive 43 = .ok (.iload_n 3, 1) := dk_29 (dk_at dksX0_freesLive_1 19 rfl rfl)
theorem dX0_freesLive_44 : decode cX0_freesLive 44 = .ok (.iaload, 1) := dk_46 (dk_at dksX0_freesLive_1 20 rfl rfl)
theorem dX0_freesLive_45 : decode cX0_freesLive 45 = .ok (.invokevirtual 136, 3) := dk_182 0 136 (dk_at dksX0_freesLive_1 21 rfl rfl)
theorem dX0_freesLive_48 : decode cX0_freesLive 48 = .ok (.iinc 2 1, 3) := dk_132 2 1 (dk_at dksX0_freesLive_2 0 rfl rfl)
theorem dX0_freesLive_51 : decode cX0_freesLive 51 = .ok (.iinc 3 1, 3) := dk_132 3 1 (dk_at dksX0_freesLive_2 3 rfl rfl)
theorem dX0_freesLive_54 : decode cX0_freesLive 54 = .ok (.goto (-50), 3) := dk_167 255 206 (dk_at dksX0_freesLive_2 6 rfl rfl)
theorem dX0_freesLive_57 : decode cX0_freesLive 57 = .ok (.iload_n 2, 1) := dk_28 (dk_at dksX0_freesLive_2 9 rfl rfl)
theorem dX0_freesLive_58 : decode cX0_freesLive 58 = .ok (.ireturn, 1) := dk_172 (dk_at dksX0_freesLive_2 10 rfl rfl)
abbrev cX0_isLoose : ByteArray := prog_1_method_34_code
def yX0_isLoose : MethodName := ⟨RX0, "isLoose", "(LDeadListPool$Snapshot;)Z"⟩
def dkwX0_isLoose_0 : List UInt8 := [43, 182, 0, 211, 154, 0, 16, 42, 43, 182, 0, 212, 4, 160, 0, 7, 4, 167, 0, 4, 3, 172]
abbrev dktX0_isLoose_0 : List UInt8 := dkwX0_isLoose_0 ++ []
theorem dksX0_isLoose_0 : cX0_isLoose.data.toList.drop 0 = dktX0_isLoose_0 := by decide +kernel
theorem dX0_isLoose_0 : decode cX0_isLoose 0 = .ok (.aload_n 1, 1) := dk_43 (dk_at dksX0_isLoose_0 0 rfl rfl)
theorem dX0_isLoose_1 : decode cX0_isLoose 1 = .ok (.invokevirtual 211, 3) := dk_182 0 211 (dk_at dksX0_isLoose_0 1 rfl rfl)
theorem dX0_isLoose_4 : decode cX0_isLoose 4 = .ok (.ifCond .ne 16, 3) := dk_154 0 16 (dk_at dksX0_isLoose_0 4 rfl rfl)
theorem dX0_isLoose_7 : decode cX0_isLoose 7 = .ok (.aload_n 0, 1) := dk_42 (dk_at dksX0_isLoose_0 7 rfl rfl)
theorem dX0_isLoose_8 : decode cX0_isLoose 8 = .ok (.aload_n 1, 1) := dk_43 (dk_at dksX0_isLoose_0 8 rfl rfl)
theorem dX0_isLoose_9 : decode cX0_isLoose 9 = .ok (.invokevirtual 212, 3) := dk_182 0 212 (dk_at dksX0_isLoose_0 9 rfl rfl)
theorem dX0_isLoose_12 : decode cX0_isLoose 12 = .ok (.iconst 1, 1) := dk_4 (dk_at dksX0_isLoose_0 12 rfl rfl)
theorem dX0_isLoose_13 : decode cX0_isLoose 13 = .ok (.if_icmp .ne 7, 3) := dk_160 0 7 (dk_at dksX0_isLoose_0 13 rfl rfl)
theorem dX0_isLoose_16 : decode cX0_isLoose 16 = .ok (.iconst 1, 1) := dk_4 (dk_at dksX0_isLoose_0 16 rfl rfl)
theorem dX0_isLoose_17 : decode cX0_isLoose 17 = .ok (.goto 4, 3) := dk_167 0 4 (dk_at dksX0_isLoose_0 17 rfl rfl)
theorem dX0_isLoose_20 : decode cX0_isLoose 20 = .ok (.iconst 0, 1) := dk_3 (dk_at dksX0_isLoose_0 20 rfl rfl)
theorem dX0_isLoose_21 : decode cX0_isLoose 21 = .ok (.ireturn, 1) := dk_172 (dk_at dksX0_isLoose_0 21 rfl rfl)
abbrev cX0_nextMany : ByteArray := prog_1_method_14_code
def yX0_nextMany : MethodName := ⟨RX0, "nextMany", "(LDeadListPool$Snapshot;)I"⟩
def dkwX0_nextMany_1 : List UInt8 := [180, 0, 88, 43, 166, 0, 7, 4, 167, 0, 4, 3, 96, 61, 132, 3, 1, 167, 255, 219, 28, 172]
abbrev dktX0_nextMany_1 : List UInt8 := dkwX0_nextMany_1 ++ []
def dkwX0_nextMany_0 : List UInt8 := [3, 61, 3, 62, 29, 16, 20, 162, 0, 37, 28, 42, 29, 182, 0, 84, 198, 0, 19, 42, 29, 182, 0, 84]
abbrev dktX0_nextMany_0 : List UInt8 := dkwX0_nextMany_0 ++ dktX0_nextMany_1
theorem dksX0_nextMany_0 : cX0_nextMany.data.toList.drop 0 = dktX0_nextMany_0 := by decide +kernel
theorem dksX0_nextMany_1 : cX0_nextMany.data.toList.drop 24 = dktX0_nextMany_1 := dk_seg dksX0_nextMany_0 24 rfl rfl
theorem dX0_nextMany_0 : decode cX0_nextMany 0 = .ok (.iconst 0, 1) := dk_3 (dk_at dksX0_nextMany_0 0 rfl rfl)
theorem dX0_nextMany_1 : decode cX0_nextMany 1 = .ok (.istore_n 2, 1) := dk_61 (dk_at dksX0_nextMany_0 1 rfl rfl)
theorem dX0_nextMany_2 : decode cX0_nextMany 2 = .ok (.iconst 0, 1) := dk_3 (dk_at dksX0_nextMany_0 2 rfl rfl)
theorem dX0_nextMany_3 : decode cX0_nextMany 3 = .ok (.istore_n 3, 1) := dk_62 (dk_at dksX0_nextMany_0 3 rfl rfl)
theorem dX0_nextMany_4 : decode cX0_nextMany 4 = .ok (.iload_n 3, 1) := dk_29 (dk_at dksX0_nextMany_0 4 rfl rfl)
theorem dX0_nextMany_5 : decode cX0_nextMany 5 = .ok (.bipush 20, 2) := dk_16 20 (dk_at dksX0_nextMany_0 5 rfl rfl)
theorem dX0_nextMany_7 : decode cX0_nextMany 7 = .ok (.if_icmp .ge 37, 3) := dk_162 0 37 (dk_at dksX0_nextMany_0 7 rfl rfl)
theorem dX0_nextMany_10 : decode cX0_nextMany 10 = .ok (.iload_n 2, 1) := dk_28 (dk_at dksX0_nextMany_0 10 rfl rfl)
theorem dX0_nextMany_11 : decode cX0_nextMany 11 = .ok (.aload_n 0, 1) := dk_42 (dk_at dksX0_nextMany_0 11 rfl rfl)
theorem dX0_nextMany_12 : decode cX0_nextMany 12 = .ok (.iload_n 3, 1) := dk_29 (dk_at dksX0_nextMany_0 12 rfl rfl)
theorem dX0_nextMany_13 : decode cX0_nextMany 13 = .ok (.invokevirtual 84, 3) := dk_182 0 84 (dk_at dksX0_nextMany_0 13 rfl rfl)
theorem dX0_nextMany_16 : decode cX0_nextMany 16 = .ok (.ifnull 19, 3) := dk_198 0 19 (dk_at dksX0_nextMany_0 16 rfl rfl)
theorem dX0_nextMany_19 : decode cX0_nextMany 19 = .ok (.aload_n 0, 1) := dk_42 (dk_at dksX0_nextMany_0 19 rfl rfl)
theorem dX0_nextMany_20 : decode cX0_nextMany 20 = .ok (.iload_n 3, 1) := dk_29 (dk_at dksX0_nextMany_0 20 rfl rfl)
theorem dX0_nextMany_21 : decode cX0_nextMany 21 = .ok (.invokevirtual 84, 3) := dk_182 0 84 (dk_at dksX0_nextMany_0 21 rfl rfl)
theorem dX0_nextMany_24 : decode cX0_nextMany 24 = .ok (.getfield 88, 3) := dk_180 0 88 (dk_at dksX0_nextMany_1 0 rfl rfl)
theorem dX0_nextMany_27 : decode cX0_nextMany 27 = .ok (.aload_n 1, 1) := dk_43 (dk_at dksX0_nextMany_1 3 rfl rfl)
theorem dX0_nextMany_28 : decode cX0_nextMany 28 = .ok (.if_acmp .ne 7, 3) := dk_166 0 7 (dk_at dksX0_nextMany_1 4 rfl rfl)
theorem dX0_nextMany_31 : decode cX0_nextMany 31 = .ok (.iconst 1, 1) := dk_4 (dk_at dksX0_nextMany_1 7 rfl rfl)
theorem dX0_nextMany_32 : decode cX0_nextMany 32 = .ok (.goto 4, 3) := dk_167 0 4 (dk_at dksX0_nextMany_1 8 rfl rfl)
theorem dX0_nextMany_35 : decode cX0_nextMany 35 = .ok (.iconst 0, 1) := dk_3 (dk_at dksX0_nextMany_1 11 rfl rfl)
theorem dX0_nextMany_36 : decode cX0_nextMany 36 = .ok (.iadd, 1) := dk_96 (dk_at dksX0_nextMany_1 12 rfl rfl)
theorem dX0_nextMany_37 : decode cX0_nextMany 37 = .ok (.istore_n 2, 1) := dk_61 (dk_at dksX0_nextMany_1 13 rfl rfl)
theorem dX0_nextMany_38 : decode cX0_nextMany 38 = .ok (.iinc 3 1, 3) := dk_132 3 1 (dk_at dksX0_nextMany_1 14 rfl rfl)
theorem dX0_nextMany_41 : decode cX0_nextMany 41 = .ok (.goto (-37), 3) := dk_167 255 219 (dk_at dksX0_nextMany_1 17 rfl rfl)
theorem dX0_nextMany_44 : decode cX0_nextMany 44 = .ok (.iload_n 2, 1) := dk_28 (dk_at dksX0_nextMany_1 20 rfl rfl)
theorem dX0_nextMany_45 : decode cX0_nextMany 45 = .ok (.ireturn, 1) := dk_172 (dk_at dksX0_nextMany_1 21 rfl rfl)
abbrev cX0_holderAt : ByteArray := prog_1_method_9_code
def yX0_holderAt : MethodName := ⟨RX0, "holderAt", "(I)LDeadListPool$Holder;"⟩
def dkwX0_holderAt_1 : List UInt8 := [42, 180, 0, 20, 27, 50, 192, 0, 65, 167, 0, 4, 1, 176]
abbrev dktX0_holderAt_1 : List UInt8 := dkwX0_holderAt_1 ++ []
def dkwX0_holderAt_0 : List UInt8 := [27, 133, 9, 20, 0, 72, 184, 0, 74, 153, 0, 27, 42, 180, 0, 20, 27, 50, 193, 0, 65, 153, 0, 15]
abbrev dktX0_holderAt_0 : List UInt8 := dkwX0_holderAt_0 ++ dktX0_holderAt_1
theorem dksX0_holderAt_0 : cX0_holderAt.data.toList.drop 0 = dktX0_holderAt_0 := by decide +kernel
theorem dksX0_holderAt_1 : cX0_holderAt.data.toList.drop 24 = dktX0_holderAt_1 := dk_seg dksX0_holderAt_0 24 rfl rfl
theorem dX0_holderAt_0 : decode cX0_holderAt 0 = .ok (.iload_n 1, 1) := dk_27 (dk_at dksX0_holderAt_0 0 rfl rfl)
theorem dX0_holderAt_1 : decode cX0_holderAt 1 = .ok (.i2l, 1) := dk_133 (dk_at dksX0_holderAt_0 1 rfl rfl)
theorem dX0_holderAt_2 : decode cX0_holderAt 2 = .ok (.lconst 0, 1) := dk_9 (dk_at dksX0_holderAt_0 2 rfl rfl)
theorem dX0_holderAt_3 : decode cX0_holderAt 3 = .ok (.ldc2_w 72, 3) := dk_20 0 72 (dk_at dksX0_holderAt_0 3 rfl rfl)
theorem dX0_holderAt_6 : decode cX0_holderAt 6 = .ok (.invokestatic 74, 3) := dk_184 0 74 (dk_at dksX0_holderAt_0 6 rfl rfl)
theorem dX0_holderAt_9 : decode cX0_holderAt 9 = .ok (.ifCond .eq 27, 3) := dk_153 0 27 (dk_at dksX0_holderAt_0 9 rfl rfl)
theorem dX0_holderAt_12 : decode cX0_holderAt 12 = .ok (.aload_n 0, 1) := dk_42 (dk_at dksX0_holderAt_0 12 rfl rfl)
theorem dX0_holderAt_13 : decode cX0_holderAt 13 = .ok (.getfield 20, 3) := dk_180 0 20 (dk_at dksX0_holderAt_0 13 rfl rfl)
theorem dX0_holderAt_16 : decode cX0_holderAt 16 = .ok (.iload_n 1, 1) := dk_27 (dk_at dksX0_holderAt_0 16 rfl rfl)
theorem dX0_holderAt_17 : decode cX0_holderAt 17 = .ok (.aaload, 1) := dk_50 (dk_at dksX0_holderAt_0 17 rfl rfl)
theorem dX0_holderAt_18 : decode cX0_holderAt 18 = .ok (.instanceof 65, 3) := dk_193 0 65 (dk_at dksX0_holderAt_0 18 rfl rfl)
theorem dX0_holderAt_21 : decode cX0_holderAt 21 = .ok (.ifCond .eq 15, 3) := dk_153 0 15 (dk_at dksX0_holderAt_0 21 rfl rfl)
theorem dX0_holderAt_24 : decode cX0_holderAt 24 = .ok (.aload_n 0, 1) := dk_42 (dk_at dksX0_holderAt_1 0 rfl rfl)
theorem dX0_holderAt_25 : decode cX0_holderAt 25 = .ok (.getfield 20, 3) := dk_180 0 20 (dk_at dksX0_holderAt_1 1 rfl rfl)
theorem dX0_holderAt_28 : decode cX0_holderAt 28 = .ok (.iload_n 1, 1) := dk_27 (dk_at dksX0_holderAt_1 4 rfl rfl)
theorem dX0_holderAt_29 : decode cX0_holderAt 29 = .ok (.aaload, 1) := dk_50 (dk_at dksX0_holderAt_1 5 rfl rfl)
theorem dX0_holderAt_30 : decode cX0_holderAt 30 = .ok (.checkcast 65, 3) := dk_192 0 65 (dk_at dksX0_holderAt_1 6 rfl rfl)
theorem dX0_holderAt_33 : decode cX0_holderAt 33 = .ok (.goto 4, 3) := dk_167 0 4 (dk_at dksX0_holderAt_1 9 rfl rfl)
theorem dX0_holderAt_36 : decode cX0_holderAt 36 = .ok (.aconst_null, 1) := dk_1 (dk_at dksX0_holderAt_1 12 rfl rfl)
theorem dX0_holderAt_37 : decode cX0_holderAt 37 = .ok (.areturn, 1) := dk_176 (dk_at dksX0_holderAt_1 13 rfl rfl)
abbrev cX0_removes : ByteArray := prog_1_method_35_code
def yX0_removes : MethodName := ⟨RX0, "removes", "(LDeadListPool$Snapshot;)I"⟩
def dkwX0_removes_3 : List UInt8 := [180, 0, 200, 1, 83, 29, 172]
abbrev dktX0_removes_3 : List UInt8 := dkwX0_removes_3 ++ []
def dkwX0_removes_2 : List UInt8 := [167, 255, 217, 42, 44, 29, 43, 182, 0, 220, 44, 43, 180, 0, 99, 181, 0, 88, 42, 180, 0, 20, 43]
abbrev dktX0_removes_2 : List UInt8 := dkwX0_removes_2 ++ dktX0_removes_3
def dkwX0_removes_1 : List UInt8 := [29, 46, 46, 43, 182, 0, 219, 164, 0, 19, 42, 44, 180, 0, 125, 29, 46, 182, 0, 136, 132, 3, 1]
abbrev dktX0_removes_1 : List UInt8 := dkwX0_removes_1 ++ dktX0_removes_2
def dkwX0_removes_0 : List UInt8 := [42, 43, 182, 0, 215, 77, 3, 62, 29, 44, 180, 0, 122, 162, 0, 37, 42, 180, 0, 13, 44, 180, 0, 125]
abbrev dktX0_removes_0 : List UInt8 := dkwX0_removes_0 ++ dktX0_removes_1
theorem dksX0_removes_0 : cX0_removes.data.toList.drop 0 = dktX0_removes_0 := by decide +kernel
theorem dksX0_removes_1 : cX0_removes.data.toList.drop 24 = dktX0_removes_1 := dk_seg dksX0_removes_0 24 rfl rfl
theorem dksX0_removes_2 : cX0_removes.data.toList.drop 47 = dktX0_removes_2 := dk_seg dksX0_removes_1 23 rfl rfl
theorem dksX0_removes_3 : cX0_removes.data.toList.drop 70 = dktX0_removes_3 := dk_seg dksX0_removes_2 23 rfl rfl
theorem dX0_removes_0 : decode cX0_removes 0 = .ok (.aload_n 0, 1) := dk_42 (dk_at dksX0_removes_0 0 rfl rfl)
theorem dX0_removes_1 : decode cX0_removes 1 = .ok (.aload_n 1, 1) := dk_43 (dk_at dksX0_removes_0 1 rfl rfl)
theorem dX0_removes_2 : decode cX0_removes 2 = .ok (.invokevirtual 215, 3) := dk_182 0 215 (dk_at dksX0_removes_0 2 rfl rfl)
theorem dX0_removes_5 : decode cX0_removes 5 = .ok (.astore_n 2, 1) := dk_77 (dk_at dksX0_removes_0 5 rfl rfl)
theorem dX0_removes_6 : decode cX0_removes 6 = .ok (.iconst 0, 1) := dk_3 (dk_at dksX0_removes_0 6 rfl rfl)
theorem dX0_removes_7 : decode cX0_removes 7 = .ok (.istore_n 3, 1) := dk_62 (dk_at dksX0_removes_0 7 rfl rfl)
theorem dX0_removes_8 : decode cX0_removes 8 = .ok (.iload_n 3, 1) := dk_29 (dk_at dksX0_removes_0 8 rfl rfl)
theorem dX0_removes_9 : decode cX0_removes 9 = .ok (.aload_n 2, 1) := dk_44 (dk_at dksX0_removes_0 9 rfl rfl)
theorem dX0_removes_10 : decode cX0_removes 10 = .ok (.getfield 122, 3) := dk_180 0 122 (dk_at dksX0_removes_0 10 rfl rfl)
theorem dX0_removes_13 : decode cX0_removes 13 = .ok (.if_icmp .ge 37, 3) := dk_162 0 37 (dk_at dksX0_removes_0 13 rfl rfl)
theorem dX0_removes_16 : decode cX0_removes 16 = .ok (.aload_n 0, 1) := dk_42 (dk_at dksX0_removes_0 16 rfl rfl)
theorem dX0_removes_17 : decode cX0_removes 17 = .ok (.getfield 13, 3) := dk_180 0 13 (dk_at dksX0_removes_0 17 rfl rfl)
theorem dX0_removes_20 : decode cX0_removes 20 = .ok (.aload_n 2, 1) := dk_44 (dk_at dksX0_removes_0 20 rfl rfl)
theorem dX0_removes_21 : decode cX0_removes 21 = .ok (.getfield 125, 3) := dk_180 0 125 (dk_at dksX0_removes_0 21 rfl rfl)
theorem dX0_removes_24 : decode cX0_removes 24 = .ok (.iload_n 3, 1) := dk_29 (dk_at dksX0_removes_1 0 rfl rfl)
theorem dX0_removes_25 : decode cX0_removes 25 = .ok (.iaload, 1) := dk_46 (dk_at dksX0_removes_1 1 rfl rfl)
theorem dX0_removes_26 : decode cX0_removes 26 = .ok (.iaload, 1) := dk_46 (dk_at dksX0_removes_1 2 rfl rfl)
theorem dX0_removes_27 : decode cX0_removes 27 = .ok (.aload_n 1, 1) := dk_43 (dk_at dksX0_removes_1 3 rfl rfl)
theorem dX0_removes_28 : decode cX0_removes 28 = .ok (.invokevirtual 219, 3) := dk_182 0 219 (dk_at dksX0_removes_1 4 rfl rfl)
theorem dX0_removes_31 : decode cX0_removes 31 = .ok (.if_icmp .le 19, 3) := dk_164 0 19 (dk_at dksX0_removes_1 7 rfl rfl)
theorem dX0_removes_34 : decode cX0_removes 34 = .ok (.aload_n 0, 1) := dk_42 (dk_at dksX0_removes_1 10 rfl rfl)
theorem dX0_removes_35 : decode cX0_removes 35 = .ok (.aload_n 2, 1) := dk_44 (dk_at dksX0_removes_1 11 rfl rfl)
theorem dX0_removes_36 : decode cX0_removes 36 = .ok (.getfield 125, 3) := dk_180 0 125 (dk_at dksX0_removes_1 12 rfl rfl)
theorem dX0_removes_39 : decode cX0_removes 39 = .ok (.iload_n 3, 1) := dk_29 (dk_at dksX0_removes_1 15 rfl rfl)
theorem dX0_removes_40 : decode cX0_removes 40 = .ok (.iaload, 1) := dk_46 (dk_at dksX0_removes_1 16 rfl rfl)
theorem dX0_removes_41 : decode cX0_removes 41 = .ok (.invokevirtual 136, 3) := dk_182 0 136 (dk_at dksX0_removes_1 17 rfl rfl)
theorem dX0_removes_44 : decode cX0_removes 44 = .ok (.iinc 3 1, 3) := dk_132 3 1 (dk_at dksX0_removes_1 20 rfl rfl)
theorem dX0_removes_47 : decode cX0_removes 47 = .ok (.goto (-39), 3) := dk_167 255 217 (dk_at dksX0_removes_2 0 rfl rfl)
theorem dX0_removes_50 : decode cX0_removes 50 = .ok (.aload_n 0, 1) := dk_42 (dk_at dksX0_removes_2 3 rfl rfl)
theorem dX0_removes_51 : decode cX0_removes 51 = .ok (.aload_n 2, 1) := dk_44 (dk_at dksX0_removes_2 4 rfl rfl)
theorem dX0_removes_52 : decode cX0_removes 52 = .ok (.iload_n 3, 1) := dk_29 (dk_at dksX0_removes_2 5 rfl rfl)
theorem dX0_removes_53 : decode cX0_removes 53 = .ok (.aload_n 1, 1) := dk_43 (dk_at dksX0_removes_2 6 rfl rfl)
theorem dX0_removes_54 : decode cX0_removes 54 = .ok (.invokevirtual 220, 3) := dk_182 0 220 (dk_at dksX0_removes_2 7 rfl rfl)
theorem dX0_removes_57 : decode cX0_removes 57 = .ok (.aload_n 2, 1) := dk_44 (dk_at dksX0_removes_2 10 rfl rfl)
theorem dX0_removes_58 : decode cX0_removes 58 = .ok (.aload_n 1, 1) := dk_43 (dk_at dksX0_removes_2 11 rfl rfl)
theorem dX0_removes_59 : decode cX0_removes 59 = .ok (.getfield 99, 3) := dk_180 0 99 (dk_at dksX0_removes_2 12 rfl rfl)
theorem dX0_removes_62 : decode cX0_removes 62 = .ok (.putfield 88, 3) := dk_181 0 88 (dk_at dksX0_removes_2 15 rfl rfl)
theorem dX0_removes_65 : decode cX0_removes 65 = .ok (.aload_n 0, 1) := dk_42 (dk_at dksX0_removes_2 18 rfl rfl)
theorem dX0_removes_66 : decode cX0_removes 66 = .ok (.getfield 20, 3) := dk_180 0 20 (dk_at dksX0_removes_2 19 rfl rfl)
theorem dX0_removes_69 : decode cX0_removes 69 = .ok (.aload_n 1, 1) := dk_43 (dk_at dksX0_removes_2 22 rfl rfl)
theorem dX0_removes_70 : decode cX0_removes 70 = .ok (.getfield 200, 3) := dk_180 0 200 (dk_at dksX0_removes_3 0 rfl rfl)
theorem dX0_removes_73 : decode cX0_removes 73 = .ok (.aconst_null, 1) := dk_1 (dk_at dksX0_removes_3 3 rfl rfl)
theorem dX0_removes_74 : decode cX0_removes 74 = .ok (.aastore, 1) := dk_83 (dk_at dksX0_removes_3 4 rfl rfl)
theorem dX0_removes_75 : decode cX0_removes 75 = .ok (.iload_n 3, 1) := dk_29 (dk_at dksX0_removes_3 5 rfl rfl)
theorem dX0_removes_76 : decode cX0_removes 76 = .ok (.ireturn, 1) := dk_172 (dk_at dksX0_removes_3 6 rfl rfl)
abbrev cX0_nextOf : ByteArray := prog_1_method_15_code
def yX0_nextOf : MethodName := ⟨RX0, "nextOf", "(LDeadListPool$Snapshot;)LDeadListPool$Holder;"⟩
def dkwX0_nextOf_1 : List UInt8 := [166, 0, 5, 45, 176, 132, 2, 1, 167, 255, 227, 1, 176]
abbrev dktX0_nextOf_1 : List UInt8 := dkwX0_nextOf_1 ++ []
def dkwX0_nextOf_0 : List UInt8 := [3, 61, 28, 16, 20, 162, 0, 29, 42, 28, 182, 0, 84, 78, 45, 198, 0, 13, 45, 180, 0, 88, 43]
abbrev dktX0_nextOf_0 : List UInt8 := dkwX0_nextOf_0 ++ dktX0_nextOf_1
theorem dksX0_nextOf_0 : cX0_nextOf.data.toList.drop 0 = dktX0_nextOf_0 := by decide +kernel
theorem dksX0_nextOf_1 : cX0_nextOf.data.toList.drop 23 = dktX0_nextOf_1 := dk_seg dksX0_nextOf_0 23 rfl rfl
theorem dX0_nextOf_0 : decode cX0_nextOf 0 = .ok (.iconst 0, 1) := dk_3 (dk_at dksX0_nextOf_0 0 rfl rfl)
theorem dX0_nextOf_1 : decode cX0_nextOf 1 = .ok (.istore_n 2, 1) := dk_61 (dk_at dksX0_nextOf_0 1 rfl rfl)
theorem dX0_nextOf_2 : decode cX0_nextOf 2 = .ok (.iload_n 2, 1) := dk_28 (dk_at dksX0_nextOf_0 2 rfl rfl)
theorem dX0_nextOf_3 : decode cX0_nextOf 3 = .ok (.bipush 20, 2) := dk_16 20 (dk_at dksX0_nextOf_0 3 rfl rfl)
theorem dX0_nextOf_5 : decode cX0_nextOf 5 = .ok (.if_icmp .ge 29, 3) := dk_162 0 29 (dk_at dksX0_nextOf_0 5 rfl rfl)
theorem dX0_nextOf_8 : decode cX0_nextOf 8 = .ok (.aload_n 0, 1) := dk_42 (dk_at dksX0_nextOf_0 8 rfl rfl)
theorem dX0_nextOf_9 : decode cX0_nextOf 9 = .ok (.iload_n 2, 1) := dk_28 (dk_at dksX0_nextOf_0 9 rfl rfl)
theorem dX0_nextOf_10 : decode cX0_nextOf 10 = .ok (.invokevirtual 84, 3) := dk_182 0 84 (dk_at dksX0_nextOf_0 10 rfl rfl)
theorem dX0_nextOf_13 : decode cX0_nextOf 13 = .ok (.astore_n 3, 1) := dk_78 (dk_at dksX0_nextOf_0 13 rfl rfl)
theorem dX0_nextOf_14 : decode cX0_nextOf 14 = .ok (.aload_n 3, 1) := dk_45 (dk_at dksX0_nextOf_0 14 rfl rfl)
theorem dX0_nextOf_15 : decode cX0_nextOf 15 = .ok (.ifnull 13, 3) := dk_198 0 13 (dk_at dksX0_nextOf_0 15 rfl rfl)
theorem dX0_nextOf_18 : decode cX0_nextOf 18 = .ok (.aload_n 3, 1) := dk_45 (dk_at dksX0_nextOf_0 18 rfl rfl)
theorem dX0_nextOf_19 : decode cX0_nextOf 19 = .ok (.getfield 88, 3) := dk_180 0 88 (dk_at dksX0_nextOf_0 19 rfl rfl)
theorem dX0_nextOf_22 : decode cX0_nextOf 22 = .ok (.aload_n 1, 1) := dk_43 (dk_at dksX0_nextOf_0 22 rfl rfl)
theorem dX0_nextOf_23 : decode cX0_nextOf 23 = .ok (.if_acmp .ne 5, 3) := dk_166 0 5 (dk_at dksX0_nextOf_1 0 rfl rfl)
theorem dX0_nextOf_26 : decode cX0_nextOf 26 = .ok (.aload_n 3, 1) := dk_45 (dk_at dksX0_nextOf_1 3 rfl rfl)
theorem dX0_nextOf_27 : decode cX0_nextOf 27 = .ok (.areturn, 1) := dk_176 (dk_at dksX0_nextOf_1 4 rfl rfl)
theorem dX0_nextOf_28 : decode cX0_nextOf 28 = .ok (.iinc 2 1, 3) := dk_132 2 1 (dk_at dksX0_nextOf_1 5 rfl rfl)
theorem dX0_nextOf_31 : decode cX0_nextOf 31 = .ok (.goto (-29), 3) := dk_167 255 227 (dk_at dksX0_nextOf_1 8 rfl rfl)
theorem dX0_nextOf_34 : decode cX0_nextOf 34 = .ok (.aconst_null, 1) := dk_1 (dk_at dksX0_nextOf_1 11 rfl rfl)
theorem dX0_nextOf_35 : decode cX0_nextOf 35 = .ok (.areturn, 1) := dk_176 (dk_at dksX0_nextOf_1 12 rfl rfl)
abbrev cX0_merges : ByteArray := prog_1_method_33_code
def yX0_merges : MethodName := ⟨RX0, "merges", "(LDeadListPool$Holder;ILDeadListPool$Snapshot;)V"⟩
def dkwX0_merges_7 : List UInt8 := [167, 255, 232, 43, 21, 6, 181, 0, 122, 177]
abbrev dktX0_merges_7 : List UInt8 := dkwX0_merges_7 ++ []
def dkwX0_merges_6 : List UInt8 := [21, 6, 162, 0, 23, 43, 180, 0, 125, 21, 7, 42, 180, 0, 24, 21, 7, 46, 79, 132, 7, 1]
abbrev dktX0_merges_6 : List UInt8 := dkwX0_merges_6 ++ dktX0_merges_7
def dkwX0_merges_5 : List UInt8 := [21, 7, 153, 0, 7, 3, 167, 0, 4, 4, 96, 54, 5, 132, 6, 1, 167, 255, 130, 3, 54, 7, 21, 7]
abbrev dktX0_merges_5 : List UInt8 := dkwX0_merges_5 ++ dktX0_merges_6
def dkwX0_merges_4 : List UInt8 := [180, 0, 210, 21, 5, 46, 79, 21, 4, 21, 7, 153, 0, 7, 4, 167, 0, 4, 3, 96, 54, 4, 21, 5]
abbrev dktX0_merges_4 : List UInt8 := dkwX0_merges_4 ++ dktX0_merges_5
def dkwX0_merges_3 : List UInt8 := [54, 7, 42, 180, 0, 24, 21, 6, 21, 7, 153, 0, 13, 43, 180, 0, 125, 21, 4, 46, 167, 0, 10, 45]
abbrev dktX0_merges_3 : List UInt8 := dkwX0_merges_3 ++ dktX0_merges_4
def dkwX0_merges_2 : List UInt8 := [180, 0, 125, 21, 4, 46, 45, 180, 0, 210, 21, 5, 46, 182, 0, 128, 153, 0, 7, 4, 167, 0, 4, 3]
abbrev dktX0_merges_2 : List UInt8 := dkwX0_merges_2 ++ dktX0_merges_3
def dkwX0_merges_1 : List UInt8 := [162, 0, 114, 21, 5, 45, 180, 0, 209, 159, 0, 33, 21, 4, 43, 180, 0, 122, 162, 0, 28, 42, 43]
abbrev dktX0_merges_1 : List UInt8 := dkwX0_merges_1 ++ dktX0_merges_2
def dkwX0_merges_0 : List UInt8 := [28, 54, 4, 3, 54, 5, 3, 54, 6, 21, 4, 43, 180, 0, 122, 161, 0, 12, 21, 5, 45, 180, 0, 209]
abbrev dktX0_merges_0 : List UInt8 := dkwX0_merges_0 ++ dktX0_merges_1
theorem dksX0_merges_0 : cX0_merges.data.toList.drop 0 = dktX0_merges_0 := by decide +kernel
theorem dksX0_merges_1 : cX0_merges.data.toList.drop 24 = dktX0_merges_1 := dk_seg dksX0_merges_0 24 rfl rfl
theorem dksX0_merges_2 : cX0_merges.data.toList.drop 47 = dktX0_merges_2 := dk_seg dksX0_merges_1 23 rfl rfl
theorem dksX0_merges_3 : cX0_merges.data.toList.drop 71 = dktX0_merges_3 := dk_seg dksX0_merges_2 24 rfl rfl
theorem dksX0_merges_4 : cX0_merges.data.toList.drop 95 = dktX0_merges_4 := dk_seg dksX0_merges_3 24 rfl rfl
theorem dksX0_merges_5 : cX0_merges.data.toList.drop 119 = dktX0_merges_5 := dk_seg dksX0_merges_4 24 rfl rfl
theorem dksX0_merges_6 : cX0_merges.data.toList.drop 143 = dktX0_merges_6 := dk_seg dksX0_merges_5 24 rfl rfl
theorem dksX0_merges_7 : cX0_merges.data.toList.drop 165 = dktX0_merges_7 := dk_seg dksX0_merges_6 22 rfl rfl
theorem dX0_merges_0 : decode cX0_merges 0 = .ok (.iload_n 2, 1) := dk_28 (dk_at dksX0_merges_0 0 rfl rfl)
theorem dX0_merges_1 : decode cX0_merges 1 = .ok (.istore 4, 2) := dk_54 4 (dk_at dksX0_merges_0 1 rfl rfl)
theorem dX0_merges_3 : decode cX0_merges 3 = .ok (.iconst 0, 1) := dk_3 (dk_at dksX0_merges_0 3 rfl rfl)
theorem dX0_merges_4 : decode cX0_merges 4 = .ok (.istore 5, 2) := dk_54 5 (dk_at dksX0_merges_0 4 rfl rfl)
theorem dX0_merges_6 : decode cX0_merges 6 = .ok (.iconst 0, 1) := dk_3 (dk_at dksX0_merges_0 6 rfl rfl)
theorem dX0_merges_7 : decode cX0_merges 7 = .ok (.istore 6, 2) := dk_54 6 (dk_at dksX0_merges_0 7 rfl rfl)
theorem dX0_merges_9 : decode cX0_merges 9 = .ok (.iload 4, 2) := dk_21 4 (dk_at dksX0_merges_0 9 rfl rfl)
theorem dX0_merges_11 : decode cX0_merges 11 = .ok (.aload_n 1, 1) := dk_43 (dk_at dksX0_merges_0 11 rfl rfl)
theorem dX0_merges_12 : decode cX0_merges 12 = .ok (.getfield 122, 3) := dk_180 0 122 (dk_at dksX0_merges_0 12 rfl rfl)
theorem dX0_merges_15 : decode cX0_merges 15 = .ok (.if_icmp .lt 12, 3) := dk_161 0 12 (dk_at dksX0_merges_0 15 rfl rfl)
theorem dX0_merges_18 : decode cX0_merges 18 = .ok (.iload 5, 2) := dk_21 5 (dk_at dksX0_merges_0 18 rfl rfl)
theorem dX0_merges_20 : decode cX0_merges 20 = .ok (.aload_n 3, 1) := dk_45 (dk_at dksX0_merges_0 20 rfl rfl)
theorem dX0_merges_21 : decode cX0_merges 21 = .ok (.getfield 209, 3) := dk_180 0 209 (dk_at dksX0_merges_0 21 rfl rfl)
theorem dX0_merges_24 : decode cX0_merges 24 = .ok (.if_icmp .ge 114, 3) := dk_162 0 114 (dk_at dksX0_merges_1 0 rfl rfl)
theorem dX0_merges_27 : decode cX0_merges 27 = .ok (.iload 5, 2) := dk_21 5 (dk_at dksX0_merges_1 3 rfl rfl)
theorem dX0_merges_29 : decode cX0_merges 29 = .ok (.aload_n 3, 1) := dk_45 (dk_at dksX0_merges_1 5 rfl rfl)
theorem dX0_merges_30 : decode cX0_merges 30 = .ok (.getfield 209, 3) := dk_180 0 209 (dk_at dksX0_merges_1 6 rfl rfl)
theorem dX0_merges_33 : decode cX0_merges 33 = .ok (.if_icmp .eq 33, 3) := dk_159 0 33 (dk_at dksX0_merges_1 9 rfl rfl)
theorem dX0_merges_36 : decode cX0_merges 36 = .ok (.iload 4, 2) := dk_21 4 (dk_at dksX0_merges_1 12 rfl rfl)
theorem dX0_merges_38 : decode cX0_merges 38 = .ok (.aload_n 1, 1) := dk_43 (dk_at dksX0_merges_1 14 rfl rfl)
theorem dX0_merges_39 : decode cX0_merges 39 = .ok (.getfield 122, 3) := dk_180 0 122 (dk_at dksX0_merges_1 15 rfl rfl)
theorem dX0_merges_42 : decode cX0_merges 42 = .ok (.if_icmp .ge 28, 3) := dk_162 0 28 (dk_at dksX0_merges_1 18 rfl rfl)
theorem dX0_merges_45 : decode cX0_merges 45 = .ok (.aload_n 0, 1) := dk_42 (dk_at dksX0_merges_1 21 rfl rfl)
theorem dX0_merges_46 : decode cX0_merges 46 = .ok (.aload_n 1, 1) := dk_43 (dk_at dksX0_merges_1 22 rfl rfl)
theorem dX0_merges_47 : decode cX0_merges 47 = .ok (.getfield 125, 3) := dk_180 0 125 (dk_at dksX0_merges_2 0 rfl rfl)
theorem dX0_merges_50 : decode cX0_merges 50 = .ok (.iload 4, 2) := dk_21 4 (dk_at dksX0_merges_2 3 rfl rfl)
theorem dX0_merges_52 : decode cX0_merges 52 = .ok (.iaload, 1) := dk_46 (dk_at dksX0_merges_2 5 rfl rfl)
theorem dX0_merges_53 : decode cX0_merges 53 = .ok (.aload_n 3, 1) := dk_45 (dk_at dksX0_merges_2 6 rfl rfl)
theorem dX0_merges_54 : decode cX0_merges 54 = .ok (.getfield 210, 3) := dk_180 0 210 (dk_at dksX0_merges_2 7 rfl rfl)
theorem dX0_merges_57 : decode cX0_merges 57 = .ok (.iload 5, 2) := dk_21 5 (dk_at dksX0_merges_2 10 rfl rfl)
theorem dX0_merges_59 : decode cX0_merges 59 = .ok (.iaload, 1) := dk_46 (dk_at dksX0_merges_2 12 rfl rfl)
theorem dX0_merges_60 : decode cX0_merges 60 = .ok (.invokevirtual 128, 3) := dk_182 0 128 (dk_at dksX0_merges_2 13 rfl rfl)
theorem dX0_merges_63 : decode cX0_merges 63 = .ok (.ifCond .eq 7, 3) := dk_153 0 7 (dk_at dksX0_merges_2 16 rfl rfl)
theorem dX0_merges_66 : decode cX0_merges 66 = .ok (.iconst 1, 1) := dk_4 (dk_at dksX0_merges_2 19 rfl rfl)
theorem dX0_merges_67 : decode cX0_merges 67 = .ok (.goto 4, 3) := dk_167 0 4 (dk_at dksX0_merges_2 20 rfl rfl)
theorem dX0_merges_70 : decode cX0_merges 70 = .ok (.iconst 0, 1) := dk_3 (dk_at dksX0_merges_2 23 rfl rfl)
theorem dX0_merges_71 : decode cX0_merges 71 = .ok (.istore 7, 2) := dk_54 7 (dk_at dksX0_merges_3 0 rfl rfl)
theorem dX0_merges_73 : decode cX0_merges 73 = .ok (.aload_n 0, 1) := dk_42 (dk_at dksX0_merges_3 2 rfl rfl)
theorem dX0_merges_74 : decode cX0_merges 74 = .ok (.getfield 24, 3) := dk_180 0 24 (dk_at dksX0_merges_3 3 rfl rfl)
theorem dX0_merges_77 : decode cX0_merges 77 = .ok (.iload 6, 2) := dk_21 6 (dk_at dksX0_merges_3 6 rfl rfl)
theorem dX0_merges_79 : decode cX0_merges 79 = .ok (.iload 7, 2) := dk_21 7 (dk_at dksX0_merges_3 8 rfl rfl)
theorem dX0_merges_81 : decode cX0_merges 81 = .ok (.ifCond .eq 13, 3) := dk_153 0 13 (dk_at dksX0_merges_3 10 rfl rfl)
theorem dX0_merges_84 : decode cX0_merges 84 = .ok (.aload_n 1, 1) := dk_43 (dk_at dksX0_merges_3 13 rfl rfl)
theorem dX0_merges_85 : decode cX0_merges 85 = .ok (.getfield 125, 3) := dk_180 0 125 (dk_at dksX0_merges_3 14 rfl rfl)
theorem dX0_merges_88 : decode cX0_merges 88 = .ok (.iload 4, 2) := dk_21 4 (dk_at dksX0_merges_3 17 rfl rfl)
theorem dX0_merges_90 : decode cX0_merges 90 = .ok (.iaload, 1) := dk_46 (dk_at dksX0_merges_3 19 rfl rfl)
theorem dX0_merges_91 : decode cX0_merges 91 = .ok (.goto 10, 3) := dk_167 0 10 (dk_at dksX0_merges_3 20 rfl rfl)
theorem dX0_merges_94 : decode cX0_merges 94 = .ok (.aload_n 3, 1) := dk_45 (dk_at dksX0_merges_3 23 rfl rfl)
theorem dX0_merges_95 : decode cX0_merges 95 = .ok (.getfield 210, 3) := dk_180 0 210 (dk_at dksX0_merges_4 0 rfl rfl)
theorem dX0_merges_98 : decode cX0_merges 98 = .ok (.iload 5, 2) := dk_21 5 (dk_at dksX0_merges_4 3 rfl rfl)
theorem dX0_merges_100 : decode cX0_merges 100 = .ok (.iaload, 1) := dk_46 (dk_at dksX0_merges_4 5 rfl rfl)
theorem dX0_merges_101 : decode cX0_merges 101 = .ok (.iastore, 1) := dk_79 (dk_at dksX0_merges_4 6 rfl rfl)
theorem dX0_merges_102 : decode cX0_merges 102 = .ok (.iload 4, 2) := dk_21 4 (dk_at dksX0_merges_4 7 rfl rfl)
theorem dX0_merges_104 : decode cX0_merges 104 = .ok (.iload 7, 2) := dk_21 7 (dk_at dksX0_merges_4 9 rfl rfl)
theorem dX0_merges_106 : decode cX0_merges 106 = .ok (.ifCond .eq 7, 3) := dk_153 0 7 (dk_at dksX0_merges_4 11 rfl rfl)
theorem dX0_merges_109 : decode cX0_merges 109 = .ok (.iconst 1, 1) := dk_4 (dk_at dksX0_merges_4 14 rfl rfl)
theorem dX0_merges_110 : decode cX0_merges 110 = .ok (.goto 4, 3) := dk_167 0 4 (dk_at dksX0_merges_4 15 rfl rfl)
theorem dX0_merges_113 : decode cX0_merges 113 = .ok (.iconst 0, 1) := dk_3 (dk_at dksX0_merges_4 18 rfl rfl)
theorem dX0_merges_114 : decode cX0_merges 114 = .ok (.iadd, 1) := dk_96 (dk_at dksX0_merges_4 19 rfl rfl)
theorem dX0_merges_115 : decode cX0_merges 115 = .ok (.istore 4, 2) := dk_54 4 (dk_at dksX0_merges_4 20 rfl rfl)
theorem dX0_merges_117 : decode cX0_merges 117 = .ok (.iload 5, 2) := dk_21 5 (dk_at dksX0_merges_4 22 rfl rfl)
theorem dX0_merges_119 : decode cX0_merges 119 = .ok (.iload 7, 2) := dk_21 7 (dk_at dksX0_merges_5 0 rfl rfl)
theorem dX0_merges_121 : decode cX0_merges 121 = .ok (.ifCond .eq 7, 3) := dk_153 0 7 (dk_at dksX0_merges_5 2 rfl rfl)
theorem dX0_merges_124 : decode cX0_merges 124 = .ok (.iconst 0, 1) := dk_3 (dk_at dksX0_merges_5 5 rfl rfl)
theorem dX0_merges_125 : decode cX0_merges 125 = .ok (.goto 4, 3) := dk_167 0 4 (dk_at dksX0_merges_5 6 rfl rfl)
theorem dX0_merges_128 : decode cX0_merges 128 = .ok (.iconst 1, 1) := dk_4 (dk_at dksX0_merges_5 9 rfl rfl)
theorem dX0_merges_129 : decode cX0_merges 129 = .ok (.iadd, 1) := dk_96 (dk_at dksX0_merges_5 10 rfl rfl)
theorem dX0_merges_130 : decode cX0_merges 130 = .ok (.istore 5, 2) := dk_54 5 (dk_at dksX0_merges_5 11 rfl rfl)
theorem dX0_merges_132 : decode cX0_merges 132 = .ok (.iinc 6 1, 3) := dk_132 6 1 (dk_at dksX0_merges_5 13 rfl rfl)
theorem dX0_merges_135 : decode cX0_merges 135 = .ok (.goto (-126), 3) := dk_167 255 130 (dk_at dksX0_merges_5 16 rfl rfl)
theorem dX0_merges_138 : decode cX0_merges 138 = .ok (.iconst 0, 1) := dk_3 (dk_at dksX0_merges_5 19 rfl rfl)
theorem dX0_merges_139 : decode cX0_merges 139 = .ok (.istore 7, 2) := dk_54 7 (dk_at dksX0_merges_5 20 rfl rfl)
theorem dX0_merges_141 : decode cX0_merges 141 = .ok (.iload 7, 2) := dk_21 7 (dk_at dksX0_merges_5 22 rfl rfl)
theorem dX0_merges_143 : decode cX0_merges 143 = .ok (.iload 6, 2) := dk_21 6 (dk_at dksX0_merges_6 0 rfl rfl)
theorem dX0_merges_145 : decode cX0_merges 145 = .ok (.if_icmp .ge 23, 3) := dk_162 0 23 (dk_at dksX0_merges_6 2 rfl rfl)
theorem dX0_merges_148 : decode cX0_merges 148 = .ok (.aload_n 1, 1) := dk_43 (dk_at dksX0_merges_6 5 rfl rfl)
theorem dX0_merges_149 : decode cX0_merges 149 = .ok (.getfield 125, 3) := dk_180 0 125 (dk_at dksX0_merges_6 6 rfl rfl)
theorem dX0_merges_152 : decode cX0_merges 152 = .ok (.iload 7, 2) := dk_21 7 (dk_at dksX0_merges_6 9 rfl rfl)
theorem dX0_merges_154 : decode cX0_merges 154 = .ok (.aload_n 0, 1) := dk_42 (dk_at dksX0_merges_6 11 rfl rfl)
theorem dX0_merges_155 : decode cX0_merges 155 = .ok (.getfield 24, 3) := dk_180 0 24 (dk_at dksX0_merges_6 12 rfl rfl)
theorem dX0_merges_158 : decode cX0_merges 158 = .ok (.iload 7, 2) := dk_21 7 (dk_at dksX0_merges_6 15 rfl rfl)
theorem dX0_merges_160 : decode cX0_merges 160 = .ok (.iaload, 1) := dk_46 (dk_at dksX0_merges_6 17 rfl rfl)
theorem dX0_merges_161 : decode cX0_merges 161 = .ok (.iastore, 1) := dk_79 (dk_at dksX0_merges_6 18 rfl rfl)
theorem dX0_merges_162 : decode cX0_merges 162 = .ok (.iinc 7 1, 3) := dk_132 7 1 (dk_at dksX0_merges_6 19 rfl rfl)
theorem dX0_merges_165 : decode cX0_merges 165 = .ok (.goto (-24), 3) := dk_167 255 232 (dk_at dksX0_merges_7 0 rfl rfl)
theorem dX0_merges_168 : decode cX0_merges 168 = .ok (.aload_n 1, 1) := dk_43 (dk_at dksX0_merges_7 3 rfl rfl)
theorem dX0_merges_169 : decode cX0_merges 169 = .ok (.iload 6, 2) := dk_21 6 (dk_at dksX0_merges_7 4 rfl rfl)
theorem dX0_merges_171 : decode cX0_merges 171 = .ok (.putfield 122, 3) := dk_181 0 122 (dk_at dksX0_merges_7 6 rfl rfl)
theorem dX0_merges_174 : decode cX0_merges 174 = .ok (.return_, 1) := dk_177 (dk_at dksX0_merges_7 9 rfl rfl)
abbrev cX0_promote : ByteArray := prog_1_method_40_code
def yX0_promote : MethodName := ⟨RX0, "promote", "(I)I"⟩
def dkwX0_promote_1 : List UInt8 := [172]
abbrev dktX0_promote_1 : List UInt8 := dkwX0_promote_1 ++ []
def dkwX0_promote_0 : List UInt8 := [42, 42, 27, 182, 0, 161, 192, 0, 93, 182, 0, 245, 172, 77, 16, 244, 172, 77, 16, 245, 172, 77, 16, 243]
abbrev dktX0_promote_0 : List UInt8 := dkwX0_promote_0 ++ dktX0_promote_1
theorem dksX0_promote_0 : cX0_promote.data.toList.drop 0 = dktX0_promote_0 := by decide +kernel
theorem dksX0_promote_1 : cX0_promote.data.toList.drop 24 = dktX0_promote_1 := dk_seg dksX0_promote_0 24 rfl rfl
theorem dX0_promote_0 : decode cX0_promote 0 = .ok (.aload_n 0, 1) := dk_42 (dk_at dksX0_promote_0 0 rfl rfl)
theorem dX0_promote_1 : decode cX0_promote 1 = .ok (.aload_n 0, 1) := dk_42 (dk_at dksX0_promote_0 1 rfl rfl)
theorem dX0_promote_2 : decode cX0_promote 2 = .ok (.iload_n 1, 1) := dk_27 (dk_at dksX0_promote_0 2 rfl rfl)
theorem dX0_promote_3 : decode cX0_promote 3 = .ok (.invokevirtual 161, 3) := dk_182 0 161 (dk_at dksX0_promote_0 3 rfl rfl)
theorem dX0_promote_6 : decode cX0_promote 6 = .ok (.checkcast 93, 3) := dk_192 0 93 (dk_at dksX0_promote_0 6 rfl rfl)
theorem dX0_promote_9 : decode cX0_promote 9 = .ok (.invokevirtual 245, 3) := dk_182 0 245 (dk_at dksX0_promote_0 9 rfl rfl)
theorem dX0_promote_12 : decode cX0_promote 12 = .ok (.ireturn, 1) := dk_172 (dk_at dksX0_promote_0 12 rfl rfl)
theorem dX0_promote_13 : decode cX0_promote 13 = .ok (.astore_n 2, 1) := dk_77 (dk_at dksX0_promote_0 13 rfl rfl)
theorem dX0_promote_14 : decode cX0_promote 14 = .ok (.bipush (-12), 2) := dk_16 244 (dk_at dksX0_promote_0 14 rfl rfl)
theorem dX0_promote_16 : decode cX0_promote 16 = .ok (.ireturn, 1) := dk_172 (dk_at dksX0_promote_0 16 rfl rfl)
theorem dX0_promote_17 : decode cX0_promote 17 = .ok (.astore_n 2, 1) := dk_77 (dk_at dksX0_promote_0 17 rfl rfl)
theorem dX0_promote_18 : decode cX0_promote 18 = .ok (.bipush (-11), 2) := dk_16 245 (dk_at dksX0_promote_0 18 rfl rfl)
theorem dX0_promote_20 : decode cX0_promote 20 = .ok (.ireturn, 1) := dk_172 (dk_at dksX0_promote_0 20 rfl rfl)
theorem dX0_promote_21 : decode cX0_promote 21 = .ok (.astore_n 2, 1) := dk_77 (dk_at dksX0_promote_0 21 rfl rfl)
theorem dX0_promote_22 : decode cX0_promote 22 = .ok (.bipush (-13), 2) := dk_16 243 (dk_at dksX0_promote_0 22 rfl rfl)
theorem dX0_promote_24 : decode cX0_promote 24 = .ok (.ireturn, 1) := dk_172 (dk_at dksX0_promote_1 0 rfl rfl)
abbrev cX0_promotes : ByteArray := prog_1_method_39_code
def yX0_promotes : MethodName := ⟨RX0, "promotes", "(LDeadListPool$Folder;)I"⟩
def dkwX0_promotes_2 : List UInt8 := [25, 5, 180, 0, 99, 58, 5, 167, 255, 226, 21, 4, 172]
abbrev dktX0_promotes_2 : List UInt8 := dkwX0_promotes_2 ++ []
def dkwX0_promotes_1 : List UInt8 := [25, 5, 198, 0, 31, 25, 5, 180, 0, 95, 45, 166, 0, 12, 25, 5, 43, 181, 0, 95, 132, 4, 1]
abbrev dktX0_promotes_1 : List UInt8 := dkwX0_promotes_1 ++ dktX0_promotes_2
def dkwX0_promotes_0 : List UInt8 := [43, 184, 0, 241, 77, 44, 199, 0, 6, 16, 253, 172, 44, 180, 0, 95, 78, 3, 54, 4, 44, 58, 5]
abbrev dktX0_promotes_0 : List UInt8 := dkwX0_promotes_0 ++ dktX0_promotes_1
theorem dksX0_promotes_0 : cX0_promotes.data.toList.drop 0 = dktX0_promotes_0 := by decide +kernel
theorem dksX0_promotes_1 : cX0_promotes.data.toList.drop 23 = dktX0_promotes_1 := dk_seg dksX0_promotes_0 23 rfl rfl
theorem dksX0_promotes_2 : cX0_promotes.data.toList.drop 46 = dktX0_promotes_2 := dk_seg dksX0_promotes_1 23 rfl rfl
theorem dX0_promotes_0 : decode cX0_promotes 0 = .ok (.aload_n 1, 1) := dk_43 (dk_at dksX0_promotes_0 0 rfl rfl)
theorem dX0_promotes_1 : decode cX0_promotes 1 = .ok (.invokestatic 241, 3) := dk_184 0 241 (dk_at dksX0_promotes_0 1 rfl rfl)
theorem dX0_promotes_4 : decode cX0_promotes 4 = .ok (.astore_n 2, 1) := dk_77 (dk_at dksX0_promotes_0 4 rfl rfl)
theorem dX0_promotes_5 : decode cX0_promotes 5 = .ok (.aload_n 2, 1) := dk_44 (dk_at dksX0_promotes_0 5 rfl rfl)
theorem dX0_promotes_6 : decode cX0_promotes 6 = .ok (.ifnonnull 6, 3) := dk_199 0 6 (dk_at dksX0_promotes_0 6 rfl rfl)
theorem dX0_promotes_9 : decode cX0_promotes 9 = .ok (.bipush (-3), 2) := dk_16 253 (dk_at dksX0_promotes_0 9 rfl rfl)
theorem dX0_promotes_11 : decode cX0_promotes 11 = .ok (.ireturn, 1) := dk_172 (dk_at dksX0_promotes_0 11 rfl rfl)
theorem dX0_promotes_12 : decode cX0_promotes 12 = .ok (.aload_n 2, 1) := dk_44 (dk_at dksX0_promotes_0 12 rfl rfl)
theorem dX0_promotes_13 : decode cX0_promotes 13 = .ok (.getfield 95, 3) := dk_180 0 95 (dk_at dksX0_promotes_0 13 rfl rfl)
theorem dX0_promotes_16 : decode cX0_promotes 16 = .ok (.astore_n 3, 1) := dk_78 (dk_at dksX0_promotes_0 16 rfl rfl)
theorem dX0_promotes_17 : decode cX0_promotes 17 = .ok (.iconst 0, 1) := dk_3 (dk_at dksX0_promotes_0 17 rfl rfl)
theorem dX0_promotes_18 : decode cX0_promotes 18 = .ok (.istore 4, 2) := dk_54 4 (dk_at dksX0_promotes_0 18 rfl rfl)
theorem dX0_promotes_20 : decode cX0_promotes 20 = .ok (.aload_n 2, 1) := dk_44 (dk_at dksX0_promotes_0 20 rfl rfl)
theorem dX0_promotes_21 : decode cX0_promotes 21 = .ok (.astore 5, 2) := dk_58 5 (dk_at dksX0_promotes_0 21 rfl rfl)
theorem dX0_promotes_23 : decode cX0_promotes 23 = .ok (.aload 5, 2) := dk_25 5 (dk_at dksX0_promotes_1 0 rfl rfl)
theorem dX0_promotes_25 : decode cX0_promotes 25 = .ok (.ifnull 31, 3) := dk_198 0 31 (dk_at dksX0_promotes_1 2 rfl rfl)
theorem dX0_promotes_28 : decode cX0_promotes 28 = .ok (.aload 5, 2) := dk_25 5 (dk_at dksX0_promotes_1 5 rfl rfl)
theorem dX0_promotes_30 : decode cX0_promotes 30 = .ok (.getfield 95, 3) := dk_180 0 95 (dk_at dksX0_promotes_1 7 rfl rfl)
theorem dX0_promotes_33 : decode cX0_promotes 33 = .ok (.aload_n 3, 1) := dk_45 (dk_at dksX0_promotes_1 10 rfl rfl)
theorem dX0_promotes_34 : decode cX0_promotes 34 = .ok (.if_acmp .ne 12, 3) := dk_166 0 12 (dk_at dksX0_promotes_1 11 rfl rfl)
theorem dX0_promotes_37 : decode cX0_promotes 37 = .ok (.aload 5, 2) := dk_25 5 (dk_at dksX0_promotes_1 14 rfl rfl)
theorem dX0_promotes_39 : decode cX0_promotes 39 = .ok (.aload_n 1, 1) := dk_43 (dk_at dksX0_promotes_1 16 rfl rfl)
theorem dX0_promotes_40 : decode cX0_promotes 40 = .ok (.putfield 95, 3) := dk_181 0 95 (dk_at dksX0_promotes_1 17 rfl rfl)
theorem dX0_promotes_43 : decode cX0_promotes 43 = .ok (.iinc 4 1, 3) := dk_132 4 1 (dk_at dksX0_promotes_1 20 rfl rfl)
theorem dX0_promotes_46 : decode cX0_promotes 46 = .ok (.aload 5, 2) := dk_25 5 (dk_at dksX0_promotes_2 0 rfl rfl)
theorem dX0_promotes_48 : decode cX0_promotes 48 = .ok (.getfield 99, 3) := dk_180 0 99 (dk_at dksX0_promotes_2 2 rfl rfl)
theorem dX0_promotes_51 : decode cX0_promotes 51 = .ok (.astore 5, 2) := dk_58 5 (dk_at dksX0_promotes_2 5 rfl rfl)
theorem dX0_promotes_53 : decode cX0_promotes 53 = .ok (.goto (-30), 3) := dk_167 255 226 (dk_at dksX0_promotes_2 7 rfl rfl)
theorem dX0_promotes_56 : decode cX0_promotes 56 = .ok (.iload 4, 2) := dk_21 4 (dk_at dksX0_promotes_2 10 rfl rfl)
theorem dX0_promotes_58 : decode cX0_promotes 58 = .ok (.ireturn, 1) := dk_172 (dk_at dksX0_promotes_2 12 rfl rfl)
abbrev cX0_originOf : ByteArray := prog_1_method_16_code
def yX0_originOf : MethodName := ⟨RX0, "originOf", "(LDeadListPool$Folder;)LDeadListPool$Snapshot;"⟩
def dkwX0_originOf_1 : List UInt8 := [167, 255, 239, 43, 176]
abbrev dktX0_originOf_1 : List UInt8 := dkwX0_originOf_1 ++ []
def dkwX0_originOf_0 : List UInt8 := [42, 180, 0, 92, 76, 43, 198, 0, 19, 43, 180, 0, 95, 42, 166, 0, 11, 43, 180, 0, 99, 76]
abbrev dktX0_originOf_0 : List UInt8 := dkwX0_originOf_0 ++ dktX0_originOf_1
theorem dksX0_originOf_0 : cX0_originOf.data.toList.drop 0 = dktX0_originOf_0 := by decide +kernel
theorem dksX0_originOf_1 : cX0_originOf.data.toList.drop 22 = dktX0_originOf_1 := dk_seg dksX0_originOf_0 22 rfl rfl
theorem dX0_originOf_0 : decode cX0_originOf 0 = .ok (.aload_n 0, 1) := dk_42 (dk_at dksX0_originOf_0 0 rfl rfl)
theorem dX0_originOf_1 : decode cX0_originOf 1 = .ok (.getfield 92, 3) := dk_180 0 92 (dk_at dksX0_originOf_0 1 rfl rfl)
theorem dX0_originOf_4 : decode cX0_originOf 4 = .ok (.astore_n 1, 1) := dk_76 (dk_at dksX0_originOf_0 4 rfl rfl)
theorem dX0_originOf_5 : decode cX0_originOf 5 = .ok (.aload_n 1, 1) := dk_43 (dk_at dksX0_originOf_0 5 rfl rfl)
theorem dX0_originOf_6 : decode cX0_originOf 6 = .ok (.ifnull 19, 3) := dk_198 0 19 (dk_at dksX0_originOf_0 6 rfl rfl)
theorem dX0_originOf_9 : decode cX0_originOf 9 = .ok (.aload_n 1, 1) := dk_43 (dk_at dksX0_originOf_0 9 rfl rfl)
theorem dX0_originOf_10 : decode cX0_originOf 10 = .ok (.getfield 95, 3) := dk_180 0 95 (dk_at dksX0_originOf_0 10 rfl rfl)
theorem dX0_originOf_13 : decode cX0_originOf 13 = .ok (.aload_n 0, 1) := dk_42 (dk_at dksX0_originOf_0 13 rfl rfl)
theorem dX0_originOf_14 : decode cX0_originOf 14 = .ok (.if_acmp .ne 11, 3) := dk_166 0 11 (dk_at dksX0_originOf_0 14 rfl rfl)
theorem dX0_originOf_17 : decode cX0_originOf 17 = .ok (.aload_n 1, 1) := dk_43 (dk_at dksX0_originOf_0 17 rfl rfl)
theorem dX0_originOf_18 : decode cX0_originOf 18 = .ok (.getfield 99, 3) := dk_180 0 99 (dk_at dksX0_originOf_0 18 rfl rfl)
theorem dX0_originOf_21 : decode cX0_originOf 21 = .ok (.astore_n 1, 1) := dk_76 (dk_at dksX0_originOf_0 21 rfl rfl)
theorem dX0_originOf_22 : decode cX0_originOf 22 = .ok (.goto (-17), 3) := dk_167 255 239 (dk_at dksX0_originOf_1 0 rfl rfl)
theorem dX0_originOf_25 : decode cX0_originOf 25 = .ok (.aload_n 1, 1) := dk_43 (dk_at dksX0_originOf_1 3 rfl rfl)
theorem dX0_originOf_26 : decode cX0_originOf 26 = .ok (.areturn, 1) := dk_176 (dk_at dksX0_originOf_1 4 rfl rfl)
abbrev cX0_rollback : ByteArray := prog_1_method_42_code
def yX0_rollback : MethodName := ⟨RX0, "rollback", "(I)I"⟩
def dkwX0_rollback_1 : List UInt8 := [172]
abbrev dktX0_rollback_1 : List UInt8 := dkwX0_rollback_1 ++ []
def dkwX0_rollback_0 : List UInt8 := [42, 42, 27, 182, 0, 161, 192, 0, 93, 182, 0, 248, 172, 77, 16, 244, 172, 77, 16, 245, 172, 77, 16, 243]
abbrev dktX0_rollback_0 : List UInt8 := dkwX0_rollback_0 ++ dktX0_rollback_1
theorem dksX0_rollback_0 : cX0_rollback.data.toList.drop 0 = dktX0_rollback_0 := by decide +kernel
theorem dksX0_rollback_1 : cX0_rollback.data.toList.drop 24 = dktX0_rollback_1 := dk_seg dksX0_rollback_0 24 rfl rfl
theorem dX0_rollback_0 : decode cX0_rollback 0 = .ok (.aload_n 0, 1) := dk_42 (dk_at dksX0_rollback_0 0 rfl rfl)
theorem dX0_rollback_1 : decode cX0_rollback 1 = .ok (.aload_n 0, 1) := dk_42 (dk_at dksX0_rollback_0 1 rfl rfl)
theorem dX0_rollback_2 : decode cX0_rollback 2 = .ok (.iload_n 1, 1) := dk_27 (dk_at dksX0_rollback_0 2 rfl rfl)
theorem dX0_rollback_3 : decode cX0_rollback 3 = .ok (.invokevirtual 161, 3) := dk_182 0 161 (dk_at dksX0_rollback_0 3 rfl rfl)
theorem dX0_rollback_6 : decode cX0_rollback 6 = .ok (.checkcast 93, 3) := dk_192 0 93 (dk_at dksX0_rollback_0 6 rfl rfl)
theorem dX0_rollback_9 : decode cX0_rollback 9 = .ok (.invokevirtual 248, 3) := dk_182 0 248 (dk_at dksX0_rollback_0 9 rfl rfl)
theorem dX0_rollback_12 : decode cX0_rollback 12 = .ok (.ireturn, 1) := dk_172 (dk_at dksX0_rollback_0 12 rfl rfl)
theorem dX0_rollback_13 : decode cX0_rollback 13 = .ok (.astore_n 2, 1) := dk_77 (dk_at dksX0_rollback_0 13 rfl rfl)
theorem dX0_rollback_14 : decode cX0_rollback 14 = .ok (.bipush (-12), 2) := dk_16 244 (dk_at dksX0_rollback_0 14 rfl rfl)
theorem dX0_rollback_16 : decode cX0_rollback 16 = .ok (.ireturn, 1) := dk_172 (dk_at dksX0_rollback_0 16 rfl rfl)
theorem dX0_rollback_17 : decode cX0_rollback 17 = .ok (.astore_n 2, 1) := dk_77 (dk_at dksX0_rollback_0 17 rfl rfl)
theorem dX0_rollback_18 : decode cX0_rollback 18 = .ok (.bipush (-11), 2) := dk_16 245 (dk_at dksX0_rollback_0 18 rfl rfl)
theorem dX0_rollback_20 : decode cX0_rollback 20 = .ok (.ireturn, 1) := dk_172 (dk_at dksX0_rollback_0 20 rfl rfl)
theorem dX0_rollback_21 : decode cX0_rollback 21 = .ok (.astore_n 2, 1) := dk_77 (dk_at dksX0_rollback_0 21 rfl rfl)
theorem dX0_rollback_22 : decode cX0_rollback 22 = .ok (.bipush (-13), 2) := dk_16 243 (dk_at dksX0_rollback_0 22 rfl rfl)
theorem dX0_rollback_24 : decode cX0_rollback 24 = .ok (.ireturn, 1) := dk_172 (dk_at dksX0_rollback_1 0 rfl rfl)
abbrev cX0_rollsBack : ByteArray := prog_1_method_41_code
def yX0_rollsBack : MethodName := ⟨RX0, "rollsBack", "(LDeadListPool$Folder;)I"⟩
def dkwX0_rollsBack_1 : List UInt8 := [43, 3, 181, 0, 184, 28, 172]
abbrev dktX0_rollsBack_1 : List UInt8 := dkwX0_rollsBack_1 ++ []
def dkwX0_rollsBack_0 : List UInt8 := [43, 180, 0, 92, 199, 0, 6, 16, 253, 172, 42, 43, 182, 0, 228, 61, 43, 43, 180, 0, 92, 182, 0, 201]
abbrev dktX0_rollsBack_0 : List UInt8 := dkwX0_rollsBack_0 ++ dktX0_rollsBack_1
theorem dksX0_rollsBack_0 : cX0_rollsBack.data.toList.drop 0 = dktX0_rollsBack_0 := by decide +kernel
theorem dksX0_rollsBack_1 : cX0_rollsBack.data.toList.drop 24 = dktX0_rollsBack_1 := dk_seg dksX0_rollsBack_0 24 rfl rfl
theorem dX0_rollsBack_0 : decode cX0_rollsBack 0 = .ok (.aload_n 1, 1) := dk_43 (dk_at dksX0_rollsBack_0 0 rfl rfl)
theorem dX0_rollsBack_1 : decode cX0_rollsBack 1 = .ok (.getfield 92, 3) := dk_180 0 92 (dk_at dksX0_rollsBack_0 1 rfl rfl)
theorem dX0_rollsBack_4 : decode cX0_rollsBack 4 = .ok (.ifnonnull 6, 3) := dk_199 0 6 (dk_at dksX0_rollsBack_0 4 rfl rfl)
theorem dX0_rollsBack_7 : decode cX0_rollsBack 7 = .ok (.bipush (-3), 2) := dk_16 253 (dk_at dksX0_rollsBack_0 7 rfl rfl)
theorem dX0_rollsBack_9 : decode cX0_rollsBack 9 = .ok (.ireturn, 1) := dk_172 (dk_at dksX0_rollsBack_0 9 rfl rfl)
theorem dX0_rollsBack_10 : decode cX0_rollsBack 10 = .ok (.aload_n 0, 1) := dk_42 (dk_at dksX0_rollsBack_0 10 rfl rfl)
theorem dX0_rollsBack_11 : decode cX0_rollsBack 11 = .ok (.aload_n 1, 1) := dk_43 (dk_at dksX0_rollsBack_0 11 rfl rfl)
theorem dX0_rollsBack_12 : decode cX0_rollsBack 12 = .ok (.invokevirtual 228, 3) := dk_182 0 228 (dk_at dksX0_rollsBack_0 12 rfl rfl)
theorem dX0_rollsBack_15 : decode cX0_rollsBack 15 = .ok (.istore_n 2, 1) := dk_61 (dk_at dksX0_rollsBack_0 15 rfl rfl)
theorem dX0_rollsBack_16 : decode cX0_rollsBack 16 = .ok (.aload_n 1, 1) := dk_43 (dk_at dksX0_rollsBack_0 16 rfl rfl)
theorem dX0_rollsBack_17 : decode cX0_rollsBack 17 = .ok (.aload_n 1, 1) := dk_43 (dk_at dksX0_rollsBack_0 17 rfl rfl)
theorem dX0_rollsBack_18 : decode cX0_rollsBack 18 = .ok (.getfield 92, 3) := dk_180 0 92 (dk_at dksX0_rollsBack_0 18 rfl rfl)
theorem dX0_rollsBack_21 : decode cX0_rollsBack 21 = .ok (.invokevirtual 201, 3) := dk_182 0 201 (dk_at dksX0_rollsBack_0 21 rfl rfl)
theorem dX0_rollsBack_24 : decode cX0_rollsBack 24 = .ok (.aload_n 1, 1) := dk_43 (dk_at dksX0_rollsBack_1 0 rfl rfl)
theorem dX0_rollsBack_25 : decode cX0_rollsBack 25 = .ok (.iconst 0, 1) := dk_3 (dk_at dksX0_rollsBack_1 1 rfl rfl)
theorem dX0_rollsBack_26 : decode cX0_rollsBack 26 = .ok (.putfield 184, 3) := dk_181 0 184 (dk_at dksX0_rollsBack_1 2 rfl rfl)
theorem dX0_rollsBack_29 : decode cX0_rollsBack 29 = .ok (.iload_n 2, 1) := dk_28 (dk_at dksX0_rollsBack_1 5 rfl rfl)
theorem dX0_rollsBack_30 : decode cX0_rollsBack 30 = .ok (.ireturn, 1) := dk_172 (dk_at dksX0_rollsBack_1 6 rfl rfl)
abbrev cX0_tick : ByteArray := prog_1_method_43_code
def yX0_tick : MethodName := ⟨RX0, "tick", "()I"⟩
def dkwX0_tick_1 : List UInt8 := [180, 0, 16, 172]
abbrev dktX0_tick_1 : List UInt8 := dkwX0_tick_1 ++ []
def dkwX0_tick_0 : List UInt8 := [42, 180, 0, 16, 18, 251, 161, 0, 6, 16, 253, 172, 42, 89, 180, 0, 16, 4, 96, 181, 0, 16, 42]
abbrev dktX0_tick_0 : List UInt8 := dkwX0_tick_0 ++ dktX0_tick_1
theorem dksX0_tick_0 : cX0_tick.data.toList.drop 0 = dktX0_tick_0 := by decide +kernel
theorem dksX0_tick_1 : cX0_tick.data.toList.drop 23 = dktX0_tick_1 := dk_seg dksX0_tick_0 23 rfl rfl
theorem dX0_tick_0 : decode cX0_tick 0 = .ok (.aload_n 0, 1) := dk_42 (dk_at dksX0_tick_0 0 rfl rfl)
theorem dX0_tick_1 : decode cX0_tick 1 = .ok (.getfield 16, 3) := dk_180 0 16 (dk_at dksX0_tick_0 1 rfl rfl)
theorem dX0_tick_4 : decode cX0_tick 4 = .ok (.ldc 251, 2) := dk_18 251 (dk_at dksX0_tick_0 4 rfl rfl)
theorem dX0_tick_6 : decode cX0_tick 6 = .ok (.if_icmp .lt 6, 3) := dk_161 0 6 (dk_at dksX0_tick_0 6 rfl rfl)
theorem dX0_tick_9 : decode cX0_tick 9 = .ok (.bipush (-3), 2) := dk_16 253 (dk_at dksX0_tick_0 9 rfl rfl)
theorem dX0_tick_11 : decode cX0_tick 11 = .ok (.ireturn, 1) := dk_172 (dk_at dksX0_tick_0 11 rfl rfl)
theorem dX0_tick_12 : decode cX0_tick 12 = .ok (.aload_n 0, 1) := dk_42 (dk_at dksX0_tick_0 12 rfl rfl)
theorem dX0_tick_13 : decode cX0_tick 13 = .ok (.dup, 1) := dk_89 (dk_at dksX0_tick_0 13 rfl rfl)
theorem dX0_tick_14 : decode cX0_tick 14 = .ok (.getfield 16, 3) := dk_180 0 16 (dk_at dksX0_tick_0 14 rfl rfl)
theorem dX0_tick_17 : decode cX0_tick 17 = .ok (.iconst 1, 1) := dk_4 (dk_at dksX0_tick_0 17 rfl rfl)
theorem dX0_tick_18 : decode cX0_tick 18 = .ok (.iadd, 1) := dk_96 (dk_at dksX0_tick_0 18 rfl rfl)
theorem dX0_tick_19 : decode cX0_tick 19 = .ok (.putfield 16, 3) := dk_181 0 16 (dk_at dksX0_tick_0 19 rfl rfl)
theorem dX0_tick_22 : decode cX0_tick 22 = .ok (.aload_n 0, 1) := dk_42 (dk_at dksX0_tick_0 22 rfl rfl)
theorem dX0_tick_23 : decode cX0_tick 23 = .ok (.getfield 16, 3) := dk_180 0 16 (dk_at dksX0_tick_1 0 rfl rfl)
theorem dX0_tick_26 : decode cX0_tick 26 = .ok (.ireturn, 1) := dk_172 (dk_at dksX0_tick_1 3 rfl rfl)
abbrev cX0_told : ByteArray := prog_1_method_46_code
def yX0_told : MethodName := ⟨RX0, "told", "(II)I"⟩
def dkwX0_told_3 : List UInt8 := [153, 0, 10, 28, 184, 1, 13, 167, 0, 12, 42, 45, 192, 0, 65, 28, 182, 1, 17, 172]
abbrev dktX0_told_3 : List UInt8 := dkwX0_told_3 ++ []
def dkwX0_told_2 : List UInt8 := [162, 0, 19, 28, 154, 0, 10, 45, 184, 1, 6, 167, 0, 7, 45, 184, 1, 10, 172, 45, 193, 0, 60]
abbrev dktX0_told_2 : List UInt8 := dkwX0_told_2 ++ dktX0_told_3
def dkwX0_told_1 : List UInt8 := [154, 0, 6, 16, 244, 172, 42, 180, 0, 20, 27, 50, 78, 45, 199, 0, 6, 16, 245, 172, 28, 5]
abbrev dktX0_told_1 : List UInt8 := dkwX0_told_1 ++ dktX0_told_2
def dkwX0_told_0 : List UInt8 := [28, 133, 9, 20, 0, 189, 184, 0, 74, 154, 0, 6, 16, 254, 172, 27, 133, 9, 20, 0, 72, 184, 0, 74]
abbrev dktX0_told_0 : List UInt8 := dkwX0_told_0 ++ dktX0_told_1
theorem dksX0_told_0 : cX0_told.data.toList.drop 0 = dktX0_told_0 := by decide +kernel
theorem dksX0_told_1 : cX0_told.data.toList.drop 24 = dktX0_told_1 := dk_seg dksX0_told_0 24 rfl rfl
theorem dksX0_told_2 : cX0_told.data.toList.drop 46 = dktX0_told_2 := dk_seg dksX0_told_1 22 rfl rfl
theorem dksX0_told_3 : cX0_told.data.toList.drop 69 = dktX0_told_3 := dk_seg dksX0_told_2 23 rfl rfl
theorem dX0_told_0 : decode cX0_told 0 = .ok (.iload_n 2, 1) := dk_28 (dk_at dksX0_told_0 0 rfl rfl)
theorem dX0_told_1 : decode cX0_told 1 = .ok (.i2l, 1) := dk_133 (dk_at dksX0_told_0 1 rfl rfl)
theorem dX0_told_2 : decode cX0_told 2 = .ok (.lconst 0, 1) := dk_9 (dk_at dksX0_told_0 2 rfl rfl)
theorem dX0_told_3 : decode cX0_told 3 = .ok (.ldc2_w 189, 3) := dk_20 0 189 (dk_at dksX0_told_0 3 rfl rfl)
theorem dX0_told_6 : decode cX0_told 6 = .ok (.invokestatic 74, 3) := dk_184 0 74 (dk_at dksX0_told_0 6 rfl rfl)
theorem dX0_told_9 : decode cX0_told 9 = .ok (.ifCond .ne 6, 3) := dk_154 0 6 (dk_at dksX0_told_0 9 rfl rfl)
theorem dX0_told_12 : decode cX0_told 12 = .ok (.bipush (-2), 2) := dk_16 254 (dk_at dksX0_told_0 12 rfl rfl)
theorem dX0_told_14 : decode cX0_told 14 = .ok (.ireturn, 1) := dk_172 (dk_at dksX0_told_0 14 rfl rfl)
theorem dX0_told_15 : decode cX0_told 15 = .ok (.iload_n 1, 1) := dk_27 (dk_at dksX0_told_0 15 rfl rfl)
theorem dX0_told_16 : decode cX0_told 16 = .ok (.i2l, 1) := dk_133 (dk_at dksX0_told_0 16 rfl rfl)
theorem dX0_told_17 : decode cX0_told 17 = .ok (.lconst 0, 1) := dk_9 (dk_at dksX0_told_0 17 rfl rfl)
theorem dX0_told_18 : decode cX0_told 18 = .ok (.ldc2_w 72, 3) := dk_20 0 72 (dk_at dksX0_told_0 18 rfl rfl)
theorem dX0_told_21 : decode cX0_told 21 = .ok (.invokestatic 74, 3) := dk_184 0 74 (dk_at dksX0_told_0 21 rfl rfl)
theorem dX0_told_24 : decode cX0_told 24 = .ok (.ifCond .ne 6, 3) := dk_154 0 6 (dk_at dksX0_told_1 0 rfl rfl)
theorem dX0_told_27 : decode cX0_told 27 = .ok (.bipush (-12), 2) := dk_16 244 (dk_at dksX0_told_1 3 rfl rfl)
theorem dX0_told_29 : decode cX0_told 29 = .ok (.ireturn, 1) := dk_172 (dk_at dksX0_told_1 5 rfl rfl)
theorem dX0_told_30 : decode cX0_told 30 = .ok (.aload_n 0, 1) := dk_42 (dk_at dksX0_told_1 6 rfl rfl)
theorem dX0_told_31 : decode cX0_told 31 = .ok (.getfield 20, 3) := dk_180 0 20 (dk_at dksX0_told_1 7 rfl rfl)
theorem dX0_told_34 : decode cX0_told 34 = .ok (.iload_n 1, 1) := dk_27 (dk_at dksX0_told_1 10 rfl rfl)
theorem dX0_told_35 : decode cX0_told 35 = .ok (.aaload, 1) := dk_50 (dk_at dksX0_told_1 11 rfl rfl)
theorem dX0_told_36 : decode cX0_told 36 = .ok (.astore_n 3, 1) := dk_78 (dk_at dksX0_told_1 12 rfl rfl)
theorem dX0_told_37 : decode cX0_told 37 = .ok (.aload_n 3, 1) := dk_45 (dk_at dksX0_told_1 13 rfl rfl)
theorem dX0_told_38 : decode cX0_told 38 = .ok (.ifnonnull 6, 3) := dk_199 0 6 (dk_at dksX0_told_1 14 rfl rfl)
theorem dX0_told_41 : decode cX0_told 41 = .ok (.bipush (-11), 2) := dk_16 245 (dk_at dksX0_told_1 17 rfl rfl)
theorem dX0_told_43 : decode cX0_told 43 = .ok (.ireturn, 1) := dk_172 (dk_at dksX0_told_1 19 rfl rfl)
theorem dX0_told_44 : decode cX0_told 44 = .ok (.iload_n 2, 1) := dk_28 (dk_at dksX0_told_1 20 rfl rfl)
theorem dX0_told_45 : decode cX0_told 45 = .ok (.iconst 2, 1) := dk_5 (dk_at dksX0_told_1 21 rfl rfl)
theorem dX0_told_46 : decode cX0_told 46 = .ok (.if_icmp .ge 19, 3) := dk_162 0 19 (dk_at dksX0_told_2 0 rfl rfl)
theorem dX0_told_49 : decode cX0_told 49 = .ok (.iload_n 2, 1) := dk_28 (dk_at dksX0_told_2 3 rfl rfl)
theorem dX0_told_50 : decode cX0_told 50 = .ok (.ifCond .ne 10, 3) := dk_154 0 10 (dk_at dksX0_told_2 4 rfl rfl)
theorem dX0_told_53 : decode cX0_told 53 = .ok (.aload_n 3, 1) := dk_45 (dk_at dksX0_told_2 7 rfl rfl)
theorem dX0_told_54 : decode cX0_told 54 = .ok (.invokestatic 262, 3) := dk_184 1 6 (dk_at dksX0_told_2 8 rfl rfl)
theorem dX0_told_57 : decode cX0_told 57 = .ok (.goto 7, 3) := dk_167 0 7 (dk_at dksX0_told_2 11 rfl rfl)
theorem dX0_told_60 : decode cX0_told 60 = .ok (.aload_n 3, 1) := dk_45 (dk_at dksX0_told_2 14 rfl rfl)
theorem dX0_told_61 : decode cX0_told 61 = .ok (.invokestatic 266, 3) := dk_184 1 10 (dk_at dksX0_told_2 15 rfl rfl)
theorem dX0_told_64 : decode cX0_told 64 = .ok (.ireturn, 1) := dk_172 (dk_at dksX0_told_2 18 rfl rfl)
theorem dX0_told_65 : decode cX0_told 65 = .ok (.aload_n 3, 1) := dk_45 (dk_at dksX0_told_2 19 rfl rfl)
theorem dX0_told_66 : decode cX0_told 66 = .ok (.instanceof 60, 3) := dk_193 0 60 (dk_at dksX0_told_2 20 rfl rfl)
theorem dX0_told_69 : decode cX0_told 69 = .ok (.ifCond .eq 10, 3) := dk_153 0 10 (dk_at dksX0_told_3 0 rfl rfl)
theorem dX0_told_72 : decode cX0_told 72 = .ok (.iload_n 2, 1) := dk_28 (dk_at dksX0_told_3 3 rfl rfl)
theorem dX0_told_73 : decode cX0_told 73 = .ok (.invokestatic 269, 3) := dk_184 1 13 (dk_at dksX0_told_3 4 rfl rfl)
theorem dX0_told_76 : decode cX0_told 76 = .ok (.goto 12, 3) := dk_167 0 12 (dk_at dksX0_told_3 7 rfl rfl)
theorem dX0_told_79 : decode cX0_told 79 = .ok (.aload_n 0, 1) := dk_42 (dk_at dksX0_told_3 10 rfl rfl)
theorem dX0_told_80 : decode cX0_told 80 = .ok (.aload_n 3, 1) := dk_45 (dk_at dksX0_told_3 11 rfl rfl)
theorem dX0_told_81 : decode cX0_told 81 = .ok (.checkcast 65, 3) := dk_192 0 65 (dk_at dksX0_told_3 12 rfl rfl)
theorem dX0_told_84 : decode cX0_told 84 = .ok (.iload_n 2, 1) := dk_28 (dk_at dksX0_told_3 15 rfl rfl)
theorem dX0_told_85 : decode cX0_told 85 = .ok (.invokevirtual 273, 3) := dk_182 1 17 (dk_at dksX0_told_3 16 rfl rfl)
theorem dX0_told_88 : decode cX0_told 88 = .ok (.ireturn, 1) := dk_172 (dk_at dksX0_told_3 19 rfl rfl)
abbrev cX0_kindOf : ByteArray := prog_1_method_8_code
def yX0_kindOf : MethodName := ⟨RX0, "kindOf", "(Ljava/lang/Object;)I"⟩
def dkwX0_kindOf_0 : List UInt8 := [42, 193, 0, 60, 153, 0, 7, 7, 167, 0, 10, 42, 192, 0, 65, 182, 0, 68, 172]
abbrev dktX0_kindOf_0 : List UInt8 := dkwX0_kindOf_0 ++ []
theorem dksX0_kindOf_0 : cX0_kindOf.data.toList.drop 0 = dktX0_kindOf_0 := by decide +kernel
theorem dX0_kindOf_0 : decode cX0_kindOf 0 = .ok (.aload_n 0, 1) := dk_42 (dk_at dksX0_kindOf_0 0 rfl rfl)
theorem dX0_kindOf_1 : decode cX0_kindOf 1 = .ok (.instanceof 60, 3) := dk_193 0 60 (dk_at dksX0_kindOf_0 1 rfl rfl)
theorem dX0_kindOf_4 : decode cX0_kindOf 4 = .ok (.ifCond .eq 7, 3) := dk_153 0 7 (dk_at dksX0_kindOf_0 4 rfl rfl)
theorem dX0_kindOf_7 : decode cX0_kindOf 7 = .ok (.iconst 4, 1) := dk_7 (dk_at dksX0_kindOf_0 7 rfl rfl)
theorem dX0_kindOf_8 : decode cX0_kindOf 8 = .ok (.goto 10, 3) := dk_167 0 10 (dk_at dksX0_kindOf_0 8 rfl rfl)
theorem dX0_kindOf_11 : decode cX0_kindOf 11 = .ok (.aload_n 0, 1) := dk_42 (dk_at dksX0_kindOf_0 11 rfl rfl)
theorem dX0_kindOf_12 : decode cX0_kindOf 12 = .ok (.checkcast 65, 3) := dk_192 0 65 (dk_at dksX0_kindOf_0 12 rfl rfl)
theorem dX0_kindOf_15 : decode cX0_kindOf 15 = .ok (.invokevirtual 68, 3) := dk_182 0 68 (dk_at dksX0_kindOf_0 15 rfl rfl)
theorem dX0_kindOf_18 : decode cX0_kindOf 18 = .ok (.ireturn, 1) := dk_172 (dk_at dksX0_kindOf_0 18 rfl rfl)
abbrev cX0_madeOf : ByteArray := prog_1_method_7_code
def yX0_madeOf : MethodName := ⟨RX0, "madeOf", "(Ljava/lang/Object;)I"⟩
def dkwX0_madeOf_1 : List UInt8 := [172]
abbrev dktX0_madeOf_1 : List UInt8 := dkwX0_madeOf_1 ++ []
def dkwX0_madeOf_0 : List UInt8 := [42, 193, 0, 60, 153, 0, 13, 42, 192, 0, 60, 180, 0, 62, 167, 0, 10, 42, 192, 0, 65, 180, 0, 67]
abbrev dktX0_madeOf_0 : List UInt8 := dkwX0_madeOf_0 ++ dktX0_madeOf_1
theorem dksX0_madeOf_0 : cX0_madeOf.data.toList.drop 0 = dktX0_madeOf_0 := by decide +kernel
theorem dksX0_madeOf_1 : cX0_madeOf.data.toList.drop 24 = dktX0_madeOf_1 := dk_seg dksX0_madeOf_0 24 rfl rfl
theorem dX0_madeOf_0 : decode cX0_madeOf 0 = .ok (.aload_n 0, 1) := dk_42 (dk_at dksX0_madeOf_0 0 rfl rfl)
theorem dX0_madeOf_1 : decode cX0_madeOf 1 = .ok (.instanceof 60, 3) := dk_193 0 60 (dk_at dksX0_madeOf_0 1 rfl rfl)
theorem dX0_madeOf_4 : decode cX0_madeOf 4 = .ok (.ifCond .eq 13, 3) := dk_153 0 13 (dk_at dksX0_madeOf_0 4 rfl rfl)
theorem dX0_madeOf_7 : decode cX0_madeOf 7 = .ok (.aload_n 0, 1) := dk_42 (dk_at dksX0_madeOf_0 7 rfl rfl)
theorem dX0_madeOf_8 : decode cX0_madeOf 8 = .ok (.checkcast 60, 3) := dk_192 0 60 (dk_at dksX0_madeOf_0 8 rfl rfl)
theorem dX0_madeOf_11 : decode cX0_madeOf 11 = .ok (.getfield 62, 3) := dk_180 0 62 (dk_at dksX0_madeOf_0 11 rfl rfl)
theorem dX0_madeOf_14 : decode cX0_madeOf 14 = .ok (.goto 10, 3) := dk_167 0 10 (dk_at dksX0_madeOf_0 14 rfl rfl)
theorem dX0_madeOf_17 : decode cX0_madeOf 17 = .ok (.aload_n 0, 1) := dk_42 (dk_at dksX0_madeOf_0 17 rfl rfl)
theorem dX0_madeOf_18 : decode cX0_madeOf 18 = .ok (.checkcast 65, 3) := dk_192 0 65 (dk_at dksX0_madeOf_0 18 rfl rfl)
theorem dX0_madeOf_21 : decode cX0_madeOf 21 = .ok (.getfield 67, 3) := dk_180 0 67 (dk_at dksX0_madeOf_0 21 rfl rfl)
theorem dX0_madeOf_24 : decode cX0_madeOf 24 = .ok (.ireturn, 1) := dk_172 (dk_at dksX0_madeOf_1 0 rfl rfl)
abbrev cX0_toldOfMark : ByteArray := prog_1_method_45_code
def yX0_toldOfMark : MethodName := ⟨RX0, "toldOfMark", "(I)I"⟩
def dkwX0_toldOfMark_1 : List UInt8 := [167, 0, 4, 2, 172]
abbrev dktX0_toldOfMark_1 : List UInt8 := dkwX0_toldOfMark_1 ++ []
def dkwX0_toldOfMark_0 : List UInt8 := [26, 8, 159, 0, 21, 26, 16, 6, 159, 0, 15, 26, 16, 7, 159, 0, 9, 26, 16, 9, 160, 0, 7, 3]
abbrev dktX0_toldOfMark_0 : List UInt8 := dkwX0_toldOfMark_0 ++ dktX0_toldOfMark_1
theorem dksX0_toldOfMark_0 : cX0_toldOfMark.data.toList.drop 0 = dktX0_toldOfMark_0 := by decide +kernel
theorem dksX0_toldOfMark_1 : cX0_toldOfMark.data.toList.drop 24 = dktX0_toldOfMark_1 := dk_seg dksX0_toldOfMark_0 24 rfl rfl
theorem dX0_toldOfMark_0 : decode cX0_toldOfMark 0 = .ok (.iload_n 0, 1) := dk_26 (dk_at dksX0_toldOfMark_0 0 rfl rfl)
theorem dX0_toldOfMark_1 : decode cX0_toldOfMark 1 = .ok (.iconst 5, 1) := dk_8 (dk_at dksX0_toldOfMark_0 1 rfl rfl)
theorem dX0_toldOfMark_2 : decode cX0_toldOfMark 2 = .ok (.if_icmp .eq 21, 3) := dk_159 0 21 (dk_at dksX0_toldOfMark_0 2 rfl rfl)
theorem dX0_toldOfMark_5 : decode cX0_toldOfMark 5 = .ok (.iload_n 0, 1) := dk_26 (dk_at dksX0_toldOfMark_0 5 rfl rfl)
theorem dX0_toldOfMark_6 : decode cX0_toldOfMark 6 = .ok (.bipush 6, 2) := dk_16 6 (dk_at dksX0_toldOfMark_0 6 rfl rfl)
theorem dX0_toldOfMark_8 : decode cX0_toldOfMark 8 = .ok (.if_icmp .eq 15, 3) := dk_159 0 15 (dk_at dksX0_toldOfMark_0 8 rfl rfl)
theorem dX0_toldOfMark_11 : decode cX0_toldOfMark 11 = .ok (.iload_n 0, 1) := dk_26 (dk_at dksX0_toldOfMark_0 11 rfl rfl)
theorem dX0_toldOfMark_12 : decode cX0_toldOfMark 12 = .ok (.bipush 7, 2) := dk_16 7 (dk_at dksX0_toldOfMark_0 12 rfl rfl)
theorem dX0_toldOfMark_14 : decode cX0_toldOfMark 14 = .ok (.if_icmp .eq 9, 3) := dk_159 0 9 (dk_at dksX0_toldOfMark_0 14 rfl rfl)
theorem dX0_toldOfMark_17 : decode cX0_toldOfMark 17 = .ok (.iload_n 0, 1) := dk_26 (dk_at dksX0_toldOfMark_0 17 rfl rfl)
theorem dX0_toldOfMark_18 : decode cX0_toldOfMark 18 = .ok (.bipush 9, 2) := dk_16 9 (dk_at dksX0_toldOfMark_0 18 rfl rfl)
theorem dX0_toldOfMark_20 : decode cX0_toldOfMark 20 = .ok (.if_icmp .ne 7, 3) := dk_160 0 7 (dk_at dksX0_toldOfMark_0 20 rfl rfl)
theorem dX0_toldOfMark_23 : decode cX0_toldOfMark 23 = .ok (.iconst 0, 1) := dk_3 (dk_at dksX0_toldOfMark_0 23 rfl rfl)
theorem dX0_toldOfMark_24 : decode cX0_toldOfMark 24 = .ok (.goto 4, 3) := dk_167 0 4 (dk_at dksX0_toldOfMark_1 0 rfl rfl)
theorem dX0_toldOfMark_27 : decode cX0_toldOfMark 27 = .ok (.iconst (-1), 1) := dk_2 (dk_at dksX0_toldOfMark_1 3 rfl rfl)
theorem dX0_toldOfMark_28 : decode cX0_toldOfMark 28 = .ok (.ireturn, 1) := dk_172 (dk_at dksX0_toldOfMark_1 4 rfl rfl)
abbrev cX0_toldOf : ByteArray := prog_1_method_44_code
def yX0_toldOf : MethodName := ⟨RX0, "toldOf", "(LDeadListPool$Holder;I)I"⟩
def dkwX0_toldOf_6 : List UInt8 := [153, 0, 14, 42, 43, 192, 0, 93, 182, 0, 224, 167, 0, 4, 3, 172]
abbrev dktX0_toldOf_6 : List UInt8 := dkwX0_toldOf_6 ++ []
def dkwX0_toldOf_5 : List UInt8 := [167, 0, 4, 3, 172, 43, 182, 0, 255, 172, 43, 182, 1, 2, 172, 43, 182, 1, 3, 172, 43, 193, 0, 93]
abbrev dktX0_toldOf_5 : List UInt8 := dkwX0_toldOf_5 ++ dktX0_toldOf_6
def dkwX0_toldOf_4 : List UInt8 := [184, 0, 252, 167, 0, 4, 2, 172, 43, 193, 0, 27, 153, 0, 14, 42, 43, 192, 0, 27, 182, 0, 212]
abbrev dktX0_toldOf_4 : List UInt8 := dkwX0_toldOf_4 ++ dktX0_toldOf_5
def dkwX0_toldOf_3 : List UInt8 := [180, 0, 177, 167, 0, 4, 2, 172, 43, 193, 0, 93, 153, 0, 16, 43, 192, 0, 93, 184, 0, 241]
abbrev dktX0_toldOf_3 : List UInt8 := dkwX0_toldOf_3 ++ dktX0_toldOf_4
def dkwX0_toldOf_2 : List UInt8 := [43, 180, 0, 88, 184, 0, 252, 172, 43, 193, 0, 27, 153, 0, 16, 43, 192, 0, 27, 180, 0, 95]
abbrev dktX0_toldOf_2 : List UInt8 := dkwX0_toldOf_2 ++ dktX0_toldOf_3
def dkwX0_toldOf_1 : List UInt8 := [170, 0, 0, 0, 0, 0, 130, 0, 0, 0, 2, 0, 0, 0, 8, 0, 0, 0, 43, 0, 0, 0, 51, 0, 0, 0, 73, 0, 0, 0, 95, 0, 0, 0, 115, 0, 0, 0, 120, 0, 0, 0, 125]
abbrev dktX0_toldOf_1 : List UInt8 := dkwX0_toldOf_1 ++ dktX0_toldOf_2
def dkwX0_toldOf_0 : List UInt8 := [28]
abbrev dktX0_toldOf_0 : List UInt8 := dkwX0_toldOf_0 ++ dktX0_toldOf_1
theorem dksX0_toldOf_0 : cX0_toldOf.data.toList.drop 0 = dktX0_toldOf_0 := by decide +kernel
theorem dksX0_toldOf_1 : cX0_toldOf.data.toList.drop 1 = dktX0_toldOf_1 := dk_seg dksX0_toldOf_0 1 rfl rfl
theorem dksX0_toldOf_2 : cX0_toldOf.data.toList.drop 44 = dktX0_toldOf_2 := dk_seg dksX0_toldOf_1 43 rfl rfl
theorem dksX0_toldOf_3 : cX0_toldOf.data.toList.drop 66 = dktX0_toldOf_3 := dk_seg dksX0_toldOf_2 22 rfl rfl
theorem dksX0_toldOf_4 : cX0_toldOf.data.toList.drop 88 = dktX0_toldOf_4 := dk_seg dksX0_toldOf_3 22 rfl rfl
theorem dksX0_toldOf_5 : cX0_toldOf.data.toList.drop 111 = dktX0_toldOf_5 := dk_seg dksX0_toldOf_4 23 rfl rfl
theorem dksX0_toldOf_6 : cX0_toldOf.data.toList.drop 135 = dktX0_toldOf_6 := dk_seg dksX0_toldOf_5 24 rfl rfl
theorem dX0_toldOf_0 : decode cX0_toldOf 0 = .ok (.iload_n 2, 1) := dk_28 (dk_at dksX0_toldOf_0 0 rfl rfl)
theorem dX0_toldOf_1 : decode cX0_toldOf 1 = .ok (.tableswitch 130 2 8 #[43, 51, 73, 95, 115, 120, 125], 43) := by decide +kernel
theorem dX0_toldOf_44 : decode cX0_toldOf 44 = .ok (.aload_n 1, 1) := dk_43 (dk_at dksX0_toldOf_2 0 rfl rfl)
theorem dX0_toldOf_45 : decode cX0_toldOf 45 = .ok (.getfield 88, 3) := dk_180 0 88 (dk_at dksX0_toldOf_2 1 rfl rfl)
theorem dX0_toldOf_48 : decode cX0_toldOf 48 = .ok (.invokestatic 252, 3) := dk_184 0 252 (dk_at dksX0_toldOf_2 4 rfl rfl)
theorem dX0_toldOf_51 : decode cX0_toldOf 51 = .ok (.ireturn, 1) := dk_172 (dk_at dksX0_toldOf_2 7 rfl rfl)
theorem dX0_toldOf_52 : decode cX0_toldOf 52 = .ok (.aload_n 1, 1) := dk_43 (dk_at dksX0_toldOf_2 8 rfl rfl)
theorem dX0_toldOf_53 : decode cX0_toldOf 53 = .ok (.instanceof 27, 3) := dk_193 0 27 (dk_at dksX0_toldOf_2 9 rfl rfl)
theorem dX0_toldOf_56 : decode cX0_toldOf 56 = .ok (.ifCond .eq 16, 3) := dk_153 0 16 (dk_at dksX0_toldOf_2 12 rfl rfl)
theorem dX0_toldOf_59 : decode cX0_toldOf 59 = .ok (.aload_n 1, 1) := dk_43 (dk_at dksX0_toldOf_2 15 rfl rfl)
theorem dX0_toldOf_60 : decode cX0_toldOf 60 = .ok (.checkcast 27, 3) := dk_192 0 27 (dk_at dksX0_toldOf_2 16 rfl rfl)
theorem dX0_toldOf_63 : decode cX0_toldOf 63 = .ok (.getfield 95, 3) := dk_180 0 95 (dk_at dksX0_toldOf_2 19 rfl rfl)
theorem dX0_toldOf_66 : decode cX0_toldOf 66 = .ok (.getfield 177, 3) := dk_180 0 177 (dk_at dksX0_toldOf_3 0 rfl rfl)
theorem dX0_toldOf_69 : decode cX0_toldOf 69 = .ok (.goto 4, 3) := dk_167 0 4 (dk_at dksX0_toldOf_3 3 rfl rfl)
theorem dX0_toldOf_72 : decode cX0_toldOf 72 = .ok (.iconst (-1), 1) := dk_2 (dk_at dksX0_toldOf_3 6 rfl rfl)
theorem dX0_toldOf_73 : decode cX0_toldOf 73 = .ok (.ireturn, 1) := dk_172 (dk_at dksX0_toldOf_3 7 rfl rfl)
theorem dX0_toldOf_74 : decode cX0_toldOf 74 = .ok (.aload_n 1, 1) := dk_43 (dk_at dksX0_toldOf_3 8 rfl rfl)
theorem dX0_toldOf_75 : decode cX0_toldOf 75 = .ok (.instanceof 93, 3) := dk_193 0 93 (dk_at dksX0_toldOf_3 9 rfl rfl)
theorem dX0_toldOf_78 : decode cX0_toldOf 78 = .ok (.ifCond .eq 16, 3) := dk_153 0 16 (dk_at dksX0_toldOf_3 12 rfl rfl)
theorem dX0_toldOf_81 : decode cX0_toldOf 81 = .ok (.aload_n 1, 1) := dk_43 (dk_at dksX0_toldOf_3 15 rfl rfl)
theorem dX0_toldOf_82 : decode cX0_toldOf 82 = .ok (.checkcast 93, 3) := dk_192 0 93 (dk_at dksX0_toldOf_3 16 rfl rfl)
theorem dX0_toldOf_85 : decode cX0_toldOf 85 = .ok (.invokestatic 241, 3) := dk_184 0 241 (dk_at dksX0_toldOf_3 19 rfl rfl)
theorem dX0_toldOf_88 : decode cX0_toldOf 88 = .ok (.invokestatic 252, 3) := dk_184 0 252 (dk_at dksX0_toldOf_4 0 rfl rfl)
theorem dX0_toldOf_91 : decode cX0_toldOf 91 = .ok (.goto 4, 3) := dk_167 0 4 (dk_at dksX0_toldOf_4 3 rfl rfl)
theorem dX0_toldOf_94 : decode cX0_toldOf 94 = .ok (.iconst (-1), 1) := dk_2 (dk_at dksX0_toldOf_4 6 rfl rfl)
theorem dX0_toldOf_95 : decode cX0_toldOf 95 = .ok (.ireturn, 1) := dk_172 (dk_at dksX0_toldOf_4 7 rfl rfl)
theorem dX0_toldOf_96 : decode cX0_toldOf 96 = .ok (.aload_n 1, 1) := dk_43 (dk_at dksX0_toldOf_4 8 rfl rfl)
theorem dX0_toldOf_97 : decode cX0_toldOf 97 = .ok (.instanceof 27, 3) := dk_193 0 27 (dk_at dksX0_toldOf_4 9 rfl rfl)
theorem dX0_toldOf_100 : decode cX0_toldOf 100 = .ok (.ifCond .eq 14, 3) := dk_153 0 14 (dk_at dksX0_toldOf_4 12 rfl rfl)
theorem dX0_toldOf_103 : decode cX0_toldOf 103 = .ok (.aload_n 0, 1) := dk_42 (dk_at dksX0_toldOf_4 15 rfl rfl)
theorem dX0_toldOf_104 : decode cX0_toldOf 104 = .ok (.aload_n 1, 1) := dk_43 (dk_at dksX0_toldOf_4 16 rfl rfl)
theorem dX0_toldOf_105 : decode cX0_toldOf 105 = .ok (.checkcast 27, 3) := dk_192 0 27 (dk_at dksX0_toldOf_4 17 rfl rfl)
theorem dX0_toldOf_108 : decode cX0_toldOf 108 = .ok (.invokevirtual 212, 3) := dk_182 0 212 (dk_at dksX0_toldOf_4 20 rfl rfl)
theorem dX0_toldOf_111 : decode cX0_toldOf 111 = .ok (.goto 4, 3) := dk_167 0 4 (dk_at dksX0_toldOf_5 0 rfl rfl)
theorem dX0_toldOf_114 : decode cX0_toldOf 114 = .ok (.iconst 0, 1) := dk_3 (dk_at dksX0_toldOf_5 3 rfl rfl)
theorem dX0_toldOf_115 : decode cX0_toldOf 115 = .ok (.ireturn, 1) := dk_172 (dk_at dksX0_toldOf_5 4 rfl rfl)
theorem dX0_toldOf_116 : decode cX0_toldOf 116 = .ok (.aload_n 1, 1) := dk_43 (dk_at dksX0_toldOf_5 5 rfl rfl)
theorem dX0_toldOf_117 : decode cX0_toldOf 117 = .ok (.invokevirtual 255, 3) := dk_182 0 255 (dk_at dksX0_toldOf_5 6 rfl rfl)
theorem dX0_toldOf_120 : decode cX0_toldOf 120 = .ok (.ireturn, 1) := dk_172 (dk_at dksX0_toldOf_5 9 rfl rfl)
theorem dX0_toldOf_121 : decode cX0_toldOf 121 = .ok (.aload_n 1, 1) := dk_43 (dk_at dksX0_toldOf_5 10 rfl rfl)
theorem dX0_toldOf_122 : decode cX0_toldOf 122 = .ok (.invokevirtual 258, 3) := dk_182 1 2 (dk_at dksX0_toldOf_5 11 rfl rfl)
theorem dX0_toldOf_125 : decode cX0_toldOf 125 = .ok (.ireturn, 1) := dk_172 (dk_at dksX0_toldOf_5 14 rfl rfl)
theorem dX0_toldOf_126 : decode cX0_toldOf 126 = .ok (.aload_n 1, 1) := dk_43 (dk_at dksX0_toldOf_5 15 rfl rfl)
theorem dX0_toldOf_127 : decode cX0_toldOf 127 = .ok (.invokevirtual 259, 3) := dk_182 1 3 (dk_at dksX0_toldOf_5 16 rfl rfl)
theorem dX0_toldOf_130 : decode cX0_toldOf 130 = .ok (.ireturn, 1) := dk_172 (dk_at dksX0_toldOf_5 19 rfl rfl)
theorem dX0_toldOf_131 : decode cX0_toldOf 131 = .ok (.aload_n 1, 1) := dk_43 (dk_at dksX0_toldOf_5 20 rfl rfl)
theorem dX0_toldOf_132 : decode cX0_toldOf 132 = .ok (.instanceof 93, 3) := dk_193 0 93 (dk_at dksX0_toldOf_5 21 rfl rfl)
theorem dX0_toldOf_135 : decode cX0_toldOf 135 = .ok (.ifCond .eq 14, 3) := dk_153 0 14 (dk_at dksX0_toldOf_6 0 rfl rfl)
theorem dX0_toldOf_138 : decode cX0_toldOf 138 = .ok (.aload_n 0, 1) := dk_42 (dk_at dksX0_toldOf_6 3 rfl rfl)
theorem dX0_toldOf_139 : decode cX0_toldOf 139 = .ok (.aload_n 1, 1) := dk_43 (dk_at dksX0_toldOf_6 4 rfl rfl)
theorem dX0_toldOf_140 : decode cX0_toldOf 140 = .ok (.checkcast 93, 3) := dk_192 0 93 (dk_at dksX0_toldOf_6 5 rfl rfl)
theorem dX0_toldOf_143 : decode cX0_toldOf 143 = .ok (.invokevirtual 224, 3) := dk_182 0 224 (dk_at dksX0_toldOf_6 8 rfl rfl)
theorem dX0_toldOf_146 : decode cX0_toldOf 146 = .ok (.goto 4, 3) := dk_167 0 4 (dk_at dksX0_toldOf_6 11 rfl rfl)
theorem dX0_toldOf_149 : decode cX0_toldOf 149 = .ok (.iconst 0, 1) := dk_3 (dk_at dksX0_toldOf_6 14 rfl rfl)
theorem dX0_toldOf_150 : decode cX0_toldOf 150 = .ok (.ireturn, 1) := dk_172 (dk_at dksX0_toldOf_6 15 rfl rfl)
abbrev cX0_numberOf : ByteArray := prog_1_method_11_code
def yX0_numberOf : MethodName := ⟨RX0, "numberOf", "(LDeadListPool$Holder;)I"⟩
def dkwX0_numberOf_0 : List UInt8 := [42, 199, 0, 7, 2, 167, 0, 7, 42, 180, 0, 78, 172]
abbrev dktX0_numberOf_0 : List UInt8 := dkwX0_numberOf_0 ++ []
theorem dksX0_numberOf_0 : cX0_numberOf.data.toList.drop 0 = dktX0_numberOf_0 := by decide +kernel
theorem dX0_numberOf_0 : decode cX0_numberOf 0 = .ok (.aload_n 0, 1) := dk_42 (dk_at dksX0_numberOf_0 0 rfl rfl)
theorem dX0_numberOf_1 : decode cX0_numberOf 1 = .ok (.ifnonnull 7, 3) := dk_199 0 7 (dk_at dksX0_numberOf_0 1 rfl rfl)
theorem dX0_numberOf_4 : decode cX0_numberOf 4 = .ok (.iconst (-1), 1) := dk_2 (dk_at dksX0_numberOf_0 4 rfl rfl)
theorem dX0_numberOf_5 : decode cX0_numberOf 5 = .ok (.goto 7, 3) := dk_167 0 7 (dk_at dksX0_numberOf_0 5 rfl rfl)
theorem dX0_numberOf_8 : decode cX0_numberOf 8 = .ok (.aload_n 0, 1) := dk_42 (dk_at dksX0_numberOf_0 8 rfl rfl)
theorem dX0_numberOf_9 : decode cX0_numberOf 9 = .ok (.getfield 78, 3) := dk_180 0 78 (dk_at dksX0_numberOf_0 9 rfl rfl)
theorem dX0_numberOf_12 : decode cX0_numberOf 12 = .ok (.ireturn, 1) := dk_172 (dk_at dksX0_numberOf_0 12 rfl rfl)
abbrev cX0_slot : ByteArray := prog_1_method_47_code
def yX0_slot : MethodName := ⟨RX0, "slot", "(II)I"⟩
def dkwX0_slot_1 : List UInt8 := [180, 0, 119, 28, 46, 172, 78, 16, 244, 172, 78, 16, 245, 172, 78, 16, 243, 172]
abbrev dktX0_slot_1 : List UInt8 := dkwX0_slot_1 ++ []
def dkwX0_slot_0 : List UInt8 := [28, 133, 9, 20, 0, 159, 184, 0, 74, 154, 0, 6, 16, 254, 172, 42, 27, 182, 0, 161, 192, 0, 65]
abbrev dktX0_slot_0 : List UInt8 := dkwX0_slot_0 ++ dktX0_slot_1
theorem dksX0_slot_0 : cX0_slot.data.toList.drop 0 = dktX0_slot_0 := by decide +kernel
theorem dksX0_slot_1 : cX0_slot.data.toList.drop 23 = dktX0_slot_1 := dk_seg dksX0_slot_0 23 rfl rfl
theorem dX0_slot_0 : decode cX0_slot 0 = .ok (.iload_n 2, 1) := dk_28 (dk_at dksX0_slot_0 0 rfl rfl)
theorem dX0_slot_1 : decode cX0_slot 1 = .ok (.i2l, 1) := dk_133 (dk_at dksX0_slot_0 1 rfl rfl)
theorem dX0_slot_2 : decode cX0_slot 2 = .ok (.lconst 0, 1) := dk_9 (dk_at dksX0_slot_0 2 rfl rfl)
theorem dX0_slot_3 : decode cX0_slot 3 = .ok (.ldc2_w 159, 3) := dk_20 0 159 (dk_at dksX0_slot_0 3 rfl rfl)
theorem dX0_slot_6 : decode cX0_slot 6 = .ok (.invokestatic 74, 3) := dk_184 0 74 (dk_at dksX0_slot_0 6 rfl rfl)
theorem dX0_slot_9 : decode cX0_slot 9 = .ok (.ifCond .ne 6, 3) := dk_154 0 6 (dk_at dksX0_slot_0 9 rfl rfl)
theorem dX0_slot_12 : decode cX0_slot 12 = .ok (.bipush (-2), 2) := dk_16 254 (dk_at dksX0_slot_0 12 rfl rfl)
theorem dX0_slot_14 : decode cX0_slot 14 = .ok (.ireturn, 1) := dk_172 (dk_at dksX0_slot_0 14 rfl rfl)
theorem dX0_slot_15 : decode cX0_slot 15 = .ok (.aload_n 0, 1) := dk_42 (dk_at dksX0_slot_0 15 rfl rfl)
theorem dX0_slot_16 : decode cX0_slot 16 = .ok (.iload_n 1, 1) := dk_27 (dk_at dksX0_slot_0 16 rfl rfl)
theorem dX0_slot_17 : decode cX0_slot 17 = .ok (.invokevirtual 161, 3) := dk_182 0 161 (dk_at dksX0_slot_0 17 rfl rfl)
theorem dX0_slot_20 : decode cX0_slot 20 = .ok (.checkcast 65, 3) := dk_192 0 65 (dk_at dksX0_slot_0 20 rfl rfl)
theorem dX0_slot_23 : decode cX0_slot 23 = .ok (.getfield 119, 3) := dk_180 0 119 (dk_at dksX0_slot_1 0 rfl rfl)
theorem dX0_slot_26 : decode cX0_slot 26 = .ok (.iload_n 2, 1) := dk_28 (dk_at dksX0_slot_1 3 rfl rfl)
theorem dX0_slot_27 : decode cX0_slot 27 = .ok (.iaload, 1) := dk_46 (dk_at dksX0_slot_1 4 rfl rfl)
theorem dX0_slot_28 : decode cX0_slot 28 = .ok (.ireturn, 1) := dk_172 (dk_at dksX0_slot_1 5 rfl rfl)
theorem dX0_slot_29 : decode cX0_slot 29 = .ok (.astore_n 3, 1) := dk_78 (dk_at dksX0_slot_1 6 rfl rfl)
theorem dX0_slot_30 : decode cX0_slot 30 = .ok (.bipush (-12), 2) := dk_16 244 (dk_at dksX0_slot_1 7 rfl rfl)
theorem dX0_slot_32 : decode cX0_slot 32 = .ok (.ireturn, 1) := dk_172 (dk_at dksX0_slot_1 9 rfl rfl)
theorem dX0_slot_33 : decode cX0_slot 33 = .ok (.astore_n 3, 1) := dk_78 (dk_at dksX0_slot_1 10 rfl rfl)
theorem dX0_slot_34 : decode cX0_slot 34 = .ok (.bipush (-11), 2) := dk_16 245 (dk_at dksX0_slot_1 11 rfl rfl)
theorem dX0_slot_36 : decode cX0_slot 36 = .ok (.ireturn, 1) := dk_172 (dk_at dksX0_slot_1 13 rfl rfl)
theorem dX0_slot_37 : decode cX0_slot 37 = .ok (.astore_n 3, 1) := dk_78 (dk_at dksX0_slot_1 14 rfl rfl)
theorem dX0_slot_38 : decode cX0_slot 38 = .ok (.bipush (-13), 2) := dk_16 243 (dk_at dksX0_slot_1 15 rfl rfl)
theorem dX0_slot_40 : decode cX0_slot 40 = .ok (.ireturn, 1) := dk_172 (dk_at dksX0_slot_1 17 rfl rfl)
abbrev cX0_block : ByteArray := prog_1_method_49_code
def yX0_block : MethodName := ⟨RX0, "block", "(II)I"⟩
def dkwX0_block_3 : List UInt8 := [182, 1, 29, 172]
abbrev dktX0_block_3 : List UInt8 := dkwX0_block_3 ++ []
def dkwX0_block_2 : List UInt8 := [180, 0, 9, 27, 46, 167, 0, 22, 28, 4, 160, 0, 12, 42, 180, 0, 13, 27, 46, 167, 0, 8, 42, 27]
abbrev dktX0_block_2 : List UInt8 := dkwX0_block_2 ++ dktX0_block_3
def dkwX0_block_1 : List UInt8 := [154, 0, 6, 16, 244, 172, 42, 180, 0, 9, 27, 46, 154, 0, 6, 16, 245, 172, 28, 154, 0, 12, 42]
abbrev dktX0_block_1 : List UInt8 := dkwX0_block_1 ++ dktX0_block_2
def dkwX0_block_0 : List UInt8 := [28, 133, 9, 20, 1, 25, 184, 0, 74, 154, 0, 6, 16, 254, 172, 27, 133, 9, 20, 1, 27, 184, 0, 74]
abbrev dktX0_block_0 : List UInt8 := dkwX0_block_0 ++ dktX0_block_1
theorem dksX0_block_0 : cX0_block.data.toList.drop 0 = dktX0_block_0 := by decide +kernel
theorem dksX0_block_1 : cX0_block.data.toList.drop 24 = dktX0_block_1 := dk_seg dksX0_block_0 24 rfl rfl
theorem dksX0_block_2 : cX0_block.data.toList.drop 47 = dktX0_block_2 := dk_seg dksX0_block_1 23 rfl rfl
theorem dksX0_block_3 : cX0_block.data.toList.drop 71 = dktX0_block_3 := dk_seg dksX0_block_2 24 rfl rfl
theorem dX0_block_0 : decode cX0_block 0 = .ok (.iload_n 2, 1) := dk_28 (dk_at dksX0_block_0 0 rfl rfl)
theorem dX0_block_1 : decode cX0_block 1 = .ok (.i2l, 1) := dk_133 (dk_at dksX0_block_0 1 rfl rfl)
theorem dX0_block_2 : decode cX0_block 2 = .ok (.lconst 0, 1) := dk_9 (dk_at dksX0_block_0 2 rfl rfl)
theorem dX0_block_3 : decode cX0_block 3 = .ok (.ldc2_w 281, 3) := dk_20 1 25 (dk_at dksX0_block_0 3 rfl rfl)
theorem dX0_block_6 : decode cX0_block 6 = .ok (.invokestatic 74, 3) := dk_184 0 74 (dk_at dksX0_block_0 6 rfl rfl)
theorem dX0_block_9 : decode cX0_block 9 = .ok (.ifCond .ne 6, 3) := dk_154 0 6 (dk_at dksX0_block_0 9 rfl rfl)
theorem dX0_block_12 : decode cX0_block 12 = .ok (.bipush (-2), 2) := dk_16 254 (dk_at dksX0_block_0 12 rfl rfl)
theorem dX0_block_14 : decode cX0_block 14 = .ok (.ireturn, 1) := dk_172 (dk_at dksX0_block_0 14 rfl rfl)
theorem dX0_block_15 : decode cX0_block 15 = .ok (.iload_n 1, 1) := dk_27 (dk_at dksX0_block_0 15 rfl rfl)
theorem dX0_block_16 : decode cX0_block 16 = .ok (.i2l, 1) := dk_133 (dk_at dksX0_block_0 16 rfl rfl)
theorem dX0_block_17 : decode cX0_block 17 = .ok (.lconst 0, 1) := dk_9 (dk_at dksX0_block_0 17 rfl rfl)
theorem dX0_block_18 : decode cX0_block 18 = .ok (.ldc2_w 283, 3) := dk_20 1 27 (dk_at dksX0_block_0 18 rfl rfl)
theorem dX0_block_21 : decode cX0_block 21 = .ok (.invokestatic 74, 3) := dk_184 0 74 (dk_at dksX0_block_0 21 rfl rfl)
theorem dX0_block_24 : decode cX0_block 24 = .ok (.ifCond .ne 6, 3) := dk_154 0 6 (dk_at dksX0_block_1 0 rfl rfl)
theorem dX0_block_27 : decode cX0_block 27 = .ok (.bipush (-12), 2) := dk_16 244 (dk_at dksX0_block_1 3 rfl rfl)
theorem dX0_block_29 : decode cX0_block 29 = .ok (.ireturn, 1) := dk_172 (dk_at dksX0_block_1 5 rfl rfl)
theorem dX0_block_30 : decode cX0_block 30 = .ok (.aload_n 0, 1) := dk_42 (dk_at dksX0_block_1 6 rfl rfl)
theorem dX0_block_31 : decode cX0_block 31 = .ok (.getfield 9, 3) := dk_180 0 9 (dk_at dksX0_block_1 7 rfl rfl)
theorem dX0_block_34 : decode cX0_block 34 = .ok (.iload_n 1, 1) := dk_27 (dk_at dksX0_block_1 10 rfl rfl)
theorem dX0_block_35 : decode cX0_block 35 = .ok (.iaload, 1) := dk_46 (dk_at dksX0_block_1 11 rfl rfl)
theorem dX0_block_36 : decode cX0_block 36 = .ok (.ifCond .ne 6, 3) := dk_154 0 6 (dk_at dksX0_block_1 12 rfl rfl)
theorem dX0_block_39 : decode cX0_block 39 = .ok (.bipush (-11), 2) := dk_16 245 (dk_at dksX0_block_1 15 rfl rfl)
theorem dX0_block_41 : decode cX0_block 41 = .ok (.ireturn, 1) := dk_172 (dk_at dksX0_block_1 17 rfl rfl)
theorem dX0_block_42 : decode cX0_block 42 = .ok (.iload_n 2, 1) := dk_28 (dk_at dksX0_block_1 18 rfl rfl)
theorem dX0_block_43 : decode cX0_block 43 = .ok (.ifCond .ne 12, 3) := dk_154 0 12 (dk_at dksX0_block_1 19 rfl rfl)
theorem dX0_block_46 : decode cX0_block 46 = .ok (.aload_n 0, 1) := dk_42 (dk_at dksX0_block_1 22 rfl rfl)
theorem dX0_block_47 : decode cX0_block 47 = .ok (.getfield 9, 3) := dk_180 0 9 (dk_at dksX0_block_2 0 rfl rfl)
theorem dX0_block_50 : decode cX0_block 50 = .ok (.iload_n 1, 1) := dk_27 (dk_at dksX0_block_2 3 rfl rfl)
theorem dX0_block_51 : decode cX0_block 51 = .ok (.iaload, 1) := dk_46 (dk_at dksX0_block_2 4 rfl rfl)
theorem dX0_block_52 : decode cX0_block 52 = .ok (.goto 22, 3) := dk_167 0 22 (dk_at dksX0_block_2 5 rfl rfl)
theorem dX0_block_55 : decode cX0_block 55 = .ok (.iload_n 2, 1) := dk_28 (dk_at dksX0_block_2 8 rfl rfl)
theorem dX0_block_56 : decode cX0_block 56 = .ok (.iconst 1, 1) := dk_4 (dk_at dksX0_block_2 9 rfl rfl)
theorem dX0_block_57 : decode cX0_block 57 = .ok (.if_icmp .ne 12, 3) := dk_160 0 12 (dk_at dksX0_block_2 10 rfl rfl)
theorem dX0_block_60 : decode cX0_block 60 = .ok (.aload_n 0, 1) := dk_42 (dk_at dksX0_block_2 13 rfl rfl)
theorem dX0_block_61 : decode cX0_block 61 = .ok (.getfield 13, 3) := dk_180 0 13 (dk_at dksX0_block_2 14 rfl rfl)
theorem dX0_block_64 : decode cX0_block 64 = .ok (.iload_n 1, 1) := dk_27 (dk_at dksX0_block_2 17 rfl rfl)
theorem dX0_block_65 : decode cX0_block 65 = .ok (.iaload, 1) := dk_46 (dk_at dksX0_block_2 18 rfl rfl)
theorem dX0_block_66 : decode cX0_block 66 = .ok (.goto 8, 3) := dk_167 0 8 (dk_at dksX0_block_2 19 rfl rfl)
theorem dX0_block_69 : decode cX0_block 69 = .ok (.aload_n 0, 1) := dk_42 (dk_at dksX0_block_2 22 rfl rfl)
theorem dX0_block_70 : decode cX0_block 70 = .ok (.iload_n 1, 1) := dk_27 (dk_at dksX0_block_2 23 rfl rfl)
theorem dX0_block_71 : decode cX0_block 71 = .ok (.invokevirtual 285, 3) := dk_182 1 29 (dk_at dksX0_block_3 0 rfl rfl)
theorem dX0_block_74 : decode cX0_block 74 = .ok (.ireturn, 1) := dk_172 (dk_at dksX0_block_3 3 rfl rfl)
abbrev cX0_holdersOf : ByteArray := prog_1_method_48_code
def yX0_holdersOf : MethodName := ⟨RX0, "holdersOf", "(I)I"⟩
def dkwX0_holdersOf_1 : List UInt8 := [27, 182, 1, 21, 153, 0, 7, 4, 167, 0, 4, 3, 96, 61, 132, 3, 1, 167, 255, 219, 28, 172]
abbrev dktX0_holdersOf_1 : List UInt8 := dkwX0_holdersOf_1 ++ []
def dkwX0_holdersOf_0 : List UInt8 := [3, 61, 3, 62, 29, 16, 20, 162, 0, 37, 28, 42, 29, 182, 0, 84, 198, 0, 19, 42, 29, 182, 0, 84]
abbrev dktX0_holdersOf_0 : List UInt8 := dkwX0_holdersOf_0 ++ dktX0_holdersOf_1
theorem dksX0_holdersOf_0 : cX0_holdersOf.data.toList.drop 0 = dktX0_holdersOf_0 := by decide +kernel
theorem dksX0_holdersOf_1 : cX0_holdersOf.data.toList.drop 24 = dktX0_holdersOf_1 := dk_seg dksX0_holdersOf_0 24 rfl rfl
theorem dX0_holdersOf_0 : decode cX0_holdersOf 0 = .ok (.iconst 0, 1) := dk_3 (dk_at dksX0_holdersOf_0 0 rfl rfl)
theorem dX0_holdersOf_1 : decode cX0_holdersOf 1 = .ok (.istore_n 2, 1) := dk_61 (dk_at dksX0_holdersOf_0 1 rfl rfl)
theorem dX0_holdersOf_2 : decode cX0_holdersOf 2 = .ok (.iconst 0, 1) := dk_3 (dk_at dksX0_holdersOf_0 2 rfl rfl)
theorem dX0_holdersOf_3 : decode cX0_holdersOf 3 = .ok (.istore_n 3, 1) := dk_62 (dk_at dksX0_holdersOf_0 3 rfl rfl)
theorem dX0_holdersOf_4 : decode cX0_holdersOf 4 = .ok (.iload_n 3, 1) := dk_29 (dk_at dksX0_holdersOf_0 4 rfl rfl)
theorem dX0_holdersOf_5 : decode cX0_holdersOf 5 = .ok (.bipush 20, 2) := dk_16 20 (dk_at dksX0_holdersOf_0 5 rfl rfl)
theorem dX0_holdersOf_7 : decode cX0_holdersOf 7 = .ok (.if_icmp .ge 37, 3) := dk_162 0 37 (dk_at dksX0_holdersOf_0 7 rfl rfl)
theorem dX0_holdersOf_10 : decode cX0_holdersOf 10 = .ok (.iload_n 2, 1) := dk_28 (dk_at dksX0_holdersOf_0 10 rfl rfl)
theorem dX0_holdersOf_11 : decode cX0_holdersOf 11 = .ok (.aload_n 0, 1) := dk_42 (dk_at dksX0_holdersOf_0 11 rfl rfl)
theorem dX0_holdersOf_12 : decode cX0_holdersOf 12 = .ok (.iload_n 3, 1) := dk_29 (dk_at dksX0_holdersOf_0 12 rfl rfl)
theorem dX0_holdersOf_13 : decode cX0_holdersOf 13 = .ok (.invokevirtual 84, 3) := dk_182 0 84 (dk_at dksX0_holdersOf_0 13 rfl rfl)
theorem dX0_holdersOf_16 : decode cX0_holdersOf 16 = .ok (.ifnull 19, 3) := dk_198 0 19 (dk_at dksX0_holdersOf_0 16 rfl rfl)
theorem dX0_holdersOf_19 : decode cX0_holdersOf 19 = .ok (.aload_n 0, 1) := dk_42 (dk_at dksX0_holdersOf_0 19 rfl rfl)
theorem dX0_holdersOf_20 : decode cX0_holdersOf 20 = .ok (.iload_n 3, 1) := dk_29 (dk_at dksX0_holdersOf_0 20 rfl rfl)
theorem dX0_holdersOf_21 : decode cX0_holdersOf 21 = .ok (.invokevirtual 84, 3) := dk_182 0 84 (dk_at dksX0_holdersOf_0 21 rfl rfl)
theorem dX0_holdersOf_24 : decode cX0_holdersOf 24 = .ok (.iload_n 1, 1) := dk_27 (dk_at dksX0_holdersOf_1 0 rfl rfl)
theorem dX0_holdersOf_25 : decode cX0_holdersOf 25 = .ok (.invokevirtual 277, 3) := dk_182 1 21 (dk_at dksX0_holdersOf_1 1 rfl rfl)
theorem dX0_holdersOf_28 : decode cX0_holdersOf 28 = .ok (.ifCond .eq 7, 3) := dk_153 0 7 (dk_at dksX0_holdersOf_1 4 rfl rfl)
theorem dX0_holdersOf_31 : decode cX0_holdersOf 31 = .ok (.iconst 1, 1) := dk_4 (dk_at dksX0_holdersOf_1 7 rfl rfl)
theorem dX0_holdersOf_32 : decode cX0_holdersOf 32 = .ok (.goto 4, 3) := dk_167 0 4 (dk_at dksX0_holdersOf_1 8 rfl rfl)
theorem dX0_holdersOf_35 : decode cX0_holdersOf 35 = .ok (.iconst 0, 1) := dk_3 (dk_at dksX0_holdersOf_1 11 rfl rfl)
theorem dX0_holdersOf_36 : decode cX0_holdersOf 36 = .ok (.iadd, 1) := dk_96 (dk_at dksX0_holdersOf_1 12 rfl rfl)
theorem dX0_holdersOf_37 : decode cX0_holdersOf 37 = .ok (.istore_n 2, 1) := dk_61 (dk_at dksX0_holdersOf_1 13 rfl rfl)
theorem dX0_holdersOf_38 : decode cX0_holdersOf 38 = .ok (.iinc 3 1, 3) := dk_132 3 1 (dk_at dksX0_holdersOf_1 14 rfl rfl)
theorem dX0_holdersOf_41 : decode cX0_holdersOf 41 = .ok (.goto (-37), 3) := dk_167 255 219 (dk_at dksX0_holdersOf_1 17 rfl rfl)
theorem dX0_holdersOf_44 : decode cX0_holdersOf 44 = .ok (.iload_n 2, 1) := dk_28 (dk_at dksX0_holdersOf_1 20 rfl rfl)
theorem dX0_holdersOf_45 : decode cX0_holdersOf 45 = .ok (.ireturn, 1) := dk_172 (dk_at dksX0_holdersOf_1 21 rfl rfl)
abbrev cX0_taken : ByteArray := prog_1_method_51_code
def yX0_taken : MethodName := ⟨RX0, "taken", "(II)I"⟩
def dkwX0_taken_1 : List UInt8 := [172, 78, 16, 244, 172, 78, 16, 245, 172, 78, 16, 243, 172]
abbrev dktX0_taken_1 : List UInt8 := dkwX0_taken_1 ++ []
def dkwX0_taken_0 : List UInt8 := [28, 133, 9, 20, 1, 35, 184, 0, 74, 154, 0, 6, 16, 254, 172, 42, 27, 182, 0, 161, 28, 184, 1, 37]
abbrev dktX0_taken_0 : List UInt8 := dkwX0_taken_0 ++ dktX0_taken_1
theorem dksX0_taken_0 : cX0_taken.data.toList.drop 0 = dktX0_taken_0 := by decide +kernel
theorem dksX0_taken_1 : cX0_taken.data.toList.drop 24 = dktX0_taken_1 := dk_seg dksX0_taken_0 24 rfl rfl
theorem dX0_taken_0 : decode cX0_taken 0 = .ok (.iload_n 2, 1) := dk_28 (dk_at dksX0_taken_0 0 rfl rfl)
theorem dX0_taken_1 : decode cX0_taken 1 = .ok (.i2l, 1) := dk_133 (dk_at dksX0_taken_0 1 rfl rfl)
theorem dX0_taken_2 : decode cX0_taken 2 = .ok (.lconst 0, 1) := dk_9 (dk_at dksX0_taken_0 2 rfl rfl)
theorem dX0_taken_3 : decode cX0_taken 3 = .ok (.ldc2_w 291, 3) := dk_20 1 35 (dk_at dksX0_taken_0 3 rfl rfl)
theorem dX0_taken_6 : decode cX0_taken 6 = .ok (.invokestatic 74, 3) := dk_184 0 74 (dk_at dksX0_taken_0 6 rfl rfl)
theorem dX0_taken_9 : decode cX0_taken 9 = .ok (.ifCond .ne 6, 3) := dk_154 0 6 (dk_at dksX0_taken_0 9 rfl rfl)
theorem dX0_taken_12 : decode cX0_taken 12 = .ok (.bipush (-2), 2) := dk_16 254 (dk_at dksX0_taken_0 12 rfl rfl)
theorem dX0_taken_14 : decode cX0_taken 14 = .ok (.ireturn, 1) := dk_172 (dk_at dksX0_taken_0 14 rfl rfl)
theorem dX0_taken_15 : decode cX0_taken 15 = .ok (.aload_n 0, 1) := dk_42 (dk_at dksX0_taken_0 15 rfl rfl)
theorem dX0_taken_16 : decode cX0_taken 16 = .ok (.iload_n 1, 1) := dk_27 (dk_at dksX0_taken_0 16 rfl rfl)
theorem dX0_taken_17 : decode cX0_taken 17 = .ok (.invokevirtual 161, 3) := dk_182 0 161 (dk_at dksX0_taken_0 17 rfl rfl)
theorem dX0_taken_20 : decode cX0_taken 20 = .ok (.iload_n 2, 1) := dk_28 (dk_at dksX0_taken_0 20 rfl rfl)
theorem dX0_taken_21 : decode cX0_taken 21 = .ok (.invokestatic 293, 3) := dk_184 1 37 (dk_at dksX0_taken_0 21 rfl rfl)
theorem dX0_taken_24 : decode cX0_taken 24 = .ok (.ireturn, 1) := dk_172 (dk_at dksX0_taken_1 0 rfl rfl)
theorem dX0_taken_25 : decode cX0_taken 25 = .ok (.astore_n 3, 1) := dk_78 (dk_at dksX0_taken_1 1 rfl rfl)
theorem dX0_taken_26 : decode cX0_taken 26 = .ok (.bipush (-12), 2) := dk_16 244 (dk_at dksX0_taken_1 2 rfl rfl)
theorem dX0_taken_28 : decode cX0_taken 28 = .ok (.ireturn, 1) := dk_172 (dk_at dksX0_taken_1 4 rfl rfl)
theorem dX0_taken_29 : decode cX0_taken 29 = .ok (.astore_n 3, 1) := dk_78 (dk_at dksX0_taken_1 5 rfl rfl)
theorem dX0_taken_30 : decode cX0_taken 30 = .ok (.bipush (-11), 2) := dk_16 245 (dk_at dksX0_taken_1 6 rfl rfl)
theorem dX0_taken_32 : decode cX0_taken 32 = .ok (.ireturn, 1) := dk_172 (dk_at dksX0_taken_1 8 rfl rfl)
theorem dX0_taken_33 : decode cX0_taken 33 = .ok (.astore_n 3, 1) := dk_78 (dk_at dksX0_taken_1 9 rfl rfl)
theorem dX0_taken_34 : decode cX0_taken 34 = .ok (.bipush (-13), 2) := dk_16 243 (dk_at dksX0_taken_1 10 rfl rfl)
theorem dX0_taken_36 : decode cX0_taken 36 = .ok (.ireturn, 1) := dk_172 (dk_at dksX0_taken_1 12 rfl rfl)
abbrev cX0_takenFor : ByteArray := prog_1_method_50_code
def yX0_takenFor : MethodName := ⟨RX0, "takenFor", "(Ljava/lang/Object;I)I"⟩
def dkwX0_takenFor_3 : List UInt8 := [42, 192, 0, 178, 180, 1, 34, 172, 42, 192, 0, 60, 180, 0, 62, 172]
abbrev dktX0_takenFor_3 : List UInt8 := dkwX0_takenFor_3 ++ []
def dkwX0_takenFor_2 : List UInt8 := [42, 192, 0, 93, 180, 1, 32, 172, 42, 192, 0, 111, 180, 1, 33, 172, 42, 192, 0, 27, 180, 0, 197, 172]
abbrev dktX0_takenFor_2 : List UInt8 := dkwX0_takenFor_2 ++ dktX0_takenFor_3
def dkwX0_takenFor_1 : List UInt8 := [170, 0, 0, 0, 0, 0, 63, 0, 0, 0, 0, 0, 0, 0, 3, 0, 0, 0, 31, 0, 0, 0, 39, 0, 0, 0, 47, 0, 0, 0, 55]
abbrev dktX0_takenFor_1 : List UInt8 := dkwX0_takenFor_1 ++ dktX0_takenFor_2
def dkwX0_takenFor_0 : List UInt8 := [27]
abbrev dktX0_takenFor_0 : List UInt8 := dkwX0_takenFor_0 ++ dktX0_takenFor_1
theorem dksX0_takenFor_0 : cX0_takenFor.data.toList.drop 0 = dktX0_takenFor_0 := by decide +kernel
theorem dksX0_takenFor_1 : cX0_takenFor.data.toList.drop 1 = dktX0_takenFor_1 := dk_seg dksX0_takenFor_0 1 rfl rfl
theorem dksX0_takenFor_2 : cX0_takenFor.data.toList.drop 32 = dktX0_takenFor_2 := dk_seg dksX0_takenFor_1 31 rfl rfl
theorem dksX0_takenFor_3 : cX0_takenFor.data.toList.drop 56 = dktX0_takenFor_3 := dk_seg dksX0_takenFor_2 24 rfl rfl
theorem dX0_takenFor_0 : decode cX0_takenFor 0 = .ok (.iload_n 1, 1) := dk_27 (dk_at dksX0_takenFor_0 0 rfl rfl)
theorem dX0_takenFor_1 : decode cX0_takenFor 1 = .ok (.tableswitch 63 0 3 #[31, 39, 47, 55], 31) := by decide +kernel
theorem dX0_takenFor_32 : decode cX0_takenFor 32 = .ok (.aload_n 0, 1) := dk_42 (dk_at dksX0_takenFor_2 0 rfl rfl)
theorem dX0_takenFor_33 : decode cX0_takenFor 33 = .ok (.checkcast 93, 3) := dk_192 0 93 (dk_at dksX0_takenFor_2 1 rfl rfl)
theorem dX0_takenFor_36 : decode cX0_takenFor 36 = .ok (.getfield 288, 3) := dk_180 1 32 (dk_at dksX0_takenFor_2 4 rfl rfl)
theorem dX0_takenFor_39 : decode cX0_takenFor 39 = .ok (.ireturn, 1) := dk_172 (dk_at dksX0_takenFor_2 7 rfl rfl)
theorem dX0_takenFor_40 : decode cX0_takenFor 40 = .ok (.aload_n 0, 1) := dk_42 (dk_at dksX0_takenFor_2 8 rfl rfl)
theorem dX0_takenFor_41 : decode cX0_takenFor 41 = .ok (.checkcast 111, 3) := dk_192 0 111 (dk_at dksX0_takenFor_2 9 rfl rfl)
theorem dX0_takenFor_44 : decode cX0_takenFor 44 = .ok (.getfield 289, 3) := dk_180 1 33 (dk_at dksX0_takenFor_2 12 rfl rfl)
theorem dX0_takenFor_47 : decode cX0_takenFor 47 = .ok (.ireturn, 1) := dk_172 (dk_at dksX0_takenFor_2 15 rfl rfl)
theorem dX0_takenFor_48 : decode cX0_takenFor 48 = .ok (.aload_n 0, 1) := dk_42 (dk_at dksX0_takenFor_2 16 rfl rfl)
theorem dX0_takenFor_49 : decode cX0_takenFor 49 = .ok (.checkcast 27, 3) := dk_192 0 27 (dk_at dksX0_takenFor_2 17 rfl rfl)
theorem dX0_takenFor_52 : decode cX0_takenFor 52 = .ok (.getfield 197, 3) := dk_180 0 197 (dk_at dksX0_takenFor_2 20 rfl rfl)
theorem dX0_takenFor_55 : decode cX0_takenFor 55 = .ok (.ireturn, 1) := dk_172 (dk_at dksX0_takenFor_2 23 rfl rfl)
theorem dX0_takenFor_56 : decode cX0_takenFor 56 = .ok (.aload_n 0, 1) := dk_42 (dk_at dksX0_takenFor_3 0 rfl rfl)
theorem dX0_takenFor_57 : decode cX0_takenFor 57 = .ok (.checkcast 178, 3) := dk_192 0 178 (dk_at dksX0_takenFor_3 1 rfl rfl)
theorem dX0_takenFor_60 : decode cX0_takenFor 60 = .ok (.getfield 290, 3) := dk_180 1 34 (dk_at dksX0_takenFor_3 4 rfl rfl)
theorem dX0_takenFor_63 : decode cX0_takenFor 63 = .ok (.ireturn, 1) := dk_172 (dk_at dksX0_takenFor_3 7 rfl rfl)
theorem dX0_takenFor_64 : decode cX0_takenFor 64 = .ok (.aload_n 0, 1) := dk_42 (dk_at dksX0_takenFor_3 8 rfl rfl)
theorem dX0_takenFor_65 : decode cX0_takenFor 65 = .ok (.checkcast 60, 3) := dk_192 0 60 (dk_at dksX0_takenFor_3 9 rfl rfl)
theorem dX0_takenFor_68 : decode cX0_takenFor 68 = .ok (.getfield 62, 3) := dk_180 0 62 (dk_at dksX0_takenFor_3 12 rfl rfl)
theorem dX0_takenFor_71 : decode cX0_takenFor 71 = .ok (.ireturn, 1) := dk_172 (dk_at dksX0_takenFor_3 15 rfl rfl)
abbrev cX0_dead : ByteArray := prog_1_method_53_code
def yX0_dead : MethodName := ⟨RX0, "dead", "(II)I"⟩
def dkwX0_dead_1 : List UInt8 := [184, 1, 41, 172, 78, 16, 244, 172, 78, 16, 245, 172, 78, 16, 243, 172]
abbrev dktX0_dead_1 : List UInt8 := dkwX0_dead_1 ++ []
def dkwX0_dead_0 : List UInt8 := [28, 133, 9, 20, 1, 25, 184, 0, 74, 154, 0, 6, 16, 254, 172, 42, 27, 182, 0, 161, 192, 0, 65, 28]
abbrev dktX0_dead_0 : List UInt8 := dkwX0_dead_0 ++ dktX0_dead_1
theorem dksX0_dead_0 : cX0_dead.data.toList.drop 0 = dktX0_dead_0 := by decide +kernel
theorem dksX0_dead_1 : cX0_dead.data.toList.drop 24 = dktX0_dead_1 := dk_seg dksX0_dead_0 24 rfl rfl
theorem dX0_dead_0 : decode cX0_dead 0 = .ok (.iload_n 2, 1) := dk_28 (dk_at dksX0_dead_0 0 rfl rfl)
theorem dX0_dead_1 : decode cX0_dead 1 = .ok (.i2l, 1) := dk_133 (dk_at dksX0_dead_0 1 rfl rfl)
theorem dX0_dead_2 : decode cX0_dead 2 = .ok (.lconst 0, 1) := dk_9 (dk_at dksX0_dead_0 2 rfl rfl)
theorem dX0_dead_3 : decode cX0_dead 3 = .ok (.ldc2_w 281, 3) := dk_20 1 25 (dk_at dksX0_dead_0 3 rfl rfl)
theorem dX0_dead_6 : decode cX0_dead 6 = .ok (.invokestatic 74, 3) := dk_184 0 74 (dk_at dksX0_dead_0 6 rfl rfl)
theorem dX0_dead_9 : decode cX0_dead 9 = .ok (.ifCond .ne 6, 3) := dk_154 0 6 (dk_at dksX0_dead_0 9 rfl rfl)
theorem dX0_dead_12 : decode cX0_dead 12 = .ok (.bipush (-2), 2) := dk_16 254 (dk_at dksX0_dead_0 12 rfl rfl)
theorem dX0_dead_14 : decode cX0_dead 14 = .ok (.ireturn, 1) := dk_172 (dk_at dksX0_dead_0 14 rfl rfl)
theorem dX0_dead_15 : decode cX0_dead 15 = .ok (.aload_n 0, 1) := dk_42 (dk_at dksX0_dead_0 15 rfl rfl)
theorem dX0_dead_16 : decode cX0_dead 16 = .ok (.iload_n 1, 1) := dk_27 (dk_at dksX0_dead_0 16 rfl rfl)
theorem dX0_dead_17 : decode cX0_dead 17 = .ok (.invokevirtual 161, 3) := dk_182 0 161 (dk_at dksX0_dead_0 17 rfl rfl)
theorem dX0_dead_20 : decode cX0_dead 20 = .ok (.checkcast 65, 3) := dk_192 0 65 (dk_at dksX0_dead_0 20 rfl rfl)
theorem dX0_dead_23 : decode cX0_dead 23 = .ok (.iload_n 2, 1) := dk_28 (dk_at dksX0_dead_0 23 rfl rfl)
theorem dX0_dead_24 : decode cX0_dead 24 = .ok (.invokestatic 297, 3) := dk_184 1 41 (dk_at dksX0_dead_1 0 rfl rfl)
theorem dX0_dead_27 : decode cX0_dead 27 = .ok (.ireturn, 1) := dk_172 (dk_at dksX0_dead_1 3 rfl rfl)
theorem dX0_dead_28 : decode cX0_dead 28 = .ok (.astore_n 3, 1) := dk_78 (dk_at dksX0_dead_1 4 rfl rfl)
theorem dX0_dead_29 : decode cX0_dead 29 = .ok (.bipush (-12), 2) := dk_16 244 (dk_at dksX0_dead_1 5 rfl rfl)
theorem dX0_dead_31 : decode cX0_dead 31 = .ok (.ireturn, 1) := dk_172 (dk_at dksX0_dead_1 7 rfl rfl)
theorem dX0_dead_32 : decode cX0_dead 32 = .ok (.astore_n 3, 1) := dk_78 (dk_at dksX0_dead_1 8 rfl rfl)
theorem dX0_dead_33 : decode cX0_dead 33 = .ok (.bipush (-11), 2) := dk_16 245 (dk_at dksX0_dead_1 9 rfl rfl)
theorem dX0_dead_35 : decode cX0_dead 35 = .ok (.ireturn, 1) := dk_172 (dk_at dksX0_dead_1 11 rfl rfl)
theorem dX0_dead_36 : decode cX0_dead 36 = .ok (.astore_n 3, 1) := dk_78 (dk_at dksX0_dead_1 12 rfl rfl)
theorem dX0_dead_37 : decode cX0_dead 37 = .ok (.bipush (-13), 2) := dk_16 243 (dk_at dksX0_dead_1 13 rfl rfl)
theorem dX0_dead_39 : decode cX0_dead 39 = .ok (.ireturn, 1) := dk_172 (dk_at dksX0_dead_1 15 rfl rfl)
abbrev cX0_deadOf : ByteArray := prog_1_method_52_code
def yX0_deadOf : MethodName := ⟨RX0, "deadOf", "(LDeadListPool$Holder;I)I"⟩
def dkwX0_deadOf_1 : List UInt8 := [180, 0, 125, 3, 46, 167, 0, 14, 42, 180, 0, 125, 42, 180, 0, 122, 4, 100, 46, 172]
abbrev dktX0_deadOf_1 : List UInt8 := dkwX0_deadOf_1 ++ []
def dkwX0_deadOf_0 : List UInt8 := [27, 154, 0, 8, 42, 180, 0, 122, 172, 42, 180, 0, 122, 154, 0, 5, 2, 172, 27, 4, 160, 0, 12, 42]
abbrev dktX0_deadOf_0 : List UInt8 := dkwX0_deadOf_0 ++ dktX0_deadOf_1
theorem dksX0_deadOf_0 : cX0_deadOf.data.toList.drop 0 = dktX0_deadOf_0 := by decide +kernel
theorem dksX0_deadOf_1 : cX0_deadOf.data.toList.drop 24 = dktX0_deadOf_1 := dk_seg dksX0_deadOf_0 24 rfl rfl
theorem dX0_deadOf_0 : decode cX0_deadOf 0 = .ok (.iload_n 1, 1) := dk_27 (dk_at dksX0_deadOf_0 0 rfl rfl)
theorem dX0_deadOf_1 : decode cX0_deadOf 1 = .ok (.ifCond .ne 8, 3) := dk_154 0 8 (dk_at dksX0_deadOf_0 1 rfl rfl)
theorem dX0_deadOf_4 : decode cX0_deadOf 4 = .ok (.aload_n 0, 1) := dk_42 (dk_at dksX0_deadOf_0 4 rfl rfl)
theorem dX0_deadOf_5 : decode cX0_deadOf 5 = .ok (.getfield 122, 3) := dk_180 0 122 (dk_at dksX0_deadOf_0 5 rfl rfl)
theorem dX0_deadOf_8 : decode cX0_deadOf 8 = .ok (.ireturn, 1) := dk_172 (dk_at dksX0_deadOf_0 8 rfl rfl)
theorem dX0_deadOf_9 : decode cX0_deadOf 9 = .ok (.aload_n 0, 1) := dk_42 (dk_at dksX0_deadOf_0 9 rfl rfl)
theorem dX0_deadOf_10 : decode cX0_deadOf 10 = .ok (.getfield 122, 3) := dk_180 0 122 (dk_at dksX0_deadOf_0 10 rfl rfl)
theorem dX0_deadOf_13 : decode cX0_deadOf 13 = .ok (.ifCond .ne 5, 3) := dk_154 0 5 (dk_at dksX0_deadOf_0 13 rfl rfl)
theorem dX0_deadOf_16 : decode cX0_deadOf 16 = .ok (.iconst (-1), 1) := dk_2 (dk_at dksX0_deadOf_0 16 rfl rfl)
theorem dX0_deadOf_17 : decode cX0_deadOf 17 = .ok (.ireturn, 1) := dk_172 (dk_at dksX0_deadOf_0 17 rfl rfl)
theorem dX0_deadOf_18 : decode cX0_deadOf 18 = .ok (.iload_n 1, 1) := dk_27 (dk_at dksX0_deadOf_0 18 rfl rfl)
theorem dX0_deadOf_19 : decode cX0_deadOf 19 = .ok (.iconst 1, 1) := dk_4 (dk_at dksX0_deadOf_0 19 rfl rfl)
theorem dX0_deadOf_20 : decode cX0_deadOf 20 = .ok (.if_icmp .ne 12, 3) := dk_160 0 12 (dk_at dksX0_deadOf_0 20 rfl rfl)
theorem dX0_deadOf_23 : decode cX0_deadOf 23 = .ok (.aload_n 0, 1) := dk_42 (dk_at dksX0_deadOf_0 23 rfl rfl)
theorem dX0_deadOf_24 : decode cX0_deadOf 24 = .ok (.getfield 125, 3) := dk_180 0 125 (dk_at dksX0_deadOf_1 0 rfl rfl)
theorem dX0_deadOf_27 : decode cX0_deadOf 27 = .ok (.iconst 0, 1) := dk_3 (dk_at dksX0_deadOf_1 3 rfl rfl)
theorem dX0_deadOf_28 : decode cX0_deadOf 28 = .ok (.iaload, 1) := dk_46 (dk_at dksX0_deadOf_1 4 rfl rfl)
theorem dX0_deadOf_29 : decode cX0_deadOf 29 = .ok (.goto 14, 3) := dk_167 0 14 (dk_at dksX0_deadOf_1 5 rfl rfl)
theorem dX0_deadOf_32 : decode cX0_deadOf 32 = .ok (.aload_n 0, 1) := dk_42 (dk_at dksX0_deadOf_1 8 rfl rfl)
theorem dX0_deadOf_33 : decode cX0_deadOf 33 = .ok (.getfield 125, 3) := dk_180 0 125 (dk_at dksX0_deadOf_1 9 rfl rfl)
theorem dX0_deadOf_36 : decode cX0_deadOf 36 = .ok (.aload_n 0, 1) := dk_42 (dk_at dksX0_deadOf_1 12 rfl rfl)
theorem dX0_deadOf_37 : decode cX0_deadOf 37 = .ok (.getfield 122, 3) := dk_180 0 122 (dk_at dksX0_deadOf_1 13 rfl rfl)
theorem dX0_deadOf_40 : decode cX0_deadOf 40 = .ok (.iconst 1, 1) := dk_4 (dk_at dksX0_deadOf_1 16 rfl rfl)
theorem dX0_deadOf_41 : decode cX0_deadOf 41 = .ok (.isub, 1) := dk_100 (dk_at dksX0_deadOf_1 17 rfl rfl)
theorem dX0_deadOf_42 : decode cX0_deadOf 42 = .ok (.iaload, 1) := dk_46 (dk_at dksX0_deadOf_1 18 rfl rfl)
theorem dX0_deadOf_43 : decode cX0_deadOf 43 = .ok (.ireturn, 1) := dk_172 (dk_at dksX0_deadOf_1 19 rfl rfl)
abbrev cX0_deadList : ByteArray := prog_1_method_55_code
def yX0_deadList : MethodName := ⟨RX0, "deadList", "(II)J"⟩
def dkwX0_deadList_3 : List UInt8 := [180, 0, 197, 182, 1, 46, 173]
abbrev dktX0_deadList_3 : List UInt8 := dkwX0_deadList_3 ++ []
def dkwX0_deadList_2 : List UInt8 := [167, 255, 235, 25, 4, 199, 0, 9, 20, 1, 44, 167, 0, 18, 42, 45, 25, 4, 182, 0, 219, 25, 4]
abbrev dktX0_deadList_2 : List UInt8 := dkwX0_deadList_2 ++ dktX0_deadList_3
def dkwX0_deadList_1 : List UInt8 := [3, 54, 5, 21, 5, 28, 162, 0, 21, 25, 4, 198, 0, 16, 25, 4, 180, 0, 99, 58, 4, 132, 5, 1]
abbrev dktX0_deadList_1 : List UInt8 := dkwX0_deadList_1 ++ dktX0_deadList_2
def dkwX0_deadList_0 : List UInt8 := [42, 27, 182, 0, 84, 78, 45, 198, 0, 7, 28, 156, 0, 7, 20, 1, 44, 173, 45, 180, 0, 88, 58, 4]
abbrev dktX0_deadList_0 : List UInt8 := dkwX0_deadList_0 ++ dktX0_deadList_1
theorem dksX0_deadList_0 : cX0_deadList.data.toList.drop 0 = dktX0_deadList_0 := by decide +kernel
theorem dksX0_deadList_1 : cX0_deadList.data.toList.drop 24 = dktX0_deadList_1 := dk_seg dksX0_deadList_0 24 rfl rfl
theorem dksX0_deadList_2 : cX0_deadList.data.toList.drop 48 = dktX0_deadList_2 := dk_seg dksX0_deadList_1 24 rfl rfl
theorem dksX0_deadList_3 : cX0_deadList.data.toList.drop 71 = dktX0_deadList_3 := dk_seg dksX0_deadList_2 23 rfl rfl
theorem dX0_deadList_0 : decode cX0_deadList 0 = .ok (.aload_n 0, 1) := dk_42 (dk_at dksX0_deadList_0 0 rfl rfl)
theorem dX0_deadList_1 : decode cX0_deadList 1 = .ok (.iload_n 1, 1) := dk_27 (dk_at dksX0_deadList_0 1 rfl rfl)
theorem dX0_deadList_2 : decode cX0_deadList 2 = .ok (.invokevirtual 84, 3) := dk_182 0 84 (dk_at dksX0_deadList_0 2 rfl rfl)
theorem dX0_deadList_5 : decode cX0_deadList 5 = .ok (.astore_n 3, 1) := dk_78 (dk_at dksX0_deadList_0 5 rfl rfl)
theorem dX0_deadList_6 : decode cX0_deadList 6 = .ok (.aload_n 3, 1) := dk_45 (dk_at dksX0_deadList_0 6 rfl rfl)
theorem dX0_deadList_7 : decode cX0_deadList 7 = .ok (.ifnull 7, 3) := dk_198 0 7 (dk_at dksX0_deadList_0 7 rfl rfl)
theorem dX0_deadList_10 : decode cX0_deadList 10 = .ok (.iload_n 2, 1) := dk_28 (dk_at dksX0_deadList_0 10 rfl rfl)
theorem dX0_deadList_11 : decode cX0_deadList 11 = .ok (.ifCond .ge 7, 3) := dk_156 0 7 (dk_at dksX0_deadList_0 11 rfl rfl)
theorem dX0_deadList_14 : decode cX0_deadList 14 = .ok (.ldc2_w 300, 3) := dk_20 1 44 (dk_at dksX0_deadList_0 14 rfl rfl)
theorem dX0_deadList_17 : decode cX0_deadList 17 = .ok (.lreturn, 1) := dk_173 (dk_at dksX0_deadList_0 17 rfl rfl)
theorem dX0_deadList_18 : decode cX0_deadList 18 = .ok (.aload_n 3, 1) := dk_45 (dk_at dksX0_deadList_0 18 rfl rfl)
theorem dX0_deadList_19 : decode cX0_deadList 19 = .ok (.getfield 88, 3) := dk_180 0 88 (dk_at dksX0_deadList_0 19 rfl rfl)
theorem dX0_deadList_22 : decode cX0_deadList 22 = .ok (.astore 4, 2) := dk_58 4 (dk_at dksX0_deadList_0 22 rfl rfl)
theorem dX0_deadList_24 : decode cX0_deadList 24 = .ok (.iconst 0, 1) := dk_3 (dk_at dksX0_deadList_1 0 rfl rfl)
theorem dX0_deadList_25 : decode cX0_deadList 25 = .ok (.istore 5, 2) := dk_54 5 (dk_at dksX0_deadList_1 1 rfl rfl)
theorem dX0_deadList_27 : decode cX0_deadList 27 = .ok (.iload 5, 2) := dk_21 5 (dk_at dksX0_deadList_1 3 rfl rfl)
theorem dX0_deadList_29 : decode cX0_deadList 29 = .ok (.iload_n 2, 1) := dk_28 (dk_at dksX0_deadList_1 5 rfl rfl)
theorem dX0_deadList_30 : decode cX0_deadList 30 = .ok (.if_icmp .ge 21, 3) := dk_162 0 21 (dk_at dksX0_deadList_1 6 rfl rfl)
theorem dX0_deadList_33 : decode cX0_deadList 33 = .ok (.aload 4, 2) := dk_25 4 (dk_at dksX0_deadList_1 9 rfl rfl)
theorem dX0_deadList_35 : decode cX0_deadList 35 = .ok (.ifnull 16, 3) := dk_198 0 16 (dk_at dksX0_deadList_1 11 rfl rfl)
theorem dX0_deadList_38 : decode cX0_deadList 38 = .ok (.aload 4, 2) := dk_25 4 (dk_at dksX0_deadList_1 14 rfl rfl)
theorem dX0_deadList_40 : decode cX0_deadList 40 = .ok (.getfield 99, 3) := dk_180 0 99 (dk_at dksX0_deadList_1 16 rfl rfl)
theorem dX0_deadList_43 : decode cX0_deadList 43 = .ok (.astore 4, 2) := dk_58 4 (dk_at dksX0_deadList_1 19 rfl rfl)
theorem dX0_deadList_45 : decode cX0_deadList 45 = .ok (.iinc 5 1, 3) := dk_132 5 1 (dk_at dksX0_deadList_1 21 rfl rfl)
theorem dX0_deadList_48 : decode cX0_deadList 48 = .ok (.goto (-21), 3) := dk_167 255 235 (dk_at dksX0_deadList_2 0 rfl rfl)
theorem dX0_deadList_51 : decode cX0_deadList 51 = .ok (.aload 4, 2) := dk_25 4 (dk_at dksX0_deadList_2 3 rfl rfl)
theorem dX0_deadList_53 : decode cX0_deadList 53 = .ok (.ifnonnull 9, 3) := dk_199 0 9 (dk_at dksX0_deadList_2 5 rfl rfl)
theorem dX0_deadList_56 : decode cX0_deadList 56 = .ok (.ldc2_w 300, 3) := dk_20 1 44 (dk_at dksX0_deadList_2 8 rfl rfl)
theorem dX0_deadList_59 : decode cX0_deadList 59 = .ok (.goto 18, 3) := dk_167 0 18 (dk_at dksX0_deadList_2 11 rfl rfl)
theorem dX0_deadList_62 : decode cX0_deadList 62 = .ok (.aload_n 0, 1) := dk_42 (dk_at dksX0_deadList_2 14 rfl rfl)
theorem dX0_deadList_63 : decode cX0_deadList 63 = .ok (.aload_n 3, 1) := dk_45 (dk_at dksX0_deadList_2 15 rfl rfl)
theorem dX0_deadList_64 : decode cX0_deadList 64 = .ok (.aload 4, 2) := dk_25 4 (dk_at dksX0_deadList_2 16 rfl rfl)
theorem dX0_deadList_66 : decode cX0_deadList 66 = .ok (.invokevirtual 219, 3) := dk_182 0 219 (dk_at dksX0_deadList_2 18 rfl rfl)
theorem dX0_deadList_69 : decode cX0_deadList 69 = .ok (.aload 4, 2) := dk_25 4 (dk_at dksX0_deadList_2 21 rfl rfl)
theorem dX0_deadList_71 : decode cX0_deadList 71 = .ok (.getfield 197, 3) := dk_180 0 197 (dk_at dksX0_deadList_3 0 rfl rfl)
theorem dX0_deadList_74 : decode cX0_deadList 74 = .ok (.invokevirtual 302, 3) := dk_182 1 46 (dk_at dksX0_deadList_3 3 rfl rfl)
theorem dX0_deadList_77 : decode cX0_deadList 77 = .ok (.lreturn, 1) := dk_173 (dk_at dksX0_deadList_3 6 rfl rfl)
abbrev cX0_deadBetween : ByteArray := prog_1_method_54_code
def yX0_deadBetween : MethodName := ⟨RX0, "deadBetween", "(LDeadListPool$Holder;II)J"⟩
def dkwX0_deadBetween_3 : List UInt8 := [167, 255, 193, 22, 4, 173]
abbrev dktX0_deadBetween_3 : List UInt8 := dkwX0_deadBetween_3 ++ []
def dkwX0_deadBetween_2 : List UInt8 := [180, 0, 9, 43, 180, 0, 125, 21, 6, 46, 46, 133, 167, 0, 4, 9, 97, 55, 4, 132, 6, 1]
abbrev dktX0_deadBetween_2 : List UInt8 := dkwX0_deadBetween_2 ++ dktX0_deadBetween_3
def dkwX0_deadBetween_1 : List UInt8 := [21, 6, 46, 46, 54, 7, 21, 7, 28, 163, 0, 6, 22, 4, 173, 22, 4, 21, 7, 29, 163, 0, 19, 42]
abbrev dktX0_deadBetween_1 : List UInt8 := dkwX0_deadBetween_1 ++ dktX0_deadBetween_2
def dkwX0_deadBetween_0 : List UInt8 := [9, 55, 4, 3, 54, 6, 21, 6, 43, 180, 0, 122, 162, 0, 60, 42, 180, 0, 13, 43, 180, 0, 125]
abbrev dktX0_deadBetween_0 : List UInt8 := dkwX0_deadBetween_0 ++ dktX0_deadBetween_1
theorem dksX0_deadBetween_0 : cX0_deadBetween.data.toList.drop 0 = dktX0_deadBetween_0 := by decide +kernel
theorem dksX0_deadBetween_1 : cX0_deadBetween.data.toList.drop 23 = dktX0_deadBetween_1 := dk_seg dksX0_deadBetween_0 23 rfl rfl
theorem dksX0_deadBetween_2 : cX0_deadBetween.data.toList.drop 47 = dktX0_deadBetween_2 := dk_seg dksX0_deadBetween_1 24 rfl rfl
theorem dksX0_deadBetween_3 : cX0_deadBetween.data.toList.drop 69 = dktX0_deadBetween_3 := dk_seg dksX0_deadBetween_2 22 rfl rfl
theorem dX0_deadBetween_0 : decode cX0_deadBetween 0 = .ok (.lconst 0, 1) := dk_9 (dk_at dksX0_deadBetween_0 0 rfl rfl)
theorem dX0_deadBetween_1 : decode cX0_deadBetween 1 = .ok (.lstore 4, 2) := dk_55 4 (dk_at dksX0_deadBetween_0 1 rfl rfl)
theorem dX0_deadBetween_3 : decode cX0_deadBetween 3 = .ok (.iconst 0, 1) := dk_3 (dk_at dksX0_deadBetween_0 3 rfl rfl)
theorem dX0_deadBetween_4 : decode cX0_deadBetween 4 = .ok (.istore 6, 2) := dk_54 6 (dk_at dksX0_deadBetween_0 4 rfl rfl)
theorem dX0_deadBetween_6 : decode cX0_deadBetween 6 = .ok (.iload 6, 2) := dk_21 6 (dk_at dksX0_deadBetween_0 6 rfl rfl)
theorem dX0_deadBetween_8 : decode cX0_deadBetween 8 = .ok (.aload_n 1, 1) := dk_43 (dk_at dksX0_deadBetween_0 8 rfl rfl)
theorem dX0_deadBetween_9 : decode cX0_deadBetween 9 = .ok (.getfield 122, 3) := dk_180 0 122 (dk_at dksX0_deadBetween_0 9 rfl rfl)
theorem dX0_deadBetween_12 : decode cX0_deadBetween 12 = .ok (.if_icmp .ge 60, 3) := dk_162 0 60 (dk_at dksX0_deadBetween_0 12 rfl rfl)
theorem dX0_deadBetween_15 : decode cX0_deadBetween 15 = .ok (.aload_n 0, 1) := dk_42 (dk_at dksX0_deadBetween_0 15 rfl rfl)
theorem dX0_deadBetween_16 : decode cX0_deadBetween 16 = .ok (.getfield 13, 3) := dk_180 0 13 (dk_at dksX0_deadBetween_0 16 rfl rfl)
theorem dX0_deadBetween_19 : decode cX0_deadBetween 19 = .ok (.aload_n 1, 1) := dk_43 (dk_at dksX0_deadBetween_0 19 rfl rfl)
theorem dX0_deadBetween_20 : decode cX0_deadBetween 20 = .ok (.getfield 125, 3) := dk_180 0 125 (dk_at dksX0_deadBetween_0 20 rfl rfl)
theorem dX0_deadBetween_23 : decode cX0_deadBetween 23 = .ok (.iload 6, 2) := dk_21 6 (dk_at dksX0_deadBetween_1 0 rfl rfl)
theorem dX0_deadBetween_25 : decode cX0_deadBetween 25 = .ok (.iaload, 1) := dk_46 (dk_at dksX0_deadBetween_1 2 rfl rfl)
theorem dX0_deadBetween_26 : decode cX0_deadBetween 26 = .ok (.iaload, 1) := dk_46 (dk_at dksX0_deadBetween_1 3 rfl rfl)
theorem dX0_deadBetween_27 : decode cX0_deadBetween 27 = .ok (.istore 7, 2) := dk_54 7 (dk_at dksX0_deadBetween_1 4 rfl rfl)
theorem dX0_deadBetween_29 : decode cX0_deadBetween 29 = .ok (.iload 7, 2) := dk_21 7 (dk_at dksX0_deadBetween_1 6 rfl rfl)
theorem dX0_deadBetween_31 : decode cX0_deadBetween 31 = .ok (.iload_n 2, 1) := dk_28 (dk_at dksX0_deadBetween_1 8 rfl rfl)
theorem dX0_deadBetween_32 : decode cX0_deadBetween 32 = .ok (.if_icmp .gt 6, 3) := dk_163 0 6 (dk_at dksX0_deadBetween_1 9 rfl rfl)
theorem dX0_deadBetween_35 : decode cX0_deadBetween 35 = .ok (.lload 4, 2) := dk_22 4 (dk_at dksX0_deadBetween_1 12 rfl rfl)
theorem dX0_deadBetween_37 : decode cX0_deadBetween 37 = .ok (.lreturn, 1) := dk_173 (dk_at dksX0_deadBetween_1 14 rfl rfl)
theorem dX0_deadBetween_38 : decode cX0_deadBetween 38 = .ok (.lload 4, 2) := dk_22 4 (dk_at dksX0_deadBetween_1 15 rfl rfl)
theorem dX0_deadBetween_40 : decode cX0_deadBetween 40 = .ok (.iload 7, 2) := dk_21 7 (dk_at dksX0_deadBetween_1 17 rfl rfl)
theorem dX0_deadBetween_42 : decode cX0_deadBetween 42 = .ok (.iload_n 3, 1) := dk_29 (dk_at dksX0_deadBetween_1 19 rfl rfl)
theorem dX0_deadBetween_43 : decode cX0_deadBetween 43 = .ok (.if_icmp .gt 19, 3) := dk_163 0 19 (dk_at dksX0_deadBetween_1 20 rfl rfl)
theorem dX0_deadBetween_46 : decode cX0_deadBetween 46 = .ok (.aload_n 0, 1) := dk_42 (dk_at dksX0_deadBetween_1 23 rfl rfl)
theorem dX0_deadBetween_47 : decode cX0_deadBetween 47 = .ok (.getfield 9, 3) := dk_180 0 9 (dk_at dksX0_deadBetween_2 0 rfl rfl)
theorem dX0_deadBetween_50 : decode cX0_deadBetween 50 = .ok (.aload_n 1, 1) := dk_43 (dk_at dksX0_deadBetween_2 3 rfl rfl)
theorem dX0_deadBetween_51 : decode cX0_deadBetween 51 = .ok (.getfield 125, 3) := dk_180 0 125 (dk_at dksX0_deadBetween_2 4 rfl rfl)
theorem dX0_deadBetween_54 : decode cX0_deadBetween 54 = .ok (.iload 6, 2) := dk_21 6 (dk_at dksX0_deadBetween_2 7 rfl rfl)
theorem dX0_deadBetween_56 : decode cX0_deadBetween 56 = .ok (.iaload, 1) := dk_46 (dk_at dksX0_deadBetween_2 9 rfl rfl)
theorem dX0_deadBetween_57 : decode cX0_deadBetween 57 = .ok (.iaload, 1) := dk_46 (dk_at dksX0_deadBetween_2 10 rfl rfl)
theorem dX0_deadBetween_58 : decode cX0_deadBetween 58 = .ok (.i2l, 1) := dk_133 (dk_at dksX0_deadBetween_2 11 rfl rfl)
theorem dX0_deadBetween_59 : decode cX0_deadBetween 59 = .ok (.goto 4, 3) := dk_167 0 4 (dk_at dksX0_deadBetween_2 12 rfl rfl)
theorem dX0_deadBetween_62 : decode cX0_deadBetween 62 = .ok (.lconst 0, 1) := dk_9 (dk_at dksX0_deadBetween_2 15 rfl rfl)
theorem dX0_deadBetween_63 : decode cX0_deadBetween 63 = .ok (.ladd, 1) := dk_97 (dk_at dksX0_deadBetween_2 16 rfl rfl)
theorem dX0_deadBetween_64 : decode cX0_deadBetween 64 = .ok (.lstore 4, 2) := dk_55 4 (dk_at dksX0_deadBetween_2 17 rfl rfl)
theorem dX0_deadBetween_66 : decode cX0_deadBetween 66 = .ok (.iinc 6 1, 3) := dk_132 6 1 (dk_at dksX0_deadBetween_2 19 rfl rfl)
theorem dX0_deadBetween_69 : decode cX0_deadBetween 69 = .ok (.goto (-63), 3) := dk_167 255 193 (dk_at dksX0_deadBetween_3 0 rfl rfl)
theorem dX0_deadBetween_72 : decode cX0_deadBetween 72 = .ok (.lload 4, 2) := dk_22 4 (dk_at dksX0_deadBetween_3 3 rfl rfl)
theorem dX0_deadBetween_74 : decode cX0_deadBetween 74 = .ok (.lreturn, 1) := dk_173 (dk_at dksX0_deadBetween_3 5 rfl rfl)
abbrev cX0_space : ByteArray := prog_1_method_56_code
def yX0_space : MethodName := ⟨RX0, "space", "(I)J"⟩
def dkwX0_space_0 : List UInt8 := [42, 27, 182, 0, 84, 77, 44, 199, 0, 9, 20, 1, 44, 167, 0, 8, 42, 44, 182, 0, 147, 173]
abbrev dktX0_space_0 : List UInt8 := dkwX0_space_0 ++ []
theorem dksX0_space_0 : cX0_space.data.toList.drop 0 = dktX0_space_0 := by decide +kernel
theorem dX0_space_0 : decode cX0_space 0 = .ok (.aload_n 0, 1) := dk_42 (dk_at dksX0_space_0 0 rfl rfl)
theorem dX0_space_1 : decode cX0_space 1 = .ok (.iload_n 1, 1) := dk_27 (dk_at dksX0_space_0 1 rfl rfl)
theorem dX0_space_2 : decode cX0_space 2 = .ok (.invokevirtual 84, 3) := dk_182 0 84 (dk_at dksX0_space_0 2 rfl rfl)
theorem dX0_space_5 : decode cX0_space 5 = .ok (.astore_n 2, 1) := dk_77 (dk_at dksX0_space_0 5 rfl rfl)
theorem dX0_space_6 : decode cX0_space 6 = .ok (.aload_n 2, 1) := dk_44 (dk_at dksX0_space_0 6 rfl rfl)
theorem dX0_space_7 : decode cX0_space 7 = .ok (.ifnonnull 9, 3) := dk_199 0 9 (dk_at dksX0_space_0 7 rfl rfl)
theorem dX0_space_10 : decode cX0_space 10 = .ok (.ldc2_w 300, 3) := dk_20 1 44 (dk_at dksX0_space_0 10 rfl rfl)
theorem dX0_space_13 : decode cX0_space 13 = .ok (.goto 8, 3) := dk_167 0 8 (dk_at dksX0_space_0 13 rfl rfl)
theorem dX0_space_16 : decode cX0_space 16 = .ok (.aload_n 0, 1) := dk_42 (dk_at dksX0_space_0 16 rfl rfl)
theorem dX0_space_17 : decode cX0_space 17 = .ok (.aload_n 2, 1) := dk_44 (dk_at dksX0_space_0 17 rfl rfl)
theorem dX0_space_18 : decode cX0_space 18 = .ok (.invokevirtual 147, 3) := dk_182 0 147 (dk_at dksX0_space_0 18 rfl rfl)
theorem dX0_space_21 : decode cX0_space 21 = .ok (.lreturn, 1) := dk_173 (dk_at dksX0_space_0 21 rfl rfl)
abbrev cX0_range : ByteArray := prog_1_method_64_code
def yX0_range : MethodName := ⟨RX0, "range", "(II)J"⟩
def dkwX0_range_1 : List UInt8 := [25, 4, 184, 1, 70, 154, 0, 9, 20, 1, 44, 167, 0, 10, 42, 45, 25, 4, 182, 1, 74, 173]
abbrev dktX0_range_1 : List UInt8 := dkwX0_range_1 ++ []
def dkwX0_range_0 : List UInt8 := [42, 27, 182, 0, 100, 78, 42, 28, 182, 0, 100, 58, 4, 45, 198, 0, 17, 25, 4, 198, 0, 12, 45]
abbrev dktX0_range_0 : List UInt8 := dkwX0_range_0 ++ dktX0_range_1
theorem dksX0_range_0 : cX0_range.data.toList.drop 0 = dktX0_range_0 := by decide +kernel
theorem dksX0_range_1 : cX0_range.data.toList.drop 23 = dktX0_range_1 := dk_seg dksX0_range_0 23 rfl rfl
theorem dX0_range_0 : decode cX0_range 0 = .ok (.aload_n 0, 1) := dk_42 (dk_at dksX0_range_0 0 rfl rfl)
theorem dX0_range_1 : decode cX0_range 1 = .ok (.iload_n 1, 1) := dk_27 (dk_at dksX0_range_0 1 rfl rfl)
theorem dX0_range_2 : decode cX0_range 2 = .ok (.invokevirtual 100, 3) := dk_182 0 100 (dk_at dksX0_range_0 2 rfl rfl)
theorem dX0_range_5 : decode cX0_range 5 = .ok (.astore_n 3, 1) := dk_78 (dk_at dksX0_range_0 5 rfl rfl)
theorem dX0_range_6 : decode cX0_range 6 = .ok (.aload_n 0, 1) := dk_42 (dk_at dksX0_range_0 6 rfl rfl)
theorem dX0_range_7 : decode cX0_range 7 = .ok (.iload_n 2, 1) := dk_28 (dk_at dksX0_range_0 7 rfl rfl)
theorem dX0_range_8 : decode cX0_range 8 = .ok (.invokevirtual 100, 3) := dk_182 0 100 (dk_at dksX0_range_0 8 rfl rfl)
theorem dX0_range_11 : decode cX0_range 11 = .ok (.astore 4, 2) := dk_58 4 (dk_at dksX0_range_0 11 rfl rfl)
theorem dX0_range_13 : decode cX0_range 13 = .ok (.aload_n 3, 1) := dk_45 (dk_at dksX0_range_0 13 rfl rfl)
theorem dX0_range_14 : decode cX0_range 14 = .ok (.ifnull 17, 3) := dk_198 0 17 (dk_at dksX0_range_0 14 rfl rfl)
theorem dX0_range_17 : decode cX0_range 17 = .ok (.aload 4, 2) := dk_25 4 (dk_at dksX0_range_0 17 rfl rfl)
theorem dX0_range_19 : decode cX0_range 19 = .ok (.ifnull 12, 3) := dk_198 0 12 (dk_at dksX0_range_0 19 rfl rfl)
theorem dX0_range_22 : decode cX0_range 22 = .ok (.aload_n 3, 1) := dk_45 (dk_at dksX0_range_0 22 rfl rfl)
theorem dX0_range_23 : decode cX0_range 23 = .ok (.aload 4, 2) := dk_25 4 (dk_at dksX0_range_1 0 rfl rfl)
theorem dX0_range_25 : decode cX0_range 25 = .ok (.invokestatic 326, 3) := dk_184 1 70 (dk_at dksX0_range_1 2 rfl rfl)
theorem dX0_range_28 : decode cX0_range 28 = .ok (.ifCond .ne 9, 3) := dk_154 0 9 (dk_at dksX0_range_1 5 rfl rfl)
theorem dX0_range_31 : decode cX0_range 31 = .ok (.ldc2_w 300, 3) := dk_20 1 44 (dk_at dksX0_range_1 8 rfl rfl)
theorem dX0_range_34 : decode cX0_range 34 = .ok (.goto 10, 3) := dk_167 0 10 (dk_at dksX0_range_1 11 rfl rfl)
theorem dX0_range_37 : decode cX0_range 37 = .ok (.aload_n 0, 1) := dk_42 (dk_at dksX0_range_1 14 rfl rfl)
theorem dX0_range_38 : decode cX0_range 38 = .ok (.aload_n 3, 1) := dk_45 (dk_at dksX0_range_1 15 rfl rfl)
theorem dX0_range_39 : decode cX0_range 39 = .ok (.aload 4, 2) := dk_25 4 (dk_at dksX0_range_1 16 rfl rfl)
theorem dX0_range_41 : decode cX0_range 41 = .ok (.invokevirtual 330, 3) := dk_182 1 74 (dk_at dksX0_range_1 18 rfl rfl)
theorem dX0_range_44 : decode cX0_range 44 = .ok (.lreturn, 1) := dk_173 (dk_at dksX0_range_1 21 rfl rfl)
abbrev cX0_isInChain : ByteArray := prog_1_method_63_code
def yX0_isInChain : MethodName := ⟨RX0, "isInChain", "(LDeadListPool$Snapshot;LDeadListPool$Snapshot;)Z"⟩
def dkwX0_isInChain_1 : List UInt8 := [4, 167, 0, 4, 3, 172]
abbrev dktX0_isInChain_1 : List UInt8 := dkwX0_isInChain_1 ++ []
def dkwX0_isInChain_0 : List UInt8 := [43, 77, 44, 198, 0, 16, 44, 42, 165, 0, 11, 44, 180, 0, 99, 77, 167, 255, 242, 44, 42, 166, 0, 7]
abbrev dktX0_isInChain_0 : List UInt8 := dkwX0_isInChain_0 ++ dktX0_isInChain_1
theorem dksX0_isInChain_0 : cX0_isInChain.data.toList.drop 0 = dktX0_isInChain_0 := by decide +kernel
theorem dksX0_isInChain_1 : cX0_isInChain.data.toList.drop 24 = dktX0_isInChain_1 := dk_seg dksX0_isInChain_0 24 rfl rfl
theorem dX0_isInChain_0 : decode cX0_isInChain 0 = .ok (.aload_n 1, 1) := dk_43 (dk_at dksX0_isInChain_0 0 rfl rfl)
theorem dX0_isInChain_1 : decode cX0_isInChain 1 = .ok (.astore_n 2, 1) := dk_77 (dk_at dksX0_isInChain_0 1 rfl rfl)
theorem dX0_isInChain_2 : decode cX0_isInChain 2 = .ok (.aload_n 2, 1) := dk_44 (dk_at dksX0_isInChain_0 2 rfl rfl)
theorem dX0_isInChain_3 : decode cX0_isInChain 3 = .ok (.ifnull 16, 3) := dk_198 0 16 (dk_at dksX0_isInChain_0 3 rfl rfl)
theorem dX0_isInChain_6 : decode cX0_isInChain 6 = .ok (.aload_n 2, 1) := dk_44 (dk_at dksX0_isInChain_0 6 rfl rfl)
theorem dX0_isInChain_7 : decode cX0_isInChain 7 = .ok (.aload_n 0, 1) := dk_42 (dk_at dksX0_isInChain_0 7 rfl rfl)
theorem dX0_isInChain_8 : decode cX0_isInChain 8 = .ok (.if_acmp .eq 11, 3) := dk_165 0 11 (dk_at dksX0_isInChain_0 8 rfl rfl)
theorem dX0_isInChain_11 : decode cX0_isInChain 11 = .ok (.aload_n 2, 1) := dk_44 (dk_at dksX0_isInChain_0 11 rfl rfl)
theorem dX0_isInChain_12 : decode cX0_isInChain 12 = .ok (.getfield 99, 3) := dk_180 0 99 (dk_at dksX0_isInChain_0 12 rfl rfl)
theorem dX0_isInChain_15 : decode cX0_isInChain 15 = .ok (.astore_n 2, 1) := dk_77 (dk_at dksX0_isInChain_0 15 rfl rfl)
theorem dX0_isInChain_16 : decode cX0_isInChain 16 = .ok (.goto (-14), 3) := dk_167 255 242 (dk_at dksX0_isInChain_0 16 rfl rfl)
theorem dX0_isInChain_19 : decode cX0_isInChain 19 = .ok (.aload_n 2, 1) := dk_44 (dk_at dksX0_isInChain_0 19 rfl rfl)
theorem dX0_isInChain_20 : decode cX0_isInChain 20 = .ok (.aload_n 0, 1) := dk_42 (dk_at dksX0_isInChain_0 20 rfl rfl)
theorem dX0_isInChain_21 : decode cX0_isInChain 21 = .ok (.if_acmp .ne 7, 3) := dk_166 0 7 (dk_at dksX0_isInChain_0 21 rfl rfl)
theorem dX0_isInChain_24 : decode cX0_isInChain 24 = .ok (.iconst 1, 1) := dk_4 (dk_at dksX0_isInChain_1 0 rfl rfl)
theorem dX0_isInChain_25 : decode cX0_isInChain 25 = .ok (.goto 4, 3) := dk_167 0 4 (dk_at dksX0_isInChain_1 1 rfl rfl)
theorem dX0_isInChain_28 : decode cX0_isInChain 28 = .ok (.iconst 0, 1) := dk_3 (dk_at dksX0_isInChain_1 4 rfl rfl)
theorem dX0_isInChain_29 : decode cX0_isInChain 29 = .ok (.ireturn, 1) := dk_172 (dk_at dksX0_isInChain_1 5 rfl rfl)
abbrev cX0_rangeOf : ByteArray := prog_1_method_62_code
def yX0_rangeOf : MethodName := ⟨RX0, "rangeOf", "(LDeadListPool$Snapshot;LDeadListPool$Snapshot;)J"⟩
def dkwX0_rangeOf_2 : List UInt8 := [43, 182, 0, 212, 4, 160, 0, 12, 42, 43, 44, 182, 1, 63, 167, 0, 9, 42, 43, 44, 182, 1, 67, 173]
abbrev dktX0_rangeOf_2 : List UInt8 := dkwX0_rangeOf_2 ++ []
def dkwX0_rangeOf_1 : List UInt8 := [160, 0, 7, 4, 167, 0, 4, 3, 62, 25, 4, 180, 0, 99, 58, 4, 167, 255, 223, 29, 153, 0, 21, 42]
abbrev dktX0_rangeOf_1 : List UInt8 := dkwX0_rangeOf_1 ++ dktX0_rangeOf_2
def dkwX0_rangeOf_0 : List UInt8 := [4, 62, 44, 58, 4, 25, 4, 43, 165, 0, 33, 29, 153, 0, 17, 42, 25, 4, 182, 0, 212, 4]
abbrev dktX0_rangeOf_0 : List UInt8 := dkwX0_rangeOf_0 ++ dktX0_rangeOf_1
theorem dksX0_rangeOf_0 : cX0_rangeOf.data.toList.drop 0 = dktX0_rangeOf_0 := by decide +kernel
theorem dksX0_rangeOf_1 : cX0_rangeOf.data.toList.drop 22 = dktX0_rangeOf_1 := dk_seg dksX0_rangeOf_0 22 rfl rfl
theorem dksX0_rangeOf_2 : cX0_rangeOf.data.toList.drop 46 = dktX0_rangeOf_2 := dk_seg dksX0_rangeOf_1 24 rfl rfl
theorem dX0_rangeOf_0 : decode cX0_rangeOf 0 = .ok (.iconst 1, 1) := dk_4 (dk_at dksX0_rangeOf_0 0 rfl rfl)
theorem dX0_rangeOf_1 : decode cX0_rangeOf 1 = .ok (.istore_n 3, 1) := dk_62 (dk_at dksX0_rangeOf_0 1 rfl rfl)
theorem dX0_rangeOf_2 : decode cX0_rangeOf 2 = .ok (.aload_n 2, 1) := dk_44 (dk_at dksX0_rangeOf_0 2 rfl rfl)
theorem dX0_rangeOf_3 : decode cX0_rangeOf 3 = .ok (.astore 4, 2) := dk_58 4 (dk_at dksX0_rangeOf_0 3 rfl rfl)
theorem dX0_rangeOf_5 : decode cX0_rangeOf 5 = .ok (.aload 4, 2) := dk_25 4 (dk_at dksX0_rangeOf_0 5 rfl rfl)
theorem dX0_rangeOf_7 : decode cX0_rangeOf 7 = .ok (.aload_n 1, 1) := dk_43 (dk_at dksX0_rangeOf_0 7 rfl rfl)
theorem dX0_rangeOf_8 : decode cX0_rangeOf 8 = .ok (.if_acmp .eq 33, 3) := dk_165 0 33 (dk_at dksX0_rangeOf_0 8 rfl rfl)
theorem dX0_rangeOf_11 : decode cX0_rangeOf 11 = .ok (.iload_n 3, 1) := dk_29 (dk_at dksX0_rangeOf_0 11 rfl rfl)
theorem dX0_rangeOf_12 : decode cX0_rangeOf 12 = .ok (.ifCond .eq 17, 3) := dk_153 0 17 (dk_at dksX0_rangeOf_0 12 rfl rfl)
theorem dX0_rangeOf_15 : decode cX0_rangeOf 15 = .ok (.aload_n 0, 1) := dk_42 (dk_at dksX0_rangeOf_0 15 rfl rfl)
theorem dX0_rangeOf_16 : decode cX0_rangeOf 16 = .ok (.aload 4, 2) := dk_25 4 (dk_at dksX0_rangeOf_0 16 rfl rfl)
theorem dX0_rangeOf_18 : decode cX0_rangeOf 18 = .ok (.invokevirtual 212, 3) := dk_182 0 212 (dk_at dksX0_rangeOf_0 18 rfl rfl)
theorem dX0_rangeOf_21 : decode cX0_rangeOf 21 = .ok (.iconst 1, 1) := dk_4 (dk_at dksX0_rangeOf_0 21 rfl rfl)
theorem dX0_rangeOf_22 : decode cX0_rangeOf 22 = .ok (.if_icmp .ne 7, 3) := dk_160 0 7 (dk_at dksX0_rangeOf_1 0 rfl rfl)
theorem dX0_rangeOf_25 : decode cX0_rangeOf 25 = .ok (.iconst 1, 1) := dk_4 (dk_at dksX0_rangeOf_1 3 rfl rfl)
theorem dX0_rangeOf_26 : decode cX0_rangeOf 26 = .ok (.goto 4, 3) := dk_167 0 4 (dk_at dksX0_rangeOf_1 4 rfl rfl)
theorem dX0_rangeOf_29 : decode cX0_rangeOf 29 = .ok (.iconst 0, 1) := dk_3 (dk_at dksX0_rangeOf_1 7 rfl rfl)
theorem dX0_rangeOf_30 : decode cX0_rangeOf 30 = .ok (.istore_n 3, 1) := dk_62 (dk_at dksX0_rangeOf_1 8 rfl rfl)
theorem dX0_rangeOf_31 : decode cX0_rangeOf 31 = .ok (.aload 4, 2) := dk_25 4 (dk_at dksX0_rangeOf_1 9 rfl rfl)
theorem dX0_rangeOf_33 : decode cX0_rangeOf 33 = .ok (.getfield 99, 3) := dk_180 0 99 (dk_at dksX0_rangeOf_1 11 rfl rfl)
theorem dX0_rangeOf_36 : decode cX0_rangeOf 36 = .ok (.astore 4, 2) := dk_58 4 (dk_at dksX0_rangeOf_1 14 rfl rfl)
theorem dX0_rangeOf_38 : decode cX0_rangeOf 38 = .ok (.goto (-33), 3) := dk_167 255 223 (dk_at dksX0_rangeOf_1 16 rfl rfl)
theorem dX0_rangeOf_41 : decode cX0_rangeOf 41 = .ok (.iload_n 3, 1) := dk_29 (dk_at dksX0_rangeOf_1 19 rfl rfl)
theorem dX0_rangeOf_42 : decode cX0_rangeOf 42 = .ok (.ifCond .eq 21, 3) := dk_153 0 21 (dk_at dksX0_rangeOf_1 20 rfl rfl)
theorem dX0_rangeOf_45 : decode cX0_rangeOf 45 = .ok (.aload_n 0, 1) := dk_42 (dk_at dksX0_rangeOf_1 23 rfl rfl)
theorem dX0_rangeOf_46 : decode cX0_rangeOf 46 = .ok (.aload_n 1, 1) := dk_43 (dk_at dksX0_rangeOf_2 0 rfl rfl)
theorem dX0_rangeOf_47 : decode cX0_rangeOf 47 = .ok (.invokevirtual 212, 3) := dk_182 0 212 (dk_at dksX0_rangeOf_2 1 rfl rfl)
theorem dX0_rangeOf_50 : decode cX0_rangeOf 50 = .ok (.iconst 1, 1) := dk_4 (dk_at dksX0_rangeOf_2 4 rfl rfl)
theorem dX0_rangeOf_51 : decode cX0_rangeOf 51 = .ok (.if_icmp .ne 12, 3) := dk_160 0 12 (dk_at dksX0_rangeOf_2 5 rfl rfl)
theorem dX0_rangeOf_54 : decode cX0_rangeOf 54 = .ok (.aload_n 0, 1) := dk_42 (dk_at dksX0_rangeOf_2 8 rfl rfl)
theorem dX0_rangeOf_55 : decode cX0_rangeOf 55 = .ok (.aload_n 1, 1) := dk_43 (dk_at dksX0_rangeOf_2 9 rfl rfl)
theorem dX0_rangeOf_56 : decode cX0_rangeOf 56 = .ok (.aload_n 2, 1) := dk_44 (dk_at dksX0_rangeOf_2 10 rfl rfl)
theorem dX0_rangeOf_57 : decode cX0_rangeOf 57 = .ok (.invokevirtual 319, 3) := dk_182 1 63 (dk_at dksX0_rangeOf_2 11 rfl rfl)
theorem dX0_rangeOf_60 : decode cX0_rangeOf 60 = .ok (.goto 9, 3) := dk_167 0 9 (dk_at dksX0_rangeOf_2 14 rfl rfl)
theorem dX0_rangeOf_63 : decode cX0_rangeOf 63 = .ok (.aload_n 0, 1) := dk_42 (dk_at dksX0_rangeOf_2 17 rfl rfl)
theorem dX0_rangeOf_64 : decode cX0_rangeOf 64 = .ok (.aload_n 1, 1) := dk_43 (dk_at dksX0_rangeOf_2 18 rfl rfl)
theorem dX0_rangeOf_65 : decode cX0_rangeOf 65 = .ok (.aload_n 2, 1) := dk_44 (dk_at dksX0_rangeOf_2 19 rfl rfl)
theorem dX0_rangeOf_66 : decode cX0_rangeOf 66 = .ok (.invokevirtual 323, 3) := dk_182 1 67 (dk_at dksX0_rangeOf_2 20 rfl rfl)
theorem dX0_rangeOf_69 : decode cX0_rangeOf 69 = .ok (.lreturn, 1) := dk_173 (dk_at dksX0_rangeOf_2 23 rfl rfl)
abbrev cX0_rangeByLists : ByteArray := prog_1_method_61_code
def yX0_rangeByLists : MethodName := ⟨RX0, "rangeByLists", "(LDeadListPool$Snapshot;LDeadListPool$Snapshot;)J"⟩
def dkwX0_rangeByLists_1 : List UInt8 := [66, 25, 5, 43, 166, 0, 5, 33, 173, 25, 5, 180, 0, 99, 58, 5, 167, 255, 221]
abbrev dktX0_rangeByLists_1 : List UInt8 := dkwX0_rangeByLists_1 ++ []
def dkwX0_rangeByLists_0 : List UInt8 := [9, 66, 44, 58, 5, 33, 42, 42, 25, 5, 182, 0, 215, 43, 182, 0, 219, 19, 1, 62, 182, 1, 46, 97]
abbrev dktX0_rangeByLists_0 : List UInt8 := dkwX0_rangeByLists_0 ++ dktX0_rangeByLists_1
theorem dksX0_rangeByLists_0 : cX0_rangeByLists.data.toList.drop 0 = dktX0_rangeByLists_0 := by decide +kernel
theorem dksX0_rangeByLists_1 : cX0_rangeByLists.data.toList.drop 24 = dktX0_rangeByLists_1 := dk_seg dksX0_rangeByLists_0 24 rfl rfl
theorem dX0_rangeByLists_0 : decode cX0_rangeByLists 0 = .ok (.lconst 0, 1) := dk_9 (dk_at dksX0_rangeByLists_0 0 rfl rfl)
theorem dX0_rangeByLists_1 : decode cX0_rangeByLists 1 = .ok (.lstore_n 3, 1) := dk_66 (dk_at dksX0_rangeByLists_0 1 rfl rfl)
theorem dX0_rangeByLists_2 : decode cX0_rangeByLists 2 = .ok (.aload_n 2, 1) := dk_44 (dk_at dksX0_rangeByLists_0 2 rfl rfl)
theorem dX0_rangeByLists_3 : decode cX0_rangeByLists 3 = .ok (.astore 5, 2) := dk_58 5 (dk_at dksX0_rangeByLists_0 3 rfl rfl)
theorem dX0_rangeByLists_5 : decode cX0_rangeByLists 5 = .ok (.lload_n 3, 1) := dk_33 (dk_at dksX0_rangeByLists_0 5 rfl rfl)
theorem dX0_rangeByLists_6 : decode cX0_rangeByLists 6 = .ok (.aload_n 0, 1) := dk_42 (dk_at dksX0_rangeByLists_0 6 rfl rfl)
theorem dX0_rangeByLists_7 : decode cX0_rangeByLists 7 = .ok (.aload_n 0, 1) := dk_42 (dk_at dksX0_rangeByLists_0 7 rfl rfl)
theorem dX0_rangeByLists_8 : decode cX0_rangeByLists 8 = .ok (.aload 5, 2) := dk_25 5 (dk_at dksX0_rangeByLists_0 8 rfl rfl)
theorem dX0_rangeByLists_10 : decode cX0_rangeByLists 10 = .ok (.invokevirtual 215, 3) := dk_182 0 215 (dk_at dksX0_rangeByLists_0 10 rfl rfl)
theorem dX0_rangeByLists_13 : decode cX0_rangeByLists 13 = .ok (.aload_n 1, 1) := dk_43 (dk_at dksX0_rangeByLists_0 13 rfl rfl)
theorem dX0_rangeByLists_14 : decode cX0_rangeByLists 14 = .ok (.invokevirtual 219, 3) := dk_182 0 219 (dk_at dksX0_rangeByLists_0 14 rfl rfl)
theorem dX0_rangeByLists_17 : decode cX0_rangeByLists 17 = .ok (.ldc_w 318, 3) := dk_19 1 62 (dk_at dksX0_rangeByLists_0 17 rfl rfl)
theorem dX0_rangeByLists_20 : decode cX0_rangeByLists 20 = .ok (.invokevirtual 302, 3) := dk_182 1 46 (dk_at dksX0_rangeByLists_0 20 rfl rfl)
theorem dX0_rangeByLists_23 : decode cX0_rangeByLists 23 = .ok (.ladd, 1) := dk_97 (dk_at dksX0_rangeByLists_0 23 rfl rfl)
theorem dX0_rangeByLists_24 : decode cX0_rangeByLists 24 = .ok (.lstore_n 3, 1) := dk_66 (dk_at dksX0_rangeByLists_1 0 rfl rfl)
theorem dX0_rangeByLists_25 : decode cX0_rangeByLists 25 = .ok (.aload 5, 2) := dk_25 5 (dk_at dksX0_rangeByLists_1 1 rfl rfl)
theorem dX0_rangeByLists_27 : decode cX0_rangeByLists 27 = .ok (.aload_n 1, 1) := dk_43 (dk_at dksX0_rangeByLists_1 3 rfl rfl)
theorem dX0_rangeByLists_28 : decode cX0_rangeByLists 28 = .ok (.if_acmp .ne 5, 3) := dk_166 0 5 (dk_at dksX0_rangeByLists_1 4 rfl rfl)
theorem dX0_rangeByLists_31 : decode cX0_rangeByLists 31 = .ok (.lload_n 3, 1) := dk_33 (dk_at dksX0_rangeByLists_1 7 rfl rfl)
theorem dX0_rangeByLists_32 : decode cX0_rangeByLists 32 = .ok (.lreturn, 1) := dk_173 (dk_at dksX0_rangeByLists_1 8 rfl rfl)
theorem dX0_rangeByLists_33 : decode cX0_rangeByLists 33 = .ok (.aload 5, 2) := dk_25 5 (dk_at dksX0_rangeByLists_1 9 rfl rfl)
theorem dX0_rangeByLists_35 : decode cX0_rangeByLists 35 = .ok (.getfield 99, 3) := dk_180 0 99 (dk_at dksX0_rangeByLists_1 11 rfl rfl)
theorem dX0_rangeByLists_38 : decode cX0_rangeByLists 38 = .ok (.astore 5, 2) := dk_58 5 (dk_at dksX0_rangeByLists_1 14 rfl rfl)
theorem dX0_rangeByLists_40 : decode cX0_rangeByLists 40 = .ok (.goto (-35), 3) := dk_167 255 221 (dk_at dksX0_rangeByLists_1 16 rfl rfl)
abbrev cX0_rangeByBlocks : ByteArray := prog_1_method_60_code
def yX0_rangeByBlocks : MethodName := ⟨RX0, "rangeByBlocks", "(LDeadListPool$Snapshot;LDeadListPool$Snapshot;)J"⟩
def dkwX0_rangeByBlocks_4 : List UInt8 := [25, 6, 43, 166, 0, 5, 33, 173, 25, 6, 58, 5, 25, 6, 180, 0, 99, 58, 6, 167, 255, 152]
abbrev dktX0_rangeByBlocks_4 : List UInt8 := dkwX0_rangeByBlocks_4 ++ []
def dkwX0_rangeByBlocks_3 : List UInt8 := [154, 0, 14, 42, 180, 0, 9, 21, 8, 46, 133, 167, 0, 4, 9, 97, 66, 132, 7, 1, 167, 255, 177]
abbrev dktX0_rangeByBlocks_3 : List UInt8 := dkwX0_rangeByBlocks_3 ++ dktX0_rangeByBlocks_4
def dkwX0_rangeByBlocks_2 : List UInt8 := [154, 0, 7, 4, 167, 0, 4, 3, 54, 9, 33, 21, 9, 153, 0, 25, 42, 43, 44, 21, 8, 182, 1, 56]
abbrev dktX0_rangeByBlocks_2 : List UInt8 := dkwX0_rangeByBlocks_2 ++ dktX0_rangeByBlocks_3
def dkwX0_rangeByBlocks_1 : List UInt8 := [21, 7, 46, 54, 8, 21, 8, 2, 159, 0, 22, 25, 5, 198, 0, 13, 25, 5, 21, 8, 182, 1, 55]
abbrev dktX0_rangeByBlocks_1 : List UInt8 := dkwX0_rangeByBlocks_1 ++ dktX0_rangeByBlocks_2
def dkwX0_rangeByBlocks_0 : List UInt8 := [9, 66, 1, 58, 5, 44, 58, 6, 3, 54, 7, 21, 7, 16, 12, 162, 0, 78, 25, 6, 180, 1, 54]
abbrev dktX0_rangeByBlocks_0 : List UInt8 := dkwX0_rangeByBlocks_0 ++ dktX0_rangeByBlocks_1
theorem dksX0_rangeByBlocks_0 : cX0_rangeByBlocks.data.toList.drop 0 = dktX0_rangeByBlocks_0 := by decide +kernel
theorem dksX0_rangeByBlocks_1 : cX0_rangeByBlocks.data.toList.drop 23 = dktX0_rangeByBlocks_1 := dk_seg dksX0_rangeByBlocks_0 23 rfl rfl
theorem dksX0_rangeByBlocks_2 : cX0_rangeByBlocks.data.toList.drop 46 = dktX0_rangeByBlocks_2 := dk_seg dksX0_rangeByBlocks_1 23 rfl rfl
theorem dksX0_rangeByBlocks_3 : cX0_rangeByBlocks.data.toList.drop 70 = dktX0_rangeByBlocks_3 := dk_seg dksX0_rangeByBlocks_2 24 rfl rfl
theorem dksX0_rangeByBlocks_4 : cX0_rangeByBlocks.data.toList.drop 93 = dktX0_rangeByBlocks_4 := dk_seg dksX0_rangeByBlocks_3 23 rfl rfl
theorem dX0_rangeByBlocks_0 : decode cX0_rangeByBlocks 0 = .ok (.lconst 0, 1) := dk_9 (dk_at dksX0_rangeByBlocks_0 0 rfl rfl)
theorem dX0_rangeByBlocks_1 : decode cX0_rangeByBlocks 1 = .ok (.lstore_n 3, 1) := dk_66 (dk_at dksX0_rangeByBlocks_0 1 rfl rfl)
theorem dX0_rangeByBlocks_2 : decode cX0_rangeByBlocks 2 = .ok (.aconst_null, 1) := dk_1 (dk_at dksX0_rangeByBlocks_0 2 rfl rfl)
theorem dX0_rangeByBlocks_3 : decode cX0_rangeByBlocks 3 = .ok (.astore 5, 2) := dk_58 5 (dk_at dksX0_rangeByBlocks_0 3 rfl rfl)
theorem dX0_rangeByBlocks_5 : decode cX0_rangeByBlocks 5 = .ok (.aload_n 2, 1) := dk_44 (dk_at dksX0_rangeByBlocks_0 5 rfl rfl)
theorem dX0_rangeByBlocks_6 : decode cX0_rangeByBlocks 6 = .ok (.astore 6, 2) := dk_58 6 (dk_at dksX0_rangeByBlocks_0 6 rfl rfl)
theorem dX0_rangeByBlocks_8 : decode cX0_rangeByBlocks 8 = .ok (.iconst 0, 1) := dk_3 (dk_at dksX0_rangeByBlocks_0 8 rfl rfl)
theorem dX0_rangeByBlocks_9 : decode cX0_rangeByBlocks 9 = .ok (.istore 7, 2) := dk_54 7 (dk_at dksX0_rangeByBlocks_0 9 rfl rfl)
theorem dX0_rangeByBlocks_11 : decode cX0_rangeByBlocks 11 = .ok (.iload 7, 2) := dk_21 7 (dk_at dksX0_rangeByBlocks_0 11 rfl rfl)
theorem dX0_rangeByBlocks_13 : decode cX0_rangeByBlocks 13 = .ok (.bipush 12, 2) := dk_16 12 (dk_at dksX0_rangeByBlocks_0 13 rfl rfl)
theorem dX0_rangeByBlocks_15 : decode cX0_rangeByBlocks 15 = .ok (.if_icmp .ge 78, 3) := dk_162 0 78 (dk_at dksX0_rangeByBlocks_0 15 rfl rfl)
theorem dX0_rangeByBlocks_18 : decode cX0_rangeByBlocks 18 = .ok (.aload 6, 2) := dk_25 6 (dk_at dksX0_rangeByBlocks_0 18 rfl rfl)
theorem dX0_rangeByBlocks_20 : decode cX0_rangeByBlocks 20 = .ok (.getfield 310, 3) := dk_180 1 54 (dk_at dksX0_rangeByBlocks_0 20 rfl rfl)
theorem dX0_rangeByBlocks_23 : decode cX0_rangeByBlocks 23 = .ok (.iload 7, 2) := dk_21 7 (dk_at dksX0_rangeByBlocks_1 0 rfl rfl)
theorem dX0_rangeByBlocks_25 : decode cX0_rangeByBlocks 25 = .ok (.iaload, 1) := dk_46 (dk_at dksX0_rangeByBlocks_1 2 rfl rfl)
theorem dX0_rangeByBlocks_26 : decode cX0_rangeByBlocks 26 = .ok (.istore 8, 2) := dk_54 8 (dk_at dksX0_rangeByBlocks_1 3 rfl rfl)
theorem dX0_rangeByBlocks_28 : decode cX0_rangeByBlocks 28 = .ok (.iload 8, 2) := dk_21 8 (dk_at dksX0_rangeByBlocks_1 5 rfl rfl)
theorem dX0_rangeByBlocks_30 : decode cX0_rangeByBlocks 30 = .ok (.iconst (-1), 1) := dk_2 (dk_at dksX0_rangeByBlocks_1 7 rfl rfl)
theorem dX0_rangeByBlocks_31 : decode cX0_rangeByBlocks 31 = .ok (.if_icmp .eq 22, 3) := dk_159 0 22 (dk_at dksX0_rangeByBlocks_1 8 rfl rfl)
theorem dX0_rangeByBlocks_34 : decode cX0_rangeByBlocks 34 = .ok (.aload 5, 2) := dk_25 5 (dk_at dksX0_rangeByBlocks_1 11 rfl rfl)
theorem dX0_rangeByBlocks_36 : decode cX0_rangeByBlocks 36 = .ok (.ifnull 13, 3) := dk_198 0 13 (dk_at dksX0_rangeByBlocks_1 13 rfl rfl)
theorem dX0_rangeByBlocks_39 : decode cX0_rangeByBlocks 39 = .ok (.aload 5, 2) := dk_25 5 (dk_at dksX0_rangeByBlocks_1 16 rfl rfl)
theorem dX0_rangeByBlocks_41 : decode cX0_rangeByBlocks 41 = .ok (.iload 8, 2) := dk_21 8 (dk_at dksX0_rangeByBlocks_1 18 rfl rfl)
theorem dX0_rangeByBlocks_43 : decode cX0_rangeByBlocks 43 = .ok (.invokevirtual 311, 3) := dk_182 1 55 (dk_at dksX0_rangeByBlocks_1 20 rfl rfl)
theorem dX0_rangeByBlocks_46 : decode cX0_rangeByBlocks 46 = .ok (.ifCond .ne 7, 3) := dk_154 0 7 (dk_at dksX0_rangeByBlocks_2 0 rfl rfl)
theorem dX0_rangeByBlocks_49 : decode cX0_rangeByBlocks 49 = .ok (.iconst 1, 1) := dk_4 (dk_at dksX0_rangeByBlocks_2 3 rfl rfl)
theorem dX0_rangeByBlocks_50 : decode cX0_rangeByBlocks 50 = .ok (.goto 4, 3) := dk_167 0 4 (dk_at dksX0_rangeByBlocks_2 4 rfl rfl)
theorem dX0_rangeByBlocks_53 : decode cX0_rangeByBlocks 53 = .ok (.iconst 0, 1) := dk_3 (dk_at dksX0_rangeByBlocks_2 7 rfl rfl)
theorem dX0_rangeByBlocks_54 : decode cX0_rangeByBlocks 54 = .ok (.istore 9, 2) := dk_54 9 (dk_at dksX0_rangeByBlocks_2 8 rfl rfl)
theorem dX0_rangeByBlocks_56 : decode cX0_rangeByBlocks 56 = .ok (.lload_n 3, 1) := dk_33 (dk_at dksX0_rangeByBlocks_2 10 rfl rfl)
theorem dX0_rangeByBlocks_57 : decode cX0_rangeByBlocks 57 = .ok (.iload 9, 2) := dk_21 9 (dk_at dksX0_rangeByBlocks_2 11 rfl rfl)
theorem dX0_rangeByBlocks_59 : decode cX0_rangeByBlocks 59 = .ok (.ifCond .eq 25, 3) := dk_153 0 25 (dk_at dksX0_rangeByBlocks_2 13 rfl rfl)
theorem dX0_rangeByBlocks_62 : decode cX0_rangeByBlocks 62 = .ok (.aload_n 0, 1) := dk_42 (dk_at dksX0_rangeByBlocks_2 16 rfl rfl)
theorem dX0_rangeByBlocks_63 : decode cX0_rangeByBlocks 63 = .ok (.aload_n 1, 1) := dk_43 (dk_at dksX0_rangeByBlocks_2 17 rfl rfl)
theorem dX0_rangeByBlocks_64 : decode cX0_rangeByBlocks 64 = .ok (.aload_n 2, 1) := dk_44 (dk_at dksX0_rangeByBlocks_2 18 rfl rfl)
theorem dX0_rangeByBlocks_65 : decode cX0_rangeByBlocks 65 = .ok (.iload 8, 2) := dk_21 8 (dk_at dksX0_rangeByBlocks_2 19 rfl rfl)
theorem dX0_rangeByBlocks_67 : decode cX0_rangeByBlocks 67 = .ok (.invokevirtual 312, 3) := dk_182 1 56 (dk_at dksX0_rangeByBlocks_2 21 rfl rfl)
theorem dX0_rangeByBlocks_70 : decode cX0_rangeByBlocks 70 = .ok (.ifCond .ne 14, 3) := dk_154 0 14 (dk_at dksX0_rangeByBlocks_3 0 rfl rfl)
theorem dX0_rangeByBlocks_73 : decode cX0_rangeByBlocks 73 = .ok (.aload_n 0, 1) := dk_42 (dk_at dksX0_rangeByBlocks_3 3 rfl rfl)
theorem dX0_rangeByBlocks_74 : decode cX0_rangeByBlocks 74 = .ok (.getfield 9, 3) := dk_180 0 9 (dk_at dksX0_rangeByBlocks_3 4 rfl rfl)
theorem dX0_rangeByBlocks_77 : decode cX0_rangeByBlocks 77 = .ok (.iload 8, 2) := dk_21 8 (dk_at dksX0_rangeByBlocks_3 7 rfl rfl)
theorem dX0_rangeByBlocks_79 : decode cX0_rangeByBlocks 79 = .ok (.iaload, 1) := dk_46 (dk_at dksX0_rangeByBlocks_3 9 rfl rfl)
theorem dX0_rangeByBlocks_80 : decode cX0_rangeByBlocks 80 = .ok (.i2l, 1) := dk_133 (dk_at dksX0_rangeByBlocks_3 10 rfl rfl)
theorem dX0_rangeByBlocks_81 : decode cX0_rangeByBlocks 81 = .ok (.goto 4, 3) := dk_167 0 4 (dk_at dksX0_rangeByBlocks_3 11 rfl rfl)
theorem dX0_rangeByBlocks_84 : decode cX0_rangeByBlocks 84 = .ok (.lconst 0, 1) := dk_9 (dk_at dksX0_rangeByBlocks_3 14 rfl rfl)
theorem dX0_rangeByBlocks_85 : decode cX0_rangeByBlocks 85 = .ok (.ladd, 1) := dk_97 (dk_at dksX0_rangeByBlocks_3 15 rfl rfl)
theorem dX0_rangeByBlocks_86 : decode cX0_rangeByBlocks 86 = .ok (.lstore_n 3, 1) := dk_66 (dk_at dksX0_rangeByBlocks_3 16 rfl rfl)
theorem dX0_rangeByBlocks_87 : decode cX0_rangeByBlocks 87 = .ok (.iinc 7 1, 3) := dk_132 7 1 (dk_at dksX0_rangeByBlocks_3 17 rfl rfl)
theorem dX0_rangeByBlocks_90 : decode cX0_rangeByBlocks 90 = .ok (.goto (-79), 3) := dk_167 255 177 (dk_at dksX0_rangeByBlocks_3 20 rfl rfl)
theorem dX0_rangeByBlocks_93 : decode cX0_rangeByBlocks 93 = .ok (.aload 6, 2) := dk_25 6 (dk_at dksX0_rangeByBlocks_4 0 rfl rfl)
theorem dX0_rangeByBlocks_95 : decode cX0_rangeByBlocks 95 = .ok (.aload_n 1, 1) := dk_43 (dk_at dksX0_rangeByBlocks_4 2 rfl rfl)
theorem dX0_rangeByBlocks_96 : decode cX0_rangeByBlocks 96 = .ok (.if_acmp .ne 5, 3) := dk_166 0 5 (dk_at dksX0_rangeByBlocks_4 3 rfl rfl)
theorem dX0_rangeByBlocks_99 : decode cX0_rangeByBlocks 99 = .ok (.lload_n 3, 1) := dk_33 (dk_at dksX0_rangeByBlocks_4 6 rfl rfl)
theorem dX0_rangeByBlocks_100 : decode cX0_rangeByBlocks 100 = .ok (.lreturn, 1) := dk_173 (dk_at dksX0_rangeByBlocks_4 7 rfl rfl)
theorem dX0_rangeByBlocks_101 : decode cX0_rangeByBlocks 101 = .ok (.aload 6, 2) := dk_25 6 (dk_at dksX0_rangeByBlocks_4 8 rfl rfl)
theorem dX0_rangeByBlocks_103 : decode cX0_rangeByBlocks 103 = .ok (.astore 5, 2) := dk_58 5 (dk_at dksX0_rangeByBlocks_4 10 rfl rfl)
theorem dX0_rangeByBlocks_105 : decode cX0_rangeByBlocks 105 = .ok (.aload 6, 2) := dk_25 6 (dk_at dksX0_rangeByBlocks_4 12 rfl rfl)
theorem dX0_rangeByBlocks_107 : decode cX0_rangeByBlocks 107 = .ok (.getfield 99, 3) := dk_180 0 99 (dk_at dksX0_rangeByBlocks_4 14 rfl rfl)
theorem dX0_rangeByBlocks_110 : decode cX0_rangeByBlocks 110 = .ok (.astore 6, 2) := dk_58 6 (dk_at dksX0_rangeByBlocks_4 17 rfl rfl)
theorem dX0_rangeByBlocks_112 : decode cX0_rangeByBlocks 112 = .ok (.goto (-104), 3) := dk_167 255 152 (dk_at dksX0_rangeByBlocks_4 19 rfl rfl)
abbrev cX0_isHeldOutside : ByteArray := prog_1_method_59_code
def yX0_isHeldOutside : MethodName := ⟨RX0, "isHeldOutside", "(LDeadListPool$Snapshot;LDeadListPool$Snapshot;I)Z"⟩
def dkwX0_isHeldOutside_2 : List UInt8 := [132, 4, 1, 167, 255, 211, 3, 172]
abbrev dktX0_isHeldOutside_2 : List UInt8 := dkwX0_isHeldOutside_2 ++ []
def dkwX0_isHeldOutside_1 : List UInt8 := [25, 5, 29, 182, 1, 21, 153, 0, 16, 42, 43, 44, 25, 5, 182, 1, 50, 154, 0, 5, 4, 172]
abbrev dktX0_isHeldOutside_1 : List UInt8 := dkwX0_isHeldOutside_1 ++ dktX0_isHeldOutside_2
def dkwX0_isHeldOutside_0 : List UInt8 := [3, 54, 4, 21, 4, 16, 20, 162, 0, 44, 42, 21, 4, 182, 0, 84, 58, 5, 25, 5, 198, 0, 25]
abbrev dktX0_isHeldOutside_0 : List UInt8 := dkwX0_isHeldOutside_0 ++ dktX0_isHeldOutside_1
theorem dksX0_isHeldOutside_0 : cX0_isHeldOutside.data.toList.drop 0 = dktX0_isHeldOutside_0 := by decide +kernel
theorem dksX0_isHeldOutside_1 : cX0_isHeldOutside.data.toList.drop 23 = dktX0_isHeldOutside_1 := dk_seg dksX0_isHeldOutside_0 23 rfl rfl
theorem dksX0_isHeldOutside_2 : cX0_isHeldOutside.data.toList.drop 45 = dktX0_isHeldOutside_2 := dk_seg dksX0_isHeldOutside_1 22 rfl rfl
theorem dX0_isHeldOutside_0 : decode cX0_isHeldOutside 0 = .ok (.iconst 0, 1) := dk_3 (dk_at dksX0_isHeldOutside_0 0 rfl rfl)
theorem dX0_isHeldOutside_1 : decode cX0_isHeldOutside 1 = .ok (.istore 4, 2) := dk_54 4 (dk_at dksX0_isHeldOutside_0 1 rfl rfl)
theorem dX0_isHeldOutside_3 : decode cX0_isHeldOutside 3 = .ok (.iload 4, 2) := dk_21 4 (dk_at dksX0_isHeldOutside_0 3 rfl rfl)
theorem dX0_isHeldOutside_5 : decode cX0_isHeldOutside 5 = .ok (.bipush 20, 2) := dk_16 20 (dk_at dksX0_isHeldOutside_0 5 rfl rfl)
theorem dX0_isHeldOutside_7 : decode cX0_isHeldOutside 7 = .ok (.if_icmp .ge 44, 3) := dk_162 0 44 (dk_at dksX0_isHeldOutside_0 7 rfl rfl)
theorem dX0_isHeldOutside_10 : decode cX0_isHeldOutside 10 = .ok (.aload_n 0, 1) := dk_42 (dk_at dksX0_isHeldOutside_0 10 rfl rfl)
theorem dX0_isHeldOutside_11 : decode cX0_isHeldOutside 11 = .ok (.iload 4, 2) := dk_21 4 (dk_at dksX0_isHeldOutside_0 11 rfl rfl)
theorem dX0_isHeldOutside_13 : decode cX0_isHeldOutside 13 = .ok (.invokevirtual 84, 3) := dk_182 0 84 (dk_at dksX0_isHeldOutside_0 13 rfl rfl)
theorem dX0_isHeldOutside_16 : decode cX0_isHeldOutside 16 = .ok (.astore 5, 2) := dk_58 5 (dk_at dksX0_isHeldOutside_0 16 rfl rfl)
theorem dX0_isHeldOutside_18 : decode cX0_isHeldOutside 18 = .ok (.aload 5, 2) := dk_25 5 (dk_at dksX0_isHeldOutside_0 18 rfl rfl)
theorem dX0_isHeldOutside_20 : decode cX0_isHeldOutside 20 = .ok (.ifnull 25, 3) := dk_198 0 25 (dk_at dksX0_isHeldOutside_0 20 rfl rfl)
theorem dX0_isHeldOutside_23 : decode cX0_isHeldOutside 23 = .ok (.aload 5, 2) := dk_25 5 (dk_at dksX0_isHeldOutside_1 0 rfl rfl)
theorem dX0_isHeldOutside_25 : decode cX0_isHeldOutside 25 = .ok (.iload_n 3, 1) := dk_29 (dk_at dksX0_isHeldOutside_1 2 rfl rfl)
theorem dX0_isHeldOutside_26 : decode cX0_isHeldOutside 26 = .ok (.invokevirtual 277, 3) := dk_182 1 21 (dk_at dksX0_isHeldOutside_1 3 rfl rfl)
theorem dX0_isHeldOutside_29 : decode cX0_isHeldOutside 29 = .ok (.ifCond .eq 16, 3) := dk_153 0 16 (dk_at dksX0_isHeldOutside_1 6 rfl rfl)
theorem dX0_isHeldOutside_32 : decode cX0_isHeldOutside 32 = .ok (.aload_n 0, 1) := dk_42 (dk_at dksX0_isHeldOutside_1 9 rfl rfl)
theorem dX0_isHeldOutside_33 : decode cX0_isHeldOutside 33 = .ok (.aload_n 1, 1) := dk_43 (dk_at dksX0_isHeldOutside_1 10 rfl rfl)
theorem dX0_isHeldOutside_34 : decode cX0_isHeldOutside 34 = .ok (.aload_n 2, 1) := dk_44 (dk_at dksX0_isHeldOutside_1 11 rfl rfl)
theorem dX0_isHeldOutside_35 : decode cX0_isHeldOutside 35 = .ok (.aload 5, 2) := dk_25 5 (dk_at dksX0_isHeldOutside_1 12 rfl rfl)
theorem dX0_isHeldOutside_37 : decode cX0_isHeldOutside 37 = .ok (.invokevirtual 306, 3) := dk_182 1 50 (dk_at dksX0_isHeldOutside_1 14 rfl rfl)
theorem dX0_isHeldOutside_40 : decode cX0_isHeldOutside 40 = .ok (.ifCond .ne 5, 3) := dk_154 0 5 (dk_at dksX0_isHeldOutside_1 17 rfl rfl)
theorem dX0_isHeldOutside_43 : decode cX0_isHeldOutside 43 = .ok (.iconst 1, 1) := dk_4 (dk_at dksX0_isHeldOutside_1 20 rfl rfl)
theorem dX0_isHeldOutside_44 : decode cX0_isHeldOutside 44 = .ok (.ireturn, 1) := dk_172 (dk_at dksX0_isHeldOutside_1 21 rfl rfl)
theorem dX0_isHeldOutside_45 : decode cX0_isHeldOutside 45 = .ok (.iinc 4 1, 3) := dk_132 4 1 (dk_at dksX0_isHeldOutside_2 0 rfl rfl)
theorem dX0_isHeldOutside_48 : decode cX0_isHeldOutside 48 = .ok (.goto (-45), 3) := dk_167 255 211 (dk_at dksX0_isHeldOutside_2 3 rfl rfl)
theorem dX0_isHeldOutside_51 : decode cX0_isHeldOutside 51 = .ok (.iconst 0, 1) := dk_3 (dk_at dksX0_isHeldOutside_2 6 rfl rfl)
theorem dX0_isHeldOutside_52 : decode cX0_isHeldOutside 52 = .ok (.ireturn, 1) := dk_172 (dk_at dksX0_isHeldOutside_2 7 rfl rfl)
abbrev cX0_isOnWay : ByteArray := prog_1_method_58_code
def yX0_isOnWay : MethodName := ⟨RX0, "isOnWay", "(LDeadListPool$Snapshot;LDeadListPool$Snapshot;LDeadListPool$Holder;)Z"⟩
def dkwX0_isOnWay_1 : List UInt8 := [167, 255, 237, 25, 4, 45, 166, 0, 7, 4, 167, 0, 4, 3, 172]
abbrev dktX0_isOnWay_1 : List UInt8 := dkwX0_isOnWay_1 ++ []
def dkwX0_isOnWay_0 : List UInt8 := [44, 58, 4, 25, 4, 43, 165, 0, 19, 25, 4, 45, 165, 0, 13, 25, 4, 180, 0, 99, 58, 4]
abbrev dktX0_isOnWay_0 : List UInt8 := dkwX0_isOnWay_0 ++ dktX0_isOnWay_1
theorem dksX0_isOnWay_0 : cX0_isOnWay.data.toList.drop 0 = dktX0_isOnWay_0 := by decide +kernel
theorem dksX0_isOnWay_1 : cX0_isOnWay.data.toList.drop 22 = dktX0_isOnWay_1 := dk_seg dksX0_isOnWay_0 22 rfl rfl
theorem dX0_isOnWay_0 : decode cX0_isOnWay 0 = .ok (.aload_n 2, 1) := dk_44 (dk_at dksX0_isOnWay_0 0 rfl rfl)
theorem dX0_isOnWay_1 : decode cX0_isOnWay 1 = .ok (.astore 4, 2) := dk_58 4 (dk_at dksX0_isOnWay_0 1 rfl rfl)
theorem dX0_isOnWay_3 : decode cX0_isOnWay 3 = .ok (.aload 4, 2) := dk_25 4 (dk_at dksX0_isOnWay_0 3 rfl rfl)
theorem dX0_isOnWay_5 : decode cX0_isOnWay 5 = .ok (.aload_n 1, 1) := dk_43 (dk_at dksX0_isOnWay_0 5 rfl rfl)
theorem dX0_isOnWay_6 : decode cX0_isOnWay 6 = .ok (.if_acmp .eq 19, 3) := dk_165 0 19 (dk_at dksX0_isOnWay_0 6 rfl rfl)
theorem dX0_isOnWay_9 : decode cX0_isOnWay 9 = .ok (.aload 4, 2) := dk_25 4 (dk_at dksX0_isOnWay_0 9 rfl rfl)
theorem dX0_isOnWay_11 : decode cX0_isOnWay 11 = .ok (.aload_n 3, 1) := dk_45 (dk_at dksX0_isOnWay_0 11 rfl rfl)
theorem dX0_isOnWay_12 : decode cX0_isOnWay 12 = .ok (.if_acmp .eq 13, 3) := dk_165 0 13 (dk_at dksX0_isOnWay_0 12 rfl rfl)
theorem dX0_isOnWay_15 : decode cX0_isOnWay 15 = .ok (.aload 4, 2) := dk_25 4 (dk_at dksX0_isOnWay_0 15 rfl rfl)
theorem dX0_isOnWay_17 : decode cX0_isOnWay 17 = .ok (.getfield 99, 3) := dk_180 0 99 (dk_at dksX0_isOnWay_0 17 rfl rfl)
theorem dX0_isOnWay_20 : decode cX0_isOnWay 20 = .ok (.astore 4, 2) := dk_58 4 (dk_at dksX0_isOnWay_0 20 rfl rfl)
theorem dX0_isOnWay_22 : decode cX0_isOnWay 22 = .ok (.goto (-19), 3) := dk_167 255 237 (dk_at dksX0_isOnWay_1 0 rfl rfl)
theorem dX0_isOnWay_25 : decode cX0_isOnWay 25 = .ok (.aload 4, 2) := dk_25 4 (dk_at dksX0_isOnWay_1 3 rfl rfl)
theorem dX0_isOnWay_27 : decode cX0_isOnWay 27 = .ok (.aload_n 3, 1) := dk_45 (dk_at dksX0_isOnWay_1 5 rfl rfl)
theorem dX0_isOnWay_28 : decode cX0_isOnWay 28 = .ok (.if_acmp .ne 7, 3) := dk_166 0 7 (dk_at dksX0_isOnWay_1 6 rfl rfl)
theorem dX0_isOnWay_31 : decode cX0_isOnWay 31 = .ok (.iconst 1, 1) := dk_4 (dk_at dksX0_isOnWay_1 9 rfl rfl)
theorem dX0_isOnWay_32 : decode cX0_isOnWay 32 = .ok (.goto 4, 3) := dk_167 0 4 (dk_at dksX0_isOnWay_1 10 rfl rfl)
theorem dX0_isOnWay_35 : decode cX0_isOnWay 35 = .ok (.iconst 0, 1) := dk_3 (dk_at dksX0_isOnWay_1 13 rfl rfl)
theorem dX0_isOnWay_36 : decode cX0_isOnWay 36 = .ok (.ireturn, 1) := dk_172 (dk_at dksX0_isOnWay_1 14 rfl rfl)
abbrev cX0_alone : ByteArray := prog_1_method_65_code
def yX0_alone : MethodName := ⟨RX0, "alone", "(I)J"⟩
def dkwX0_alone_1 : List UInt8 := [192, 0, 93, 182, 1, 77, 167, 0, 15, 42, 44, 192, 0, 27, 44, 192, 0, 27, 182, 1, 74, 173]
abbrev dktX0_alone_1 : List UInt8 := dkwX0_alone_1 ++ []
def dkwX0_alone_0 : List UInt8 := [42, 27, 182, 0, 84, 77, 44, 199, 0, 7, 20, 1, 44, 173, 44, 193, 0, 93, 153, 0, 14, 42, 44]
abbrev dktX0_alone_0 : List UInt8 := dkwX0_alone_0 ++ dktX0_alone_1
theorem dksX0_alone_0 : cX0_alone.data.toList.drop 0 = dktX0_alone_0 := by decide +kernel
theorem dksX0_alone_1 : cX0_alone.data.toList.drop 23 = dktX0_alone_1 := dk_seg dksX0_alone_0 23 rfl rfl
theorem dX0_alone_0 : decode cX0_alone 0 = .ok (.aload_n 0, 1) := dk_42 (dk_at dksX0_alone_0 0 rfl rfl)
theorem dX0_alone_1 : decode cX0_alone 1 = .ok (.iload_n 1, 1) := dk_27 (dk_at dksX0_alone_0 1 rfl rfl)
theorem dX0_alone_2 : decode cX0_alone 2 = .ok (.invokevirtual 84, 3) := dk_182 0 84 (dk_at dksX0_alone_0 2 rfl rfl)
theorem dX0_alone_5 : decode cX0_alone 5 = .ok (.astore_n 2, 1) := dk_77 (dk_at dksX0_alone_0 5 rfl rfl)
theorem dX0_alone_6 : decode cX0_alone 6 = .ok (.aload_n 2, 1) := dk_44 (dk_at dksX0_alone_0 6 rfl rfl)
theorem dX0_alone_7 : decode cX0_alone 7 = .ok (.ifnonnull 7, 3) := dk_199 0 7 (dk_at dksX0_alone_0 7 rfl rfl)
theorem dX0_alone_10 : decode cX0_alone 10 = .ok (.ldc2_w 300, 3) := dk_20 1 44 (dk_at dksX0_alone_0 10 rfl rfl)
theorem dX0_alone_13 : decode cX0_alone 13 = .ok (.lreturn, 1) := dk_173 (dk_at dksX0_alone_0 13 rfl rfl)
theorem dX0_alone_14 : decode cX0_alone 14 = .ok (.aload_n 2, 1) := dk_44 (dk_at dksX0_alone_0 14 rfl rfl)
theorem dX0_alone_15 : decode cX0_alone 15 = .ok (.instanceof 93, 3) := dk_193 0 93 (dk_at dksX0_alone_0 15 rfl rfl)
theorem dX0_alone_18 : decode cX0_alone 18 = .ok (.ifCond .eq 14, 3) := dk_153 0 14 (dk_at dksX0_alone_0 18 rfl rfl)
theorem dX0_alone_21 : decode cX0_alone 21 = .ok (.aload_n 0, 1) := dk_42 (dk_at dksX0_alone_0 21 rfl rfl)
theorem dX0_alone_22 : decode cX0_alone 22 = .ok (.aload_n 2, 1) := dk_44 (dk_at dksX0_alone_0 22 rfl rfl)
theorem dX0_alone_23 : decode cX0_alone 23 = .ok (.checkcast 93, 3) := dk_192 0 93 (dk_at dksX0_alone_1 0 rfl rfl)
theorem dX0_alone_26 : decode cX0_alone 26 = .ok (.invokevirtual 333, 3) := dk_182 1 77 (dk_at dksX0_alone_1 3 rfl rfl)
theorem dX0_alone_29 : decode cX0_alone 29 = .ok (.goto 15, 3) := dk_167 0 15 (dk_at dksX0_alone_1 6 rfl rfl)
theorem dX0_alone_32 : decode cX0_alone 32 = .ok (.aload_n 0, 1) := dk_42 (dk_at dksX0_alone_1 9 rfl rfl)
theorem dX0_alone_33 : decode cX0_alone 33 = .ok (.aload_n 2, 1) := dk_44 (dk_at dksX0_alone_1 10 rfl rfl)
theorem dX0_alone_34 : decode cX0_alone 34 = .ok (.checkcast 27, 3) := dk_192 0 27 (dk_at dksX0_alone_1 11 rfl rfl)
theorem dX0_alone_37 : decode cX0_alone 37 = .ok (.aload_n 2, 1) := dk_44 (dk_at dksX0_alone_1 14 rfl rfl)
theorem dX0_alone_38 : decode cX0_alone 38 = .ok (.checkcast 27, 3) := dk_192 0 27 (dk_at dksX0_alone_1 15 rfl rfl)
theorem dX0_alone_41 : decode cX0_alone 41 = .ok (.invokevirtual 330, 3) := dk_182 1 74 (dk_at dksX0_alone_1 18 rfl rfl)
theorem dX0_alone_44 : decode cX0_alone 44 = .ok (.lreturn, 1) := dk_173 (dk_at dksX0_alone_1 21 rfl rfl)
abbrev cX0_liveAlone : ByteArray := prog_1_method_57_code
def yX0_liveAlone : MethodName := ⟨RX0, "liveAlone", "(LDeadListPool$Folder;)J"⟩
def dkwX0_liveAlone_2 : List UInt8 := [46, 133, 167, 0, 4, 9, 97, 65, 132, 4, 1, 167, 255, 202, 32, 173]
abbrev dktX0_liveAlone_2 : List UInt8 := dkwX0_liveAlone_2 ++ []
def dkwX0_liveAlone_1 : List UInt8 := [2, 159, 0, 28, 42, 180, 0, 13, 21, 5, 46, 43, 182, 0, 133, 164, 0, 14, 42, 180, 0, 9, 21, 5]
abbrev dktX0_liveAlone_1 : List UInt8 := dkwX0_liveAlone_1 ++ dktX0_liveAlone_2
def dkwX0_liveAlone_0 : List UInt8 := [9, 65, 3, 54, 4, 21, 4, 16, 12, 162, 0, 53, 43, 180, 0, 132, 21, 4, 46, 54, 5, 32, 21, 5]
abbrev dktX0_liveAlone_0 : List UInt8 := dkwX0_liveAlone_0 ++ dktX0_liveAlone_1
theorem dksX0_liveAlone_0 : cX0_liveAlone.data.toList.drop 0 = dktX0_liveAlone_0 := by decide +kernel
theorem dksX0_liveAlone_1 : cX0_liveAlone.data.toList.drop 24 = dktX0_liveAlone_1 := dk_seg dksX0_liveAlone_0 24 rfl rfl
theorem dksX0_liveAlone_2 : cX0_liveAlone.data.toList.drop 48 = dktX0_liveAlone_2 := dk_seg dksX0_liveAlone_1 24 rfl rfl
theorem dX0_liveAlone_0 : decode cX0_liveAlone 0 = .ok (.lconst 0, 1) := dk_9 (dk_at dksX0_liveAlone_0 0 rfl rfl)
theorem dX0_liveAlone_1 : decode cX0_liveAlone 1 = .ok (.lstore_n 2, 1) := dk_65 (dk_at dksX0_liveAlone_0 1 rfl rfl)
theorem dX0_liveAlone_2 : decode cX0_liveAlone 2 = .ok (.iconst 0, 1) := dk_3 (dk_at dksX0_liveAlone_0 2 rfl rfl)
theorem dX0_liveAlone_3 : decode cX0_liveAlone 3 = .ok (.istore 4, 2) := dk_54 4 (dk_at dksX0_liveAlone_0 3 rfl rfl)
theorem dX0_liveAlone_5 : decode cX0_liveAlone 5 = .ok (.iload 4, 2) := dk_21 4 (dk_at dksX0_liveAlone_0 5 rfl rfl)
theorem dX0_liveAlone_7 : decode cX0_liveAlone 7 = .ok (.bipush 12, 2) := dk_16 12 (dk_at dksX0_liveAlone_0 7 rfl rfl)
theorem dX0_liveAlone_9 : decode cX0_liveAlone 9 = .ok (.if_icmp .ge 53, 3) := dk_162 0 53 (dk_at dksX0_liveAlone_0 9 rfl rfl)
theorem dX0_liveAlone_12 : decode cX0_liveAlone 12 = .ok (.aload_n 1, 1) := dk_43 (dk_at dksX0_liveAlone_0 12 rfl rfl)
theorem dX0_liveAlone_13 : decode cX0_liveAlone 13 = .ok (.getfield 132, 3) := dk_180 0 132 (dk_at dksX0_liveAlone_0 13 rfl rfl)
theorem dX0_liveAlone_16 : decode cX0_liveAlone 16 = .ok (.iload 4, 2) := dk_21 4 (dk_at dksX0_liveAlone_0 16 rfl rfl)
theorem dX0_liveAlone_18 : decode cX0_liveAlone 18 = .ok (.iaload, 1) := dk_46 (dk_at dksX0_liveAlone_0 18 rfl rfl)
theorem dX0_liveAlone_19 : decode cX0_liveAlone 19 = .ok (.istore 5, 2) := dk_54 5 (dk_at dksX0_liveAlone_0 19 rfl rfl)
theorem dX0_liveAlone_21 : decode cX0_liveAlone 21 = .ok (.lload_n 2, 1) := dk_32 (dk_at dksX0_liveAlone_0 21 rfl rfl)
theorem dX0_liveAlone_22 : decode cX0_liveAlone 22 = .ok (.iload 5, 2) := dk_21 5 (dk_at dksX0_liveAlone_0 22 rfl rfl)
theorem dX0_liveAlone_24 : decode cX0_liveAlone 24 = .ok (.iconst (-1), 1) := dk_2 (dk_at dksX0_liveAlone_1 0 rfl rfl)
theorem dX0_liveAlone_25 : decode cX0_liveAlone 25 = .ok (.if_icmp .eq 28, 3) := dk_159 0 28 (dk_at dksX0_liveAlone_1 1 rfl rfl)
theorem dX0_liveAlone_28 : decode cX0_liveAlone 28 = .ok (.aload_n 0, 1) := dk_42 (dk_at dksX0_liveAlone_1 4 rfl rfl)
theorem dX0_liveAlone_29 : decode cX0_liveAlone 29 = .ok (.getfield 13, 3) := dk_180 0 13 (dk_at dksX0_liveAlone_1 5 rfl rfl)
theorem dX0_liveAlone_32 : decode cX0_liveAlone 32 = .ok (.iload 5, 2) := dk_21 5 (dk_at dksX0_liveAlone_1 8 rfl rfl)
theorem dX0_liveAlone_34 : decode cX0_liveAlone 34 = .ok (.iaload, 1) := dk_46 (dk_at dksX0_liveAlone_1 10 rfl rfl)
theorem dX0_liveAlone_35 : decode cX0_liveAlone 35 = .ok (.aload_n 1, 1) := dk_43 (dk_at dksX0_liveAlone_1 11 rfl rfl)
theorem dX0_liveAlone_36 : decode cX0_liveAlone 36 = .ok (.invokevirtual 133, 3) := dk_182 0 133 (dk_at dksX0_liveAlone_1 12 rfl rfl)
theorem dX0_liveAlone_39 : decode cX0_liveAlone 39 = .ok (.if_icmp .le 14, 3) := dk_164 0 14 (dk_at dksX0_liveAlone_1 15 rfl rfl)
theorem dX0_liveAlone_42 : decode cX0_liveAlone 42 = .ok (.aload_n 0, 1) := dk_42 (dk_at dksX0_liveAlone_1 18 rfl rfl)
theorem dX0_liveAlone_43 : decode cX0_liveAlone 43 = .ok (.getfield 9, 3) := dk_180 0 9 (dk_at dksX0_liveAlone_1 19 rfl rfl)
theorem dX0_liveAlone_46 : decode cX0_liveAlone 46 = .ok (.iload 5, 2) := dk_21 5 (dk_at dksX0_liveAlone_1 22 rfl rfl)
theorem dX0_liveAlone_48 : decode cX0_liveAlone 48 = .ok (.iaload, 1) := dk_46 (dk_at dksX0_liveAlone_2 0 rfl rfl)
theorem dX0_liveAlone_49 : decode cX0_liveAlone 49 = .ok (.i2l, 1) := dk_133 (dk_at dksX0_liveAlone_2 1 rfl rfl)
theorem dX0_liveAlone_50 : decode cX0_liveAlone 50 = .ok (.goto 4, 3) := dk_167 0 4 (dk_at dksX0_liveAlone_2 2 rfl rfl)
theorem dX0_liveAlone_53 : decode cX0_liveAlone 53 = .ok (.lconst 0, 1) := dk_9 (dk_at dksX0_liveAlone_2 5 rfl rfl)
theorem dX0_liveAlone_54 : decode cX0_liveAlone 54 = .ok (.ladd, 1) := dk_97 (dk_at dksX0_liveAlone_2 6 rfl rfl)
theorem dX0_liveAlone_55 : decode cX0_liveAlone 55 = .ok (.lstore_n 2, 1) := dk_65 (dk_at dksX0_liveAlone_2 7 rfl rfl)
theorem dX0_liveAlone_56 : decode cX0_liveAlone 56 = .ok (.iinc 4 1, 3) := dk_132 4 1 (dk_at dksX0_liveAlone_2 8 rfl rfl)
theorem dX0_liveAlone_59 : decode cX0_liveAlone 59 = .ok (.goto (-54), 3) := dk_167 255 202 (dk_at dksX0_liveAlone_2 11 rfl rfl)
theorem dX0_liveAlone_62 : decode cX0_liveAlone 62 = .ok (.lload_n 2, 1) := dk_32 (dk_at dksX0_liveAlone_2 14 rfl rfl)
theorem dX0_liveAlone_63 : decode cX0_liveAlone 63 = .ok (.lreturn, 1) := dk_173 (dk_at dksX0_liveAlone_2 15 rfl rfl)
abbrev cX0_since : ByteArray := prog_1_method_66_code
def yX0_since : MethodName := ⟨RX0, "since", "(II)J"⟩
def dkwX0_since_4 : List UInt8 := [46, 133, 167, 0, 4, 9, 97, 55, 5, 132, 7, 1, 167, 255, 202, 22, 5, 173]
abbrev dktX0_since_4 : List UInt8 := dkwX0_since_4 ++ []
def dkwX0_since_3 : List UInt8 := [21, 8, 2, 159, 0, 26, 42, 180, 0, 13, 21, 8, 46, 21, 4, 164, 0, 14, 42, 180, 0, 9, 21, 8]
abbrev dktX0_since_3 : List UInt8 := dkwX0_since_3 ++ dktX0_since_4
def dkwX0_since_2 : List UInt8 := [55, 5, 3, 54, 7, 21, 7, 16, 12, 162, 0, 53, 45, 180, 0, 119, 21, 7, 46, 54, 8, 22, 5]
abbrev dktX0_since_2 : List UInt8 := dkwX0_since_2 ++ dktX0_since_3
def dkwX0_since_1 : List UInt8 := [180, 0, 20, 28, 50, 199, 0, 7, 20, 1, 44, 173, 42, 180, 0, 20, 28, 50, 184, 1, 10, 54, 4, 9]
abbrev dktX0_since_1 : List UInt8 := dkwX0_since_1 ++ dktX0_since_2
def dkwX0_since_0 : List UInt8 := [42, 27, 182, 0, 84, 78, 45, 198, 0, 24, 28, 133, 9, 20, 0, 72, 184, 0, 74, 153, 0, 12, 42]
abbrev dktX0_since_0 : List UInt8 := dkwX0_since_0 ++ dktX0_since_1
theorem dksX0_since_0 : cX0_since.data.toList.drop 0 = dktX0_since_0 := by decide +kernel
theorem dksX0_since_1 : cX0_since.data.toList.drop 23 = dktX0_since_1 := dk_seg dksX0_since_0 23 rfl rfl
theorem dksX0_since_2 : cX0_since.data.toList.drop 47 = dktX0_since_2 := dk_seg dksX0_since_1 24 rfl rfl
theorem dksX0_since_3 : cX0_since.data.toList.drop 70 = dktX0_since_3 := dk_seg dksX0_since_2 23 rfl rfl
theorem dksX0_since_4 : cX0_since.data.toList.drop 94 = dktX0_since_4 := dk_seg dksX0_since_3 24 rfl rfl
theorem dX0_since_0 : decode cX0_since 0 = .ok (.aload_n 0, 1) := dk_42 (dk_at dksX0_since_0 0 rfl rfl)
theorem dX0_since_1 : decode cX0_since 1 = .ok (.iload_n 1, 1) := dk_27 (dk_at dksX0_since_0 1 rfl rfl)
theorem dX0_since_2 : decode cX0_since 2 = .ok (.invokevirtual 84, 3) := dk_182 0 84 (dk_at dksX0_since_0 2 rfl rfl)
theorem dX0_since_5 : decode cX0_since 5 = .ok (.astore_n 3, 1) := dk_78 (dk_at dksX0_since_0 5 rfl rfl)
theorem dX0_since_6 : decode cX0_since 6 = .ok (.aload_n 3, 1) := dk_45 (dk_at dksX0_since_0 6 rfl rfl)
theorem dX0_since_7 : decode cX0_since 7 = .ok (.ifnull 24, 3) := dk_198 0 24 (dk_at dksX0_since_0 7 rfl rfl)
theorem dX0_since_10 : decode cX0_since 10 = .ok (.iload_n 2, 1) := dk_28 (dk_at dksX0_since_0 10 rfl rfl)
theorem dX0_since_11 : decode cX0_since 11 = .ok (.i2l, 1) := dk_133 (dk_at dksX0_since_0 11 rfl rfl)
theorem dX0_since_12 : decode cX0_since 12 = .ok (.lconst 0, 1) := dk_9 (dk_at dksX0_since_0 12 rfl rfl)
theorem dX0_since_13 : decode cX0_since 13 = .ok (.ldc2_w 72, 3) := dk_20 0 72 (dk_at dksX0_since_0 13 rfl rfl)
theorem dX0_since_16 : decode cX0_since 16 = .ok (.invokestatic 74, 3) := dk_184 0 74 (dk_at dksX0_since_0 16 rfl rfl)
theorem dX0_since_19 : decode cX0_since 19 = .ok (.ifCond .eq 12, 3) := dk_153 0 12 (dk_at dksX0_since_0 19 rfl rfl)
theorem dX0_since_22 : decode cX0_since 22 = .ok (.aload_n 0, 1) := dk_42 (dk_at dksX0_since_0 22 rfl rfl)
theorem dX0_since_23 : decode cX0_since 23 = .ok (.getfield 20, 3) := dk_180 0 20 (dk_at dksX0_since_1 0 rfl rfl)
theorem dX0_since_26 : decode cX0_since 26 = .ok (.iload_n 2, 1) := dk_28 (dk_at dksX0_since_1 3 rfl rfl)
theorem dX0_since_27 : decode cX0_since 27 = .ok (.aaload, 1) := dk_50 (dk_at dksX0_since_1 4 rfl rfl)
theorem dX0_since_28 : decode cX0_since 28 = .ok (.ifnonnull 7, 3) := dk_199 0 7 (dk_at dksX0_since_1 5 rfl rfl)
theorem dX0_since_31 : decode cX0_since 31 = .ok (.ldc2_w 300, 3) := dk_20 1 44 (dk_at dksX0_since_1 8 rfl rfl)
theorem dX0_since_34 : decode cX0_since 34 = .ok (.lreturn, 1) := dk_173 (dk_at dksX0_since_1 11 rfl rfl)
theorem dX0_since_35 : decode cX0_since 35 = .ok (.aload_n 0, 1) := dk_42 (dk_at dksX0_since_1 12 rfl rfl)
theorem dX0_since_36 : decode cX0_since 36 = .ok (.getfield 20, 3) := dk_180 0 20 (dk_at dksX0_since_1 13 rfl rfl)
theorem dX0_since_39 : decode cX0_since 39 = .ok (.iload_n 2, 1) := dk_28 (dk_at dksX0_since_1 16 rfl rfl)
theorem dX0_since_40 : decode cX0_since 40 = .ok (.aaload, 1) := dk_50 (dk_at dksX0_since_1 17 rfl rfl)
theorem dX0_since_41 : decode cX0_since 41 = .ok (.invokestatic 266, 3) := dk_184 1 10 (dk_at dksX0_since_1 18 rfl rfl)
theorem dX0_since_44 : decode cX0_since 44 = .ok (.istore 4, 2) := dk_54 4 (dk_at dksX0_since_1 21 rfl rfl)
theorem dX0_since_46 : decode cX0_since 46 = .ok (.lconst 0, 1) := dk_9 (dk_at dksX0_since_1 23 rfl rfl)
theorem dX0_since_47 : decode cX0_since 47 = .ok (.lstore 5, 2) := dk_55 5 (dk_at dksX0_since_2 0 rfl rfl)
theorem dX0_since_49 : decode cX0_since 49 = .ok (.iconst 0, 1) := dk_3 (dk_at dksX0_since_2 2 rfl rfl)
theorem dX0_since_50 : decode cX0_since 50 = .ok (.istore 7, 2) := dk_54 7 (dk_at dksX0_since_2 3 rfl rfl)
theorem dX0_since_52 : decode cX0_since 52 = .ok (.iload 7, 2) := dk_21 7 (dk_at dksX0_since_2 5 rfl rfl)
theorem dX0_since_54 : decode cX0_since 54 = .ok (.bipush 12, 2) := dk_16 12 (dk_at dksX0_since_2 7 rfl rfl)
theorem dX0_since_56 : decode cX0_since 56 = .ok (.if_icmp .ge 53, 3) := dk_162 0 53 (dk_at dksX0_since_2 9 rfl rfl)
theorem dX0_since_59 : decode cX0_since 59 = .ok (.aload_n 3, 1) := dk_45 (dk_at dksX0_since_2 12 rfl rfl)
theorem dX0_since_60 : decode cX0_since 60 = .ok (.getfield 119, 3) := dk_180 0 119 (dk_at dksX0_since_2 13 rfl rfl)
theorem dX0_since_63 : decode cX0_since 63 = .ok (.iload 7, 2) := dk_21 7 (dk_at dksX0_since_2 16 rfl rfl)
theorem dX0_since_65 : decode cX0_since 65 = .ok (.iaload, 1) := dk_46 (dk_at dksX0_since_2 18 rfl rfl)
theorem dX0_since_66 : decode cX0_since 66 = .ok (.istore 8, 2) := dk_54 8 (dk_at dksX0_since_2 19 rfl rfl)
theorem dX0_since_68 : decode cX0_since 68 = .ok (.lload 5, 2) := dk_22 5 (dk_at dksX0_since_2 21 rfl rfl)
theorem dX0_since_70 : decode cX0_since 70 = .ok (.iload 8, 2) := dk_21 8 (dk_at dksX0_since_3 0 rfl rfl)
theorem dX0_since_72 : decode cX0_since 72 = .ok (.iconst (-1), 1) := dk_2 (dk_at dksX0_since_3 2 rfl rfl)
theorem dX0_since_73 : decode cX0_since 73 = .ok (.if_icmp .eq 26, 3) := dk_159 0 26 (dk_at dksX0_since_3 3 rfl rfl)
theorem dX0_since_76 : decode cX0_since 76 = .ok (.aload_n 0, 1) := dk_42 (dk_at dksX0_since_3 6 rfl rfl)
theorem dX0_since_77 : decode cX0_since 77 = .ok (.getfield 13, 3) := dk_180 0 13 (dk_at dksX0_since_3 7 rfl rfl)
theorem dX0_since_80 : decode cX0_since 80 = .ok (.iload 8, 2) := dk_21 8 (dk_at dksX0_since_3 10 rfl rfl)
theorem dX0_since_82 : decode cX0_since 82 = .ok (.iaload, 1) := dk_46 (dk_at dksX0_since_3 12 rfl rfl)
theorem dX0_since_83 : decode cX0_since 83 = .ok (.iload 4, 2) := dk_21 4 (dk_at dksX0_since_3 13 rfl rfl)
theorem dX0_since_85 : decode cX0_since 85 = .ok (.if_icmp .le 14, 3) := dk_164 0 14 (dk_at dksX0_since_3 15 rfl rfl)
theorem dX0_since_88 : decode cX0_since 88 = .ok (.aload_n 0, 1) := dk_42 (dk_at dksX0_since_3 18 rfl rfl)
theorem dX0_since_89 : decode cX0_since 89 = .ok (.getfield 9, 3) := dk_180 0 9 (dk_at dksX0_since_3 19 rfl rfl)
theorem dX0_since_92 : decode cX0_since 92 = .ok (.iload 8, 2) := dk_21 8 (dk_at dksX0_since_3 22 rfl rfl)
theorem dX0_since_94 : decode cX0_since 94 = .ok (.iaload, 1) := dk_46 (dk_at dksX0_since_4 0 rfl rfl)
theorem dX0_since_95 : decode cX0_since 95 = .ok (.i2l, 1) := dk_133 (dk_at dksX0_since_4 1 rfl rfl)
theorem dX0_since_96 : decode cX0_since 96 = .ok (.goto 4, 3) := dk_167 0 4 (dk_at dksX0_since_4 2 rfl rfl)
theorem dX0_since_99 : decode cX0_since 99 = .ok (.lconst 0, 1) := dk_9 (dk_at dksX0_since_4 5 rfl rfl)
theorem dX0_since_100 : decode cX0_since 100 = .ok (.ladd, 1) := dk_97 (dk_at dksX0_since_4 6 rfl rfl)
theorem dX0_since_101 : decode cX0_since 101 = .ok (.lstore 5, 2) := dk_55 5 (dk_at dksX0_since_4 7 rfl rfl)
theorem dX0_since_103 : decode cX0_since 103 = .ok (.iinc 7 1, 3) := dk_132 7 1 (dk_at dksX0_since_4 9 rfl rfl)
theorem dX0_since_106 : decode cX0_since 106 = .ok (.goto (-54), 3) := dk_167 255 202 (dk_at dksX0_since_4 12 rfl rfl)
theorem dX0_since_109 : decode cX0_since 109 = .ok (.lload 5, 2) := dk_22 5 (dk_at dksX0_since_4 15 rfl rfl)
theorem dX0_since_111 : decode cX0_since 111 = .ok (.lreturn, 1) := dk_173 (dk_at dksX0_since_4 17 rfl rfl)
abbrev cX0_common : ByteArray := prog_1_method_67_code
def yX0_common : MethodName := ⟨RX0, "common", "(II)J"⟩
def dkwX0_common_3 : List UInt8 := [21, 8, 46, 133, 167, 0, 4, 9, 97, 55, 5, 132, 7, 1, 167, 255, 204, 22, 5, 173]
abbrev dktX0_common_3 : List UInt8 := dkwX0_common_3 ++ []
def dkwX0_common_2 : List UInt8 := [54, 8, 22, 5, 21, 8, 2, 159, 0, 24, 25, 4, 21, 8, 182, 1, 21, 153, 0, 14, 42, 180, 0, 9]
abbrev dktX0_common_2 : List UInt8 := dkwX0_common_2 ++ dktX0_common_3
def dkwX0_common_1 : List UInt8 := [20, 1, 44, 173, 9, 55, 5, 3, 54, 7, 21, 7, 16, 12, 162, 0, 51, 45, 180, 0, 119, 21, 7, 46]
abbrev dktX0_common_1 : List UInt8 := dkwX0_common_1 ++ dktX0_common_2
def dkwX0_common_0 : List UInt8 := [42, 27, 182, 0, 84, 78, 42, 28, 182, 0, 84, 58, 4, 45, 198, 0, 8, 25, 4, 199, 0, 7]
abbrev dktX0_common_0 : List UInt8 := dkwX0_common_0 ++ dktX0_common_1
theorem dksX0_common_0 : cX0_common.data.toList.drop 0 = dktX0_common_0 := by decide +kernel
theorem dksX0_common_1 : cX0_common.data.toList.drop 22 = dktX0_common_1 := dk_seg dksX0_common_0 22 rfl rfl
theorem dksX0_common_2 : cX0_common.data.toList.drop 46 = dktX0_common_2 := dk_seg dksX0_common_1 24 rfl rfl
theorem dksX0_common_3 : cX0_common.data.toList.drop 70 = dktX0_common_3 := dk_seg dksX0_common_2 24 rfl rfl
theorem dX0_common_0 : decode cX0_common 0 = .ok (.aload_n 0, 1) := dk_42 (dk_at dksX0_common_0 0 rfl rfl)
theorem dX0_common_1 : decode cX0_common 1 = .ok (.iload_n 1, 1) := dk_27 (dk_at dksX0_common_0 1 rfl rfl)
theorem dX0_common_2 : decode cX0_common 2 = .ok (.invokevirtual 84, 3) := dk_182 0 84 (dk_at dksX0_common_0 2 rfl rfl)
theorem dX0_common_5 : decode cX0_common 5 = .ok (.astore_n 3, 1) := dk_78 (dk_at dksX0_common_0 5 rfl rfl)
theorem dX0_common_6 : decode cX0_common 6 = .ok (.aload_n 0, 1) := dk_42 (dk_at dksX0_common_0 6 rfl rfl)
theorem dX0_common_7 : decode cX0_common 7 = .ok (.iload_n 2, 1) := dk_28 (dk_at dksX0_common_0 7 rfl rfl)
theorem dX0_common_8 : decode cX0_common 8 = .ok (.invokevirtual 84, 3) := dk_182 0 84 (dk_at dksX0_common_0 8 rfl rfl)
theorem dX0_common_11 : decode cX0_common 11 = .ok (.astore 4, 2) := dk_58 4 (dk_at dksX0_common_0 11 rfl rfl)
theorem dX0_common_13 : decode cX0_common 13 = .ok (.aload_n 3, 1) := dk_45 (dk_at dksX0_common_0 13 rfl rfl)
theorem dX0_common_14 : decode cX0_common 14 = .ok (.ifnull 8, 3) := dk_198 0 8 (dk_at dksX0_common_0 14 rfl rfl)
theorem dX0_common_17 : decode cX0_common 17 = .ok (.aload 4, 2) := dk_25 4 (dk_at dksX0_common_0 17 rfl rfl)
theorem dX0_common_19 : decode cX0_common 19 = .ok (.ifnonnull 7, 3) := dk_199 0 7 (dk_at dksX0_common_0 19 rfl rfl)
theorem dX0_common_22 : decode cX0_common 22 = .ok (.ldc2_w 300, 3) := dk_20 1 44 (dk_at dksX0_common_1 0 rfl rfl)
theorem dX0_common_25 : decode cX0_common 25 = .ok (.lreturn, 1) := dk_173 (dk_at dksX0_common_1 3 rfl rfl)
theorem dX0_common_26 : decode cX0_common 26 = .ok (.lconst 0, 1) := dk_9 (dk_at dksX0_common_1 4 rfl rfl)
theorem dX0_common_27 : decode cX0_common 27 = .ok (.lstore 5, 2) := dk_55 5 (dk_at dksX0_common_1 5 rfl rfl)
theorem dX0_common_29 : decode cX0_common 29 = .ok (.iconst 0, 1) := dk_3 (dk_at dksX0_common_1 7 rfl rfl)
theorem dX0_common_30 : decode cX0_common 30 = .ok (.istore 7, 2) := dk_54 7 (dk_at dksX0_common_1 8 rfl rfl)
theorem dX0_common_32 : decode cX0_common 32 = .ok (.iload 7, 2) := dk_21 7 (dk_at dksX0_common_1 10 rfl rfl)
theorem dX0_common_34 : decode cX0_common 34 = .ok (.bipush 12, 2) := dk_16 12 (dk_at dksX0_common_1 12 rfl rfl)
theorem dX0_common_36 : decode cX0_common 36 = .ok (.if_icmp .ge 51, 3) := dk_162 0 51 (dk_at dksX0_common_1 14 rfl rfl)
theorem dX0_common_39 : decode cX0_common 39 = .ok (.aload_n 3, 1) := dk_45 (dk_at dksX0_common_1 17 rfl rfl)
theorem dX0_common_40 : decode cX0_common 40 = .ok (.getfield 119, 3) := dk_180 0 119 (dk_at dksX0_common_1 18 rfl rfl)
theorem dX0_common_43 : decode cX0_common 43 = .ok (.iload 7, 2) := dk_21 7 (dk_at dksX0_common_1 21 rfl rfl)
theorem dX0_common_45 : decode cX0_common 45 = .ok (.iaload, 1) := dk_46 (dk_at dksX0_common_1 23 rfl rfl)
theorem dX0_common_46 : decode cX0_common 46 = .ok (.istore 8, 2) := dk_54 8 (dk_at dksX0_common_2 0 rfl rfl)
theorem dX0_common_48 : decode cX0_common 48 = .ok (.lload 5, 2) := dk_22 5 (dk_at dksX0_common_2 2 rfl rfl)
theorem dX0_common_50 : decode cX0_common 50 = .ok (.iload 8, 2) := dk_21 8 (dk_at dksX0_common_2 4 rfl rfl)
theorem dX0_common_52 : decode cX0_common 52 = .ok (.iconst (-1), 1) := dk_2 (dk_at dksX0_common_2 6 rfl rfl)
theorem dX0_common_53 : decode cX0_common 53 = .ok (.if_icmp .eq 24, 3) := dk_159 0 24 (dk_at dksX0_common_2 7 rfl rfl)
theorem dX0_common_56 : decode cX0_common 56 = .ok (.aload 4, 2) := dk_25 4 (dk_at dksX0_common_2 10 rfl rfl)
theorem dX0_common_58 : decode cX0_common 58 = .ok (.iload 8, 2) := dk_21 8 (dk_at dksX0_common_2 12 rfl rfl)
theorem dX0_common_60 : decode cX0_common 60 = .ok (.invokevirtual 277, 3) := dk_182 1 21 (dk_at dksX0_common_2 14 rfl rfl)
theorem dX0_common_63 : decode cX0_common 63 = .ok (.ifCond .eq 14, 3) := dk_153 0 14 (dk_at dksX0_common_2 17 rfl rfl)
theorem dX0_common_66 : decode cX0_common 66 = .ok (.aload_n 0, 1) := dk_42 (dk_at dksX0_common_2 20 rfl rfl)
theorem dX0_common_67 : decode cX0_common 67 = .ok (.getfield 9, 3) := dk_180 0 9 (dk_at dksX0_common_2 21 rfl rfl)
theorem dX0_common_70 : decode cX0_common 70 = .ok (.iload 8, 2) := dk_21 8 (dk_at dksX0_common_3 0 rfl rfl)
theorem dX0_common_72 : decode cX0_common 72 = .ok (.iaload, 1) := dk_46 (dk_at dksX0_common_3 2 rfl rfl)
theorem dX0_common_73 : decode cX0_common 73 = .ok (.i2l, 1) := dk_133 (dk_at dksX0_common_3 3 rfl rfl)
theorem dX0_common_74 : decode cX0_common 74 = .ok (.goto 4, 3) := dk_167 0 4 (dk_at dksX0_common_3 4 rfl rfl)
theorem dX0_common_77 : decode cX0_common 77 = .ok (.lconst 0, 1) := dk_9 (dk_at dksX0_common_3 7 rfl rfl)
theorem dX0_common_78 : decode cX0_common 78 = .ok (.ladd, 1) := dk_97 (dk_at dksX0_common_3 8 rfl rfl)
theorem dX0_common_79 : decode cX0_common 79 = .ok (.lstore 5, 2) := dk_55 5 (dk_at dksX0_common_3 9 rfl rfl)
theorem dX0_common_81 : decode cX0_common 81 = .ok (.iinc 7 1, 3) := dk_132 7 1 (dk_at dksX0_common_3 11 rfl rfl)
theorem dX0_common_84 : decode cX0_common 84 = .ok (.goto (-52), 3) := dk_167 255 204 (dk_at dksX0_common_3 14 rfl rfl)
theorem dX0_common_87 : decode cX0_common 87 = .ok (.lload 5, 2) := dk_22 5 (dk_at dksX0_common_3 17 rfl rfl)
theorem dX0_common_89 : decode cX0_common 89 = .ok (.lreturn, 1) := dk_173 (dk_at dksX0_common_3 19 rfl rfl)
abbrev cX0_most : ByteArray := prog_1_method_71_code
def yX0_most : MethodName := ⟨RX0, "most", "(II)J"⟩
def dkwX0_most_1 : List UInt8 := [154, 0, 9, 20, 1, 44, 167, 0, 12, 42, 45, 192, 0, 93, 28, 182, 1, 100, 173]
abbrev dktX0_most_1 : List UInt8 := dkwX0_most_1 ++ []
def dkwX0_most_0 : List UInt8 := [42, 27, 182, 0, 84, 78, 28, 133, 9, 20, 1, 98, 184, 0, 74, 153, 0, 10, 45, 193, 0, 93]
abbrev dktX0_most_0 : List UInt8 := dkwX0_most_0 ++ dktX0_most_1
theorem dksX0_most_0 : cX0_most.data.toList.drop 0 = dktX0_most_0 := by decide +kernel
theorem dksX0_most_1 : cX0_most.data.toList.drop 22 = dktX0_most_1 := dk_seg dksX0_most_0 22 rfl rfl
theorem dX0_most_0 : decode cX0_most 0 = .ok (.aload_n 0, 1) := dk_42 (dk_at dksX0_most_0 0 rfl rfl)
theorem dX0_most_1 : decode cX0_most 1 = .ok (.iload_n 1, 1) := dk_27 (dk_at dksX0_most_0 1 rfl rfl)
theorem dX0_most_2 : decode cX0_most 2 = .ok (.invokevirtual 84, 3) := dk_182 0 84 (dk_at dksX0_most_0 2 rfl rfl)
theorem dX0_most_5 : decode cX0_most 5 = .ok (.astore_n 3, 1) := dk_78 (dk_at dksX0_most_0 5 rfl rfl)
theorem dX0_most_6 : decode cX0_most 6 = .ok (.iload_n 2, 1) := dk_28 (dk_at dksX0_most_0 6 rfl rfl)
theorem dX0_most_7 : decode cX0_most 7 = .ok (.i2l, 1) := dk_133 (dk_at dksX0_most_0 7 rfl rfl)
theorem dX0_most_8 : decode cX0_most 8 = .ok (.lconst 0, 1) := dk_9 (dk_at dksX0_most_0 8 rfl rfl)
theorem dX0_most_9 : decode cX0_most 9 = .ok (.ldc2_w 354, 3) := dk_20 1 98 (dk_at dksX0_most_0 9 rfl rfl)
theorem dX0_most_12 : decode cX0_most 12 = .ok (.invokestatic 74, 3) := dk_184 0 74 (dk_at dksX0_most_0 12 rfl rfl)
theorem dX0_most_15 : decode cX0_most 15 = .ok (.ifCond .eq 10, 3) := dk_153 0 10 (dk_at dksX0_most_0 15 rfl rfl)
theorem dX0_most_18 : decode cX0_most 18 = .ok (.aload_n 3, 1) := dk_45 (dk_at dksX0_most_0 18 rfl rfl)
theorem dX0_most_19 : decode cX0_most 19 = .ok (.instanceof 93, 3) := dk_193 0 93 (dk_at dksX0_most_0 19 rfl rfl)
theorem dX0_most_22 : decode cX0_most 22 = .ok (.ifCond .ne 9, 3) := dk_154 0 9 (dk_at dksX0_most_1 0 rfl rfl)
theorem dX0_most_25 : decode cX0_most 25 = .ok (.ldc2_w 300, 3) := dk_20 1 44 (dk_at dksX0_most_1 3 rfl rfl)
theorem dX0_most_28 : decode cX0_most 28 = .ok (.goto 12, 3) := dk_167 0 12 (dk_at dksX0_most_1 6 rfl rfl)
theorem dX0_most_31 : decode cX0_most 31 = .ok (.aload_n 0, 1) := dk_42 (dk_at dksX0_most_1 9 rfl rfl)
theorem dX0_most_32 : decode cX0_most 32 = .ok (.aload_n 3, 1) := dk_45 (dk_at dksX0_most_1 10 rfl rfl)
theorem dX0_most_33 : decode cX0_most 33 = .ok (.checkcast 93, 3) := dk_192 0 93 (dk_at dksX0_most_1 11 rfl rfl)
theorem dX0_most_36 : decode cX0_most 36 = .ok (.iload_n 2, 1) := dk_28 (dk_at dksX0_most_1 14 rfl rfl)
theorem dX0_most_37 : decode cX0_most 37 = .ok (.invokevirtual 356, 3) := dk_182 1 100 (dk_at dksX0_most_1 15 rfl rfl)
theorem dX0_most_40 : decode cX0_most 40 = .ok (.lreturn, 1) := dk_173 (dk_at dksX0_most_1 18 rfl rfl)
abbrev cX0_mostOf : ByteArray := prog_1_method_70_code
def yX0_mostOf : MethodName := ⟨RX0, "mostOf", "(LDeadListPool$Folder;I)J"⟩
def dkwX0_mostOf_0 : List UInt8 := [42, 43, 182, 1, 91, 62, 42, 3, 16, 8, 29, 184, 1, 94, 28, 182, 1, 81, 173]
abbrev dktX0_mostOf_0 : List UInt8 := dkwX0_mostOf_0 ++ []
theorem dksX0_mostOf_0 : cX0_mostOf.data.toList.drop 0 = dktX0_mostOf_0 := by decide +kernel
theorem dX0_mostOf_0 : decode cX0_mostOf 0 = .ok (.aload_n 0, 1) := dk_42 (dk_at dksX0_mostOf_0 0 rfl rfl)
theorem dX0_mostOf_1 : decode cX0_mostOf 1 = .ok (.aload_n 1, 1) := dk_43 (dk_at dksX0_mostOf_0 1 rfl rfl)
theorem dX0_mostOf_2 : decode cX0_mostOf 2 = .ok (.invokevirtual 347, 3) := dk_182 1 91 (dk_at dksX0_mostOf_0 2 rfl rfl)
theorem dX0_mostOf_5 : decode cX0_mostOf 5 = .ok (.istore_n 3, 1) := dk_62 (dk_at dksX0_mostOf_0 5 rfl rfl)
theorem dX0_mostOf_6 : decode cX0_mostOf 6 = .ok (.aload_n 0, 1) := dk_42 (dk_at dksX0_mostOf_0 6 rfl rfl)
theorem dX0_mostOf_7 : decode cX0_mostOf 7 = .ok (.iconst 0, 1) := dk_3 (dk_at dksX0_mostOf_0 7 rfl rfl)
theorem dX0_mostOf_8 : decode cX0_mostOf 8 = .ok (.bipush 8, 2) := dk_16 8 (dk_at dksX0_mostOf_0 8 rfl rfl)
theorem dX0_mostOf_10 : decode cX0_mostOf 10 = .ok (.iload_n 3, 1) := dk_29 (dk_at dksX0_mostOf_0 10 rfl rfl)
theorem dX0_mostOf_11 : decode cX0_mostOf 11 = .ok (.invokestatic 350, 3) := dk_184 1 94 (dk_at dksX0_mostOf_0 11 rfl rfl)
theorem dX0_mostOf_14 : decode cX0_mostOf 14 = .ok (.iload_n 2, 1) := dk_28 (dk_at dksX0_mostOf_0 14 rfl rfl)
theorem dX0_mostOf_15 : decode cX0_mostOf 15 = .ok (.invokevirtual 337, 3) := dk_182 1 81 (dk_at dksX0_mostOf_0 15 rfl rfl)
theorem dX0_mostOf_18 : decode cX0_mostOf 18 = .ok (.lreturn, 1) := dk_173 (dk_at dksX0_mostOf_0 18 rfl rfl)
abbrev cX0_gathers : ByteArray := prog_1_method_68_code
def yX0_gathers : MethodName := ⟨RX0, "gathers", "(LDeadListPool$Folder;)I"⟩
def dkwX0_gathers_1 : List UInt8 := [45, 83, 132, 2, 1, 45, 180, 0, 99, 78, 167, 255, 229, 28, 172]
abbrev dktX0_gathers_1 : List UInt8 := dkwX0_gathers_1 ++ []
def dkwX0_gathers_0 : List UInt8 := [3, 61, 43, 180, 0, 92, 78, 45, 198, 0, 29, 45, 180, 0, 95, 43, 166, 0, 21, 42, 180, 0, 29, 28]
abbrev dktX0_gathers_0 : List UInt8 := dkwX0_gathers_0 ++ dktX0_gathers_1
theorem dksX0_gathers_0 : cX0_gathers.data.toList.drop 0 = dktX0_gathers_0 := by decide +kernel
theorem dksX0_gathers_1 : cX0_gathers.data.toList.drop 24 = dktX0_gathers_1 := dk_seg dksX0_gathers_0 24 rfl rfl
theorem dX0_gathers_0 : decode cX0_gathers 0 = .ok (.iconst 0, 1) := dk_3 (dk_at dksX0_gathers_0 0 rfl rfl)
theorem dX0_gathers_1 : decode cX0_gathers 1 = .ok (.istore_n 2, 1) := dk_61 (dk_at dksX0_gathers_0 1 rfl rfl)
theorem dX0_gathers_2 : decode cX0_gathers 2 = .ok (.aload_n 1, 1) := dk_43 (dk_at dksX0_gathers_0 2 rfl rfl)
theorem dX0_gathers_3 : decode cX0_gathers 3 = .ok (.getfield 92, 3) := dk_180 0 92 (dk_at dksX0_gathers_0 3 rfl rfl)
theorem dX0_gathers_6 : decode cX0_gathers 6 = .ok (.astore_n 3, 1) := dk_78 (dk_at dksX0_gathers_0 6 rfl rfl)
theorem dX0_gathers_7 : decode cX0_gathers 7 = .ok (.aload_n 3, 1) := dk_45 (dk_at dksX0_gathers_0 7 rfl rfl)
theorem dX0_gathers_8 : decode cX0_gathers 8 = .ok (.ifnull 29, 3) := dk_198 0 29 (dk_at dksX0_gathers_0 8 rfl rfl)
theorem dX0_gathers_11 : decode cX0_gathers 11 = .ok (.aload_n 3, 1) := dk_45 (dk_at dksX0_gathers_0 11 rfl rfl)
theorem dX0_gathers_12 : decode cX0_gathers 12 = .ok (.getfield 95, 3) := dk_180 0 95 (dk_at dksX0_gathers_0 12 rfl rfl)
theorem dX0_gathers_15 : decode cX0_gathers 15 = .ok (.aload_n 1, 1) := dk_43 (dk_at dksX0_gathers_0 15 rfl rfl)
theorem dX0_gathers_16 : decode cX0_gathers 16 = .ok (.if_acmp .ne 21, 3) := dk_166 0 21 (dk_at dksX0_gathers_0 16 rfl rfl)
theorem dX0_gathers_19 : decode cX0_gathers 19 = .ok (.aload_n 0, 1) := dk_42 (dk_at dksX0_gathers_0 19 rfl rfl)
theorem dX0_gathers_20 : decode cX0_gathers 20 = .ok (.getfield 29, 3) := dk_180 0 29 (dk_at dksX0_gathers_0 20 rfl rfl)
theorem dX0_gathers_23 : decode cX0_gathers 23 = .ok (.iload_n 2, 1) := dk_28 (dk_at dksX0_gathers_0 23 rfl rfl)
theorem dX0_gathers_24 : decode cX0_gathers 24 = .ok (.aload_n 3, 1) := dk_45 (dk_at dksX0_gathers_1 0 rfl rfl)
theorem dX0_gathers_25 : decode cX0_gathers 25 = .ok (.aastore, 1) := dk_83 (dk_at dksX0_gathers_1 1 rfl rfl)
theorem dX0_gathers_26 : decode cX0_gathers 26 = .ok (.iinc 2 1, 3) := dk_132 2 1 (dk_at dksX0_gathers_1 2 rfl rfl)
theorem dX0_gathers_29 : decode cX0_gathers 29 = .ok (.aload_n 3, 1) := dk_45 (dk_at dksX0_gathers_1 5 rfl rfl)
theorem dX0_gathers_30 : decode cX0_gathers 30 = .ok (.getfield 99, 3) := dk_180 0 99 (dk_at dksX0_gathers_1 6 rfl rfl)
theorem dX0_gathers_33 : decode cX0_gathers 33 = .ok (.astore_n 3, 1) := dk_78 (dk_at dksX0_gathers_1 9 rfl rfl)
theorem dX0_gathers_34 : decode cX0_gathers 34 = .ok (.goto (-27), 3) := dk_167 255 229 (dk_at dksX0_gathers_1 10 rfl rfl)
theorem dX0_gathers_37 : decode cX0_gathers 37 = .ok (.iload_n 2, 1) := dk_28 (dk_at dksX0_gathers_1 13 rfl rfl)
theorem dX0_gathers_38 : decode cX0_gathers 38 = .ok (.ireturn, 1) := dk_172 (dk_at dksX0_gathers_1 14 rfl rfl)
abbrev cX0_mostFrom : ByteArray := prog_1_method_69_code
def yX0_mostFrom : MethodName := ⟨RX0, "mostFrom", "(III)J"⟩
def dkwX0_mostFrom_4 : List UInt8 := [184, 1, 85, 55, 4, 132, 6, 1, 167, 255, 180, 22, 4, 173]
abbrev dktX0_mostFrom_4 : List UInt8 := dkwX0_mostFrom_4 ++ []
def dkwX0_mostFrom_3 : List UInt8 := [50, 182, 1, 74, 42, 21, 6, 5, 96, 28, 29, 21, 6, 27, 100, 4, 96, 100, 182, 1, 81, 97]
abbrev dktX0_mostFrom_3 : List UInt8 := dkwX0_mostFrom_3 ++ dktX0_mostFrom_4
def dkwX0_mostFrom_2 : List UInt8 := [182, 0, 234, 154, 0, 6, 167, 0, 51, 22, 4, 42, 42, 180, 0, 29, 21, 6, 50, 42, 180, 0, 29, 27]
abbrev dktX0_mostFrom_2 : List UInt8 := dkwX0_mostFrom_2 ++ dktX0_mostFrom_3
def dkwX0_mostFrom_1 : List UInt8 := [54, 6, 21, 6, 28, 162, 0, 76, 21, 6, 27, 100, 29, 162, 0, 68, 42, 42, 180, 0, 29, 21, 6, 50]
abbrev dktX0_mostFrom_1 : List UInt8 := dkwX0_mostFrom_1 ++ dktX0_mostFrom_2
def dkwX0_mostFrom_0 : List UInt8 := [27, 28, 162, 0, 7, 29, 154, 0, 5, 9, 173, 42, 27, 4, 96, 28, 29, 182, 1, 81, 55, 4, 27]
abbrev dktX0_mostFrom_0 : List UInt8 := dkwX0_mostFrom_0 ++ dktX0_mostFrom_1
theorem dksX0_mostFrom_0 : cX0_mostFrom.data.toList.drop 0 = dktX0_mostFrom_0 := by decide +kernel
theorem dksX0_mostFrom_1 : cX0_mostFrom.data.toList.drop 23 = dktX0_mostFrom_1 := dk_seg dksX0_mostFrom_0 23 rfl rfl
theorem dksX0_mostFrom_2 : cX0_mostFrom.data.toList.drop 47 = dktX0_mostFrom_2 := dk_seg dksX0_mostFrom_1 24 rfl rfl
theorem dksX0_mostFrom_3 : cX0_mostFrom.data.toList.drop 71 = dktX0_mostFrom_3 := dk_seg dksX0_mostFrom_2 24 rfl rfl
theorem dksX0_mostFrom_4 : cX0_mostFrom.data.toList.drop 93 = dktX0_mostFrom_4 := dk_seg dksX0_mostFrom_3 22 rfl rfl
theorem dX0_mostFrom_0 : decode cX0_mostFrom 0 = .ok (.iload_n 1, 1) := dk_27 (dk_at dksX0_mostFrom_0 0 rfl rfl)
theorem dX0_mostFrom_1 : decode cX0_mostFrom 1 = .ok (.iload_n 2, 1) := dk_28 (dk_at dksX0_mostFrom_0 1 rfl rfl)
theorem dX0_mostFrom_2 : decode cX0_mostFrom 2 = .ok (.if_icmp .ge 7, 3) := dk_162 0 7 (dk_at dksX0_mostFrom_0 2 rfl rfl)
theorem dX0_mostFrom_5 : decode cX0_mostFrom 5 = .ok (.iload_n 3, 1) := dk_29 (dk_at dksX0_mostFrom_0 5 rfl rfl)
theorem dX0_mostFrom_6 : decode cX0_mostFrom 6 = .ok (.ifCond .ne 5, 3) := dk_154 0 5 (dk_at dksX0_mostFrom_0 6 rfl rfl)
theorem dX0_mostFrom_9 : decode cX0_mostFrom 9 = .ok (.lconst 0, 1) := dk_9 (dk_at dksX0_mostFrom_0 9 rfl rfl)
theorem dX0_mostFrom_10 : decode cX0_mostFrom 10 = .ok (.lreturn, 1) := dk_173 (dk_at dksX0_mostFrom_0 10 rfl rfl)
theorem dX0_mostFrom_11 : decode cX0_mostFrom 11 = .ok (.aload_n 0, 1) := dk_42 (dk_at dksX0_mostFrom_0 11 rfl rfl)
theorem dX0_mostFrom_12 : decode cX0_mostFrom 12 = .ok (.iload_n 1, 1) := dk_27 (dk_at dksX0_mostFrom_0 12 rfl rfl)
theorem dX0_mostFrom_13 : decode cX0_mostFrom 13 = .ok (.iconst 1, 1) := dk_4 (dk_at dksX0_mostFrom_0 13 rfl rfl)
theorem dX0_mostFrom_14 : decode cX0_mostFrom 14 = .ok (.iadd, 1) := dk_96 (dk_at dksX0_mostFrom_0 14 rfl rfl)
theorem dX0_mostFrom_15 : decode cX0_mostFrom 15 = .ok (.iload_n 2, 1) := dk_28 (dk_at dksX0_mostFrom_0 15 rfl rfl)
theorem dX0_mostFrom_16 : decode cX0_mostFrom 16 = .ok (.iload_n 3, 1) := dk_29 (dk_at dksX0_mostFrom_0 16 rfl rfl)
theorem dX0_mostFrom_17 : decode cX0_mostFrom 17 = .ok (.invokevirtual 337, 3) := dk_182 1 81 (dk_at dksX0_mostFrom_0 17 rfl rfl)
theorem dX0_mostFrom_20 : decode cX0_mostFrom 20 = .ok (.lstore 4, 2) := dk_55 4 (dk_at dksX0_mostFrom_0 20 rfl rfl)
theorem dX0_mostFrom_22 : decode cX0_mostFrom 22 = .ok (.iload_n 1, 1) := dk_27 (dk_at dksX0_mostFrom_0 22 rfl rfl)
theorem dX0_mostFrom_23 : decode cX0_mostFrom 23 = .ok (.istore 6, 2) := dk_54 6 (dk_at dksX0_mostFrom_1 0 rfl rfl)
theorem dX0_mostFrom_25 : decode cX0_mostFrom 25 = .ok (.iload 6, 2) := dk_21 6 (dk_at dksX0_mostFrom_1 2 rfl rfl)
theorem dX0_mostFrom_27 : decode cX0_mostFrom 27 = .ok (.iload_n 2, 1) := dk_28 (dk_at dksX0_mostFrom_1 4 rfl rfl)
theorem dX0_mostFrom_28 : decode cX0_mostFrom 28 = .ok (.if_icmp .ge 76, 3) := dk_162 0 76 (dk_at dksX0_mostFrom_1 5 rfl rfl)
theorem dX0_mostFrom_31 : decode cX0_mostFrom 31 = .ok (.iload 6, 2) := dk_21 6 (dk_at dksX0_mostFrom_1 8 rfl rfl)
theorem dX0_mostFrom_33 : decode cX0_mostFrom 33 = .ok (.iload_n 1, 1) := dk_27 (dk_at dksX0_mostFrom_1 10 rfl rfl)
theorem dX0_mostFrom_34 : decode cX0_mostFrom 34 = .ok (.isub, 1) := dk_100 (dk_at dksX0_mostFrom_1 11 rfl rfl)
theorem dX0_mostFrom_35 : decode cX0_mostFrom 35 = .ok (.iload_n 3, 1) := dk_29 (dk_at dksX0_mostFrom_1 12 rfl rfl)
theorem dX0_mostFrom_36 : decode cX0_mostFrom 36 = .ok (.if_icmp .ge 68, 3) := dk_162 0 68 (dk_at dksX0_mostFrom_1 13 rfl rfl)
theorem dX0_mostFrom_39 : decode cX0_mostFrom 39 = .ok (.aload_n 0, 1) := dk_42 (dk_at dksX0_mostFrom_1 16 rfl rfl)
theorem dX0_mostFrom_40 : decode cX0_mostFrom 40 = .ok (.aload_n 0, 1) := dk_42 (dk_at dksX0_mostFrom_1 17 rfl rfl)
theorem dX0_mostFrom_41 : decode cX0_mostFrom 41 = .ok (.getfield 29, 3) := dk_180 0 29 (dk_at dksX0_mostFrom_1 18 rfl rfl)
theorem dX0_mostFrom_44 : decode cX0_mostFrom 44 = .ok (.iload 6, 2) := dk_21 6 (dk_at dksX0_mostFrom_1 21 rfl rfl)
theorem dX0_mostFrom_46 : decode cX0_mostFrom 46 = .ok (.aaload, 1) := dk_50 (dk_at dksX0_mostFrom_1 23 rfl rfl)
theorem dX0_mostFrom_47 : decode cX0_mostFrom 47 = .ok (.invokevirtual 234, 3) := dk_182 0 234 (dk_at dksX0_mostFrom_2 0 rfl rfl)
theorem dX0_mostFrom_50 : decode cX0_mostFrom 50 = .ok (.ifCond .ne 6, 3) := dk_154 0 6 (dk_at dksX0_mostFrom_2 3 rfl rfl)
theorem dX0_mostFrom_53 : decode cX0_mostFrom 53 = .ok (.goto 51, 3) := dk_167 0 51 (dk_at dksX0_mostFrom_2 6 rfl rfl)
theorem dX0_mostFrom_56 : decode cX0_mostFrom 56 = .ok (.lload 4, 2) := dk_22 4 (dk_at dksX0_mostFrom_2 9 rfl rfl)
theorem dX0_mostFrom_58 : decode cX0_mostFrom 58 = .ok (.aload_n 0, 1) := dk_42 (dk_at dksX0_mostFrom_2 11 rfl rfl)
theorem dX0_mostFrom_59 : decode cX0_mostFrom 59 = .ok (.aload_n 0, 1) := dk_42 (dk_at dksX0_mostFrom_2 12 rfl rfl)
theorem dX0_mostFrom_60 : decode cX0_mostFrom 60 = .ok (.getfield 29, 3) := dk_180 0 29 (dk_at dksX0_mostFrom_2 13 rfl rfl)
theorem dX0_mostFrom_63 : decode cX0_mostFrom 63 = .ok (.iload 6, 2) := dk_21 6 (dk_at dksX0_mostFrom_2 16 rfl rfl)
theorem dX0_mostFrom_65 : decode cX0_mostFrom 65 = .ok (.aaload, 1) := dk_50 (dk_at dksX0_mostFrom_2 18 rfl rfl)
theorem dX0_mostFrom_66 : decode cX0_mostFrom 66 = .ok (.aload_n 0, 1) := dk_42 (dk_at dksX0_mostFrom_2 19 rfl rfl)
theorem dX0_mostFrom_67 : decode cX0_mostFrom 67 = .ok (.getfield 29, 3) := dk_180 0 29 (dk_at dksX0_mostFrom_2 20 rfl rfl)
theorem dX0_mostFrom_70 : decode cX0_mostFrom 70 = .ok (.iload_n 1, 1) := dk_27 (dk_at dksX0_mostFrom_2 23 rfl rfl)
theorem dX0_mostFrom_71 : decode cX0_mostFrom 71 = .ok (.aaload, 1) := dk_50 (dk_at dksX0_mostFrom_3 0 rfl rfl)
theorem dX0_mostFrom_72 : decode cX0_mostFrom 72 = .ok (.invokevirtual 330, 3) := dk_182 1 74 (dk_at dksX0_mostFrom_3 1 rfl rfl)
theorem dX0_mostFrom_75 : decode cX0_mostFrom 75 = .ok (.aload_n 0, 1) := dk_42 (dk_at dksX0_mostFrom_3 4 rfl rfl)
theorem dX0_mostFrom_76 : decode cX0_mostFrom 76 = .ok (.iload 6, 2) := dk_21 6 (dk_at dksX0_mostFrom_3 5 rfl rfl)
theorem dX0_mostFrom_78 : decode cX0_mostFrom 78 = .ok (.iconst 2, 1) := dk_5 (dk_at dksX0_mostFrom_3 7 rfl rfl)
theorem dX0_mostFrom_79 : decode cX0_mostFrom 79 = .ok (.iadd, 1) := dk_96 (dk_at dksX0_mostFrom_3 8 rfl rfl)
theorem dX0_mostFrom_80 : decode cX0_mostFrom 80 = .ok (.iload_n 2, 1) := dk_28 (dk_at dksX0_mostFrom_3 9 rfl rfl)
theorem dX0_mostFrom_81 : decode cX0_mostFrom 81 = .ok (.iload_n 3, 1) := dk_29 (dk_at dksX0_mostFrom_3 10 rfl rfl)
theorem dX0_mostFrom_82 : decode cX0_mostFrom 82 = .ok (.iload 6, 2) := dk_21 6 (dk_at dksX0_mostFrom_3 11 rfl rfl)
theorem dX0_mostFrom_84 : decode cX0_mostFrom 84 = .ok (.iload_n 1, 1) := dk_27 (dk_at dksX0_mostFrom_3 13 rfl rfl)
theorem dX0_mostFrom_85 : decode cX0_mostFrom 85 = .ok (.isub, 1) := dk_100 (dk_at dksX0_mostFrom_3 14 rfl rfl)
theorem dX0_mostFrom_86 : decode cX0_mostFrom 86 = .ok (.iconst 1, 1) := dk_4 (dk_at dksX0_mostFrom_3 15 rfl rfl)
theorem dX0_mostFrom_87 : decode cX0_mostFrom 87 = .ok (.iadd, 1) := dk_96 (dk_at dksX0_mostFrom_3 16 rfl rfl)
theorem dX0_mostFrom_88 : decode cX0_mostFrom 88 = .ok (.isub, 1) := dk_100 (dk_at dksX0_mostFrom_3 17 rfl rfl)
theorem dX0_mostFrom_89 : decode cX0_mostFrom 89 = .ok (.invokevirtual 337, 3) := dk_182 1 81 (dk_at dksX0_mostFrom_3 18 rfl rfl)
theorem dX0_mostFrom_92 : decode cX0_mostFrom 92 = .ok (.ladd, 1) := dk_97 (dk_at dksX0_mostFrom_3 21 rfl rfl)
theorem dX0_mostFrom_93 : decode cX0_mostFrom 93 = .ok (.invokestatic 341, 3) := dk_184 1 85 (dk_at dksX0_mostFrom_4 0 rfl rfl)
theorem dX0_mostFrom_96 : decode cX0_mostFrom 96 = .ok (.lstore 4, 2) := dk_55 4 (dk_at dksX0_mostFrom_4 3 rfl rfl)
theorem dX0_mostFrom_98 : decode cX0_mostFrom 98 = .ok (.iinc 6 1, 3) := dk_132 6 1 (dk_at dksX0_mostFrom_4 5 rfl rfl)
theorem dX0_mostFrom_101 : decode cX0_mostFrom 101 = .ok (.goto (-76), 3) := dk_167 255 180 (dk_at dksX0_mostFrom_4 8 rfl rfl)
theorem dX0_mostFrom_104 : decode cX0_mostFrom 104 = .ok (.lload 4, 2) := dk_22 4 (dk_at dksX0_mostFrom_4 11 rfl rfl)
theorem dX0_mostFrom_106 : decode cX0_mostFrom 106 = .ok (.lreturn, 1) := dk_173 (dk_at dksX0_mostFrom_4 13 rfl rfl)
abbrev cX0_fewest : ByteArray := prog_1_method_73_code
def yX0_fewest : MethodName := ⟨RX0, "fewest", "(IJ)I"⟩
def dkwX0_fewest_1 : List UInt8 := [58, 4, 16, 243, 172]
abbrev dktX0_fewest_1 : List UInt8 := dkwX0_fewest_1 ++ []
def dkwX0_fewest_0 : List UInt8 := [42, 42, 27, 182, 0, 161, 192, 0, 93, 32, 182, 1, 104, 172, 58, 4, 16, 244, 172, 58, 4, 16, 245, 172]
abbrev dktX0_fewest_0 : List UInt8 := dkwX0_fewest_0 ++ dktX0_fewest_1
theorem dksX0_fewest_0 : cX0_fewest.data.toList.drop 0 = dktX0_fewest_0 := by decide +kernel
theorem dksX0_fewest_1 : cX0_fewest.data.toList.drop 24 = dktX0_fewest_1 := dk_seg dksX0_fewest_0 24 rfl rfl
theorem dX0_fewest_0 : decode cX0_fewest 0 = .ok (.aload_n 0, 1) := dk_42 (dk_at dksX0_fewest_0 0 rfl rfl)
theorem dX0_fewest_1 : decode cX0_fewest 1 = .ok (.aload_n 0, 1) := dk_42 (dk_at dksX0_fewest_0 1 rfl rfl)
theorem dX0_fewest_2 : decode cX0_fewest 2 = .ok (.iload_n 1, 1) := dk_27 (dk_at dksX0_fewest_0 2 rfl rfl)
theorem dX0_fewest_3 : decode cX0_fewest 3 = .ok (.invokevirtual 161, 3) := dk_182 0 161 (dk_at dksX0_fewest_0 3 rfl rfl)
theorem dX0_fewest_6 : decode cX0_fewest 6 = .ok (.checkcast 93, 3) := dk_192 0 93 (dk_at dksX0_fewest_0 6 rfl rfl)
theorem dX0_fewest_9 : decode cX0_fewest 9 = .ok (.lload_n 2, 1) := dk_32 (dk_at dksX0_fewest_0 9 rfl rfl)
theorem dX0_fewest_10 : decode cX0_fewest 10 = .ok (.invokevirtual 360, 3) := dk_182 1 104 (dk_at dksX0_fewest_0 10 rfl rfl)
theorem dX0_fewest_13 : decode cX0_fewest 13 = .ok (.ireturn, 1) := dk_172 (dk_at dksX0_fewest_0 13 rfl rfl)
theorem dX0_fewest_14 : decode cX0_fewest 14 = .ok (.astore 4, 2) := dk_58 4 (dk_at dksX0_fewest_0 14 rfl rfl)
theorem dX0_fewest_16 : decode cX0_fewest 16 = .ok (.bipush (-12), 2) := dk_16 244 (dk_at dksX0_fewest_0 16 rfl rfl)
theorem dX0_fewest_18 : decode cX0_fewest 18 = .ok (.ireturn, 1) := dk_172 (dk_at dksX0_fewest_0 18 rfl rfl)
theorem dX0_fewest_19 : decode cX0_fewest 19 = .ok (.astore 4, 2) := dk_58 4 (dk_at dksX0_fewest_0 19 rfl rfl)
theorem dX0_fewest_21 : decode cX0_fewest 21 = .ok (.bipush (-11), 2) := dk_16 245 (dk_at dksX0_fewest_0 21 rfl rfl)
theorem dX0_fewest_23 : decode cX0_fewest 23 = .ok (.ireturn, 1) := dk_172 (dk_at dksX0_fewest_0 23 rfl rfl)
theorem dX0_fewest_24 : decode cX0_fewest 24 = .ok (.astore 4, 2) := dk_58 4 (dk_at dksX0_fewest_1 0 rfl rfl)
theorem dX0_fewest_26 : decode cX0_fewest 26 = .ok (.bipush (-13), 2) := dk_16 243 (dk_at dksX0_fewest_1 2 rfl rfl)
theorem dX0_fewest_28 : decode cX0_fewest 28 = .ok (.ireturn, 1) := dk_172 (dk_at dksX0_fewest_1 4 rfl rfl)
abbrev cX0_fewestOf : ByteArray := prog_1_method_72_code
def yX0_fewestOf : MethodName := ⟨RX0, "fewestOf", "(LDeadListPool$Folder;J)I"⟩
def dkwX0_fewestOf_1 : List UInt8 := [148, 155, 0, 6, 21, 5, 172, 132, 5, 1, 167, 255, 231, 2, 172]
abbrev dktX0_fewestOf_1 : List UInt8 := dkwX0_fewestOf_1 ++ []
def dkwX0_fewestOf_0 : List UInt8 := [43, 180, 0, 177, 54, 4, 3, 54, 5, 21, 5, 16, 8, 163, 0, 24, 42, 43, 21, 5, 182, 1, 100, 32]
abbrev dktX0_fewestOf_0 : List UInt8 := dkwX0_fewestOf_0 ++ dktX0_fewestOf_1
theorem dksX0_fewestOf_0 : cX0_fewestOf.data.toList.drop 0 = dktX0_fewestOf_0 := by decide +kernel
theorem dksX0_fewestOf_1 : cX0_fewestOf.data.toList.drop 24 = dktX0_fewestOf_1 := dk_seg dksX0_fewestOf_0 24 rfl rfl
theorem dX0_fewestOf_0 : decode cX0_fewestOf 0 = .ok (.aload_n 1, 1) := dk_43 (dk_at dksX0_fewestOf_0 0 rfl rfl)
theorem dX0_fewestOf_1 : decode cX0_fewestOf 1 = .ok (.getfield 177, 3) := dk_180 0 177 (dk_at dksX0_fewestOf_0 1 rfl rfl)
theorem dX0_fewestOf_4 : decode cX0_fewestOf 4 = .ok (.istore 4, 2) := dk_54 4 (dk_at dksX0_fewestOf_0 4 rfl rfl)
theorem dX0_fewestOf_6 : decode cX0_fewestOf 6 = .ok (.iconst 0, 1) := dk_3 (dk_at dksX0_fewestOf_0 6 rfl rfl)
theorem dX0_fewestOf_7 : decode cX0_fewestOf 7 = .ok (.istore 5, 2) := dk_54 5 (dk_at dksX0_fewestOf_0 7 rfl rfl)
theorem dX0_fewestOf_9 : decode cX0_fewestOf 9 = .ok (.iload 5, 2) := dk_21 5 (dk_at dksX0_fewestOf_0 9 rfl rfl)
theorem dX0_fewestOf_11 : decode cX0_fewestOf 11 = .ok (.bipush 8, 2) := dk_16 8 (dk_at dksX0_fewestOf_0 11 rfl rfl)
theorem dX0_fewestOf_13 : decode cX0_fewestOf 13 = .ok (.if_icmp .gt 24, 3) := dk_163 0 24 (dk_at dksX0_fewestOf_0 13 rfl rfl)
theorem dX0_fewestOf_16 : decode cX0_fewestOf 16 = .ok (.aload_n 0, 1) := dk_42 (dk_at dksX0_fewestOf_0 16 rfl rfl)
theorem dX0_fewestOf_17 : decode cX0_fewestOf 17 = .ok (.aload_n 1, 1) := dk_43 (dk_at dksX0_fewestOf_0 17 rfl rfl)
theorem dX0_fewestOf_18 : decode cX0_fewestOf 18 = .ok (.iload 5, 2) := dk_21 5 (dk_at dksX0_fewestOf_0 18 rfl rfl)
theorem dX0_fewestOf_20 : decode cX0_fewestOf 20 = .ok (.invokevirtual 356, 3) := dk_182 1 100 (dk_at dksX0_fewestOf_0 20 rfl rfl)
theorem dX0_fewestOf_23 : decode cX0_fewestOf 23 = .ok (.lload_n 2, 1) := dk_32 (dk_at dksX0_fewestOf_0 23 rfl rfl)
theorem dX0_fewestOf_24 : decode cX0_fewestOf 24 = .ok (.lcmp, 1) := dk_148 (dk_at dksX0_fewestOf_1 0 rfl rfl)
theorem dX0_fewestOf_25 : decode cX0_fewestOf 25 = .ok (.ifCond .lt 6, 3) := dk_155 0 6 (dk_at dksX0_fewestOf_1 1 rfl rfl)
theorem dX0_fewestOf_28 : decode cX0_fewestOf 28 = .ok (.iload 5, 2) := dk_21 5 (dk_at dksX0_fewestOf_1 4 rfl rfl)
theorem dX0_fewestOf_30 : decode cX0_fewestOf 30 = .ok (.ireturn, 1) := dk_172 (dk_at dksX0_fewestOf_1 6 rfl rfl)
theorem dX0_fewestOf_31 : decode cX0_fewestOf 31 = .ok (.iinc 5 1, 3) := dk_132 5 1 (dk_at dksX0_fewestOf_1 7 rfl rfl)
theorem dX0_fewestOf_34 : decode cX0_fewestOf 34 = .ok (.goto (-25), 3) := dk_167 255 231 (dk_at dksX0_fewestOf_1 10 rfl rfl)
theorem dX0_fewestOf_37 : decode cX0_fewestOf 37 = .ok (.iconst (-1), 1) := dk_2 (dk_at dksX0_fewestOf_1 13 rfl rfl)
theorem dX0_fewestOf_38 : decode cX0_fewestOf 38 = .ok (.ireturn, 1) := dk_172 (dk_at dksX0_fewestOf_1 14 rfl rfl)
abbrev cX0_expire : ByteArray := prog_1_method_75_code
def yX0_expire : MethodName := ⟨RX0, "expire", "(III)I"⟩
def dkwX0_expire_2 : List UInt8 := [58, 4, 16, 245, 172, 58, 4, 16, 243, 172]
abbrev dktX0_expire_2 : List UInt8 := dkwX0_expire_2 ++ []
def dkwX0_expire_1 : List UInt8 := [16, 254, 172, 42, 42, 27, 182, 0, 161, 192, 0, 93, 28, 29, 182, 1, 112, 172, 58, 4, 16, 244, 172]
abbrev dktX0_expire_1 : List UInt8 := dkwX0_expire_1 ++ dktX0_expire_2
def dkwX0_expire_0 : List UInt8 := [28, 133, 9, 20, 1, 108, 184, 0, 74, 153, 0, 15, 29, 133, 10, 20, 1, 110, 184, 0, 74, 154, 0, 6]
abbrev dktX0_expire_0 : List UInt8 := dkwX0_expire_0 ++ dktX0_expire_1
theorem dksX0_expire_0 : cX0_expire.data.toList.drop 0 = dktX0_expire_0 := by decide +kernel
theorem dksX0_expire_1 : cX0_expire.data.toList.drop 24 = dktX0_expire_1 := dk_seg dksX0_expire_0 24 rfl rfl
theorem dksX0_expire_2 : cX0_expire.data.toList.drop 47 = dktX0_expire_2 := dk_seg dksX0_expire_1 23 rfl rfl
theorem dX0_expire_0 : decode cX0_expire 0 = .ok (.iload_n 2, 1) := dk_28 (dk_at dksX0_expire_0 0 rfl rfl)
theorem dX0_expire_1 : decode cX0_expire 1 = .ok (.i2l, 1) := dk_133 (dk_at dksX0_expire_0 1 rfl rfl)
theorem dX0_expire_2 : decode cX0_expire 2 = .ok (.lconst 0, 1) := dk_9 (dk_at dksX0_expire_0 2 rfl rfl)
theorem dX0_expire_3 : decode cX0_expire 3 = .ok (.ldc2_w 364, 3) := dk_20 1 108 (dk_at dksX0_expire_0 3 rfl rfl)
theorem dX0_expire_6 : decode cX0_expire 6 = .ok (.invokestatic 74, 3) := dk_184 0 74 (dk_at dksX0_expire_0 6 rfl rfl)
theorem dX0_expire_9 : decode cX0_expire 9 = .ok (.ifCond .eq 15, 3) := dk_153 0 15 (dk_at dksX0_expire_0 9 rfl rfl)
theorem dX0_expire_12 : decode cX0_expire 12 = .ok (.iload_n 3, 1) := dk_29 (dk_at dksX0_expire_0 12 rfl rfl)
theorem dX0_expire_13 : decode cX0_expire 13 = .ok (.i2l, 1) := dk_133 (dk_at dksX0_expire_0 13 rfl rfl)
theorem dX0_expire_14 : decode cX0_expire 14 = .ok (.lconst 1, 1) := dk_10 (dk_at dksX0_expire_0 14 rfl rfl)
theorem dX0_expire_15 : decode cX0_expire 15 = .ok (.ldc2_w 366, 3) := dk_20 1 110 (dk_at dksX0_expire_0 15 rfl rfl)
theorem dX0_expire_18 : decode cX0_expire 18 = .ok (.invokestatic 74, 3) := dk_184 0 74 (dk_at dksX0_expire_0 18 rfl rfl)
theorem dX0_expire_21 : decode cX0_expire 21 = .ok (.ifCond .ne 6, 3) := dk_154 0 6 (dk_at dksX0_expire_0 21 rfl rfl)
theorem dX0_expire_24 : decode cX0_expire 24 = .ok (.bipush (-2), 2) := dk_16 254 (dk_at dksX0_expire_1 0 rfl rfl)
theorem dX0_expire_26 : decode cX0_expire 26 = .ok (.ireturn, 1) := dk_172 (dk_at dksX0_expire_1 2 rfl rfl)
theorem dX0_expire_27 : decode cX0_expire 27 = .ok (.aload_n 0, 1) := dk_42 (dk_at dksX0_expire_1 3 rfl rfl)
theorem dX0_expire_28 : decode cX0_expire 28 = .ok (.aload_n 0, 1) := dk_42 (dk_at dksX0_expire_1 4 rfl rfl)
theorem dX0_expire_29 : decode cX0_expire 29 = .ok (.iload_n 1, 1) := dk_27 (dk_at dksX0_expire_1 5 rfl rfl)
theorem dX0_expire_30 : decode cX0_expire 30 = .ok (.invokevirtual 161, 3) := dk_182 0 161 (dk_at dksX0_expire_1 6 rfl rfl)
theorem dX0_expire_33 : decode cX0_expire 33 = .ok (.checkcast 93, 3) := dk_192 0 93 (dk_at dksX0_expire_1 9 rfl rfl)
theorem dX0_expire_36 : decode cX0_expire 36 = .ok (.iload_n 2, 1) := dk_28 (dk_at dksX0_expire_1 12 rfl rfl)
theorem dX0_expire_37 : decode cX0_expire 37 = .ok (.iload_n 3, 1) := dk_29 (dk_at dksX0_expire_1 13 rfl rfl)
theorem dX0_expire_38 : decode cX0_expire 38 = .ok (.invokevirtual 368, 3) := dk_182 1 112 (dk_at dksX0_expire_1 14 rfl rfl)
theorem dX0_expire_41 : decode cX0_expire 41 = .ok (.ireturn, 1) := dk_172 (dk_at dksX0_expire_1 17 rfl rfl)
theorem dX0_expire_42 : decode cX0_expire 42 = .ok (.astore 4, 2) := dk_58 4 (dk_at dksX0_expire_1 18 rfl rfl)
theorem dX0_expire_44 : decode cX0_expire 44 = .ok (.bipush (-12), 2) := dk_16 244 (dk_at dksX0_expire_1 20 rfl rfl)
theorem dX0_expire_46 : decode cX0_expire 46 = .ok (.ireturn, 1) := dk_172 (dk_at dksX0_expire_1 22 rfl rfl)
theorem dX0_expire_47 : decode cX0_expire 47 = .ok (.astore 4, 2) := dk_58 4 (dk_at dksX0_expire_2 0 rfl rfl)
theorem dX0_expire_49 : decode cX0_expire 49 = .ok (.bipush (-11), 2) := dk_16 245 (dk_at dksX0_expire_2 2 rfl rfl)
theorem dX0_expire_51 : decode cX0_expire 51 = .ok (.ireturn, 1) := dk_172 (dk_at dksX0_expire_2 4 rfl rfl)
theorem dX0_expire_52 : decode cX0_expire 52 = .ok (.astore 4, 2) := dk_58 4 (dk_at dksX0_expire_2 5 rfl rfl)
theorem dX0_expire_54 : decode cX0_expire 54 = .ok (.bipush (-13), 2) := dk_16 243 (dk_at dksX0_expire_2 7 rfl rfl)
theorem dX0_expire_56 : decode cX0_expire 56 = .ok (.ireturn, 1) := dk_172 (dk_at dksX0_expire_2 9 rfl rfl)
abbrev cX0_expires : ByteArray := prog_1_method_74_code
def yX0_expires : MethodName := ⟨RX0, "expires", "(LDeadListPool$Folder;II)I"⟩
def dkwX0_expires_2 : List UInt8 := [42, 180, 0, 29, 21, 5, 50, 182, 0, 238, 54, 6, 132, 4, 1, 132, 5, 255, 167, 255, 202, 21, 4, 172]
abbrev dktX0_expires_2 : List UInt8 := dkwX0_expires_2 ++ []
def dkwX0_expires_1 : List UInt8 := [50, 180, 0, 197, 29, 112, 153, 0, 33, 42, 42, 180, 0, 29, 21, 5, 50, 182, 0, 234, 153, 0, 19, 42]
abbrev dktX0_expires_1 : List UInt8 := dkwX0_expires_1 ++ dktX0_expires_2
def dkwX0_expires_0 : List UInt8 := [3, 54, 4, 42, 43, 182, 1, 91, 4, 100, 54, 5, 21, 5, 28, 161, 0, 54, 42, 180, 0, 29, 21, 5]
abbrev dktX0_expires_0 : List UInt8 := dkwX0_expires_0 ++ dktX0_expires_1
theorem dksX0_expires_0 : cX0_expires.data.toList.drop 0 = dktX0_expires_0 := by decide +kernel
theorem dksX0_expires_1 : cX0_expires.data.toList.drop 24 = dktX0_expires_1 := dk_seg dksX0_expires_0 24 rfl rfl
theorem dksX0_expires_2 : cX0_expires.data.toList.drop 48 = dktX0_expires_2 := dk_seg dksX0_expires_1 24 rfl rfl
theorem dX0_expires_0 : decode cX0_expires 0 = .ok (.iconst 0, 1) := dk_3 (dk_at dksX0_expires_0 0 rfl rfl)
theorem dX0_expires_1 : decode cX0_expires 1 = .ok (.istore 4, 2) := dk_54 4 (dk_at dksX0_expires_0 1 rfl rfl)
theorem dX0_expires_3 : decode cX0_expires 3 = .ok (.aload_n 0, 1) := dk_42 (dk_at dksX0_expires_0 3 rfl rfl)
theorem dX0_expires_4 : decode cX0_expires 4 = .ok (.aload_n 1, 1) := dk_43 (dk_at dksX0_expires_0 4 rfl rfl)
theorem dX0_expires_5 : decode cX0_expires 5 = .ok (.invokevirtual 347, 3) := dk_182 1 91 (dk_at dksX0_expires_0 5 rfl rfl)
theorem dX0_expires_8 : decode cX0_expires 8 = .ok (.iconst 1, 1) := dk_4 (dk_at dksX0_expires_0 8 rfl rfl)
theorem dX0_expires_9 : decode cX0_expires 9 = .ok (.isub, 1) := dk_100 (dk_at dksX0_expires_0 9 rfl rfl)
theorem dX0_expires_10 : decode cX0_expires 10 = .ok (.istore 5, 2) := dk_54 5 (dk_at dksX0_expires_0 10 rfl rfl)
theorem dX0_expires_12 : decode cX0_expires 12 = .ok (.iload 5, 2) := dk_21 5 (dk_at dksX0_expires_0 12 rfl rfl)
theorem dX0_expires_14 : decode cX0_expires 14 = .ok (.iload_n 2, 1) := dk_28 (dk_at dksX0_expires_0 14 rfl rfl)
theorem dX0_expires_15 : decode cX0_expires 15 = .ok (.if_icmp .lt 54, 3) := dk_161 0 54 (dk_at dksX0_expires_0 15 rfl rfl)
theorem dX0_expires_18 : decode cX0_expires 18 = .ok (.aload_n 0, 1) := dk_42 (dk_at dksX0_expires_0 18 rfl rfl)
theorem dX0_expires_19 : decode cX0_expires 19 = .ok (.getfield 29, 3) := dk_180 0 29 (dk_at dksX0_expires_0 19 rfl rfl)
theorem dX0_expires_22 : decode cX0_expires 22 = .ok (.iload 5, 2) := dk_21 5 (dk_at dksX0_expires_0 22 rfl rfl)
theorem dX0_expires_24 : decode cX0_expires 24 = .ok (.aaload, 1) := dk_50 (dk_at dksX0_expires_1 0 rfl rfl)
theorem dX0_expires_25 : decode cX0_expires 25 = .ok (.getfield 197, 3) := dk_180 0 197 (dk_at dksX0_expires_1 1 rfl rfl)
theorem dX0_expires_28 : decode cX0_expires 28 = .ok (.iload_n 3, 1) := dk_29 (dk_at dksX0_expires_1 4 rfl rfl)
theorem dX0_expires_29 : decode cX0_expires 29 = .ok (.irem, 1) := dk_112 (dk_at dksX0_expires_1 5 rfl rfl)
theorem dX0_expires_30 : decode cX0_expires 30 = .ok (.ifCond .eq 33, 3) := dk_153 0 33 (dk_at dksX0_expires_1 6 rfl rfl)
theorem dX0_expires_33 : decode cX0_expires 33 = .ok (.aload_n 0, 1) := dk_42 (dk_at dksX0_expires_1 9 rfl rfl)
theorem dX0_expires_34 : decode cX0_expires 34 = .ok (.aload_n 0, 1) := dk_42 (dk_at dksX0_expires_1 10 rfl rfl)
theorem dX0_expires_35 : decode cX0_expires 35 = .ok (.getfield 29, 3) := dk_180 0 29 (dk_at dksX0_expires_1 11 rfl rfl)
theorem dX0_expires_38 : decode cX0_expires 38 = .ok (.iload 5, 2) := dk_21 5 (dk_at dksX0_expires_1 14 rfl rfl)
theorem dX0_expires_40 : decode cX0_expires 40 = .ok (.aaload, 1) := dk_50 (dk_at dksX0_expires_1 16 rfl rfl)
theorem dX0_expires_41 : decode cX0_expires 41 = .ok (.invokevirtual 234, 3) := dk_182 0 234 (dk_at dksX0_expires_1 17 rfl rfl)
theorem dX0_expires_44 : decode cX0_expires 44 = .ok (.ifCond .eq 19, 3) := dk_153 0 19 (dk_at dksX0_expires_1 20 rfl rfl)
theorem dX0_expires_47 : decode cX0_expires 47 = .ok (.aload_n 0, 1) := dk_42 (dk_at dksX0_expires_1 23 rfl rfl)
theorem dX0_expires_48 : decode cX0_expires 48 = .ok (.aload_n 0, 1) := dk_42 (dk_at dksX0_expires_2 0 rfl rfl)
theorem dX0_expires_49 : decode cX0_expires 49 = .ok (.getfield 29, 3) := dk_180 0 29 (dk_at dksX0_expires_2 1 rfl rfl)
theorem dX0_expires_52 : decode cX0_expires 52 = .ok (.iload 5, 2) := dk_21 5 (dk_at dksX0_expires_2 4 rfl rfl)
theorem dX0_expires_54 : decode cX0_expires 54 = .ok (.aaload, 1) := dk_50 (dk_at dksX0_expires_2 6 rfl rfl)
theorem dX0_expires_55 : decode cX0_expires 55 = .ok (.invokevirtual 238, 3) := dk_182 0 238 (dk_at dksX0_expires_2 7 rfl rfl)
theorem dX0_expires_58 : decode cX0_expires 58 = .ok (.istore 6, 2) := dk_54 6 (dk_at dksX0_expires_2 10 rfl rfl)
theorem dX0_expires_60 : decode cX0_expires 60 = .ok (.iinc 4 1, 3) := dk_132 4 1 (dk_at dksX0_expires_2 12 rfl rfl)
theorem dX0_expires_63 : decode cX0_expires 63 = .ok (.iinc 5 (-1), 3) := dk_132 5 255 (dk_at dksX0_expires_2 15 rfl rfl)
theorem dX0_expires_66 : decode cX0_expires 66 = .ok (.goto (-54), 3) := dk_167 255 202 (dk_at dksX0_expires_2 18 rfl rfl)
theorem dX0_expires_69 : decode cX0_expires 69 = .ok (.iload 4, 2) := dk_21 4 (dk_at dksX0_expires_2 21 rfl rfl)
theorem dX0_expires_71 : decode cX0_expires 71 = .ok (.ireturn, 1) := dk_172 (dk_at dksX0_expires_2 23 rfl rfl)
abbrev cX0_sheet : ByteArray := prog_1_method_78_code
def yX0_sheet : MethodName := ⟨RX0, "sheet", "(III)I"⟩
def dkwX0_sheet_2 : List UInt8 := [4, 172, 42, 180, 0, 36, 27, 50, 28, 29, 184, 1, 124, 181, 1, 120, 4, 172, 58, 4, 16, 242, 172]
abbrev dktX0_sheet_2 : List UInt8 := dkwX0_sheet_2 ++ []
def dkwX0_sheet_1 : List UInt8 := [29, 16, 40, 164, 0, 6, 16, 254, 172, 28, 2, 160, 0, 15, 42, 180, 0, 36, 27, 50, 1, 181, 1, 120]
abbrev dktX0_sheet_1 : List UInt8 := dkwX0_sheet_1 ++ dktX0_sheet_2
def dkwX0_sheet_0 : List UInt8 := [27, 184, 1, 117, 153, 0, 26, 28, 133, 20, 0, 104, 10, 184, 0, 74, 153, 0, 14, 28, 2, 159, 0, 12]
abbrev dktX0_sheet_0 : List UInt8 := dkwX0_sheet_0 ++ dktX0_sheet_1
theorem dksX0_sheet_0 : cX0_sheet.data.toList.drop 0 = dktX0_sheet_0 := by decide +kernel
theorem dksX0_sheet_1 : cX0_sheet.data.toList.drop 24 = dktX0_sheet_1 := dk_seg dksX0_sheet_0 24 rfl rfl
theorem dksX0_sheet_2 : cX0_sheet.data.toList.drop 48 = dktX0_sheet_2 := dk_seg dksX0_sheet_1 24 rfl rfl
theorem dX0_sheet_0 : decode cX0_sheet 0 = .ok (.iload_n 1, 1) := dk_27 (dk_at dksX0_sheet_0 0 rfl rfl)
theorem dX0_sheet_1 : decode cX0_sheet 1 = .ok (.invokestatic 373, 3) := dk_184 1 117 (dk_at dksX0_sheet_0 1 rfl rfl)
theorem dX0_sheet_4 : decode cX0_sheet 4 = .ok (.ifCond .eq 26, 3) := dk_153 0 26 (dk_at dksX0_sheet_0 4 rfl rfl)
theorem dX0_sheet_7 : decode cX0_sheet 7 = .ok (.iload_n 2, 1) := dk_28 (dk_at dksX0_sheet_0 7 rfl rfl)
theorem dX0_sheet_8 : decode cX0_sheet 8 = .ok (.i2l, 1) := dk_133 (dk_at dksX0_sheet_0 8 rfl rfl)
theorem dX0_sheet_9 : decode cX0_sheet 9 = .ok (.ldc2_w 104, 3) := dk_20 0 104 (dk_at dksX0_sheet_0 9 rfl rfl)
theorem dX0_sheet_12 : decode cX0_sheet 12 = .ok (.lconst 1, 1) := dk_10 (dk_at dksX0_sheet_0 12 rfl rfl)
theorem dX0_sheet_13 : decode cX0_sheet 13 = .ok (.invokestatic 74, 3) := dk_184 0 74 (dk_at dksX0_sheet_0 13 rfl rfl)
theorem dX0_sheet_16 : decode cX0_sheet 16 = .ok (.ifCond .eq 14, 3) := dk_153 0 14 (dk_at dksX0_sheet_0 16 rfl rfl)
theorem dX0_sheet_19 : decode cX0_sheet 19 = .ok (.iload_n 2, 1) := dk_28 (dk_at dksX0_sheet_0 19 rfl rfl)
theorem dX0_sheet_20 : decode cX0_sheet 20 = .ok (.iconst (-1), 1) := dk_2 (dk_at dksX0_sheet_0 20 rfl rfl)
theorem dX0_sheet_21 : decode cX0_sheet 21 = .ok (.if_icmp .eq 12, 3) := dk_159 0 12 (dk_at dksX0_sheet_0 21 rfl rfl)
theorem dX0_sheet_24 : decode cX0_sheet 24 = .ok (.iload_n 3, 1) := dk_29 (dk_at dksX0_sheet_1 0 rfl rfl)
theorem dX0_sheet_25 : decode cX0_sheet 25 = .ok (.bipush 40, 2) := dk_16 40 (dk_at dksX0_sheet_1 1 rfl rfl)
theorem dX0_sheet_27 : decode cX0_sheet 27 = .ok (.if_icmp .le 6, 3) := dk_164 0 6 (dk_at dksX0_sheet_1 3 rfl rfl)
theorem dX0_sheet_30 : decode cX0_sheet 30 = .ok (.bipush (-2), 2) := dk_16 254 (dk_at dksX0_sheet_1 6 rfl rfl)
theorem dX0_sheet_32 : decode cX0_sheet 32 = .ok (.ireturn, 1) := dk_172 (dk_at dksX0_sheet_1 8 rfl rfl)
theorem dX0_sheet_33 : decode cX0_sheet 33 = .ok (.iload_n 2, 1) := dk_28 (dk_at dksX0_sheet_1 9 rfl rfl)
theorem dX0_sheet_34 : decode cX0_sheet 34 = .ok (.iconst (-1), 1) := dk_2 (dk_at dksX0_sheet_1 10 rfl rfl)
theorem dX0_sheet_35 : decode cX0_sheet 35 = .ok (.if_icmp .ne 15, 3) := dk_160 0 15 (dk_at dksX0_sheet_1 11 rfl rfl)
theorem dX0_sheet_38 : decode cX0_sheet 38 = .ok (.aload_n 0, 1) := dk_42 (dk_at dksX0_sheet_1 14 rfl rfl)
theorem dX0_sheet_39 : decode cX0_sheet 39 = .ok (.getfield 36, 3) := dk_180 0 36 (dk_at dksX0_sheet_1 15 rfl rfl)
theorem dX0_sheet_42 : decode cX0_sheet 42 = .ok (.iload_n 1, 1) := dk_27 (dk_at dksX0_sheet_1 18 rfl rfl)
theorem dX0_sheet_43 : decode cX0_sheet 43 = .ok (.aaload, 1) := dk_50 (dk_at dksX0_sheet_1 19 rfl rfl)
theorem dX0_sheet_44 : decode cX0_sheet 44 = .ok (.aconst_null, 1) := dk_1 (dk_at dksX0_sheet_1 20 rfl rfl)
theorem dX0_sheet_45 : decode cX0_sheet 45 = .ok (.putfield 376, 3) := dk_181 1 120 (dk_at dksX0_sheet_1 21 rfl rfl)
theorem dX0_sheet_48 : decode cX0_sheet 48 = .ok (.iconst 1, 1) := dk_4 (dk_at dksX0_sheet_2 0 rfl rfl)
theorem dX0_sheet_49 : decode cX0_sheet 49 = .ok (.ireturn, 1) := dk_172 (dk_at dksX0_sheet_2 1 rfl rfl)
theorem dX0_sheet_50 : decode cX0_sheet 50 = .ok (.aload_n 0, 1) := dk_42 (dk_at dksX0_sheet_2 2 rfl rfl)
theorem dX0_sheet_51 : decode cX0_sheet 51 = .ok (.getfield 36, 3) := dk_180 0 36 (dk_at dksX0_sheet_2 3 rfl rfl)
theorem dX0_sheet_54 : decode cX0_sheet 54 = .ok (.iload_n 1, 1) := dk_27 (dk_at dksX0_sheet_2 6 rfl rfl)
theorem dX0_sheet_55 : decode cX0_sheet 55 = .ok (.aaload, 1) := dk_50 (dk_at dksX0_sheet_2 7 rfl rfl)
theorem dX0_sheet_56 : decode cX0_sheet 56 = .ok (.iload_n 2, 1) := dk_28 (dk_at dksX0_sheet_2 8 rfl rfl)
theorem dX0_sheet_57 : decode cX0_sheet 57 = .ok (.iload_n 3, 1) := dk_29 (dk_at dksX0_sheet_2 9 rfl rfl)
theorem dX0_sheet_58 : decode cX0_sheet 58 = .ok (.invokestatic 380, 3) := dk_184 1 124 (dk_at dksX0_sheet_2 10 rfl rfl)
theorem dX0_sheet_61 : decode cX0_sheet 61 = .ok (.putfield 376, 3) := dk_181 1 120 (dk_at dksX0_sheet_2 13 rfl rfl)
theorem dX0_sheet_64 : decode cX0_sheet 64 = .ok (.iconst 1, 1) := dk_4 (dk_at dksX0_sheet_2 16 rfl rfl)
theorem dX0_sheet_65 : decode cX0_sheet 65 = .ok (.ireturn, 1) := dk_172 (dk_at dksX0_sheet_2 17 rfl rfl)
theorem dX0_sheet_66 : decode cX0_sheet 66 = .ok (.astore 4, 2) := dk_58 4 (dk_at dksX0_sheet_2 18 rfl rfl)
theorem dX0_sheet_68 : decode cX0_sheet 68 = .ok (.bipush (-14), 2) := dk_16 242 (dk_at dksX0_sheet_2 20 rfl rfl)
theorem dX0_sheet_70 : decode cX0_sheet 70 = .ok (.ireturn, 1) := dk_172 (dk_at dksX0_sheet_2 22 rfl rfl)
abbrev cX0_isSheet : ByteArray := prog_1_method_76_code
def yX0_isSheet : MethodName := ⟨RX0, "isSheet", "(I)Z"⟩
def dkwX0_isSheet_0 : List UInt8 := [26, 133, 9, 20, 1, 115, 184, 0, 74, 172]
abbrev dktX0_isSheet_0 : List UInt8 := dkwX0_isSheet_0 ++ []
theorem dksX0_isSheet_0 : cX0_isSheet.data.toList.drop 0 = dktX0_isSheet_0 := by decide +kernel
theorem dX0_isSheet_0 : decode cX0_isSheet 0 = .ok (.iload_n 0, 1) := dk_26 (dk_at dksX0_isSheet_0 0 rfl rfl)
theorem dX0_isSheet_1 : decode cX0_isSheet 1 = .ok (.i2l, 1) := dk_133 (dk_at dksX0_isSheet_0 1 rfl rfl)
theorem dX0_isSheet_2 : decode cX0_isSheet 2 = .ok (.lconst 0, 1) := dk_9 (dk_at dksX0_isSheet_0 2 rfl rfl)
theorem dX0_isSheet_3 : decode cX0_isSheet 3 = .ok (.ldc2_w 371, 3) := dk_20 1 115 (dk_at dksX0_isSheet_0 3 rfl rfl)
theorem dX0_isSheet_6 : decode cX0_isSheet 6 = .ok (.invokestatic 74, 3) := dk_184 0 74 (dk_at dksX0_isSheet_0 6 rfl rfl)
theorem dX0_isSheet_9 : decode cX0_isSheet 9 = .ok (.ireturn, 1) := dk_172 (dk_at dksX0_isSheet_0 9 rfl rfl)
abbrev cX0_rowOf : ByteArray := prog_1_method_77_code
def yX0_rowOf : MethodName := ⟨RX0, "rowOf", "(II)Ljava/lang/Object;"⟩
def dkwX0_rowOf_0 : List UInt8 := [26, 154, 0, 7, 27, 188, 10, 176, 27, 188, 11, 176]
abbrev dktX0_rowOf_0 : List UInt8 := dkwX0_rowOf_0 ++ []
theorem dksX0_rowOf_0 : cX0_rowOf.data.toList.drop 0 = dktX0_rowOf_0 := by decide +kernel
theorem dX0_rowOf_0 : decode cX0_rowOf 0 = .ok (.iload_n 0, 1) := dk_26 (dk_at dksX0_rowOf_0 0 rfl rfl)
theorem dX0_rowOf_1 : decode cX0_rowOf 1 = .ok (.ifCond .ne 7, 3) := dk_154 0 7 (dk_at dksX0_rowOf_0 1 rfl rfl)
theorem dX0_rowOf_4 : decode cX0_rowOf 4 = .ok (.iload_n 1, 1) := dk_27 (dk_at dksX0_rowOf_0 4 rfl rfl)
theorem dX0_rowOf_5 : decode cX0_rowOf 5 = .ok (.newarray .int, 2) := dk_188_10 (dk_at dksX0_rowOf_0 5 rfl rfl)
theorem dX0_rowOf_7 : decode cX0_rowOf 7 = .ok (.areturn, 1) := dk_176 (dk_at dksX0_rowOf_0 7 rfl rfl)
theorem dX0_rowOf_8 : decode cX0_rowOf 8 = .ok (.iload_n 1, 1) := dk_27 (dk_at dksX0_rowOf_0 8 rfl rfl)
theorem dX0_rowOf_9 : decode cX0_rowOf 9 = .ok (.newarray .long, 2) := dk_188_11 (dk_at dksX0_rowOf_0 9 rfl rfl)
theorem dX0_rowOf_11 : decode cX0_rowOf 11 = .ok (.areturn, 1) := dk_176 (dk_at dksX0_rowOf_0 11 rfl rfl)
abbrev cX0_cell : ByteArray := prog_1_method_80_code
def yX0_cell : MethodName := ⟨RX0, "cell", "(IIJ)I"⟩
def dkwX0_cell_1 : List UInt8 := [172, 58, 5, 16, 245, 172, 58, 5, 16, 244, 172]
abbrev dktX0_cell_1 : List UInt8 := dkwX0_cell_1 ++ []
def dkwX0_cell_0 : List UInt8 := [27, 184, 1, 117, 154, 0, 6, 16, 254, 172, 42, 180, 0, 36, 27, 50, 180, 1, 120, 28, 33, 184, 1, 133]
abbrev dktX0_cell_0 : List UInt8 := dkwX0_cell_0 ++ dktX0_cell_1
theorem dksX0_cell_0 : cX0_cell.data.toList.drop 0 = dktX0_cell_0 := by decide +kernel
theorem dksX0_cell_1 : cX0_cell.data.toList.drop 24 = dktX0_cell_1 := dk_seg dksX0_cell_0 24 rfl rfl
theorem dX0_cell_0 : decode cX0_cell 0 = .ok (.iload_n 1, 1) := dk_27 (dk_at dksX0_cell_0 0 rfl rfl)
theorem dX0_cell_1 : decode cX0_cell 1 = .ok (.invokestatic 373, 3) := dk_184 1 117 (dk_at dksX0_cell_0 1 rfl rfl)
theorem dX0_cell_4 : decode cX0_cell 4 = .ok (.ifCond .ne 6, 3) := dk_154 0 6 (dk_at dksX0_cell_0 4 rfl rfl)
theorem dX0_cell_7 : decode cX0_cell 7 = .ok (.bipush (-2), 2) := dk_16 254 (dk_at dksX0_cell_0 7 rfl rfl)
theorem dX0_cell_9 : decode cX0_cell 9 = .ok (.ireturn, 1) := dk_172 (dk_at dksX0_cell_0 9 rfl rfl)
theorem dX0_cell_10 : decode cX0_cell 10 = .ok (.aload_n 0, 1) := dk_42 (dk_at dksX0_cell_0 10 rfl rfl)
theorem dX0_cell_11 : decode cX0_cell 11 = .ok (.getfield 36, 3) := dk_180 0 36 (dk_at dksX0_cell_0 11 rfl rfl)
theorem dX0_cell_14 : decode cX0_cell 14 = .ok (.iload_n 1, 1) := dk_27 (dk_at dksX0_cell_0 14 rfl rfl)
theorem dX0_cell_15 : decode cX0_cell 15 = .ok (.aaload, 1) := dk_50 (dk_at dksX0_cell_0 15 rfl rfl)
theorem dX0_cell_16 : decode cX0_cell 16 = .ok (.getfield 376, 3) := dk_180 1 120 (dk_at dksX0_cell_0 16 rfl rfl)
theorem dX0_cell_19 : decode cX0_cell 19 = .ok (.iload_n 2, 1) := dk_28 (dk_at dksX0_cell_0 19 rfl rfl)
theorem dX0_cell_20 : decode cX0_cell 20 = .ok (.lload_n 3, 1) := dk_33 (dk_at dksX0_cell_0 20 rfl rfl)
theorem dX0_cell_21 : decode cX0_cell 21 = .ok (.invokestatic 389, 3) := dk_184 1 133 (dk_at dksX0_cell_0 21 rfl rfl)
theorem dX0_cell_24 : decode cX0_cell 24 = .ok (.ireturn, 1) := dk_172 (dk_at dksX0_cell_1 0 rfl rfl)
theorem dX0_cell_25 : decode cX0_cell 25 = .ok (.astore 5, 2) := dk_58 5 (dk_at dksX0_cell_1 1 rfl rfl)
theorem dX0_cell_27 : decode cX0_cell 27 = .ok (.bipush (-11), 2) := dk_16 245 (dk_at dksX0_cell_1 3 rfl rfl)
theorem dX0_cell_29 : decode cX0_cell 29 = .ok (.ireturn, 1) := dk_172 (dk_at dksX0_cell_1 5 rfl rfl)
theorem dX0_cell_30 : decode cX0_cell 30 = .ok (.astore 5, 2) := dk_58 5 (dk_at dksX0_cell_1 6 rfl rfl)
theorem dX0_cell_32 : decode cX0_cell 32 = .ok (.bipush (-12), 2) := dk_16 244 (dk_at dksX0_cell_1 8 rfl rfl)
theorem dX0_cell_34 : decode cX0_cell 34 = .ok (.ireturn, 1) := dk_172 (dk_at dksX0_cell_1 10 rfl rfl)
abbrev cX0_put : ByteArray := prog_1_method_79_code
def yX0_put : MethodName := ⟨RX0, "put", "(Ljava/lang/Object;IJ)I"⟩
def dkwX0_put_1 : List UInt8 := [167, 0, 19, 27, 42, 192, 1, 131, 190, 184, 0, 56, 42, 192, 1, 131, 27, 32, 80, 4, 172]
abbrev dktX0_put_1 : List UInt8 := dkwX0_put_1 ++ []
def dkwX0_put_0 : List UInt8 := [42, 193, 1, 130, 153, 0, 23, 27, 42, 192, 1, 130, 190, 184, 0, 56, 42, 192, 1, 130, 27, 32, 136, 79]
abbrev dktX0_put_0 : List UInt8 := dkwX0_put_0 ++ dktX0_put_1
theorem dksX0_put_0 : cX0_put.data.toList.drop 0 = dktX0_put_0 := by decide +kernel
theorem dksX0_put_1 : cX0_put.data.toList.drop 24 = dktX0_put_1 := dk_seg dksX0_put_0 24 rfl rfl
theorem dX0_put_0 : decode cX0_put 0 = .ok (.aload_n 0, 1) := dk_42 (dk_at dksX0_put_0 0 rfl rfl)
theorem dX0_put_1 : decode cX0_put 1 = .ok (.instanceof 386, 3) := dk_193 1 130 (dk_at dksX0_put_0 1 rfl rfl)
theorem dX0_put_4 : decode cX0_put 4 = .ok (.ifCond .eq 23, 3) := dk_153 0 23 (dk_at dksX0_put_0 4 rfl rfl)
theorem dX0_put_7 : decode cX0_put 7 = .ok (.iload_n 1, 1) := dk_27 (dk_at dksX0_put_0 7 rfl rfl)
theorem dX0_put_8 : decode cX0_put 8 = .ok (.aload_n 0, 1) := dk_42 (dk_at dksX0_put_0 8 rfl rfl)
theorem dX0_put_9 : decode cX0_put 9 = .ok (.checkcast 386, 3) := dk_192 1 130 (dk_at dksX0_put_0 9 rfl rfl)
theorem dX0_put_12 : decode cX0_put 12 = .ok (.arraylength, 1) := dk_190 (dk_at dksX0_put_0 12 rfl rfl)
theorem dX0_put_13 : decode cX0_put 13 = .ok (.invokestatic 56, 3) := dk_184 0 56 (dk_at dksX0_put_0 13 rfl rfl)
theorem dX0_put_16 : decode cX0_put 16 = .ok (.aload_n 0, 1) := dk_42 (dk_at dksX0_put_0 16 rfl rfl)
theorem dX0_put_17 : decode cX0_put 17 = .ok (.checkcast 386, 3) := dk_192 1 130 (dk_at dksX0_put_0 17 rfl rfl)
theorem dX0_put_20 : decode cX0_put 20 = .ok (.iload_n 1, 1) := dk_27 (dk_at dksX0_put_0 20 rfl rfl)
theorem dX0_put_21 : decode cX0_put 21 = .ok (.lload_n 2, 1) := dk_32 (dk_at dksX0_put_0 21 rfl rfl)
theorem dX0_put_22 : decode cX0_put 22 = .ok (.l2i, 1) := dk_136 (dk_at dksX0_put_0 22 rfl rfl)
theorem dX0_put_23 : decode cX0_put 23 = .ok (.iastore, 1) := dk_79 (dk_at dksX0_put_0 23 rfl rfl)
theorem dX0_put_24 : decode cX0_put 24 = .ok (.goto 19, 3) := dk_167 0 19 (dk_at dksX0_put_1 0 rfl rfl)
theorem dX0_put_27 : decode cX0_put 27 = .ok (.iload_n 1, 1) := dk_27 (dk_at dksX0_put_1 3 rfl rfl)
theorem dX0_put_28 : decode cX0_put 28 = .ok (.aload_n 0, 1) := dk_42 (dk_at dksX0_put_1 4 rfl rfl)
theorem dX0_put_29 : decode cX0_put 29 = .ok (.checkcast 387, 3) := dk_192 1 131 (dk_at dksX0_put_1 5 rfl rfl)
theorem dX0_put_32 : decode cX0_put 32 = .ok (.arraylength, 1) := dk_190 (dk_at dksX0_put_1 8 rfl rfl)
theorem dX0_put_33 : decode cX0_put 33 = .ok (.invokestatic 56, 3) := dk_184 0 56 (dk_at dksX0_put_1 9 rfl rfl)
theorem dX0_put_36 : decode cX0_put 36 = .ok (.aload_n 0, 1) := dk_42 (dk_at dksX0_put_1 12 rfl rfl)
theorem dX0_put_37 : decode cX0_put 37 = .ok (.checkcast 387, 3) := dk_192 1 131 (dk_at dksX0_put_1 13 rfl rfl)
theorem dX0_put_40 : decode cX0_put 40 = .ok (.iload_n 1, 1) := dk_27 (dk_at dksX0_put_1 16 rfl rfl)
theorem dX0_put_41 : decode cX0_put 41 = .ok (.lload_n 2, 1) := dk_32 (dk_at dksX0_put_1 17 rfl rfl)
theorem dX0_put_42 : decode cX0_put 42 = .ok (.lastore, 1) := dk_80 (dk_at dksX0_put_1 18 rfl rfl)
theorem dX0_put_43 : decode cX0_put 43 = .ok (.iconst 1, 1) := dk_4 (dk_at dksX0_put_1 19 rfl rfl)
theorem dX0_put_44 : decode cX0_put 44 = .ok (.ireturn, 1) := dk_172 (dk_at dksX0_put_1 20 rfl rfl)
abbrev cX0_item : ByteArray := prog_1_method_83_code
def yX0_item : MethodName := ⟨RX0, "item", "(II)J"⟩
def dkwX0_item_2 : List UInt8 := [20, 1, 44, 173]
abbrev dktX0_item_2 : List UInt8 := dkwX0_item_2 ++ []
def dkwX0_item_1 : List UInt8 := [193, 1, 130, 153, 0, 7, 3, 167, 0, 4, 4, 28, 184, 1, 140, 173, 58, 4, 20, 1, 44, 173, 58, 4]
abbrev dktX0_item_1 : List UInt8 := dkwX0_item_1 ++ dktX0_item_2
def dkwX0_item_0 : List UInt8 := [27, 184, 1, 117, 154, 0, 7, 20, 1, 44, 173, 42, 180, 0, 36, 27, 50, 180, 1, 120, 78, 45, 45]
abbrev dktX0_item_0 : List UInt8 := dkwX0_item_0 ++ dktX0_item_1
theorem dksX0_item_0 : cX0_item.data.toList.drop 0 = dktX0_item_0 := by decide +kernel
theorem dksX0_item_1 : cX0_item.data.toList.drop 23 = dktX0_item_1 := dk_seg dksX0_item_0 23 rfl rfl
theorem dksX0_item_2 : cX0_item.data.toList.drop 47 = dktX0_item_2 := dk_seg dksX0_item_1 24 rfl rfl
theorem dX0_item_0 : decode cX0_item 0 = .ok (.iload_n 1, 1) := dk_27 (dk_at dksX0_item_0 0 rfl rfl)
theorem dX0_item_1 : decode cX0_item 1 = .ok (.invokestatic 373, 3) := dk_184 1 117 (dk_at dksX0_item_0 1 rfl rfl)
theorem dX0_item_4 : decode cX0_item 4 = .ok (.ifCond .ne 7, 3) := dk_154 0 7 (dk_at dksX0_item_0 4 rfl rfl)
theorem dX0_item_7 : decode cX0_item 7 = .ok (.ldc2_w 300, 3) := dk_20 1 44 (dk_at dksX0_item_0 7 rfl rfl)
theorem dX0_item_10 : decode cX0_item 10 = .ok (.lreturn, 1) := dk_173 (dk_at dksX0_item_0 10 rfl rfl)
theorem dX0_item_11 : decode cX0_item 11 = .ok (.aload_n 0, 1) := dk_42 (dk_at dksX0_item_0 11 rfl rfl)
theorem dX0_item_12 : decode cX0_item 12 = .ok (.getfield 36, 3) := dk_180 0 36 (dk_at dksX0_item_0 12 rfl rfl)
theorem dX0_item_15 : decode cX0_item 15 = .ok (.iload_n 1, 1) := dk_27 (dk_at dksX0_item_0 15 rfl rfl)
theorem dX0_item_16 : decode cX0_item 16 = .ok (.aaload, 1) := dk_50 (dk_at dksX0_item_0 16 rfl rfl)
theorem dX0_item_17 : decode cX0_item 17 = .ok (.getfield 376, 3) := dk_180 1 120 (dk_at dksX0_item_0 17 rfl rfl)
theorem dX0_item_20 : decode cX0_item 20 = .ok (.astore_n 3, 1) := dk_78 (dk_at dksX0_item_0 20 rfl rfl)
theorem dX0_item_21 : decode cX0_item 21 = .ok (.aload_n 3, 1) := dk_45 (dk_at dksX0_item_0 21 rfl rfl)
theorem dX0_item_22 : decode cX0_item 22 = .ok (.aload_n 3, 1) := dk_45 (dk_at dksX0_item_0 22 rfl rfl)
theorem dX0_item_23 : decode cX0_item 23 = .ok (.instanceof 386, 3) := dk_193 1 130 (dk_at dksX0_item_1 0 rfl rfl)
theorem dX0_item_26 : decode cX0_item 26 = .ok (.ifCond .eq 7, 3) := dk_153 0 7 (dk_at dksX0_item_1 3 rfl rfl)
theorem dX0_item_29 : decode cX0_item 29 = .ok (.iconst 0, 1) := dk_3 (dk_at dksX0_item_1 6 rfl rfl)
theorem dX0_item_30 : decode cX0_item 30 = .ok (.goto 4, 3) := dk_167 0 4 (dk_at dksX0_item_1 7 rfl rfl)
theorem dX0_item_33 : decode cX0_item 33 = .ok (.iconst 1, 1) := dk_4 (dk_at dksX0_item_1 10 rfl rfl)
theorem dX0_item_34 : decode cX0_item 34 = .ok (.iload_n 2, 1) := dk_28 (dk_at dksX0_item_1 11 rfl rfl)
theorem dX0_item_35 : decode cX0_item 35 = .ok (.invokestatic 396, 3) := dk_184 1 140 (dk_at dksX0_item_1 12 rfl rfl)
theorem dX0_item_38 : decode cX0_item 38 = .ok (.lreturn, 1) := dk_173 (dk_at dksX0_item_1 15 rfl rfl)
theorem dX0_item_39 : decode cX0_item 39 = .ok (.astore 4, 2) := dk_58 4 (dk_at dksX0_item_1 16 rfl rfl)
theorem dX0_item_41 : decode cX0_item 41 = .ok (.ldc2_w 300, 3) := dk_20 1 44 (dk_at dksX0_item_1 18 rfl rfl)
theorem dX0_item_44 : decode cX0_item 44 = .ok (.lreturn, 1) := dk_173 (dk_at dksX0_item_1 21 rfl rfl)
theorem dX0_item_45 : decode cX0_item 45 = .ok (.astore 4, 2) := dk_58 4 (dk_at dksX0_item_1 22 rfl rfl)
theorem dX0_item_47 : decode cX0_item 47 = .ok (.ldc2_w 300, 3) := dk_20 1 44 (dk_at dksX0_item_2 0 rfl rfl)
theorem dX0_item_50 : decode cX0_item 50 = .ok (.lreturn, 1) := dk_173 (dk_at dksX0_item_2 3 rfl rfl)
abbrev cX0_itemOf : ByteArray := prog_1_method_82_code
def yX0_itemOf : MethodName := ⟨RX0, "itemOf", "(Ljava/lang/Object;II)J"⟩
def dkwX0_itemOf_1 : List UInt8 := [192, 1, 131, 28, 47, 173]
abbrev dktX0_itemOf_1 : List UInt8 := dkwX0_itemOf_1 ++ []
def dkwX0_itemOf_0 : List UInt8 := [28, 42, 27, 184, 1, 137, 184, 0, 56, 27, 154, 0, 13, 42, 192, 1, 130, 28, 46, 133, 167, 0, 9, 42]
abbrev dktX0_itemOf_0 : List UInt8 := dkwX0_itemOf_0 ++ dktX0_itemOf_1
theorem dksX0_itemOf_0 : cX0_itemOf.data.toList.drop 0 = dktX0_itemOf_0 := by decide +kernel
theorem dksX0_itemOf_1 : cX0_itemOf.data.toList.drop 24 = dktX0_itemOf_1 := dk_seg dksX0_itemOf_0 24 rfl rfl
theorem dX0_itemOf_0 : decode cX0_itemOf 0 = .ok (.iload_n 2, 1) := dk_28 (dk_at dksX0_itemOf_0 0 rfl rfl)
theorem dX0_itemOf_1 : decode cX0_itemOf 1 = .ok (.aload_n 0, 1) := dk_42 (dk_at dksX0_itemOf_0 1 rfl rfl)
theorem dX0_itemOf_2 : decode cX0_itemOf 2 = .ok (.iload_n 1, 1) := dk_27 (dk_at dksX0_itemOf_0 2 rfl rfl)
theorem dX0_itemOf_3 : decode cX0_itemOf 3 = .ok (.invokestatic 393, 3) := dk_184 1 137 (dk_at dksX0_itemOf_0 3 rfl rfl)
theorem dX0_itemOf_6 : decode cX0_itemOf 6 = .ok (.invokestatic 56, 3) := dk_184 0 56 (dk_at dksX0_itemOf_0 6 rfl rfl)
theorem dX0_itemOf_9 : decode cX0_itemOf 9 = .ok (.iload_n 1, 1) := dk_27 (dk_at dksX0_itemOf_0 9 rfl rfl)
theorem dX0_itemOf_10 : decode cX0_itemOf 10 = .ok (.ifCond .ne 13, 3) := dk_154 0 13 (dk_at dksX0_itemOf_0 10 rfl rfl)
theorem dX0_itemOf_13 : decode cX0_itemOf 13 = .ok (.aload_n 0, 1) := dk_42 (dk_at dksX0_itemOf_0 13 rfl rfl)
theorem dX0_itemOf_14 : decode cX0_itemOf 14 = .ok (.checkcast 386, 3) := dk_192 1 130 (dk_at dksX0_itemOf_0 14 rfl rfl)
theorem dX0_itemOf_17 : decode cX0_itemOf 17 = .ok (.iload_n 2, 1) := dk_28 (dk_at dksX0_itemOf_0 17 rfl rfl)
theorem dX0_itemOf_18 : decode cX0_itemOf 18 = .ok (.iaload, 1) := dk_46 (dk_at dksX0_itemOf_0 18 rfl rfl)
theorem dX0_itemOf_19 : decode cX0_itemOf 19 = .ok (.i2l, 1) := dk_133 (dk_at dksX0_itemOf_0 19 rfl rfl)
theorem dX0_itemOf_20 : decode cX0_itemOf 20 = .ok (.goto 9, 3) := dk_167 0 9 (dk_at dksX0_itemOf_0 20 rfl rfl)
theorem dX0_itemOf_23 : decode cX0_itemOf 23 = .ok (.aload_n 0, 1) := dk_42 (dk_at dksX0_itemOf_0 23 rfl rfl)
theorem dX0_itemOf_24 : decode cX0_itemOf 24 = .ok (.checkcast 387, 3) := dk_192 1 131 (dk_at dksX0_itemOf_1 0 rfl rfl)
theorem dX0_itemOf_27 : decode cX0_itemOf 27 = .ok (.iload_n 2, 1) := dk_28 (dk_at dksX0_itemOf_1 3 rfl rfl)
theorem dX0_itemOf_28 : decode cX0_itemOf 28 = .ok (.laload, 1) := dk_47 (dk_at dksX0_itemOf_1 4 rfl rfl)
theorem dX0_itemOf_29 : decode cX0_itemOf 29 = .ok (.lreturn, 1) := dk_173 (dk_at dksX0_itemOf_1 5 rfl rfl)
abbrev cX0_lengthOf : ByteArray := prog_1_method_81_code
def yX0_lengthOf : MethodName := ⟨RX0, "lengthOf", "(Ljava/lang/Object;I)I"⟩
def dkwX0_lengthOf_0 : List UInt8 := [27, 154, 0, 11, 42, 192, 1, 130, 190, 167, 0, 8, 42, 192, 1, 131, 190, 172]
abbrev dktX0_lengthOf_0 : List UInt8 := dkwX0_lengthOf_0 ++ []
theorem dksX0_lengthOf_0 : cX0_lengthOf.data.toList.drop 0 = dktX0_lengthOf_0 := by decide +kernel
theorem dX0_lengthOf_0 : decode cX0_lengthOf 0 = .ok (.iload_n 1, 1) := dk_27 (dk_at dksX0_lengthOf_0 0 rfl rfl)
theorem dX0_lengthOf_1 : decode cX0_lengthOf 1 = .ok (.ifCond .ne 11, 3) := dk_154 0 11 (dk_at dksX0_lengthOf_0 1 rfl rfl)
theorem dX0_lengthOf_4 : decode cX0_lengthOf 4 = .ok (.aload_n 0, 1) := dk_42 (dk_at dksX0_lengthOf_0 4 rfl rfl)
theorem dX0_lengthOf_5 : decode cX0_lengthOf 5 = .ok (.checkcast 386, 3) := dk_192 1 130 (dk_at dksX0_lengthOf_0 5 rfl rfl)
theorem dX0_lengthOf_8 : decode cX0_lengthOf 8 = .ok (.arraylength, 1) := dk_190 (dk_at dksX0_lengthOf_0 8 rfl rfl)
theorem dX0_lengthOf_9 : decode cX0_lengthOf 9 = .ok (.goto 8, 3) := dk_167 0 8 (dk_at dksX0_lengthOf_0 9 rfl rfl)
theorem dX0_lengthOf_12 : decode cX0_lengthOf 12 = .ok (.aload_n 0, 1) := dk_42 (dk_at dksX0_lengthOf_0 12 rfl rfl)
theorem dX0_lengthOf_13 : decode cX0_lengthOf 13 = .ok (.checkcast 387, 3) := dk_192 1 131 (dk_at dksX0_lengthOf_0 13 rfl rfl)
theorem dX0_lengthOf_16 : decode cX0_lengthOf 16 = .ok (.arraylength, 1) := dk_190 (dk_at dksX0_lengthOf_0 16 rfl rfl)
theorem dX0_lengthOf_17 : decode cX0_lengthOf 17 = .ok (.ireturn, 1) := dk_172 (dk_at dksX0_lengthOf_0 17 rfl rfl)
abbrev cX0_differ : ByteArray := prog_1_method_86_code
def yX0_differ : MethodName := ⟨RX0, "differ", "(III)I"⟩
def dkwX0_differ_1 : List UInt8 := [182, 1, 144, 182, 1, 147, 172, 58, 4, 16, 244, 172, 58, 4, 16, 245, 172, 58, 4, 16, 243, 172]
abbrev dktX0_differ_1 : List UInt8 := dkwX0_differ_1 ++ []
def dkwX0_differ_0 : List UInt8 := [27, 184, 1, 117, 154, 0, 6, 16, 254, 172, 42, 28, 182, 1, 144, 58, 4, 42, 27, 25, 4, 42, 29]
abbrev dktX0_differ_0 : List UInt8 := dkwX0_differ_0 ++ dktX0_differ_1
theorem dksX0_differ_0 : cX0_differ.data.toList.drop 0 = dktX0_differ_0 := by decide +kernel
theorem dksX0_differ_1 : cX0_differ.data.toList.drop 23 = dktX0_differ_1 := dk_seg dksX0_differ_0 23 rfl rfl
theorem dX0_differ_0 : decode cX0_differ 0 = .ok (.iload_n 1, 1) := dk_27 (dk_at dksX0_differ_0 0 rfl rfl)
theorem dX0_differ_1 : decode cX0_differ 1 = .ok (.invokestatic 373, 3) := dk_184 1 117 (dk_at dksX0_differ_0 1 rfl rfl)
theorem dX0_differ_4 : decode cX0_differ 4 = .ok (.ifCond .ne 6, 3) := dk_154 0 6 (dk_at dksX0_differ_0 4 rfl rfl)
theorem dX0_differ_7 : decode cX0_differ 7 = .ok (.bipush (-2), 2) := dk_16 254 (dk_at dksX0_differ_0 7 rfl rfl)
theorem dX0_differ_9 : decode cX0_differ 9 = .ok (.ireturn, 1) := dk_172 (dk_at dksX0_differ_0 9 rfl rfl)
theorem dX0_differ_10 : decode cX0_differ 10 = .ok (.aload_n 0, 1) := dk_42 (dk_at dksX0_differ_0 10 rfl rfl)
theorem dX0_differ_11 : decode cX0_differ 11 = .ok (.iload_n 2, 1) := dk_28 (dk_at dksX0_differ_0 11 rfl rfl)
theorem dX0_differ_12 : decode cX0_differ 12 = .ok (.invokevirtual 400, 3) := dk_182 1 144 (dk_at dksX0_differ_0 12 rfl rfl)
theorem dX0_differ_15 : decode cX0_differ 15 = .ok (.astore 4, 2) := dk_58 4 (dk_at dksX0_differ_0 15 rfl rfl)
theorem dX0_differ_17 : decode cX0_differ 17 = .ok (.aload_n 0, 1) := dk_42 (dk_at dksX0_differ_0 17 rfl rfl)
theorem dX0_differ_18 : decode cX0_differ 18 = .ok (.iload_n 1, 1) := dk_27 (dk_at dksX0_differ_0 18 rfl rfl)
theorem dX0_differ_19 : decode cX0_differ 19 = .ok (.aload 4, 2) := dk_25 4 (dk_at dksX0_differ_0 19 rfl rfl)
theorem dX0_differ_21 : decode cX0_differ 21 = .ok (.aload_n 0, 1) := dk_42 (dk_at dksX0_differ_0 21 rfl rfl)
theorem dX0_differ_22 : decode cX0_differ 22 = .ok (.iload_n 3, 1) := dk_29 (dk_at dksX0_differ_0 22 rfl rfl)
theorem dX0_differ_23 : decode cX0_differ 23 = .ok (.invokevirtual 400, 3) := dk_182 1 144 (dk_at dksX0_differ_1 0 rfl rfl)
theorem dX0_differ_26 : decode cX0_differ 26 = .ok (.invokevirtual 403, 3) := dk_182 1 147 (dk_at dksX0_differ_1 3 rfl rfl)
theorem dX0_differ_29 : decode cX0_differ 29 = .ok (.ireturn, 1) := dk_172 (dk_at dksX0_differ_1 6 rfl rfl)
theorem dX0_differ_30 : decode cX0_differ 30 = .ok (.astore 4, 2) := dk_58 4 (dk_at dksX0_differ_1 7 rfl rfl)
theorem dX0_differ_32 : decode cX0_differ 32 = .ok (.bipush (-12), 2) := dk_16 244 (dk_at dksX0_differ_1 9 rfl rfl)
theorem dX0_differ_34 : decode cX0_differ 34 = .ok (.ireturn, 1) := dk_172 (dk_at dksX0_differ_1 11 rfl rfl)
theorem dX0_differ_35 : decode cX0_differ 35 = .ok (.astore 4, 2) := dk_58 4 (dk_at dksX0_differ_1 12 rfl rfl)
theorem dX0_differ_37 : decode cX0_differ 37 = .ok (.bipush (-11), 2) := dk_16 245 (dk_at dksX0_differ_1 14 rfl rfl)
theorem dX0_differ_39 : decode cX0_differ 39 = .ok (.ireturn, 1) := dk_172 (dk_at dksX0_differ_1 16 rfl rfl)
theorem dX0_differ_40 : decode cX0_differ 40 = .ok (.astore 4, 2) := dk_58 4 (dk_at dksX0_differ_1 17 rfl rfl)
theorem dX0_differ_42 : decode cX0_differ 42 = .ok (.bipush (-13), 2) := dk_16 243 (dk_at dksX0_differ_1 19 rfl rfl)
theorem dX0_differ_44 : decode cX0_differ 44 = .ok (.ireturn, 1) := dk_172 (dk_at dksX0_differ_1 21 rfl rfl)
abbrev cX0_holderAsked : ByteArray := prog_1_method_85_code
def yX0_holderAsked : MethodName := ⟨RX0, "holderAsked", "(I)LDeadListPool$Holder;"⟩
def dkwX0_holderAsked_0 : List UInt8 := [42, 27, 182, 0, 161, 192, 0, 65, 77, 44, 180, 0, 78, 62, 44, 176]
abbrev dktX0_holderAsked_0 : List UInt8 := dkwX0_holderAsked_0 ++ []
theorem dksX0_holderAsked_0 : cX0_holderAsked.data.toList.drop 0 = dktX0_holderAsked_0 := by decide +kernel
theorem dX0_holderAsked_0 : decode cX0_holderAsked 0 = .ok (.aload_n 0, 1) := dk_42 (dk_at dksX0_holderAsked_0 0 rfl rfl)
theorem dX0_holderAsked_1 : decode cX0_holderAsked 1 = .ok (.iload_n 1, 1) := dk_27 (dk_at dksX0_holderAsked_0 1 rfl rfl)
theorem dX0_holderAsked_2 : decode cX0_holderAsked 2 = .ok (.invokevirtual 161, 3) := dk_182 0 161 (dk_at dksX0_holderAsked_0 2 rfl rfl)
theorem dX0_holderAsked_5 : decode cX0_holderAsked 5 = .ok (.checkcast 65, 3) := dk_192 0 65 (dk_at dksX0_holderAsked_0 5 rfl rfl)
theorem dX0_holderAsked_8 : decode cX0_holderAsked 8 = .ok (.astore_n 2, 1) := dk_77 (dk_at dksX0_holderAsked_0 8 rfl rfl)
theorem dX0_holderAsked_9 : decode cX0_holderAsked 9 = .ok (.aload_n 2, 1) := dk_44 (dk_at dksX0_holderAsked_0 9 rfl rfl)
theorem dX0_holderAsked_10 : decode cX0_holderAsked 10 = .ok (.getfield 78, 3) := dk_180 0 78 (dk_at dksX0_holderAsked_0 10 rfl rfl)
theorem dX0_holderAsked_13 : decode cX0_holderAsked 13 = .ok (.istore_n 3, 1) := dk_62 (dk_at dksX0_holderAsked_0 13 rfl rfl)
theorem dX0_holderAsked_14 : decode cX0_holderAsked 14 = .ok (.aload_n 2, 1) := dk_44 (dk_at dksX0_holderAsked_0 14 rfl rfl)
theorem dX0_holderAsked_15 : decode cX0_holderAsked 15 = .ok (.areturn, 1) := dk_176 (dk_at dksX0_holderAsked_0 15 rfl rfl)
abbrev cX0_differs : ByteArray := prog_1_method_84_code
def yX0_differs : MethodName := ⟨RX0, "differs", "(ILDeadListPool$Holder;LDeadListPool$Holder;)I"⟩
def dkwX0_differs_6 : List UInt8 := [180, 0, 36, 27, 50, 25, 5, 181, 1, 120, 21, 4, 172]
abbrev dktX0_differs_6 : List UInt8 := dkwX0_differs_6 ++ []
def dkwX0_differs_5 : List UInt8 := [180, 0, 9, 45, 180, 0, 119, 21, 7, 46, 46, 133, 80, 132, 6, 2, 132, 7, 1, 167, 255, 180, 42]
abbrev dktX0_differs_5 : List UInt8 := dkwX0_differs_5 ++ dktX0_differs_6
def dkwX0_differs_4 : List UInt8 := [25, 5, 21, 6, 4, 96, 45, 180, 0, 119, 21, 7, 46, 2, 160, 0, 7, 9, 167, 0, 16, 42]
abbrev dktX0_differs_4 : List UInt8 := dkwX0_differs_4 ++ dktX0_differs_5
def dkwX0_differs_3 : List UInt8 := [21, 7, 46, 45, 180, 0, 119, 21, 7, 46, 160, 0, 6, 167, 0, 49, 25, 5, 21, 6, 21, 7, 133, 80]
abbrev dktX0_differs_3 : List UInt8 := dkwX0_differs_3 ++ dktX0_differs_4
def dkwX0_differs_2 : List UInt8 := [21, 4, 188, 11, 58, 5, 3, 54, 6, 3, 54, 7, 21, 7, 16, 12, 162, 0, 75, 44, 180, 0, 119]
abbrev dktX0_differs_2 : List UInt8 := dkwX0_differs_2 ++ dktX0_differs_3
def dkwX0_differs_1 : List UInt8 := [180, 0, 119, 21, 5, 46, 160, 0, 7, 3, 167, 0, 4, 5, 96, 54, 4, 132, 5, 1, 167, 255, 219]
abbrev dktX0_differs_1 : List UInt8 := dkwX0_differs_1 ++ dktX0_differs_2
def dkwX0_differs_0 : List UInt8 := [3, 54, 4, 3, 54, 5, 21, 5, 16, 12, 162, 0, 36, 21, 4, 44, 180, 0, 119, 21, 5, 46, 45]
abbrev dktX0_differs_0 : List UInt8 := dkwX0_differs_0 ++ dktX0_differs_1
theorem dksX0_differs_0 : cX0_differs.data.toList.drop 0 = dktX0_differs_0 := by decide +kernel
theorem dksX0_differs_1 : cX0_differs.data.toList.drop 23 = dktX0_differs_1 := dk_seg dksX0_differs_0 23 rfl rfl
theorem dksX0_differs_2 : cX0_differs.data.toList.drop 46 = dktX0_differs_2 := dk_seg dksX0_differs_1 23 rfl rfl
theorem dksX0_differs_3 : cX0_differs.data.toList.drop 69 = dktX0_differs_3 := dk_seg dksX0_differs_2 23 rfl rfl
theorem dksX0_differs_4 : cX0_differs.data.toList.drop 93 = dktX0_differs_4 := dk_seg dksX0_differs_3 24 rfl rfl
theorem dksX0_differs_5 : cX0_differs.data.toList.drop 115 = dktX0_differs_5 := dk_seg dksX0_differs_4 22 rfl rfl
theorem dksX0_differs_6 : cX0_differs.data.toList.drop 138 = dktX0_differs_6 := dk_seg dksX0_differs_5 23 rfl rfl
theorem dX0_differs_0 : decode cX0_differs 0 = .ok (.iconst 0, 1) := dk_3 (dk_at dksX0_differs_0 0 rfl rfl)
theorem dX0_differs_1 : decode cX0_differs 1 = .ok (.istore 4, 2) := dk_54 4 (dk_at dksX0_differs_0 1 rfl rfl)
theorem dX0_differs_3 : decode cX0_differs 3 = .ok (.iconst 0, 1) := dk_3 (dk_at dksX0_differs_0 3 rfl rfl)
theorem dX0_differs_4 : decode cX0_differs 4 = .ok (.istore 5, 2) := dk_54 5 (dk_at dksX0_differs_0 4 rfl rfl)
theorem dX0_differs_6 : decode cX0_differs 6 = .ok (.iload 5, 2) := dk_21 5 (dk_at dksX0_differs_0 6 rfl rfl)
theorem dX0_differs_8 : decode cX0_differs 8 = .ok (.bipush 12, 2) := dk_16 12 (dk_at dksX0_differs_0 8 rfl rfl)
theorem dX0_differs_10 : decode cX0_differs 10 = .ok (.if_icmp .ge 36, 3) := dk_162 0 36 (dk_at dksX0_differs_0 10 rfl rfl)
theorem dX0_differs_13 : decode cX0_differs 13 = .ok (.iload 4, 2) := dk_21 4 (dk_at dksX0_differs_0 13 rfl rfl)
theorem dX0_differs_15 : decode cX0_differs 15 = .ok (.aload_n 2, 1) := dk_44 (dk_at dksX0_differs_0 15 rfl rfl)
theorem dX0_differs_16 : decode cX0_differs 16 = .ok (.getfield 119, 3) := dk_180 0 119 (dk_at dksX0_differs_0 16 rfl rfl)
theorem dX0_differs_19 : decode cX0_differs 19 = .ok (.iload 5, 2) := dk_21 5 (dk_at dksX0_differs_0 19 rfl rfl)
theorem dX0_differs_21 : decode cX0_differs 21 = .ok (.iaload, 1) := dk_46 (dk_at dksX0_differs_0 21 rfl rfl)
theorem dX0_differs_22 : decode cX0_differs 22 = .ok (.aload_n 3, 1) := dk_45 (dk_at dksX0_differs_0 22 rfl rfl)
theorem dX0_differs_23 : decode cX0_differs 23 = .ok (.getfield 119, 3) := dk_180 0 119 (dk_at dksX0_differs_1 0 rfl rfl)
theorem dX0_differs_26 : decode cX0_differs 26 = .ok (.iload 5, 2) := dk_21 5 (dk_at dksX0_differs_1 3 rfl rfl)
theorem dX0_differs_28 : decode cX0_differs 28 = .ok (.iaload, 1) := dk_46 (dk_at dksX0_differs_1 5 rfl rfl)
theorem dX0_differs_29 : decode cX0_differs 29 = .ok (.if_icmp .ne 7, 3) := dk_160 0 7 (dk_at dksX0_differs_1 6 rfl rfl)
theorem dX0_differs_32 : decode cX0_differs 32 = .ok (.iconst 0, 1) := dk_3 (dk_at dksX0_differs_1 9 rfl rfl)
theorem dX0_differs_33 : decode cX0_differs 33 = .ok (.goto 4, 3) := dk_167 0 4 (dk_at dksX0_differs_1 10 rfl rfl)
theorem dX0_differs_36 : decode cX0_differs 36 = .ok (.iconst 2, 1) := dk_5 (dk_at dksX0_differs_1 13 rfl rfl)
theorem dX0_differs_37 : decode cX0_differs 37 = .ok (.iadd, 1) := dk_96 (dk_at dksX0_differs_1 14 rfl rfl)
theorem dX0_differs_38 : decode cX0_differs 38 = .ok (.istore 4, 2) := dk_54 4 (dk_at dksX0_differs_1 15 rfl rfl)
theorem dX0_differs_40 : decode cX0_differs 40 = .ok (.iinc 5 1, 3) := dk_132 5 1 (dk_at dksX0_differs_1 17 rfl rfl)
theorem dX0_differs_43 : decode cX0_differs 43 = .ok (.goto (-37), 3) := dk_167 255 219 (dk_at dksX0_differs_1 20 rfl rfl)
theorem dX0_differs_46 : decode cX0_differs 46 = .ok (.iload 4, 2) := dk_21 4 (dk_at dksX0_differs_2 0 rfl rfl)
theorem dX0_differs_48 : decode cX0_differs 48 = .ok (.newarray .long, 2) := dk_188_11 (dk_at dksX0_differs_2 2 rfl rfl)
theorem dX0_differs_50 : decode cX0_differs 50 = .ok (.astore 5, 2) := dk_58 5 (dk_at dksX0_differs_2 4 rfl rfl)
theorem dX0_differs_52 : decode cX0_differs 52 = .ok (.iconst 0, 1) := dk_3 (dk_at dksX0_differs_2 6 rfl rfl)
theorem dX0_differs_53 : decode cX0_differs 53 = .ok (.istore 6, 2) := dk_54 6 (dk_at dksX0_differs_2 7 rfl rfl)
theorem dX0_differs_55 : decode cX0_differs 55 = .ok (.iconst 0, 1) := dk_3 (dk_at dksX0_differs_2 9 rfl rfl)
theorem dX0_differs_56 : decode cX0_differs 56 = .ok (.istore 7, 2) := dk_54 7 (dk_at dksX0_differs_2 10 rfl rfl)
theorem dX0_differs_58 : decode cX0_differs 58 = .ok (.iload 7, 2) := dk_21 7 (dk_at dksX0_differs_2 12 rfl rfl)
theorem dX0_differs_60 : decode cX0_differs 60 = .ok (.bipush 12, 2) := dk_16 12 (dk_at dksX0_differs_2 14 rfl rfl)
theorem dX0_differs_62 : decode cX0_differs 62 = .ok (.if_icmp .ge 75, 3) := dk_162 0 75 (dk_at dksX0_differs_2 16 rfl rfl)
theorem dX0_differs_65 : decode cX0_differs 65 = .ok (.aload_n 2, 1) := dk_44 (dk_at dksX0_differs_2 19 rfl rfl)
theorem dX0_differs_66 : decode cX0_differs 66 = .ok (.getfield 119, 3) := dk_180 0 119 (dk_at dksX0_differs_2 20 rfl rfl)
theorem dX0_differs_69 : decode cX0_differs 69 = .ok (.iload 7, 2) := dk_21 7 (dk_at dksX0_differs_3 0 rfl rfl)
theorem dX0_differs_71 : decode cX0_differs 71 = .ok (.iaload, 1) := dk_46 (dk_at dksX0_differs_3 2 rfl rfl)
theorem dX0_differs_72 : decode cX0_differs 72 = .ok (.aload_n 3, 1) := dk_45 (dk_at dksX0_differs_3 3 rfl rfl)
theorem dX0_differs_73 : decode cX0_differs 73 = .ok (.getfield 119, 3) := dk_180 0 119 (dk_at dksX0_differs_3 4 rfl rfl)
theorem dX0_differs_76 : decode cX0_differs 76 = .ok (.iload 7, 2) := dk_21 7 (dk_at dksX0_differs_3 7 rfl rfl)
theorem dX0_differs_78 : decode cX0_differs 78 = .ok (.iaload, 1) := dk_46 (dk_at dksX0_differs_3 9 rfl rfl)
theorem dX0_differs_79 : decode cX0_differs 79 = .ok (.if_icmp .ne 6, 3) := dk_160 0 6 (dk_at dksX0_differs_3 10 rfl rfl)
theorem dX0_differs_82 : decode cX0_differs 82 = .ok (.goto 49, 3) := dk_167 0 49 (dk_at dksX0_differs_3 13 rfl rfl)
theorem dX0_differs_85 : decode cX0_differs 85 = .ok (.aload 5, 2) := dk_25 5 (dk_at dksX0_differs_3 16 rfl rfl)
theorem dX0_differs_87 : decode cX0_differs 87 = .ok (.iload 6, 2) := dk_21 6 (dk_at dksX0_differs_3 18 rfl rfl)
theorem dX0_differs_89 : decode cX0_differs 89 = .ok (.iload 7, 2) := dk_21 7 (dk_at dksX0_differs_3 20 rfl rfl)
theorem dX0_differs_91 : decode cX0_differs 91 = .ok (.i2l, 1) := dk_133 (dk_at dksX0_differs_3 22 rfl rfl)
theorem dX0_differs_92 : decode cX0_differs 92 = .ok (.lastore, 1) := dk_80 (dk_at dksX0_differs_3 23 rfl rfl)
theorem dX0_differs_93 : decode cX0_differs 93 = .ok (.aload 5, 2) := dk_25 5 (dk_at dksX0_differs_4 0 rfl rfl)
theorem dX0_differs_95 : decode cX0_differs 95 = .ok (.iload 6, 2) := dk_21 6 (dk_at dksX0_differs_4 2 rfl rfl)
theorem dX0_differs_97 : decode cX0_differs 97 = .ok (.iconst 1, 1) := dk_4 (dk_at dksX0_differs_4 4 rfl rfl)
theorem dX0_differs_98 : decode cX0_differs 98 = .ok (.iadd, 1) := dk_96 (dk_at dksX0_differs_4 5 rfl rfl)
theorem dX0_differs_99 : decode cX0_differs 99 = .ok (.aload_n 3, 1) := dk_45 (dk_at dksX0_differs_4 6 rfl rfl)
theorem dX0_differs_100 : decode cX0_differs 100 = .ok (.getfield 119, 3) := dk_180 0 119 (dk_at dksX0_differs_4 7 rfl rfl)
theorem dX0_differs_103 : decode cX0_differs 103 = .ok (.iload 7, 2) := dk_21 7 (dk_at dksX0_differs_4 10 rfl rfl)
theorem dX0_differs_105 : decode cX0_differs 105 = .ok (.iaload, 1) := dk_46 (dk_at dksX0_differs_4 12 rfl rfl)
theorem dX0_differs_106 : decode cX0_differs 106 = .ok (.iconst (-1), 1) := dk_2 (dk_at dksX0_differs_4 13 rfl rfl)
theorem dX0_differs_107 : decode cX0_differs 107 = .ok (.if_icmp .ne 7, 3) := dk_160 0 7 (dk_at dksX0_differs_4 14 rfl rfl)
theorem dX0_differs_110 : decode cX0_differs 110 = .ok (.lconst 0, 1) := dk_9 (dk_at dksX0_differs_4 17 rfl rfl)
theorem dX0_differs_111 : decode cX0_differs 111 = .ok (.goto 16, 3) := dk_167 0 16 (dk_at dksX0_differs_4 18 rfl rfl)
theorem dX0_differs_114 : decode cX0_differs 114 = .ok (.aload_n 0, 1) := dk_42 (dk_at dksX0_differs_4 21 rfl rfl)
theorem dX0_differs_115 : decode cX0_differs 115 = .ok (.getfield 9, 3) := dk_180 0 9 (dk_at dksX0_differs_5 0 rfl rfl)
theorem dX0_differs_118 : decode cX0_differs 118 = .ok (.aload_n 3, 1) := dk_45 (dk_at dksX0_differs_5 3 rfl rfl)
theorem dX0_differs_119 : decode cX0_differs 119 = .ok (.getfield 119, 3) := dk_180 0 119 (dk_at dksX0_differs_5 4 rfl rfl)
theorem dX0_differs_122 : decode cX0_differs 122 = .ok (.iload 7, 2) := dk_21 7 (dk_at dksX0_differs_5 7 rfl rfl)
theorem dX0_differs_124 : decode cX0_differs 124 = .ok (.iaload, 1) := dk_46 (dk_at dksX0_differs_5 9 rfl rfl)
theorem dX0_differs_125 : decode cX0_differs 125 = .ok (.iaload, 1) := dk_46 (dk_at dksX0_differs_5 10 rfl rfl)
theorem dX0_differs_126 : decode cX0_differs 126 = .ok (.i2l, 1) := dk_133 (dk_at dksX0_differs_5 11 rfl rfl)
theorem dX0_differs_127 : decode cX0_differs 127 = .ok (.lastore, 1) := dk_80 (dk_at dksX0_differs_5 12 rfl rfl)
theorem dX0_differs_128 : decode cX0_differs 128 = .ok (.iinc 6 2, 3) := dk_132 6 2 (dk_at dksX0_differs_5 13 rfl rfl)
theorem dX0_differs_131 : decode cX0_differs 131 = .ok (.iinc 7 1, 3) := dk_132 7 1 (dk_at dksX0_differs_5 16 rfl rfl)
theorem dX0_differs_134 : decode cX0_differs 134 = .ok (.goto (-76), 3) := dk_167 255 180 (dk_at dksX0_differs_5 19 rfl rfl)
theorem dX0_differs_137 : decode cX0_differs 137 = .ok (.aload_n 0, 1) := dk_42 (dk_at dksX0_differs_5 22 rfl rfl)
theorem dX0_differs_138 : decode cX0_differs 138 = .ok (.getfield 36, 3) := dk_180 0 36 (dk_at dksX0_differs_6 0 rfl rfl)
theorem dX0_differs_141 : decode cX0_differs 141 = .ok (.iload_n 1, 1) := dk_27 (dk_at dksX0_differs_6 3 rfl rfl)
theorem dX0_differs_142 : decode cX0_differs 142 = .ok (.aaload, 1) := dk_50 (dk_at dksX0_differs_6 4 rfl rfl)
theorem dX0_differs_143 : decode cX0_differs 143 = .ok (.aload 5, 2) := dk_25 5 (dk_at dksX0_differs_6 5 rfl rfl)
theorem dX0_differs_145 : decode cX0_differs 145 = .ok (.putfield 376, 3) := dk_181 1 120 (dk_at dksX0_differs_6 7 rfl rfl)
theorem dX0_differs_148 : decode cX0_differs 148 = .ok (.iload 4, 2) := dk_21 4 (dk_at dksX0_differs_6 10 rfl rfl)
theorem dX0_differs_150 : decode cX0_differs 150 = .ok (.ireturn, 1) := dk_172 (dk_at dksX0_differs_6 12 rfl rfl)
abbrev cX0_apply : ByteArray := prog_1_method_88_code
def yX0_apply : MethodName := ⟨RX0, "apply", "(III)I"⟩
def dkwX0_apply_2 : List UInt8 := [172, 58, 4, 16, 245, 172, 58, 4, 16, 243, 172]
abbrev dktX0_apply_2 : List UInt8 := dkwX0_apply_2 ++ []
def dkwX0_apply_1 : List UInt8 := [182, 0, 161, 192, 0, 93, 42, 180, 0, 36, 28, 50, 180, 1, 120, 29, 182, 1, 151, 172, 58, 4, 16, 244]
abbrev dktX0_apply_1 : List UInt8 := dkwX0_apply_1 ++ dktX0_apply_2
def dkwX0_apply_0 : List UInt8 := [28, 184, 1, 117, 153, 0, 13, 29, 133, 9, 10, 184, 0, 74, 154, 0, 6, 16, 254, 172, 42, 42, 27]
abbrev dktX0_apply_0 : List UInt8 := dkwX0_apply_0 ++ dktX0_apply_1
theorem dksX0_apply_0 : cX0_apply.data.toList.drop 0 = dktX0_apply_0 := by decide +kernel
theorem dksX0_apply_1 : cX0_apply.data.toList.drop 23 = dktX0_apply_1 := dk_seg dksX0_apply_0 23 rfl rfl
theorem dksX0_apply_2 : cX0_apply.data.toList.drop 47 = dktX0_apply_2 := dk_seg dksX0_apply_1 24 rfl rfl
theorem dX0_apply_0 : decode cX0_apply 0 = .ok (.iload_n 2, 1) := dk_28 (dk_at dksX0_apply_0 0 rfl rfl)
theorem dX0_apply_1 : decode cX0_apply 1 = .ok (.invokestatic 373, 3) := dk_184 1 117 (dk_at dksX0_apply_0 1 rfl rfl)
theorem dX0_apply_4 : decode cX0_apply 4 = .ok (.ifCond .eq 13, 3) := dk_153 0 13 (dk_at dksX0_apply_0 4 rfl rfl)
theorem dX0_apply_7 : decode cX0_apply 7 = .ok (.iload_n 3, 1) := dk_29 (dk_at dksX0_apply_0 7 rfl rfl)
theorem dX0_apply_8 : decode cX0_apply 8 = .ok (.i2l, 1) := dk_133 (dk_at dksX0_apply_0 8 rfl rfl)
theorem dX0_apply_9 : decode cX0_apply 9 = .ok (.lconst 0, 1) := dk_9 (dk_at dksX0_apply_0 9 rfl rfl)
theorem dX0_apply_10 : decode cX0_apply 10 = .ok (.lconst 1, 1) := dk_10 (dk_at dksX0_apply_0 10 rfl rfl)
theorem dX0_apply_11 : decode cX0_apply 11 = .ok (.invokestatic 74, 3) := dk_184 0 74 (dk_at dksX0_apply_0 11 rfl rfl)
theorem dX0_apply_14 : decode cX0_apply 14 = .ok (.ifCond .ne 6, 3) := dk_154 0 6 (dk_at dksX0_apply_0 14 rfl rfl)
theorem dX0_apply_17 : decode cX0_apply 17 = .ok (.bipush (-2), 2) := dk_16 254 (dk_at dksX0_apply_0 17 rfl rfl)
theorem dX0_apply_19 : decode cX0_apply 19 = .ok (.ireturn, 1) := dk_172 (dk_at dksX0_apply_0 19 rfl rfl)
theorem dX0_apply_20 : decode cX0_apply 20 = .ok (.aload_n 0, 1) := dk_42 (dk_at dksX0_apply_0 20 rfl rfl)
theorem dX0_apply_21 : decode cX0_apply 21 = .ok (.aload_n 0, 1) := dk_42 (dk_at dksX0_apply_0 21 rfl rfl)
theorem dX0_apply_22 : decode cX0_apply 22 = .ok (.iload_n 1, 1) := dk_27 (dk_at dksX0_apply_0 22 rfl rfl)
theorem dX0_apply_23 : decode cX0_apply 23 = .ok (.invokevirtual 161, 3) := dk_182 0 161 (dk_at dksX0_apply_1 0 rfl rfl)
theorem dX0_apply_26 : decode cX0_apply 26 = .ok (.checkcast 93, 3) := dk_192 0 93 (dk_at dksX0_apply_1 3 rfl rfl)
theorem dX0_apply_29 : decode cX0_apply 29 = .ok (.aload_n 0, 1) := dk_42 (dk_at dksX0_apply_1 6 rfl rfl)
theorem dX0_apply_30 : decode cX0_apply 30 = .ok (.getfield 36, 3) := dk_180 0 36 (dk_at dksX0_apply_1 7 rfl rfl)
theorem dX0_apply_33 : decode cX0_apply 33 = .ok (.iload_n 2, 1) := dk_28 (dk_at dksX0_apply_1 10 rfl rfl)
theorem dX0_apply_34 : decode cX0_apply 34 = .ok (.aaload, 1) := dk_50 (dk_at dksX0_apply_1 11 rfl rfl)
theorem dX0_apply_35 : decode cX0_apply 35 = .ok (.getfield 376, 3) := dk_180 1 120 (dk_at dksX0_apply_1 12 rfl rfl)
theorem dX0_apply_38 : decode cX0_apply 38 = .ok (.iload_n 3, 1) := dk_29 (dk_at dksX0_apply_1 15 rfl rfl)
theorem dX0_apply_39 : decode cX0_apply 39 = .ok (.invokevirtual 407, 3) := dk_182 1 151 (dk_at dksX0_apply_1 16 rfl rfl)
theorem dX0_apply_42 : decode cX0_apply 42 = .ok (.ireturn, 1) := dk_172 (dk_at dksX0_apply_1 19 rfl rfl)
theorem dX0_apply_43 : decode cX0_apply 43 = .ok (.astore 4, 2) := dk_58 4 (dk_at dksX0_apply_1 20 rfl rfl)
theorem dX0_apply_45 : decode cX0_apply 45 = .ok (.bipush (-12), 2) := dk_16 244 (dk_at dksX0_apply_1 22 rfl rfl)
theorem dX0_apply_47 : decode cX0_apply 47 = .ok (.ireturn, 1) := dk_172 (dk_at dksX0_apply_2 0 rfl rfl)
theorem dX0_apply_48 : decode cX0_apply 48 = .ok (.astore 4, 2) := dk_58 4 (dk_at dksX0_apply_2 1 rfl rfl)
theorem dX0_apply_50 : decode cX0_apply 50 = .ok (.bipush (-11), 2) := dk_16 245 (dk_at dksX0_apply_2 3 rfl rfl)
theorem dX0_apply_52 : decode cX0_apply 52 = .ok (.ireturn, 1) := dk_172 (dk_at dksX0_apply_2 5 rfl rfl)
theorem dX0_apply_53 : decode cX0_apply 53 = .ok (.astore 4, 2) := dk_58 4 (dk_at dksX0_apply_2 6 rfl rfl)
theorem dX0_apply_55 : decode cX0_apply 55 = .ok (.bipush (-13), 2) := dk_16 243 (dk_at dksX0_apply_2 8 rfl rfl)
theorem dX0_apply_57 : decode cX0_apply 57 = .ok (.ireturn, 1) := dk_172 (dk_at dksX0_apply_2 10 rfl rfl)
abbrev cX0_applies : ByteArray := prog_1_method_87_code
def yX0_applies : MethodName := ⟨RX0, "applies", "(LDeadListPool$Folder;Ljava/lang/Object;I)I"⟩
def dkwX0_applies_5 : List UInt8 := [182, 0, 165, 155, 0, 7, 4, 167, 0, 4, 3, 96, 54, 6, 132, 7, 2, 167, 255, 140, 21, 6, 172]
abbrev dktX0_applies_5 : List UInt8 := dkwX0_applies_5 ++ []
def dkwX0_applies_4 : List UInt8 := [182, 0, 155, 132, 6, 1, 167, 0, 32, 21, 12, 153, 0, 27, 21, 6, 42, 43, 22, 8, 136, 22, 10, 136]
abbrev dktX0_applies_4 : List UInt8 := dkwX0_applies_4 ++ dktX0_applies_5
def dkwX0_applies_3 : List UInt8 := [4, 167, 0, 4, 3, 54, 12, 21, 12, 153, 0, 24, 22, 10, 9, 148, 154, 0, 17, 42, 43, 22, 8, 136]
abbrev dktX0_applies_3 : List UInt8 := dkwX0_applies_3 ++ dktX0_applies_4
def dkwX0_applies_2 : List UInt8 := [22, 8, 9, 20, 0, 159, 184, 0, 74, 153, 0, 19, 22, 10, 9, 20, 0, 106, 184, 0, 74, 153, 0, 7]
abbrev dktX0_applies_2 : List UInt8 := dkwX0_applies_2 ++ dktX0_applies_3
def dkwX0_applies_1 : List UInt8 := [162, 0, 115, 44, 29, 21, 7, 184, 1, 140, 55, 8, 44, 29, 21, 7, 4, 96, 184, 1, 140, 55, 10]
abbrev dktX0_applies_1 : List UInt8 := dkwX0_applies_1 ++ dktX0_applies_2
def dkwX0_applies_0 : List UInt8 := [43, 180, 0, 177, 54, 4, 44, 29, 184, 1, 137, 54, 5, 3, 54, 6, 3, 54, 7, 21, 7, 21, 5]
abbrev dktX0_applies_0 : List UInt8 := dkwX0_applies_0 ++ dktX0_applies_1
theorem dksX0_applies_0 : cX0_applies.data.toList.drop 0 = dktX0_applies_0 := by decide +kernel
theorem dksX0_applies_1 : cX0_applies.data.toList.drop 23 = dktX0_applies_1 := dk_seg dksX0_applies_0 23 rfl rfl
theorem dksX0_applies_2 : cX0_applies.data.toList.drop 46 = dktX0_applies_2 := dk_seg dksX0_applies_1 23 rfl rfl
theorem dksX0_applies_3 : cX0_applies.data.toList.drop 70 = dktX0_applies_3 := dk_seg dksX0_applies_2 24 rfl rfl
theorem dksX0_applies_4 : cX0_applies.data.toList.drop 94 = dktX0_applies_4 := dk_seg dksX0_applies_3 24 rfl rfl
theorem dksX0_applies_5 : cX0_applies.data.toList.drop 118 = dktX0_applies_5 := dk_seg dksX0_applies_4 24 rfl rfl
theorem dX0_applies_0 : decode cX0_applies 0 = .ok (.aload_n 1, 1) := dk_43 (dk_at dksX0_applies_0 0 rfl rfl)
theorem dX0_applies_1 : decode cX0_applies 1 = .ok (.getfield 177, 3) := dk_180 0 177 (dk_at dksX0_applies_0 1 rfl rfl)
theorem dX0_applies_4 : decode cX0_applies 4 = .ok (.istore 4, 2) := dk_54 4 (dk_at dksX0_applies_0 4 rfl rfl)
theorem dX0_applies_6 : decode cX0_applies 6 = .ok (.aload_n 2, 1) := dk_44 (dk_at dksX0_applies_0 6 rfl rfl)
theorem dX0_applies_7 : decode cX0_applies 7 = .ok (.iload_n 3, 1) := dk_29 (dk_at dksX0_applies_0 7 rfl rfl)
theorem dX0_applies_8 : decode cX0_applies 8 = .ok (.invokestatic 393, 3) := dk_184 1 137 (dk_at dksX0_applies_0 8 rfl rfl)
theorem dX0_applies_11 : decode cX0_applies 11 = .ok (.istore 5, 2) := dk_54 5 (dk_at dksX0_applies_0 11 rfl rfl)
theorem dX0_applies_13 : decode cX0_applies 13 = .ok (.iconst 0, 1) := dk_3 (dk_at dksX0_applies_0 13 rfl rfl)
theorem dX0_applies_14 : decode cX0_applies 14 = .ok (.istore 6, 2) := dk_54 6 (dk_at dksX0_applies_0 14 rfl rfl)
theorem dX0_applies_16 : decode cX0_applies 16 = .ok (.iconst 0, 1) := dk_3 (dk_at dksX0_applies_0 16 rfl rfl)
theorem dX0_applies_17 : decode cX0_applies 17 = .ok (.istore 7, 2) := dk_54 7 (dk_at dksX0_applies_0 17 rfl rfl)
theorem dX0_applies_19 : decode cX0_applies 19 = .ok (.iload 7, 2) := dk_21 7 (dk_at dksX0_applies_0 19 rfl rfl)
theorem dX0_applies_21 : decode cX0_applies 21 = .ok (.iload 5, 2) := dk_21 5 (dk_at dksX0_applies_0 21 rfl rfl)
theorem dX0_applies_23 : decode cX0_applies 23 = .ok (.if_icmp .ge 115, 3) := dk_162 0 115 (dk_at dksX0_applies_1 0 rfl rfl)
theorem dX0_applies_26 : decode cX0_applies 26 = .ok (.aload_n 2, 1) := dk_44 (dk_at dksX0_applies_1 3 rfl rfl)
theorem dX0_applies_27 : decode cX0_applies 27 = .ok (.iload_n 3, 1) := dk_29 (dk_at dksX0_applies_1 4 rfl rfl)
theorem dX0_applies_28 : decode cX0_applies 28 = .ok (.iload 7, 2) := dk_21 7 (dk_at dksX0_applies_1 5 rfl rfl)
theorem dX0_applies_30 : decode cX0_applies 30 = .ok (.invokestatic 396, 3) := dk_184 1 140 (dk_at dksX0_applies_1 7 rfl rfl)
theorem dX0_applies_33 : decode cX0_applies 33 = .ok (.lstore 8, 2) := dk_55 8 (dk_at dksX0_applies_1 10 rfl rfl)
theorem dX0_applies_35 : decode cX0_applies 35 = .ok (.aload_n 2, 1) := dk_44 (dk_at dksX0_applies_1 12 rfl rfl)
theorem dX0_applies_36 : decode cX0_applies 36 = .ok (.iload_n 3, 1) := dk_29 (dk_at dksX0_applies_1 13 rfl rfl)
theorem dX0_applies_37 : decode cX0_applies 37 = .ok (.iload 7, 2) := dk_21 7 (dk_at dksX0_applies_1 14 rfl rfl)
theorem dX0_applies_39 : decode cX0_applies 39 = .ok (.iconst 1, 1) := dk_4 (dk_at dksX0_applies_1 16 rfl rfl)
theorem dX0_applies_40 : decode cX0_applies 40 = .ok (.iadd, 1) := dk_96 (dk_at dksX0_applies_1 17 rfl rfl)
theorem dX0_applies_41 : decode cX0_applies 41 = .ok (.invokestatic 396, 3) := dk_184 1 140 (dk_at dksX0_applies_1 18 rfl rfl)
theorem dX0_applies_44 : decode cX0_applies 44 = .ok (.lstore 10, 2) := dk_55 10 (dk_at dksX0_applies_1 21 rfl rfl)
theorem dX0_applies_46 : decode cX0_applies 46 = .ok (.lload 8, 2) := dk_22 8 (dk_at dksX0_applies_2 0 rfl rfl)
theorem dX0_applies_48 : decode cX0_applies 48 = .ok (.lconst 0, 1) := dk_9 (dk_at dksX0_applies_2 2 rfl rfl)
theorem dX0_applies_49 : decode cX0_applies 49 = .ok (.ldc2_w 159, 3) := dk_20 0 159 (dk_at dksX0_applies_2 3 rfl rfl)
theorem dX0_applies_52 : decode cX0_applies 52 = .ok (.invokestatic 74, 3) := dk_184 0 74 (dk_at dksX0_applies_2 6 rfl rfl)
theorem dX0_applies_55 : decode cX0_applies 55 = .ok (.ifCond .eq 19, 3) := dk_153 0 19 (dk_at dksX0_applies_2 9 rfl rfl)
theorem dX0_applies_58 : decode cX0_applies 58 = .ok (.lload 10, 2) := dk_22 10 (dk_at dksX0_applies_2 12 rfl rfl)
theorem dX0_applies_60 : decode cX0_applies 60 = .ok (.lconst 0, 1) := dk_9 (dk_at dksX0_applies_2 14 rfl rfl)
theorem dX0_applies_61 : decode cX0_applies 61 = .ok (.ldc2_w 106, 3) := dk_20 0 106 (dk_at dksX0_applies_2 15 rfl rfl)
theorem dX0_applies_64 : decode cX0_applies 64 = .ok (.invokestatic 74, 3) := dk_184 0 74 (dk_at dksX0_applies_2 18 rfl rfl)
theorem dX0_applies_67 : decode cX0_applies 67 = .ok (.ifCond .eq 7, 3) := dk_153 0 7 (dk_at dksX0_applies_2 21 rfl rfl)
theorem dX0_applies_70 : decode cX0_applies 70 = .ok (.iconst 1, 1) := dk_4 (dk_at dksX0_applies_3 0 rfl rfl)
theorem dX0_applies_71 : decode cX0_applies 71 = .ok (.goto 4, 3) := dk_167 0 4 (dk_at dksX0_applies_3 1 rfl rfl)
theorem dX0_applies_74 : decode cX0_applies 74 = .ok (.iconst 0, 1) := dk_3 (dk_at dksX0_applies_3 4 rfl rfl)
theorem dX0_applies_75 : decode cX0_applies 75 = .ok (.istore 12, 2) := dk_54 12 (dk_at dksX0_applies_3 5 rfl rfl)
theorem dX0_applies_77 : decode cX0_applies 77 = .ok (.iload 12, 2) := dk_21 12 (dk_at dksX0_applies_3 7 rfl rfl)
theorem dX0_applies_79 : decode cX0_applies 79 = .ok (.ifCond .eq 24, 3) := dk_153 0 24 (dk_at dksX0_applies_3 9 rfl rfl)
theorem dX0_applies_82 : decode cX0_applies 82 = .ok (.lload 10, 2) := dk_22 10 (dk_at dksX0_applies_3 12 rfl rfl)
theorem dX0_applies_84 : decode cX0_applies 84 = .ok (.lconst 0, 1) := dk_9 (dk_at dksX0_applies_3 14 rfl rfl)
theorem dX0_applies_85 : decode cX0_applies 85 = .ok (.lcmp, 1) := dk_148 (dk_at dksX0_applies_3 15 rfl rfl)
theorem dX0_applies_86 : decode cX0_applies 86 = .ok (.ifCond .ne 17, 3) := dk_154 0 17 (dk_at dksX0_applies_3 16 rfl rfl)
theorem dX0_applies_89 : decode cX0_applies 89 = .ok (.aload_n 0, 1) := dk_42 (dk_at dksX0_applies_3 19 rfl rfl)
theorem dX0_applies_90 : decode cX0_applies 90 = .ok (.aload_n 1, 1) := dk_43 (dk_at dksX0_applies_3 20 rfl rfl)
theorem dX0_applies_91 : decode cX0_applies 91 = .ok (.lload 8, 2) := dk_22 8 (dk_at dksX0_applies_3 21 rfl rfl)
theorem dX0_applies_93 : decode cX0_applies 93 = .ok (.l2i, 1) := dk_136 (dk_at dksX0_applies_3 23 rfl rfl)
theorem dX0_applies_94 : decode cX0_applies 94 = .ok (.invokevirtual 155, 3) := dk_182 0 155 (dk_at dksX0_applies_4 0 rfl rfl)
theorem dX0_applies_97 : decode cX0_applies 97 = .ok (.iinc 6 1, 3) := dk_132 6 1 (dk_at dksX0_applies_4 3 rfl rfl)
theorem dX0_applies_100 : decode cX0_applies 100 = .ok (.goto 32, 3) := dk_167 0 32 (dk_at dksX0_applies_4 6 rfl rfl)
theorem dX0_applies_103 : decode cX0_applies 103 = .ok (.iload 12, 2) := dk_21 12 (dk_at dksX0_applies_4 9 rfl rfl)
theorem dX0_applies_105 : decode cX0_applies 105 = .ok (.ifCond .eq 27, 3) := dk_153 0 27 (dk_at dksX0_applies_4 11 rfl rfl)
theorem dX0_applies_108 : decode cX0_applies 108 = .ok (.iload 6, 2) := dk_21 6 (dk_at dksX0_applies_4 14 rfl rfl)
theorem dX0_applies_110 : decode cX0_applies 110 = .ok (.aload_n 0, 1) := dk_42 (dk_at dksX0_applies_4 16 rfl rfl)
theorem dX0_applies_111 : decode cX0_applies 111 = .ok (.aload_n 1, 1) := dk_43 (dk_at dksX0_applies_4 17 rfl rfl)
theorem dX0_applies_112 : decode cX0_applies 112 = .ok (.lload 8, 2) := dk_22 8 (dk_at dksX0_applies_4 18 rfl rfl)
theorem dX0_applies_114 : decode cX0_applies 114 = .ok (.l2i, 1) := dk_136 (dk_at dksX0_applies_4 20 rfl rfl)
theorem dX0_applies_115 : decode cX0_applies 115 = .ok (.lload 10, 2) := dk_22 10 (dk_at dksX0_applies_4 21 rfl rfl)
theorem dX0_applies_117 : decode cX0_applies 117 = .ok (.l2i, 1) := dk_136 (dk_at dksX0_applies_4 23 rfl rfl)
theorem dX0_applies_118 : decode cX0_applies 118 = .ok (.invokevirtual 165, 3) := dk_182 0 165 (dk_at dksX0_applies_5 0 rfl rfl)
theorem dX0_applies_121 : decode cX0_applies 121 = .ok (.ifCond .lt 7, 3) := dk_155 0 7 (dk_at dksX0_applies_5 3 rfl rfl)
theorem dX0_applies_124 : decode cX0_applies 124 = .ok (.iconst 1, 1) := dk_4 (dk_at dksX0_applies_5 6 rfl rfl)
theorem dX0_applies_125 : decode cX0_applies 125 = .ok (.goto 4, 3) := dk_167 0 4 (dk_at dksX0_applies_5 7 rfl rfl)
theorem dX0_applies_128 : decode cX0_applies 128 = .ok (.iconst 0, 1) := dk_3 (dk_at dksX0_applies_5 10 rfl rfl)
theorem dX0_applies_129 : decode cX0_applies 129 = .ok (.iadd, 1) := dk_96 (dk_at dksX0_applies_5 11 rfl rfl)
theorem dX0_applies_130 : decode cX0_applies 130 = .ok (.istore 6, 2) := dk_54 6 (dk_at dksX0_applies_5 12 rfl rfl)
theorem dX0_applies_132 : decode cX0_applies 132 = .ok (.iinc 7 2, 3) := dk_132 7 2 (dk_at dksX0_applies_5 14 rfl rfl)
theorem dX0_applies_135 : decode cX0_applies 135 = .ok (.goto (-116), 3) := dk_167 255 140 (dk_at dksX0_applies_5 17 rfl rfl)
theorem dX0_applies_138 : decode cX0_applies 138 = .ok (.iload 6, 2) := dk_21 6 (dk_at dksX0_applies_5 20 rfl rfl)
theorem dX0_applies_140 : decode cX0_applies 140 = .ok (.ireturn, 1) := dk_172 (dk_at dksX0_applies_5 22 rfl rfl)
abbrev cX0_drawn : ByteArray := prog_1_method_94_code
def yX0_drawn : MethodName := ⟨RX0, "drawn", "(III)J"⟩
def dkwX0_drawn_6 : List UInt8 := [22, 6, 173, 58, 10, 42, 42, 180, 0, 47, 182, 1, 204, 25, 10, 191]
abbrev dktX0_drawn_6 : List UInt8 := dkwX0_drawn_6 ++ []
def dkwX0_drawn_5 : List UInt8 := [132, 6, 1, 167, 255, 181, 42, 29, 21, 4, 182, 1, 200, 55, 6, 42, 42, 180, 0, 47, 182, 1, 204]
abbrev dktX0_drawn_5 : List UInt8 := dkwX0_drawn_5 ++ dktX0_drawn_6
def dkwX0_drawn_4 : List UInt8 := [16, 24, 112, 21, 8, 16, 9, 124, 16, 24, 112, 21, 5, 16, 9, 124, 16, 24, 112, 182, 1, 197, 54, 9]
abbrev dktX0_drawn_4 : List UInt8 := dkwX0_drawn_4 ++ dktX0_drawn_5
def dkwX0_drawn_3 : List UInt8 := [17, 48, 57, 96, 54, 8, 21, 8, 19, 1, 196, 104, 17, 48, 57, 96, 54, 5, 42, 21, 7, 16, 9, 124]
abbrev dktX0_drawn_3 : List UInt8 := dkwX0_drawn_3 ++ dktX0_drawn_4
def dkwX0_drawn_2 : List UInt8 := [21, 6, 28, 162, 0, 75, 21, 5, 19, 1, 196, 104, 17, 48, 57, 96, 54, 7, 21, 7, 19, 1, 196, 104]
abbrev dktX0_drawn_2 : List UInt8 := dkwX0_drawn_2 ++ dktX0_drawn_3
def dkwX0_drawn_1 : List UInt8 := [20, 1, 44, 173, 42, 180, 0, 50, 54, 4, 27, 54, 5, 42, 42, 180, 0, 47, 182, 1, 192, 3, 54, 6]
abbrev dktX0_drawn_1 : List UInt8 := dkwX0_drawn_1 ++ dktX0_drawn_2
def dkwX0_drawn_0 : List UInt8 := [28, 133, 9, 20, 1, 190, 184, 0, 74, 153, 0, 15, 29, 133, 9, 20, 1, 115, 184, 0, 74, 154, 0, 7]
abbrev dktX0_drawn_0 : List UInt8 := dkwX0_drawn_0 ++ dktX0_drawn_1
theorem dksX0_drawn_0 : cX0_drawn.data.toList.drop 0 = dktX0_drawn_0 := by decide +kernel
theorem dksX0_drawn_1 : cX0_drawn.data.toList.drop 24 = dktX0_drawn_1 := dk_seg dksX0_drawn_0 24 rfl rfl
theorem dksX0_drawn_2 : cX0_drawn.data.toList.drop 48 = dktX0_drawn_2 := dk_seg dksX0_drawn_1 24 rfl rfl
theorem dksX0_drawn_3 : cX0_drawn.data.toList.drop 72 = dktX0_drawn_3 := dk_seg dksX0_drawn_2 24 rfl rfl
theorem dksX0_drawn_4 : cX0_drawn.data.toList.drop 96 = dktX0_drawn_4 := dk_seg dksX0_drawn_3 24 rfl rfl
theorem dksX0_drawn_5 : cX0_drawn.data.toList.drop 120 = dktX0_drawn_5 := dk_seg dksX0_drawn_4 24 rfl rfl
theorem dksX0_drawn_6 : cX0_drawn.data.toList.drop 143 = dktX0_drawn_6 := dk_seg dksX0_drawn_5 23 rfl rfl
theorem dX0_drawn_0 : decode cX0_drawn 0 = .ok (.iload_n 2, 1) := dk_28 (dk_at dksX0_drawn_0 0 rfl rfl)
theorem dX0_drawn_1 : decode cX0_drawn 1 = .ok (.i2l, 1) := dk_133 (dk_at dksX0_drawn_0 1 rfl rfl)
theorem dX0_drawn_2 : decode cX0_drawn 2 = .ok (.lconst 0, 1) := dk_9 (dk_at dksX0_drawn_0 2 rfl rfl)
theorem dX0_drawn_3 : decode cX0_drawn 3 = .ok (.ldc2_w 446, 3) := dk_20 1 190 (dk_at dksX0_drawn_0 3 rfl rfl)
theorem dX0_drawn_6 : decode cX0_drawn 6 = .ok (.invokestatic 74, 3) := dk_184 0 74 (dk_at dksX0_drawn_0 6 rfl rfl)
theorem dX0_drawn_9 : decode cX0_drawn 9 = .ok (.ifCond .eq 15, 3) := dk_153 0 15 (dk_at dksX0_drawn_0 9 rfl rfl)
theorem dX0_drawn_12 : decode cX0_drawn 12 = .ok (.iload_n 3, 1) := dk_29 (dk_at dksX0_drawn_0 12 rfl rfl)
theorem dX0_drawn_13 : decode cX0_drawn 13 = .ok (.i2l, 1) := dk_133 (dk_at dksX0_drawn_0 13 rfl rfl)
theorem dX0_drawn_14 : decode cX0_drawn 14 = .ok (.lconst 0, 1) := dk_9 (dk_at dksX0_drawn_0 14 rfl rfl)
theorem dX0_drawn_15 : decode cX0_drawn 15 = .ok (.ldc2_w 371, 3) := dk_20 1 115 (dk_at dksX0_drawn_0 15 rfl rfl)
theorem dX0_drawn_18 : decode cX0_drawn 18 = .ok (.invokestatic 74, 3) := dk_184 0 74 (dk_at dksX0_drawn_0 18 rfl rfl)
theorem dX0_drawn_21 : decode cX0_drawn 21 = .ok (.ifCond .ne 7, 3) := dk_154 0 7 (dk_at dksX0_drawn_0 21 rfl rfl)
theorem dX0_drawn_24 : decode cX0_drawn 24 = .ok (.ldc2_w 300, 3) := dk_20 1 44 (dk_at dksX0_drawn_1 0 rfl rfl)
theorem dX0_drawn_27 : decode cX0_drawn 27 = .ok (.lreturn, 1) := dk_173 (dk_at dksX0_drawn_1 3 rfl rfl)
theorem dX0_drawn_28 : decode cX0_drawn 28 = .ok (.aload_n 0, 1) := dk_42 (dk_at dksX0_drawn_1 4 rfl rfl)
theorem dX0_drawn_29 : decode cX0_drawn 29 = .ok (.getfield 50, 3) := dk_180 0 50 (dk_at dksX0_drawn_1 5 rfl rfl)
theorem dX0_drawn_32 : decode cX0_drawn 32 = .ok (.istore 4, 2) := dk_54 4 (dk_at dksX0_drawn_1 8 rfl rfl)
theorem dX0_drawn_34 : decode cX0_drawn 34 = .ok (.iload_n 1, 1) := dk_27 (dk_at dksX0_drawn_1 10 rfl rfl)
theorem dX0_drawn_35 : decode cX0_drawn 35 = .ok (.istore 5, 2) := dk_54 5 (dk_at dksX0_drawn_1 11 rfl rfl)
theorem dX0_drawn_37 : decode cX0_drawn 37 = .ok (.aload_n 0, 1) := dk_42 (dk_at dksX0_drawn_1 13 rfl rfl)
theorem dX0_drawn_38 : decode cX0_drawn 38 = .ok (.aload_n 0, 1) := dk_42 (dk_at dksX0_drawn_1 14 rfl rfl)
theorem dX0_drawn_39 : decode cX0_drawn 39 = .ok (.getfield 47, 3) := dk_180 0 47 (dk_at dksX0_drawn_1 15 rfl rfl)
theorem dX0_drawn_42 : decode cX0_drawn 42 = .ok (.invokevirtual 448, 3) := dk_182 1 192 (dk_at dksX0_drawn_1 18 rfl rfl)
theorem dX0_drawn_45 : decode cX0_drawn 45 = .ok (.iconst 0, 1) := dk_3 (dk_at dksX0_drawn_1 21 rfl rfl)
theorem dX0_drawn_46 : decode cX0_drawn 46 = .ok (.istore 6, 2) := dk_54 6 (dk_at dksX0_drawn_1 22 rfl rfl)
theorem dX0_drawn_48 : decode cX0_drawn 48 = .ok (.iload 6, 2) := dk_21 6 (dk_at dksX0_drawn_2 0 rfl rfl)
theorem dX0_drawn_50 : decode cX0_drawn 50 = .ok (.iload_n 2, 1) := dk_28 (dk_at dksX0_drawn_2 2 rfl rfl)
theorem dX0_drawn_51 : decode cX0_drawn 51 = .ok (.if_icmp .ge 75, 3) := dk_162 0 75 (dk_at dksX0_drawn_2 3 rfl rfl)
theorem dX0_drawn_54 : decode cX0_drawn 54 = .ok (.iload 5, 2) := dk_21 5 (dk_at dksX0_drawn_2 6 rfl rfl)
theorem dX0_drawn_56 : decode cX0_drawn 56 = .ok (.ldc_w 452, 3) := dk_19 1 196 (dk_at dksX0_drawn_2 8 rfl rfl)
theorem dX0_drawn_59 : decode cX0_drawn 59 = .ok (.imul, 1) := dk_104 (dk_at dksX0_drawn_2 11 rfl rfl)
theorem dX0_drawn_60 : decode cX0_drawn 60 = .ok (.sipush 12345, 3) := dk_17 48 57 (dk_at dksX0_drawn_2 12 rfl rfl)
theorem dX0_drawn_63 : decode cX0_drawn 63 = .ok (.iadd, 1) := dk_96 (dk_at dksX0_drawn_2 15 rfl rfl)
theorem dX0_drawn_64 : decode cX0_drawn 64 = .ok (.istore 7, 2) := dk_54 7 (dk_at dksX0_drawn_2 16 rfl rfl)
theorem dX0_drawn_66 : decode cX0_drawn 66 = .ok (.iload 7, 2) := dk_21 7 (dk_at dksX0_drawn_2 18 rfl rfl)
theorem dX0_drawn_68 : decode cX0_drawn 68 = .ok (.ldc_w 452, 3) := dk_19 1 196 (dk_at dksX0_drawn_2 20 rfl rfl)
theorem dX0_drawn_71 : decode cX0_drawn 71 = .ok (.imul, 1) := dk_104 (dk_at dksX0_drawn_2 23 rfl rfl)
theorem dX0_drawn_72 : decode cX0_drawn 72 = .ok (.sipush 12345, 3) := dk_17 48 57 (dk_at dksX0_drawn_3 0 rfl rfl)
theorem dX0_drawn_75 : decode cX0_drawn 75 = .ok (.iadd, 1) := dk_96 (dk_at dksX0_drawn_3 3 rfl rfl)
theorem dX0_drawn_76 : decode cX0_drawn 76 = .ok (.istore 8, 2) := dk_54 8 (dk_at dksX0_drawn_3 4 rfl rfl)
theorem dX0_drawn_78 : decode cX0_drawn 78 = .ok (.iload 8, 2) := dk_21 8 (dk_at dksX0_drawn_3 6 rfl rfl)
theorem dX0_drawn_80 : decode cX0_drawn 80 = .ok (.ldc_w 452, 3) := dk_19 1 196 (dk_at dksX0_drawn_3 8 rfl rfl)
theorem dX0_drawn_83 : decode cX0_drawn 83 = .ok (.imul, 1) := dk_104 (dk_at dksX0_drawn_3 11 rfl rfl)
theorem dX0_drawn_84 : decode cX0_drawn 84 = .ok (.sipush 12345, 3) := dk_17 48 57 (dk_at dksX0_drawn_3 12 rfl rfl)
theorem dX0_drawn_87 : decode cX0_drawn 87 = .ok (.iadd, 1) := dk_96 (dk_at dksX0_drawn_3 15 rfl rfl)
theorem dX0_drawn_88 : decode cX0_drawn 88 = .ok (.istore 5, 2) := dk_54 5 (dk_at dksX0_drawn_3 16 rfl rfl)
theorem dX0_drawn_90 : decode cX0_drawn 90 = .ok (.aload_n 0, 1) := dk_42 (dk_at dksX0_drawn_3 18 rfl rfl)
theorem dX0_drawn_91 : decode cX0_drawn 91 = .ok (.iload 7, 2) := dk_21 7 (dk_at dksX0_drawn_3 19 rfl rfl)
theorem dX0_drawn_93 : decode cX0_drawn 93 = .ok (.bipush 9, 2) := dk_16 9 (dk_at dksX0_drawn_3 21 rfl rfl)
theorem dX0_drawn_95 : decode cX0_drawn 95 = .ok (.iushr, 1) := dk_124 (dk_at dksX0_drawn_3 23 rfl rfl)
theorem dX0_drawn_96 : decode cX0_drawn 96 = .ok (.bipush 24, 2) := dk_16 24 (dk_at dksX0_drawn_4 0 rfl rfl)
theorem dX0_drawn_98 : decode cX0_drawn 98 = .ok (.irem, 1) := dk_112 (dk_at dksX0_drawn_4 2 rfl rfl)
theorem dX0_drawn_99 : decode cX0_drawn 99 = .ok (.iload 8, 2) := dk_21 8 (dk_at dksX0_drawn_4 3 rfl rfl)
theorem dX0_drawn_101 : decode cX0_drawn 101 = .ok (.bipush 9, 2) := dk_16 9 (dk_at dksX0_drawn_4 5 rfl rfl)
theorem dX0_drawn_103 : decode cX0_drawn 103 = .ok (.iushr, 1) := dk_124 (dk_at dksX0_drawn_4 7 rfl rfl)
theorem dX0_drawn_104 : decode cX0_drawn 104 = .ok (.bipush 24, 2) := dk_16 24 (dk_at dksX0_drawn_4 8 rfl rfl)
theorem dX0_drawn_106 : decode cX0_drawn 106 = .ok (.irem, 1) := dk_112 (dk_at dksX0_drawn_4 10 rfl rfl)
theorem dX0_drawn_107 : decode cX0_drawn 107 = .ok (.iload 5, 2) := dk_21 5 (dk_at dksX0_drawn_4 11 rfl rfl)
theorem dX0_drawn_109 : decode cX0_drawn 109 = .ok (.bipush 9, 2) := dk_16 9 (dk_at dksX0_drawn_4 13 rfl rfl)
theorem dX0_drawn_111 : decode cX0_drawn 111 = .ok (.iushr, 1) := dk_124 (dk_at dksX0_drawn_4 15 rfl rfl)
theorem dX0_drawn_112 : decode cX0_drawn 112 = .ok (.bipush 24, 2) := dk_16 24 (dk_at dksX0_drawn_4 16 rfl rfl)
theorem dX0_drawn_114 : decode cX0_drawn 114 = .ok (.irem, 1) := dk_112 (dk_at dksX0_drawn_4 18 rfl rfl)
theorem dX0_drawn_115 : decode cX0_drawn 115 = .ok (.invokevirtual 453, 3) := dk_182 1 197 (dk_at dksX0_drawn_4 19 rfl rfl)
theorem dX0_drawn_118 : decode cX0_drawn 118 = .ok (.istore 9, 2) := dk_54 9 (dk_at dksX0_drawn_4 22 rfl rfl)
theorem dX0_drawn_120 : decode cX0_drawn 120 = .ok (.iinc 6 1, 3) := dk_132 6 1 (dk_at dksX0_drawn_5 0 rfl rfl)
theorem dX0_drawn_123 : decode cX0_drawn 123 = .ok (.goto (-75), 3) := dk_167 255 181 (dk_at dksX0_drawn_5 3 rfl rfl)
theorem dX0_drawn_126 : decode cX0_drawn 126 = .ok (.aload_n 0, 1) := dk_42 (dk_at dksX0_drawn_5 6 rfl rfl)
theorem dX0_drawn_127 : decode cX0_drawn 127 = .ok (.iload_n 3, 1) := dk_29 (dk_at dksX0_drawn_5 7 rfl rfl)
theorem dX0_drawn_128 : decode cX0_drawn 128 = .ok (.iload 4, 2) := dk_21 4 (dk_at dksX0_drawn_5 8 rfl rfl)
theorem dX0_drawn_130 : decode cX0_drawn 130 = .ok (.invokevirtual 456, 3) := dk_182 1 200 (dk_at dksX0_drawn_5 10 rfl rfl)
theorem dX0_drawn_133 : decode cX0_drawn 133 = .ok (.lstore 6, 2) := dk_55 6 (dk_at dksX0_drawn_5 13 rfl rfl)
theorem dX0_drawn_135 : decode cX0_drawn 135 = .ok (.aload_n 0, 1) := dk_42 (dk_at dksX0_drawn_5 15 rfl rfl)
theorem dX0_drawn_136 : decode cX0_drawn 136 = .ok (.aload_n 0, 1) := dk_42 (dk_at dksX0_drawn_5 16 rfl rfl)
theorem dX0_drawn_137 : decode cX0_drawn 137 = .ok (.getfield 47, 3) := dk_180 0 47 (dk_at dksX0_drawn_5 17 rfl rfl)
theorem dX0_drawn_140 : decode cX0_drawn 140 = .ok (.invokevirtual 460, 3) := dk_182 1 204 (dk_at dksX0_drawn_5 20 rfl rfl)
theorem dX0_drawn_143 : decode cX0_drawn 143 = .ok (.lload 6, 2) := dk_22 6 (dk_at dksX0_drawn_6 0 rfl rfl)
theorem dX0_drawn_145 : decode cX0_drawn 145 = .ok (.lreturn, 1) := dk_173 (dk_at dksX0_drawn_6 2 rfl rfl)
theorem dX0_drawn_146 : decode cX0_drawn 146 = .ok (.astore 10, 2) := dk_58 10 (dk_at dksX0_drawn_6 3 rfl rfl)
theorem dX0_drawn_148 : decode cX0_drawn 148 = .ok (.aload_n 0, 1) := dk_42 (dk_at dksX0_drawn_6 5 rfl rfl)
theorem dX0_drawn_149 : decode cX0_drawn 149 = .ok (.aload_n 0, 1) := dk_42 (dk_at dksX0_drawn_6 6 rfl rfl)
theorem dX0_drawn_150 : decode cX0_drawn 150 = .ok (.getfield 47, 3) := dk_180 0 47 (dk_at dksX0_drawn_6 7 rfl rfl)
theorem dX0_drawn_153 : decode cX0_drawn 153 = .ok (.invokevirtual 460, 3) := dk_182 1 204 (dk_at dksX0_drawn_6 10 rfl rfl)
theorem dX0_drawn_156 : decode cX0_drawn 156 = .ok (.aload 10, 2) := dk_25 10 (dk_at dksX0_drawn_6 13 rfl rfl)
theorem dX0_drawn_158 : decode cX0_drawn 158 = .ok (.athrow, 1) := dk_191 (dk_at dksX0_drawn_6 15 rfl rfl)
abbrev cX0_keeps : ByteArray := prog_1_method_97_code
def yX0_keeps : MethodName := ⟨RX0, "keeps", "(LDeadListPool$Copy;)V"⟩
def dkwX0_keeps_4 : List UInt8 := [180, 0, 16, 181, 1, 231, 43, 42, 180, 0, 50, 181, 1, 232, 177]
abbrev dktX0_keeps_4 : List UInt8 := dkwX0_keeps_4 ++ []
def dkwX0_keeps_3 : List UInt8 := [46, 79, 43, 180, 1, 230, 28, 42, 180, 0, 13, 28, 46, 79, 132, 2, 1, 167, 255, 223, 43, 42]
abbrev dktX0_keeps_3 : List UInt8 := dkwX0_keeps_3 ++ dktX0_keeps_4
def dkwX0_keeps_2 : List UInt8 := [132, 2, 1, 167, 255, 209, 3, 61, 28, 16, 96, 162, 0, 33, 43, 180, 1, 229, 28, 42, 180, 0, 9, 28]
abbrev dktX0_keeps_2 : List UInt8 := dkwX0_keeps_2 ++ dktX0_keeps_3
def dkwX0_keeps_1 : List UInt8 := [28, 50, 193, 0, 65, 153, 0, 17, 43, 42, 180, 0, 20, 28, 50, 192, 0, 65, 28, 184, 1, 225]
abbrev dktX0_keeps_1 : List UInt8 := dkwX0_keeps_1 ++ dktX0_keeps_2
def dkwX0_keeps_0 : List UInt8 := [3, 61, 28, 16, 20, 162, 0, 47, 43, 180, 1, 224, 28, 42, 180, 0, 20, 28, 50, 83, 42, 180, 0, 20]
abbrev dktX0_keeps_0 : List UInt8 := dkwX0_keeps_0 ++ dktX0_keeps_1
theorem dksX0_keeps_0 : cX0_keeps.data.toList.drop 0 = dktX0_keeps_0 := by decide +kernel
theorem dksX0_keeps_1 : cX0_keeps.data.toList.drop 24 = dktX0_keeps_1 := dk_seg dksX0_keeps_0 24 rfl rfl
theorem dksX0_keeps_2 : cX0_keeps.data.toList.drop 46 = dktX0_keeps_2 := dk_seg dksX0_keeps_1 22 rfl rfl
theorem dksX0_keeps_3 : cX0_keeps.data.toList.drop 70 = dktX0_keeps_3 := dk_seg dksX0_keeps_2 24 rfl rfl
theorem dksX0_keeps_4 : cX0_keeps.data.toList.drop 92 = dktX0_keeps_4 := dk_seg dksX0_keeps_3 22 rfl rfl
theorem dX0_keeps_0 : decode cX0_keeps 0 = .ok (.iconst 0, 1) := dk_3 (dk_at dksX0_keeps_0 0 rfl rfl)
theorem dX0_keeps_1 : decode cX0_keeps 1 = .ok (.istore_n 2, 1) := dk_61 (dk_at dksX0_keeps_0 1 rfl rfl)
theorem dX0_keeps_2 : decode cX0_keeps 2 = .ok (.iload_n 2, 1) := dk_28 (dk_at dksX0_keeps_0 2 rfl rfl)
theorem dX0_keeps_3 : decode cX0_keeps 3 = .ok (.bipush 20, 2) := dk_16 20 (dk_at dksX0_keeps_0 3 rfl rfl)
theorem dX0_keeps_5 : decode cX0_keeps 5 = .ok (.if_icmp .ge 47, 3) := dk_162 0 47 (dk_at dksX0_keeps_0 5 rfl rfl)
theorem dX0_keeps_8 : decode cX0_keeps 8 = .ok (.aload_n 1, 1) := dk_43 (dk_at dksX0_keeps_0 8 rfl rfl)
theorem dX0_keeps_9 : decode cX0_keeps 9 = .ok (.getfield 480, 3) := dk_180 1 224 (dk_at dksX0_keeps_0 9 rfl rfl)
theorem dX0_keeps_12 : decode cX0_keeps 12 = .ok (.iload_n 2, 1) := dk_28 (dk_at dksX0_keeps_0 12 rfl rfl)
theorem dX0_keeps_13 : decode cX0_keeps 13 = .ok (.aload_n 0, 1) := dk_42 (dk_at dksX0_keeps_0 13 rfl rfl)
theorem dX0_keeps_14 : decode cX0_keeps 14 = .ok (.getfield 20, 3) := dk_180 0 20 (dk_at dksX0_keeps_0 14 rfl rfl)
theorem dX0_keeps_17 : decode cX0_keeps 17 = .ok (.iload_n 2, 1) := dk_28 (dk_at dksX0_keeps_0 17 rfl rfl)
theorem dX0_keeps_18 : decode cX0_keeps 18 = .ok (.aaload, 1) := dk_50 (dk_at dksX0_keeps_0 18 rfl rfl)
theorem dX0_keeps_19 : decode cX0_keeps 19 = .ok (.aastore, 1) := dk_83 (dk_at dksX0_keeps_0 19 rfl rfl)
theorem dX0_keeps_20 : decode cX0_keeps 20 = .ok (.aload_n 0, 1) := dk_42 (dk_at dksX0_keeps_0 20 rfl rfl)
theorem dX0_keeps_21 : decode cX0_keeps 21 = .ok (.getfield 20, 3) := dk_180 0 20 (dk_at dksX0_keeps_0 21 rfl rfl)
theorem dX0_keeps_24 : decode cX0_keeps 24 = .ok (.iload_n 2, 1) := dk_28 (dk_at dksX0_keeps_1 0 rfl rfl)
theorem dX0_keeps_25 : decode cX0_keeps 25 = .ok (.aaload, 1) := dk_50 (dk_at dksX0_keeps_1 1 rfl rfl)
theorem dX0_keeps_26 : decode cX0_keeps 26 = .ok (.instanceof 65, 3) := dk_193 0 65 (dk_at dksX0_keeps_1 2 rfl rfl)
theorem dX0_keeps_29 : decode cX0_keeps 29 = .ok (.ifCond .eq 17, 3) := dk_153 0 17 (dk_at dksX0_keeps_1 5 rfl rfl)
theorem dX0_keeps_32 : decode cX0_keeps 32 = .ok (.aload_n 1, 1) := dk_43 (dk_at dksX0_keeps_1 8 rfl rfl)
theorem dX0_keeps_33 : decode cX0_keeps 33 = .ok (.aload_n 0, 1) := dk_42 (dk_at dksX0_keeps_1 9 rfl rfl)
theorem dX0_keeps_34 : decode cX0_keeps 34 = .ok (.getfield 20, 3) := dk_180 0 20 (dk_at dksX0_keeps_1 10 rfl rfl)
theorem dX0_keeps_37 : decode cX0_keeps 37 = .ok (.iload_n 2, 1) := dk_28 (dk_at dksX0_keeps_1 13 rfl rfl)
theorem dX0_keeps_38 : decode cX0_keeps 38 = .ok (.aaload, 1) := dk_50 (dk_at dksX0_keeps_1 14 rfl rfl)
theorem dX0_keeps_39 : decode cX0_keeps 39 = .ok (.checkcast 65, 3) := dk_192 0 65 (dk_at dksX0_keeps_1 15 rfl rfl)
theorem dX0_keeps_42 : decode cX0_keeps 42 = .ok (.iload_n 2, 1) := dk_28 (dk_at dksX0_keeps_1 18 rfl rfl)
theorem dX0_keeps_43 : decode cX0_keeps 43 = .ok (.invokestatic 481, 3) := dk_184 1 225 (dk_at dksX0_keeps_1 19 rfl rfl)
theorem dX0_keeps_46 : decode cX0_keeps 46 = .ok (.iinc 2 1, 3) := dk_132 2 1 (dk_at dksX0_keeps_2 0 rfl rfl)
theorem dX0_keeps_49 : decode cX0_keeps 49 = .ok (.goto (-47), 3) := dk_167 255 209 (dk_at dksX0_keeps_2 3 rfl rfl)
theorem dX0_keeps_52 : decode cX0_keeps 52 = .ok (.iconst 0, 1) := dk_3 (dk_at dksX0_keeps_2 6 rfl rfl)
theorem dX0_keeps_53 : decode cX0_keeps 53 = .ok (.istore_n 2, 1) := dk_61 (dk_at dksX0_keeps_2 7 rfl rfl)
theorem dX0_keeps_54 : decode cX0_keeps 54 = .ok (.iload_n 2, 1) := dk_28 (dk_at dksX0_keeps_2 8 rfl rfl)
theorem dX0_keeps_55 : decode cX0_keeps 55 = .ok (.bipush 96, 2) := dk_16 96 (dk_at dksX0_keeps_2 9 rfl rfl)
theorem dX0_keeps_57 : decode cX0_keeps 57 = .ok (.if_icmp .ge 33, 3) := dk_162 0 33 (dk_at dksX0_keeps_2 11 rfl rfl)
theorem dX0_keeps_60 : decode cX0_keeps 60 = .ok (.aload_n 1, 1) := dk_43 (dk_at dksX0_keeps_2 14 rfl rfl)
theorem dX0_keeps_61 : decode cX0_keeps 61 = .ok (.getfield 485, 3) := dk_180 1 229 (dk_at dksX0_keeps_2 15 rfl rfl)
theorem dX0_keeps_64 : decode cX0_keeps 64 = .ok (.iload_n 2, 1) := dk_28 (dk_at dksX0_keeps_2 18 rfl rfl)
theorem dX0_keeps_65 : decode cX0_keeps 65 = .ok (.aload_n 0, 1) := dk_42 (dk_at dksX0_keeps_2 19 rfl rfl)
theorem dX0_keeps_66 : decode cX0_keeps 66 = .ok (.getfield 9, 3) := dk_180 0 9 (dk_at dksX0_keeps_2 20 rfl rfl)
theorem dX0_keeps_69 : decode cX0_keeps 69 = .ok (.iload_n 2, 1) := dk_28 (dk_at dksX0_keeps_2 23 rfl rfl)
theorem dX0_keeps_70 : decode cX0_keeps 70 = .ok (.iaload, 1) := dk_46 (dk_at dksX0_keeps_3 0 rfl rfl)
theorem dX0_keeps_71 : decode cX0_keeps 71 = .ok (.iastore, 1) := dk_79 (dk_at dksX0_keeps_3 1 rfl rfl)
theorem dX0_keeps_72 : decode cX0_keeps 72 = .ok (.aload_n 1, 1) := dk_43 (dk_at dksX0_keeps_3 2 rfl rfl)
theorem dX0_keeps_73 : decode cX0_keeps 73 = .ok (.getfield 486, 3) := dk_180 1 230 (dk_at dksX0_keeps_3 3 rfl rfl)
theorem dX0_keeps_76 : decode cX0_keeps 76 = .ok (.iload_n 2, 1) := dk_28 (dk_at dksX0_keeps_3 6 rfl rfl)
theorem dX0_keeps_77 : decode cX0_keeps 77 = .ok (.aload_n 0, 1) := dk_42 (dk_at dksX0_keeps_3 7 rfl rfl)
theorem dX0_keeps_78 : decode cX0_keeps 78 = .ok (.getfield 13, 3) := dk_180 0 13 (dk_at dksX0_keeps_3 8 rfl rfl)
theorem dX0_keeps_81 : decode cX0_keeps 81 = .ok (.iload_n 2, 1) := dk_28 (dk_at dksX0_keeps_3 11 rfl rfl)
theorem dX0_keeps_82 : decode cX0_keeps 82 = .ok (.iaload, 1) := dk_46 (dk_at dksX0_keeps_3 12 rfl rfl)
theorem dX0_keeps_83 : decode cX0_keeps 83 = .ok (.iastore, 1) := dk_79 (dk_at dksX0_keeps_3 13 rfl rfl)
theorem dX0_keeps_84 : decode cX0_keeps 84 = .ok (.iinc 2 1, 3) := dk_132 2 1 (dk_at dksX0_keeps_3 14 rfl rfl)
theorem dX0_keeps_87 : decode cX0_keeps 87 = .ok (.goto (-33), 3) := dk_167 255 223 (dk_at dksX0_keeps_3 17 rfl rfl)
theorem dX0_keeps_90 : decode cX0_keeps 90 = .ok (.aload_n 1, 1) := dk_43 (dk_at dksX0_keeps_3 20 rfl rfl)
theorem dX0_keeps_91 : decode cX0_keeps 91 = .ok (.aload_n 0, 1) := dk_42 (dk_at dksX0_keeps_3 21 rfl rfl)
theorem dX0_keeps_92 : decode cX0_keeps 92 = .ok (.getfield 16, 3) := dk_180 0 16 (dk_at dksX0_keeps_4 0 rfl rfl)
theorem dX0_keeps_95 : decode cX0_keeps 95 = .ok (.putfield 487, 3) := dk_181 1 231 (dk_at dksX0_keeps_4 3 rfl rfl)
theorem dX0_keeps_98 : decode cX0_keeps 98 = .ok (.aload_n 1, 1) := dk_43 (dk_at dksX0_keeps_4 6 rfl rfl)
theorem dX0_keeps_99 : decode cX0_keeps 99 = .ok (.aload_n 0, 1) := dk_42 (dk_at dksX0_keeps_4 7 rfl rfl)
theorem dX0_keeps_100 : decode cX0_keeps 100 = .ok (.getfield 50, 3) := dk_180 0 50 (dk_at dksX0_keeps_4 8 rfl rfl)
theorem dX0_keeps_103 : decode cX0_keeps 103 = .ok (.putfield 488, 3) := dk_181 1 232 (dk_at dksX0_keeps_4 11 rfl rfl)
theorem dX0_keeps_106 : decode cX0_keeps 106 = .ok (.return_, 1) := dk_177 (dk_at dksX0_keeps_4 14 rfl rfl)
abbrev cX0_keepsOne : ByteArray := prog_1_method_95_code
def yX0_keepsOne : MethodName := ⟨RX0, "keepsOne", "(LDeadListPool$Copy;LDeadListPool$Holder;I)V"⟩
def dkwX0_keepsOne_4 : List UInt8 := [79, 177]
abbrev dktX0_keepsOne_4 : List UInt8 := dkwX0_keepsOne_4 ++ []
def dkwX0_keepsOne_3 : List UInt8 := [153, 0, 13, 43, 192, 0, 27, 180, 0, 95, 167, 0, 4, 1, 83, 42, 180, 1, 221, 28, 43, 182, 1, 2]
abbrev dktX0_keepsOne_3 : List UInt8 := dkwX0_keepsOne_3 ++ dktX0_keepsOne_4
def dkwX0_keepsOne_2 : List UInt8 := [43, 180, 0, 122, 79, 42, 180, 1, 214, 28, 43, 180, 0, 88, 83, 42, 180, 1, 217, 28, 43, 193, 0, 27]
abbrev dktX0_keepsOne_2 : List UInt8 := dkwX0_keepsOne_2 ++ dktX0_keepsOne_3
def dkwX0_keepsOne_1 : List UInt8 := [180, 1, 210, 28, 50, 29, 43, 180, 0, 125, 29, 46, 79, 132, 3, 1, 167, 255, 219, 42, 180, 1, 212, 28]
abbrev dktX0_keepsOne_1 : List UInt8 := dkwX0_keepsOne_1 ++ dktX0_keepsOne_2
def dkwX0_keepsOne_0 : List UInt8 := [3, 62, 29, 16, 12, 162, 0, 37, 42, 180, 1, 207, 28, 50, 29, 43, 180, 0, 119, 29, 46, 79, 42]
abbrev dktX0_keepsOne_0 : List UInt8 := dkwX0_keepsOne_0 ++ dktX0_keepsOne_1
theorem dksX0_keepsOne_0 : cX0_keepsOne.data.toList.drop 0 = dktX0_keepsOne_0 := by decide +kernel
theorem dksX0_keepsOne_1 : cX0_keepsOne.data.toList.drop 23 = dktX0_keepsOne_1 := dk_seg dksX0_keepsOne_0 23 rfl rfl
theorem dksX0_keepsOne_2 : cX0_keepsOne.data.toList.drop 47 = dktX0_keepsOne_2 := dk_seg dksX0_keepsOne_1 24 rfl rfl
theorem dksX0_keepsOne_3 : cX0_keepsOne.data.toList.drop 71 = dktX0_keepsOne_3 := dk_seg dksX0_keepsOne_2 24 rfl rfl
theorem dksX0_keepsOne_4 : cX0_keepsOne.data.toList.drop 95 = dktX0_keepsOne_4 := dk_seg dksX0_keepsOne_3 24 rfl rfl
theorem dX0_keepsOne_0 : decode cX0_keepsOne 0 = .ok (.iconst 0, 1) := dk_3 (dk_at dksX0_keepsOne_0 0 rfl rfl)
theorem dX0_keepsOne_1 : decode cX0_keepsOne 1 = .ok (.istore_n 3, 1) := dk_62 (dk_at dksX0_keepsOne_0 1 rfl rfl)
theorem dX0_keepsOne_2 : decode cX0_keepsOne 2 = .ok (.iload_n 3, 1) := dk_29 (dk_at dksX0_keepsOne_0 2 rfl rfl)
theorem dX0_keepsOne_3 : decode cX0_keepsOne 3 = .ok (.bipush 12, 2) := dk_16 12 (dk_at dksX0_keepsOne_0 3 rfl rfl)
theorem dX0_keepsOne_5 : decode cX0_keepsOne 5 = .ok (.if_icmp .ge 37, 3) := dk_162 0 37 (dk_at dksX0_keepsOne_0 5 rfl rfl)
theorem dX0_keepsOne_8 : decode cX0_keepsOne 8 = .ok (.aload_n 0, 1) := dk_42 (dk_at dksX0_keepsOne_0 8 rfl rfl)
theorem dX0_keepsOne_9 : decode cX0_keepsOne 9 = .ok (.getfield 463, 3) := dk_180 1 207 (dk_at dksX0_keepsOne_0 9 rfl rfl)
theorem dX0_keepsOne_12 : decode cX0_keepsOne 12 = .ok (.iload_n 2, 1) := dk_28 (dk_at dksX0_keepsOne_0 12 rfl rfl)
theorem dX0_keepsOne_13 : decode cX0_keepsOne 13 = .ok (.aaload, 1) := dk_50 (dk_at dksX0_keepsOne_0 13 rfl rfl)
theorem dX0_keepsOne_14 : decode cX0_keepsOne 14 = .ok (.iload_n 3, 1) := dk_29 (dk_at dksX0_keepsOne_0 14 rfl rfl)
theorem dX0_keepsOne_15 : decode cX0_keepsOne 15 = .ok (.aload_n 1, 1) := dk_43 (dk_at dksX0_keepsOne_0 15 rfl rfl)
theorem dX0_keepsOne_16 : decode cX0_keepsOne 16 = .ok (.getfield 119, 3) := dk_180 0 119 (dk_at dksX0_keepsOne_0 16 rfl rfl)
theorem dX0_keepsOne_19 : decode cX0_keepsOne 19 = .ok (.iload_n 3, 1) := dk_29 (dk_at dksX0_keepsOne_0 19 rfl rfl)
theorem dX0_keepsOne_20 : decode cX0_keepsOne 20 = .ok (.iaload, 1) := dk_46 (dk_at dksX0_keepsOne_0 20 rfl rfl)
theorem dX0_keepsOne_21 : decode cX0_keepsOne 21 = .ok (.iastore, 1) := dk_79 (dk_at dksX0_keepsOne_0 21 rfl rfl)
theorem dX0_keepsOne_22 : decode cX0_keepsOne 22 = .ok (.aload_n 0, 1) := dk_42 (dk_at dksX0_keepsOne_0 22 rfl rfl)
theorem dX0_keepsOne_23 : decode cX0_keepsOne 23 = .ok (.getfield 466, 3) := dk_180 1 210 (dk_at dksX0_keepsOne_1 0 rfl rfl)
theorem dX0_keepsOne_26 : decode cX0_keepsOne 26 = .ok (.iload_n 2, 1) := dk_28 (dk_at dksX0_keepsOne_1 3 rfl rfl)
theorem dX0_keepsOne_27 : decode cX0_keepsOne 27 = .ok (.aaload, 1) := dk_50 (dk_at dksX0_keepsOne_1 4 rfl rfl)
theorem dX0_keepsOne_28 : decode cX0_keepsOne 28 = .ok (.iload_n 3, 1) := dk_29 (dk_at dksX0_keepsOne_1 5 rfl rfl)
theorem dX0_keepsOne_29 : decode cX0_keepsOne 29 = .ok (.aload_n 1, 1) := dk_43 (dk_at dksX0_keepsOne_1 6 rfl rfl)
theorem dX0_keepsOne_30 : decode cX0_keepsOne 30 = .ok (.getfield 125, 3) := dk_180 0 125 (dk_at dksX0_keepsOne_1 7 rfl rfl)
theorem dX0_keepsOne_33 : decode cX0_keepsOne 33 = .ok (.iload_n 3, 1) := dk_29 (dk_at dksX0_keepsOne_1 10 rfl rfl)
theorem dX0_keepsOne_34 : decode cX0_keepsOne 34 = .ok (.iaload, 1) := dk_46 (dk_at dksX0_keepsOne_1 11 rfl rfl)
theorem dX0_keepsOne_35 : decode cX0_keepsOne 35 = .ok (.iastore, 1) := dk_79 (dk_at dksX0_keepsOne_1 12 rfl rfl)
theorem dX0_keepsOne_36 : decode cX0_keepsOne 36 = .ok (.iinc 3 1, 3) := dk_132 3 1 (dk_at dksX0_keepsOne_1 13 rfl rfl)
theorem dX0_keepsOne_39 : decode cX0_keepsOne 39 = .ok (.goto (-37), 3) := dk_167 255 219 (dk_at dksX0_keepsOne_1 16 rfl rfl)
theorem dX0_keepsOne_42 : decode cX0_keepsOne 42 = .ok (.aload_n 0, 1) := dk_42 (dk_at dksX0_keepsOne_1 19 rfl rfl)
theorem dX0_keepsOne_43 : decode cX0_keepsOne 43 = .ok (.getfield 468, 3) := dk_180 1 212 (dk_at dksX0_keepsOne_1 20 rfl rfl)
theorem dX0_keepsOne_46 : decode cX0_keepsOne 46 = .ok (.iload_n 2, 1) := dk_28 (dk_at dksX0_keepsOne_1 23 rfl rfl)
theorem dX0_keepsOne_47 : decode cX0_keepsOne 47 = .ok (.aload_n 1, 1) := dk_43 (dk_at dksX0_keepsOne_2 0 rfl rfl)
theorem dX0_keepsOne_48 : decode cX0_keepsOne 48 = .ok (.getfield 122, 3) := dk_180 0 122 (dk_at dksX0_keepsOne_2 1 rfl rfl)
theorem dX0_keepsOne_51 : decode cX0_keepsOne 51 = .ok (.iastore, 1) := dk_79 (dk_at dksX0_keepsOne_2 4 rfl rfl)
theorem dX0_keepsOne_52 : decode cX0_keepsOne 52 = .ok (.aload_n 0, 1) := dk_42 (dk_at dksX0_keepsOne_2 5 rfl rfl)
theorem dX0_keepsOne_53 : decode cX0_keepsOne 53 = .ok (.getfield 470, 3) := dk_180 1 214 (dk_at dksX0_keepsOne_2 6 rfl rfl)
theorem dX0_keepsOne_56 : decode cX0_keepsOne 56 = .ok (.iload_n 2, 1) := dk_28 (dk_at dksX0_keepsOne_2 9 rfl rfl)
theorem dX0_keepsOne_57 : decode cX0_keepsOne 57 = .ok (.aload_n 1, 1) := dk_43 (dk_at dksX0_keepsOne_2 10 rfl rfl)
theorem dX0_keepsOne_58 : decode cX0_keepsOne 58 = .ok (.getfield 88, 3) := dk_180 0 88 (dk_at dksX0_keepsOne_2 11 rfl rfl)
theorem dX0_keepsOne_61 : decode cX0_keepsOne 61 = .ok (.aastore, 1) := dk_83 (dk_at dksX0_keepsOne_2 14 rfl rfl)
theorem dX0_keepsOne_62 : decode cX0_keepsOne 62 = .ok (.aload_n 0, 1) := dk_42 (dk_at dksX0_keepsOne_2 15 rfl rfl)
theorem dX0_keepsOne_63 : decode cX0_keepsOne 63 = .ok (.getfield 473, 3) := dk_180 1 217 (dk_at dksX0_keepsOne_2 16 rfl rfl)
theorem dX0_keepsOne_66 : decode cX0_keepsOne 66 = .ok (.iload_n 2, 1) := dk_28 (dk_at dksX0_keepsOne_2 19 rfl rfl)
theorem dX0_keepsOne_67 : decode cX0_keepsOne 67 = .ok (.aload_n 1, 1) := dk_43 (dk_at dksX0_keepsOne_2 20 rfl rfl)
theorem dX0_keepsOne_68 : decode cX0_keepsOne 68 = .ok (.instanceof 27, 3) := dk_193 0 27 (dk_at dksX0_keepsOne_2 21 rfl rfl)
theorem dX0_keepsOne_71 : decode cX0_keepsOne 71 = .ok (.ifCond .eq 13, 3) := dk_153 0 13 (dk_at dksX0_keepsOne_3 0 rfl rfl)
theorem dX0_keepsOne_74 : decode cX0_keepsOne 74 = .ok (.aload_n 1, 1) := dk_43 (dk_at dksX0_keepsOne_3 3 rfl rfl)
theorem dX0_keepsOne_75 : decode cX0_keepsOne 75 = .ok (.checkcast 27, 3) := dk_192 0 27 (dk_at dksX0_keepsOne_3 4 rfl rfl)
theorem dX0_keepsOne_78 : decode cX0_keepsOne 78 = .ok (.getfield 95, 3) := dk_180 0 95 (dk_at dksX0_keepsOne_3 7 rfl rfl)
theorem dX0_keepsOne_81 : decode cX0_keepsOne 81 = .ok (.goto 4, 3) := dk_167 0 4 (dk_at dksX0_keepsOne_3 10 rfl rfl)
theorem dX0_keepsOne_84 : decode cX0_keepsOne 84 = .ok (.aconst_null, 1) := dk_1 (dk_at dksX0_keepsOne_3 13 rfl rfl)
theorem dX0_keepsOne_85 : decode cX0_keepsOne 85 = .ok (.aastore, 1) := dk_83 (dk_at dksX0_keepsOne_3 14 rfl rfl)
theorem dX0_keepsOne_86 : decode cX0_keepsOne 86 = .ok (.aload_n 0, 1) := dk_42 (dk_at dksX0_keepsOne_3 15 rfl rfl)
theorem dX0_keepsOne_87 : decode cX0_keepsOne 87 = .ok (.getfield 477, 3) := dk_180 1 221 (dk_at dksX0_keepsOne_3 16 rfl rfl)
theorem dX0_keepsOne_90 : decode cX0_keepsOne 90 = .ok (.iload_n 2, 1) := dk_28 (dk_at dksX0_keepsOne_3 19 rfl rfl)
theorem dX0_keepsOne_91 : decode cX0_keepsOne 91 = .ok (.aload_n 1, 1) := dk_43 (dk_at dksX0_keepsOne_3 20 rfl rfl)
theorem dX0_keepsOne_92 : decode cX0_keepsOne 92 = .ok (.invokevirtual 258, 3) := dk_182 1 2 (dk_at dksX0_keepsOne_3 21 rfl rfl)
theorem dX0_keepsOne_95 : decode cX0_keepsOne 95 = .ok (.iastore, 1) := dk_79 (dk_at dksX0_keepsOne_4 0 rfl rfl)
theorem dX0_keepsOne_96 : decode cX0_keepsOne 96 = .ok (.return_, 1) := dk_177 (dk_at dksX0_keepsOne_4 1 rfl rfl)
abbrev cX0_acts : ByteArray := prog_1_method_89_code
def yX0_acts : MethodName := ⟨RX0, "acts", "(III)I"⟩
def dkwX0_acts_6 : List UInt8 := [182, 1, 174, 172, 42, 2, 182, 1, 177, 172]
abbrev dktX0_acts_6 : List UInt8 := dkwX0_acts_6 ++ []
def dkwX0_acts_5 : List UInt8 := [42, 28, 16, 20, 112, 182, 1, 168, 172, 42, 28, 16, 20, 112, 182, 1, 171, 172, 42, 28, 16, 20, 112]
abbrev dktX0_acts_5 : List UInt8 := dkwX0_acts_5 ++ dktX0_acts_6
def dkwX0_acts_4 : List UInt8 := [170, 0, 0, 0, 0, 0, 0, 59, 0, 0, 0, 19, 0, 0, 0, 22, 0, 0, 0, 32, 0, 0, 0, 32, 0, 0, 0, 41, 0, 0, 0, 50]
abbrev dktX0_acts_4 : List UInt8 := dkwX0_acts_4 ++ dktX0_acts_5
def dkwX0_acts_3 : List UInt8 := [182, 1, 165, 172, 27]
abbrev dktX0_acts_3 : List UInt8 := dkwX0_acts_3 ++ dktX0_acts_4
def dkwX0_acts_2 : List UInt8 := [42, 28, 16, 20, 112, 29, 16, 20, 108, 182, 1, 162, 172, 27, 16, 19, 162, 0, 12, 42, 28, 16, 20, 112]
abbrev dktX0_acts_2 : List UInt8 := dkwX0_acts_2 ++ dktX0_acts_3
def dkwX0_acts_1 : List UInt8 := [16, 11, 162, 0, 16, 42, 28, 16, 20, 112, 29, 16, 12, 112, 182, 1, 159, 172, 27, 16, 15, 162, 0, 16]
abbrev dktX0_acts_1 : List UInt8 := dkwX0_acts_1 ++ dktX0_acts_2
def dkwX0_acts_0 : List UInt8 := [27, 16, 8, 162, 0, 19, 42, 28, 16, 20, 112, 29, 16, 12, 112, 4, 28, 96, 182, 1, 155, 172, 27]
abbrev dktX0_acts_0 : List UInt8 := dkwX0_acts_0 ++ dktX0_acts_1
theorem dksX0_acts_0 : cX0_acts.data.toList.drop 0 = dktX0_acts_0 := by decide +kernel
theorem dksX0_acts_1 : cX0_acts.data.toList.drop 23 = dktX0_acts_1 := dk_seg dksX0_acts_0 23 rfl rfl
theorem dksX0_acts_2 : cX0_acts.data.toList.drop 47 = dktX0_acts_2 := dk_seg dksX0_acts_1 24 rfl rfl
theorem dksX0_acts_3 : cX0_acts.data.toList.drop 71 = dktX0_acts_3 := dk_seg dksX0_acts_2 24 rfl rfl
theorem dksX0_acts_4 : cX0_acts.data.toList.drop 76 = dktX0_acts_4 := dk_seg dksX0_acts_3 5 rfl rfl
theorem dksX0_acts_5 : cX0_acts.data.toList.drop 108 = dktX0_acts_5 := dk_seg dksX0_acts_4 32 rfl rfl
theorem dksX0_acts_6 : cX0_acts.data.toList.drop 131 = dktX0_acts_6 := dk_seg dksX0_acts_5 23 rfl rfl
theorem dX0_acts_0 : decode cX0_acts 0 = .ok (.iload_n 1, 1) := dk_27 (dk_at dksX0_acts_0 0 rfl rfl)
theorem dX0_acts_1 : decode cX0_acts 1 = .ok (.bipush 8, 2) := dk_16 8 (dk_at dksX0_acts_0 1 rfl rfl)
theorem dX0_acts_3 : decode cX0_acts 3 = .ok (.if_icmp .ge 19, 3) := dk_162 0 19 (dk_at dksX0_acts_0 3 rfl rfl)
theorem dX0_acts_6 : decode cX0_acts 6 = .ok (.aload_n 0, 1) := dk_42 (dk_at dksX0_acts_0 6 rfl rfl)
theorem dX0_acts_7 : decode cX0_acts 7 = .ok (.iload_n 2, 1) := dk_28 (dk_at dksX0_acts_0 7 rfl rfl)
theorem dX0_acts_8 : decode cX0_acts 8 = .ok (.bipush 20, 2) := dk_16 20 (dk_at dksX0_acts_0 8 rfl rfl)
theorem dX0_acts_10 : decode cX0_acts 10 = .ok (.irem, 1) := dk_112 (dk_at dksX0_acts_0 10 rfl rfl)
theorem dX0_acts_11 : decode cX0_acts 11 = .ok (.iload_n 3, 1) := dk_29 (dk_at dksX0_acts_0 11 rfl rfl)
theorem dX0_acts_12 : decode cX0_acts 12 = .ok (.bipush 12, 2) := dk_16 12 (dk_at dksX0_acts_0 12 rfl rfl)
theorem dX0_acts_14 : decode cX0_acts 14 = .ok (.irem, 1) := dk_112 (dk_at dksX0_acts_0 14 rfl rfl)
theorem dX0_acts_15 : decode cX0_acts 15 = .ok (.iconst 1, 1) := dk_4 (dk_at dksX0_acts_0 15 rfl rfl)
theorem dX0_acts_16 : decode cX0_acts 16 = .ok (.iload_n 2, 1) := dk_28 (dk_at dksX0_acts_0 16 rfl rfl)
theorem dX0_acts_17 : decode cX0_acts 17 = .ok (.iadd, 1) := dk_96 (dk_at dksX0_acts_0 17 rfl rfl)
theorem dX0_acts_18 : decode cX0_acts 18 = .ok (.invokevirtual 411, 3) := dk_182 1 155 (dk_at dksX0_acts_0 18 rfl rfl)
theorem dX0_acts_21 : decode cX0_acts 21 = .ok (.ireturn, 1) := dk_172 (dk_at dksX0_acts_0 21 rfl rfl)
theorem dX0_acts_22 : decode cX0_acts 22 = .ok (.iload_n 1, 1) := dk_27 (dk_at dksX0_acts_0 22 rfl rfl)
theorem dX0_acts_23 : decode cX0_acts 23 = .ok (.bipush 11, 2) := dk_16 11 (dk_at dksX0_acts_1 0 rfl rfl)
theorem dX0_acts_25 : decode cX0_acts 25 = .ok (.if_icmp .ge 16, 3) := dk_162 0 16 (dk_at dksX0_acts_1 2 rfl rfl)
theorem dX0_acts_28 : decode cX0_acts 28 = .ok (.aload_n 0, 1) := dk_42 (dk_at dksX0_acts_1 5 rfl rfl)
theorem dX0_acts_29 : decode cX0_acts 29 = .ok (.iload_n 2, 1) := dk_28 (dk_at dksX0_acts_1 6 rfl rfl)
theorem dX0_acts_30 : decode cX0_acts 30 = .ok (.bipush 20, 2) := dk_16 20 (dk_at dksX0_acts_1 7 rfl rfl)
theorem dX0_acts_32 : decode cX0_acts 32 = .ok (.irem, 1) := dk_112 (dk_at dksX0_acts_1 9 rfl rfl)
theorem dX0_acts_33 : decode cX0_acts 33 = .ok (.iload_n 3, 1) := dk_29 (dk_at dksX0_acts_1 10 rfl rfl)
theorem dX0_acts_34 : decode cX0_acts 34 = .ok (.bipush 12, 2) := dk_16 12 (dk_at dksX0_acts_1 11 rfl rfl)
theorem dX0_acts_36 : decode cX0_acts 36 = .ok (.irem, 1) := dk_112 (dk_at dksX0_acts_1 13 rfl rfl)
theorem dX0_acts_37 : decode cX0_acts 37 = .ok (.invokevirtual 415, 3) := dk_182 1 159 (dk_at dksX0_acts_1 14 rfl rfl)
theorem dX0_acts_40 : decode cX0_acts 40 = .ok (.ireturn, 1) := dk_172 (dk_at dksX0_acts_1 17 rfl rfl)
theorem dX0_acts_41 : decode cX0_acts 41 = .ok (.iload_n 1, 1) := dk_27 (dk_at dksX0_acts_1 18 rfl rfl)
theorem dX0_acts_42 : decode cX0_acts 42 = .ok (.bipush 15, 2) := dk_16 15 (dk_at dksX0_acts_1 19 rfl rfl)
theorem dX0_acts_44 : decode cX0_acts 44 = .ok (.if_icmp .ge 16, 3) := dk_162 0 16 (dk_at dksX0_acts_1 21 rfl rfl)
theorem dX0_acts_47 : decode cX0_acts 47 = .ok (.aload_n 0, 1) := dk_42 (dk_at dksX0_acts_2 0 rfl rfl)
theorem dX0_acts_48 : decode cX0_acts 48 = .ok (.iload_n 2, 1) := dk_28 (dk_at dksX0_acts_2 1 rfl rfl)
theorem dX0_acts_49 : decode cX0_acts 49 = .ok (.bipush 20, 2) := dk_16 20 (dk_at dksX0_acts_2 2 rfl rfl)
theorem dX0_acts_51 : decode cX0_acts 51 = .ok (.irem, 1) := dk_112 (dk_at dksX0_acts_2 4 rfl rfl)
theorem dX0_acts_52 : decode cX0_acts 52 = .ok (.iload_n 3, 1) := dk_29 (dk_at dksX0_acts_2 5 rfl rfl)
theorem dX0_acts_53 : decode cX0_acts 53 = .ok (.bipush 20, 2) := dk_16 20 (dk_at dksX0_acts_2 6 rfl rfl)
theorem dX0_acts_55 : decode cX0_acts 55 = .ok (.idiv, 1) := dk_108 (dk_at dksX0_acts_2 8 rfl rfl)
theorem dX0_acts_56 : decode cX0_acts 56 = .ok (.invokevirtual 418, 3) := dk_182 1 162 (dk_at dksX0_acts_2 9 rfl rfl)
theorem dX0_acts_59 : decode cX0_acts 59 = .ok (.ireturn, 1) := dk_172 (dk_at dksX0_acts_2 12 rfl rfl)
theorem dX0_acts_60 : decode cX0_acts 60 = .ok (.iload_n 1, 1) := dk_27 (dk_at dksX0_acts_2 13 rfl rfl)
theorem dX0_acts_61 : decode cX0_acts 61 = .ok (.bipush 19, 2) := dk_16 19 (dk_at dksX0_acts_2 14 rfl rfl)
theorem dX0_acts_63 : decode cX0_acts 63 = .ok (.if_icmp .ge 12, 3) := dk_162 0 12 (dk_at dksX0_acts_2 16 rfl rfl)
theorem dX0_acts_66 : decode cX0_acts 66 = .ok (.aload_n 0, 1) := dk_42 (dk_at dksX0_acts_2 19 rfl rfl)
theorem dX0_acts_67 : decode cX0_acts 67 = .ok (.iload_n 2, 1) := dk_28 (dk_at dksX0_acts_2 20 rfl rfl)
theorem dX0_acts_68 : decode cX0_acts 68 = .ok (.bipush 20, 2) := dk_16 20 (dk_at dksX0_acts_2 21 rfl rfl)
theorem dX0_acts_70 : decode cX0_acts 70 = .ok (.irem, 1) := dk_112 (dk_at dksX0_acts_2 23 rfl rfl)
theorem dX0_acts_71 : decode cX0_acts 71 = .ok (.invokevirtual 421, 3) := dk_182 1 165 (dk_at dksX0_acts_3 0 rfl rfl)
theorem dX0_acts_74 : decode cX0_acts 74 = .ok (.ireturn, 1) := dk_172 (dk_at dksX0_acts_3 3 rfl rfl)
theorem dX0_acts_75 : decode cX0_acts 75 = .ok (.iload_n 1, 1) := dk_27 (dk_at dksX0_acts_3 4 rfl rfl)
theorem dX0_acts_76 : decode cX0_acts 76 = .ok (.tableswitch 59 19 22 #[32, 32, 41, 50], 32) := by decide +kernel
theorem dX0_acts_108 : decode cX0_acts 108 = .ok (.aload_n 0, 1) := dk_42 (dk_at dksX0_acts_5 0 rfl rfl)
theorem dX0_acts_109 : decode cX0_acts 109 = .ok (.iload_n 2, 1) := dk_28 (dk_at dksX0_acts_5 1 rfl rfl)
theorem dX0_acts_110 : decode cX0_acts 110 = .ok (.bipush 20, 2) := dk_16 20 (dk_at dksX0_acts_5 2 rfl rfl)
theorem dX0_acts_112 : decode cX0_acts 112 = .ok (.irem, 1) := dk_112 (dk_at dksX0_acts_5 4 rfl rfl)
theorem dX0_acts_113 : decode cX0_acts 113 = .ok (.invokevirtual 424, 3) := dk_182 1 168 (dk_at dksX0_acts_5 5 rfl rfl)
theorem dX0_acts_116 : decode cX0_acts 116 = .ok (.ireturn, 1) := dk_172 (dk_at dksX0_acts_5 8 rfl rfl)
theorem dX0_acts_117 : decode cX0_acts 117 = .ok (.aload_n 0, 1) := dk_42 (dk_at dksX0_acts_5 9 rfl rfl)
theorem dX0_acts_118 : decode cX0_acts 118 = .ok (.iload_n 2, 1) := dk_28 (dk_at dksX0_acts_5 10 rfl rfl)
theorem dX0_acts_119 : decode cX0_acts 119 = .ok (.bipush 20, 2) := dk_16 20 (dk_at dksX0_acts_5 11 rfl rfl)
theorem dX0_acts_121 : decode cX0_acts 121 = .ok (.irem, 1) := dk_112 (dk_at dksX0_acts_5 13 rfl rfl)
theorem dX0_acts_122 : decode cX0_acts 122 = .ok (.invokevirtual 427, 3) := dk_182 1 171 (dk_at dksX0_acts_5 14 rfl rfl)
theorem dX0_acts_125 : decode cX0_acts 125 = .ok (.ireturn, 1) := dk_172 (dk_at dksX0_acts_5 17 rfl rfl)
theorem dX0_acts_126 : decode cX0_acts 126 = .ok (.aload_n 0, 1) := dk_42 (dk_at dksX0_acts_5 18 rfl rfl)
theorem dX0_acts_127 : decode cX0_acts 127 = .ok (.iload_n 2, 1) := dk_28 (dk_at dksX0_acts_5 19 rfl rfl)
theorem dX0_acts_128 : decode cX0_acts 128 = .ok (.bipush 20, 2) := dk_16 20 (dk_at dksX0_acts_5 20 rfl rfl)
theorem dX0_acts_130 : decode cX0_acts 130 = .ok (.irem, 1) := dk_112 (dk_at dksX0_acts_5 22 rfl rfl)
theorem dX0_acts_131 : decode cX0_acts 131 = .ok (.invokevirtual 430, 3) := dk_182 1 174 (dk_at dksX0_acts_6 0 rfl rfl)
theorem dX0_acts_134 : decode cX0_acts 134 = .ok (.ireturn, 1) := dk_172 (dk_at dksX0_acts_6 3 rfl rfl)
theorem dX0_acts_135 : decode cX0_acts 135 = .ok (.aload_n 0, 1) := dk_42 (dk_at dksX0_acts_6 4 rfl rfl)
theorem dX0_acts_136 : decode cX0_acts 136 = .ok (.iconst (-1), 1) := dk_2 (dk_at dksX0_acts_6 5 rfl rfl)
theorem dX0_acts_137 : decode cX0_acts 137 = .ok (.invokevirtual 433, 3) := dk_182 1 177 (dk_at dksX0_acts_6 6 rfl rfl)
theorem dX0_acts_140 : decode cX0_acts 140 = .ok (.ireturn, 1) := dk_172 (dk_at dksX0_acts_6 9 rfl rfl)
abbrev cX0_thenTold : ByteArray := prog_1_method_93_code
def yX0_thenTold : MethodName := ⟨RX0, "thenTold", "(II)J"⟩
def dkwX0_thenTold_3 : List UInt8 := [173]
abbrev dktX0_thenTold_3 : List UInt8 := dkwX0_thenTold_3 ++ []
def dkwX0_thenTold_2 : List UInt8 := [42, 182, 1, 180, 133, 173, 42, 182, 1, 183, 133, 173, 42, 180, 0, 50, 28, 100, 133, 173, 42, 182, 1, 186]
abbrev dktX0_thenTold_2 : List UInt8 := dkwX0_thenTold_2 ++ dktX0_thenTold_3
def dkwX0_thenTold_1 : List UInt8 := [170, 0, 0, 0, 0, 0, 47, 0, 0, 0, 0, 0, 0, 0, 2, 0, 0, 0, 27, 0, 0, 0, 33, 0, 0, 0, 39]
abbrev dktX0_thenTold_1 : List UInt8 := dkwX0_thenTold_1 ++ dktX0_thenTold_2
def dkwX0_thenTold_0 : List UInt8 := [27]
abbrev dktX0_thenTold_0 : List UInt8 := dkwX0_thenTold_0 ++ dktX0_thenTold_1
theorem dksX0_thenTold_0 : cX0_thenTold.data.toList.drop 0 = dktX0_thenTold_0 := by decide +kernel
theorem dksX0_thenTold_1 : cX0_thenTold.data.toList.drop 1 = dktX0_thenTold_1 := dk_seg dksX0_thenTold_0 1 rfl rfl
theorem dksX0_thenTold_2 : cX0_thenTold.data.toList.drop 28 = dktX0_thenTold_2 := dk_seg dksX0_thenTold_1 27 rfl rfl
theorem dksX0_thenTold_3 : cX0_thenTold.data.toList.drop 52 = dktX0_thenTold_3 := dk_seg dksX0_thenTold_2 24 rfl rfl
theorem dX0_thenTold_0 : decode cX0_thenTold 0 = .ok (.iload_n 1, 1) := dk_27 (dk_at dksX0_thenTold_0 0 rfl rfl)
theorem dX0_thenTold_1 : decode cX0_thenTold 1 = .ok (.tableswitch 47 0 2 #[27, 33, 39], 27) := by decide +kernel
theorem dX0_thenTold_28 : decode cX0_thenTold 28 = .ok (.aload_n 0, 1) := dk_42 (dk_at dksX0_thenTold_2 0 rfl rfl)
theorem dX0_thenTold_29 : decode cX0_thenTold 29 = .ok (.invokevirtual 436, 3) := dk_182 1 180 (dk_at dksX0_thenTold_2 1 rfl rfl)
theorem dX0_thenTold_32 : decode cX0_thenTold 32 = .ok (.i2l, 1) := dk_133 (dk_at dksX0_thenTold_2 4 rfl rfl)
theorem dX0_thenTold_33 : decode cX0_thenTold 33 = .ok (.lreturn, 1) := dk_173 (dk_at dksX0_thenTold_2 5 rfl rfl)
theorem dX0_thenTold_34 : decode cX0_thenTold 34 = .ok (.aload_n 0, 1) := dk_42 (dk_at dksX0_thenTold_2 6 rfl rfl)
theorem dX0_thenTold_35 : decode cX0_thenTold 35 = .ok (.invokevirtual 439, 3) := dk_182 1 183 (dk_at dksX0_thenTold_2 7 rfl rfl)
theorem dX0_thenTold_38 : decode cX0_thenTold 38 = .ok (.i2l, 1) := dk_133 (dk_at dksX0_thenTold_2 10 rfl rfl)
theorem dX0_thenTold_39 : decode cX0_thenTold 39 = .ok (.lreturn, 1) := dk_173 (dk_at dksX0_thenTold_2 11 rfl rfl)
theorem dX0_thenTold_40 : decode cX0_thenTold 40 = .ok (.aload_n 0, 1) := dk_42 (dk_at dksX0_thenTold_2 12 rfl rfl)
theorem dX0_thenTold_41 : decode cX0_thenTold 41 = .ok (.getfield 50, 3) := dk_180 0 50 (dk_at dksX0_thenTold_2 13 rfl rfl)
theorem dX0_thenTold_44 : decode cX0_thenTold 44 = .ok (.iload_n 2, 1) := dk_28 (dk_at dksX0_thenTold_2 16 rfl rfl)
theorem dX0_thenTold_45 : decode cX0_thenTold 45 = .ok (.isub, 1) := dk_100 (dk_at dksX0_thenTold_2 17 rfl rfl)
theorem dX0_thenTold_46 : decode cX0_thenTold 46 = .ok (.i2l, 1) := dk_133 (dk_at dksX0_thenTold_2 18 rfl rfl)
theorem dX0_thenTold_47 : decode cX0_thenTold 47 = .ok (.lreturn, 1) := dk_173 (dk_at dksX0_thenTold_2 19 rfl rfl)
theorem dX0_thenTold_48 : decode cX0_thenTold 48 = .ok (.aload_n 0, 1) := dk_42 (dk_at dksX0_thenTold_2 20 rfl rfl)
theorem dX0_thenTold_49 : decode cX0_thenTold 49 = .ok (.invokevirtual 442, 3) := dk_182 1 186 (dk_at dksX0_thenTold_2 21 rfl rfl)
theorem dX0_thenTold_52 : decode cX0_thenTold 52 = .ok (.lreturn, 1) := dk_173 (dk_at dksX0_thenTold_3 0 rfl rfl)
abbrev cX0_thingMany : ByteArray := prog_1_method_90_code
def yX0_thingMany : MethodName := ⟨RX0, "thingMany", "()I"⟩
def dkwX0_thingMany_1 : List UInt8 := [4, 96, 60, 132, 2, 1, 167, 255, 230, 27, 172]
abbrev dktX0_thingMany_1 : List UInt8 := dkwX0_thingMany_1 ++ []
def dkwX0_thingMany_0 : List UInt8 := [3, 60, 3, 61, 28, 16, 20, 162, 0, 26, 27, 42, 180, 0, 20, 28, 50, 199, 0, 7, 3, 167, 0, 4]
abbrev dktX0_thingMany_0 : List UInt8 := dkwX0_thingMany_0 ++ dktX0_thingMany_1
theorem dksX0_thingMany_0 : cX0_thingMany.data.toList.drop 0 = dktX0_thingMany_0 := by decide +kernel
theorem dksX0_thingMany_1 : cX0_thingMany.data.toList.drop 24 = dktX0_thingMany_1 := dk_seg dksX0_thingMany_0 24 rfl rfl
theorem dX0_thingMany_0 : decode cX0_thingMany 0 = .ok (.iconst 0, 1) := dk_3 (dk_at dksX0_thingMany_0 0 rfl rfl)
theorem dX0_thingMany_1 : decode cX0_thingMany 1 = .ok (.istore_n 1, 1) := dk_60 (dk_at dksX0_thingMany_0 1 rfl rfl)
theorem dX0_thingMany_2 : decode cX0_thingMany 2 = .ok (.iconst 0, 1) := dk_3 (dk_at dksX0_thingMany_0 2 rfl rfl)
theorem dX0_thingMany_3 : decode cX0_thingMany 3 = .ok (.istore_n 2, 1) := dk_61 (dk_at dksX0_thingMany_0 3 rfl rfl)
theorem dX0_thingMany_4 : decode cX0_thingMany 4 = .ok (.iload_n 2, 1) := dk_28 (dk_at dksX0_thingMany_0 4 rfl rfl)
theorem dX0_thingMany_5 : decode cX0_thingMany 5 = .ok (.bipush 20, 2) := dk_16 20 (dk_at dksX0_thingMany_0 5 rfl rfl)
theorem dX0_thingMany_7 : decode cX0_thingMany 7 = .ok (.if_icmp .ge 26, 3) := dk_162 0 26 (dk_at dksX0_thingMany_0 7 rfl rfl)
theorem dX0_thingMany_10 : decode cX0_thingMany 10 = .ok (.iload_n 1, 1) := dk_27 (dk_at dksX0_thingMany_0 10 rfl rfl)
theorem dX0_thingMany_11 : decode cX0_thingMany 11 = .ok (.aload_n 0, 1) := dk_42 (dk_at dksX0_thingMany_0 11 rfl rfl)
theorem dX0_thingMany_12 : decode cX0_thingMany 12 = .ok (.getfield 20, 3) := dk_180 0 20 (dk_at dksX0_thingMany_0 12 rfl rfl)
theorem dX0_thingMany_15 : decode cX0_thingMany 15 = .ok (.iload_n 2, 1) := dk_28 (dk_at dksX0_thingMany_0 15 rfl rfl)
theorem dX0_thingMany_16 : decode cX0_thingMany 16 = .ok (.aaload, 1) := dk_50 (dk_at dksX0_thingMany_0 16 rfl rfl)
theorem dX0_thingMany_17 : decode cX0_thingMany 17 = .ok (.ifnonnull 7, 3) := dk_199 0 7 (dk_at dksX0_thingMany_0 17 rfl rfl)
theorem dX0_thingMany_20 : decode cX0_thingMany 20 = .ok (.iconst 0, 1) := dk_3 (dk_at dksX0_thingMany_0 20 rfl rfl)
theorem dX0_thingMany_21 : decode cX0_thingMany 21 = .ok (.goto 4, 3) := dk_167 0 4 (dk_at dksX0_thingMany_0 21 rfl rfl)
theorem dX0_thingMany_24 : decode cX0_thingMany 24 = .ok (.iconst 1, 1) := dk_4 (dk_at dksX0_thingMany_1 0 rfl rfl)
theorem dX0_thingMany_25 : decode cX0_thingMany 25 = .ok (.iadd, 1) := dk_96 (dk_at dksX0_thingMany_1 1 rfl rfl)
theorem dX0_thingMany_26 : decode cX0_thingMany 26 = .ok (.istore_n 1, 1) := dk_60 (dk_at dksX0_thingMany_1 2 rfl rfl)
theorem dX0_thingMany_27 : decode cX0_thingMany 27 = .ok (.iinc 2 1, 3) := dk_132 2 1 (dk_at dksX0_thingMany_1 3 rfl rfl)
theorem dX0_thingMany_30 : decode cX0_thingMany 30 = .ok (.goto (-26), 3) := dk_167 255 230 (dk_at dksX0_thingMany_1 6 rfl rfl)
theorem dX0_thingMany_33 : decode cX0_thingMany 33 = .ok (.iload_n 1, 1) := dk_27 (dk_at dksX0_thingMany_1 9 rfl rfl)
theorem dX0_thingMany_34 : decode cX0_thingMany 34 = .ok (.ireturn, 1) := dk_172 (dk_at dksX0_thingMany_1 10 rfl rfl)
abbrev cX0_blockMany : ByteArray := prog_1_method_91_code
def yX0_blockMany : MethodName := ⟨RX0, "blockMany", "()I"⟩
def dkwX0_blockMany_1 : List UInt8 := [4, 96, 60, 132, 2, 1, 167, 255, 230, 27, 172]
abbrev dktX0_blockMany_1 : List UInt8 := dkwX0_blockMany_1 ++ []
def dkwX0_blockMany_0 : List UInt8 := [3, 60, 3, 61, 28, 16, 96, 162, 0, 26, 27, 42, 180, 0, 9, 28, 46, 154, 0, 7, 3, 167, 0, 4]
abbrev dktX0_blockMany_0 : List UInt8 := dkwX0_blockMany_0 ++ dktX0_blockMany_1
theorem dksX0_blockMany_0 : cX0_blockMany.data.toList.drop 0 = dktX0_blockMany_0 := by decide +kernel
theorem dksX0_blockMany_1 : cX0_blockMany.data.toList.drop 24 = dktX0_blockMany_1 := dk_seg dksX0_blockMany_0 24 rfl rfl
theorem dX0_blockMany_0 : decode cX0_blockMany 0 = .ok (.iconst 0, 1) := dk_3 (dk_at dksX0_blockMany_0 0 rfl rfl)
theorem dX0_blockMany_1 : decode cX0_blockMany 1 = .ok (.istore_n 1, 1) := dk_60 (dk_at dksX0_blockMany_0 1 rfl rfl)
theorem dX0_blockMany_2 : decode cX0_blockMany 2 = .ok (.iconst 0, 1) := dk_3 (dk_at dksX0_blockMany_0 2 rfl rfl)
theorem dX0_blockMany_3 : decode cX0_blockMany 3 = .ok (.istore_n 2, 1) := dk_61 (dk_at dksX0_blockMany_0 3 rfl rfl)
theorem dX0_blockMany_4 : decode cX0_blockMany 4 = .ok (.iload_n 2, 1) := dk_28 (dk_at dksX0_blockMany_0 4 rfl rfl)
theorem dX0_blockMany_5 : decode cX0_blockMany 5 = .ok (.bipush 96, 2) := dk_16 96 (dk_at dksX0_blockMany_0 5 rfl rfl)
theorem dX0_blockMany_7 : decode cX0_blockMany 7 = .ok (.if_icmp .ge 26, 3) := dk_162 0 26 (dk_at dksX0_blockMany_0 7 rfl rfl)
theorem dX0_blockMany_10 : decode cX0_blockMany 10 = .ok (.iload_n 1, 1) := dk_27 (dk_at dksX0_blockMany_0 10 rfl rfl)
theorem dX0_blockMany_11 : decode cX0_blockMany 11 = .ok (.aload_n 0, 1) := dk_42 (dk_at dksX0_blockMany_0 11 rfl rfl)
theorem dX0_blockMany_12 : decode cX0_blockMany 12 = .ok (.getfield 9, 3) := dk_180 0 9 (dk_at dksX0_blockMany_0 12 rfl rfl)
theorem dX0_blockMany_15 : decode cX0_blockMany 15 = .ok (.iload_n 2, 1) := dk_28 (dk_at dksX0_blockMany_0 15 rfl rfl)
theorem dX0_blockMany_16 : decode cX0_blockMany 16 = .ok (.iaload, 1) := dk_46 (dk_at dksX0_blockMany_0 16 rfl rfl)
theorem dX0_blockMany_17 : decode cX0_blockMany 17 = .ok (.ifCond .ne 7, 3) := dk_154 0 7 (dk_at dksX0_blockMany_0 17 rfl rfl)
theorem dX0_blockMany_20 : decode cX0_blockMany 20 = .ok (.iconst 0, 1) := dk_3 (dk_at dksX0_blockMany_0 20 rfl rfl)
theorem dX0_blockMany_21 : decode cX0_blockMany 21 = .ok (.goto 4, 3) := dk_167 0 4 (dk_at dksX0_blockMany_0 21 rfl rfl)
theorem dX0_blockMany_24 : decode cX0_blockMany 24 = .ok (.iconst 1, 1) := dk_4 (dk_at dksX0_blockMany_1 0 rfl rfl)
theorem dX0_blockMany_25 : decode cX0_blockMany 25 = .ok (.iadd, 1) := dk_96 (dk_at dksX0_blockMany_1 1 rfl rfl)
theorem dX0_blockMany_26 : decode cX0_blockMany 26 = .ok (.istore_n 1, 1) := dk_60 (dk_at dksX0_blockMany_1 2 rfl rfl)
theorem dX0_blockMany_27 : decode cX0_blockMany 27 = .ok (.iinc 2 1, 3) := dk_132 2 1 (dk_at dksX0_blockMany_1 3 rfl rfl)
theorem dX0_blockMany_30 : decode cX0_blockMany 30 = .ok (.goto (-26), 3) := dk_167 255 230 (dk_at dksX0_blockMany_1 6 rfl rfl)
theorem dX0_blockMany_33 : decode cX0_blockMany 33 = .ok (.iload_n 1, 1) := dk_27 (dk_at dksX0_blockMany_1 9 rfl rfl)
theorem dX0_blockMany_34 : decode cX0_blockMany 34 = .ok (.ireturn, 1) := dk_172 (dk_at dksX0_blockMany_1 10 rfl rfl)
abbrev cX0_sizeOfAll : ByteArray := prog_1_method_92_code
def yX0_sizeOfAll : MethodName := ⟨RX0, "sizeOfAll", "()J"⟩
def dkwX0_sizeOfAll_1 : List UInt8 := [167, 255, 237, 31, 173]
abbrev dktX0_sizeOfAll_1 : List UInt8 := dkwX0_sizeOfAll_1 ++ []
def dkwX0_sizeOfAll_0 : List UInt8 := [9, 64, 3, 62, 29, 16, 96, 162, 0, 19, 31, 42, 180, 0, 9, 29, 46, 133, 97, 64, 132, 3, 1]
abbrev dktX0_sizeOfAll_0 : List UInt8 := dkwX0_sizeOfAll_0 ++ dktX0_sizeOfAll_1
theorem dksX0_sizeOfAll_0 : cX0_sizeOfAll.data.toList.drop 0 = dktX0_sizeOfAll_0 := by decide +kernel
theorem dksX0_sizeOfAll_1 : cX0_sizeOfAll.data.toList.drop 23 = dktX0_sizeOfAll_1 := dk_seg dksX0_sizeOfAll_0 23 rfl rfl
theorem dX0_sizeOfAll_0 : decode cX0_sizeOfAll 0 = .ok (.lconst 0, 1) := dk_9 (dk_at dksX0_sizeOfAll_0 0 rfl rfl)
theorem dX0_sizeOfAll_1 : decode cX0_sizeOfAll 1 = .ok (.lstore_n 1, 1) := dk_64 (dk_at dksX0_sizeOfAll_0 1 rfl rfl)
theorem dX0_sizeOfAll_2 : decode cX0_sizeOfAll 2 = .ok (.iconst 0, 1) := dk_3 (dk_at dksX0_sizeOfAll_0 2 rfl rfl)
theorem dX0_sizeOfAll_3 : decode cX0_sizeOfAll 3 = .ok (.istore_n 3, 1) := dk_62 (dk_at dksX0_sizeOfAll_0 3 rfl rfl)
theorem dX0_sizeOfAll_4 : decode cX0_sizeOfAll 4 = .ok (.iload_n 3, 1) := dk_29 (dk_at dksX0_sizeOfAll_0 4 rfl rfl)
theorem dX0_sizeOfAll_5 : decode cX0_sizeOfAll 5 = .ok (.bipush 96, 2) := dk_16 96 (dk_at dksX0_sizeOfAll_0 5 rfl rfl)
theorem dX0_sizeOfAll_7 : decode cX0_sizeOfAll 7 = .ok (.if_icmp .ge 19, 3) := dk_162 0 19 (dk_at dksX0_sizeOfAll_0 7 rfl rfl)
theorem dX0_sizeOfAll_10 : decode cX0_sizeOfAll 10 = .ok (.lload_n 1, 1) := dk_31 (dk_at dksX0_sizeOfAll_0 10 rfl rfl)
theorem dX0_sizeOfAll_11 : decode cX0_sizeOfAll 11 = .ok (.aload_n 0, 1) := dk_42 (dk_at dksX0_sizeOfAll_0 11 rfl rfl)
theorem dX0_sizeOfAll_12 : decode cX0_sizeOfAll 12 = .ok (.getfield 9, 3) := dk_180 0 9 (dk_at dksX0_sizeOfAll_0 12 rfl rfl)
theorem dX0_sizeOfAll_15 : decode cX0_sizeOfAll 15 = .ok (.iload_n 3, 1) := dk_29 (dk_at dksX0_sizeOfAll_0 15 rfl rfl)
theorem dX0_sizeOfAll_16 : decode cX0_sizeOfAll 16 = .ok (.iaload, 1) := dk_46 (dk_at dksX0_sizeOfAll_0 16 rfl rfl)
theorem dX0_sizeOfAll_17 : decode cX0_sizeOfAll 17 = .ok (.i2l, 1) := dk_133 (dk_at dksX0_sizeOfAll_0 17 rfl rfl)
theorem dX0_sizeOfAll_18 : decode cX0_sizeOfAll 18 = .ok (.ladd, 1) := dk_97 (dk_at dksX0_sizeOfAll_0 18 rfl rfl)
theorem dX0_sizeOfAll_19 : decode cX0_sizeOfAll 19 = .ok (.lstore_n 1, 1) := dk_64 (dk_at dksX0_sizeOfAll_0 19 rfl rfl)
theorem dX0_sizeOfAll_20 : decode cX0_sizeOfAll 20 = .ok (.iinc 3 1, 3) := dk_132 3 1 (dk_at dksX0_sizeOfAll_0 20 rfl rfl)
theorem dX0_sizeOfAll_23 : decode cX0_sizeOfAll 23 = .ok (.goto (-19), 3) := dk_167 255 237 (dk_at dksX0_sizeOfAll_1 0 rfl rfl)
theorem dX0_sizeOfAll_26 : decode cX0_sizeOfAll 26 = .ok (.lload_n 1, 1) := dk_31 (dk_at dksX0_sizeOfAll_1 3 rfl rfl)
theorem dX0_sizeOfAll_27 : decode cX0_sizeOfAll 27 = .ok (.lreturn, 1) := dk_173 (dk_at dksX0_sizeOfAll_1 4 rfl rfl)
abbrev cX0_laysBack : ByteArray := prog_1_method_98_code
def yX0_laysBack : MethodName := ⟨RX0, "laysBack", "(LDeadListPool$Copy;)V"⟩
def dkwX0_laysBack_4 : List UInt8 := [180, 1, 231, 181, 0, 16, 42, 43, 180, 1, 232, 181, 0, 50, 177]
abbrev dktX0_laysBack_4 : List UInt8 := dkwX0_laysBack_4 ++ []
def dkwX0_laysBack_3 : List UInt8 := [46, 79, 42, 180, 0, 13, 28, 43, 180, 1, 230, 28, 46, 79, 132, 2, 1, 167, 255, 223, 42, 43]
abbrev dktX0_laysBack_3 : List UInt8 := dkwX0_laysBack_3 ++ dktX0_laysBack_4
def dkwX0_laysBack_2 : List UInt8 := [132, 2, 1, 167, 255, 209, 3, 61, 28, 16, 96, 162, 0, 33, 42, 180, 0, 9, 28, 43, 180, 1, 229, 28]
abbrev dktX0_laysBack_2 : List UInt8 := dkwX0_laysBack_2 ++ dktX0_laysBack_3
def dkwX0_laysBack_1 : List UInt8 := [28, 50, 193, 0, 65, 153, 0, 17, 43, 42, 180, 0, 20, 28, 50, 192, 0, 65, 28, 184, 1, 235]
abbrev dktX0_laysBack_1 : List UInt8 := dkwX0_laysBack_1 ++ dktX0_laysBack_2
def dkwX0_laysBack_0 : List UInt8 := [3, 61, 28, 16, 20, 162, 0, 47, 42, 180, 0, 20, 28, 43, 180, 1, 224, 28, 50, 83, 42, 180, 0, 20]
abbrev dktX0_laysBack_0 : List UInt8 := dkwX0_laysBack_0 ++ dktX0_laysBack_1
theorem dksX0_laysBack_0 : cX0_laysBack.data.toList.drop 0 = dktX0_laysBack_0 := by decide +kernel
theorem dksX0_laysBack_1 : cX0_laysBack.data.toList.drop 24 = dktX0_laysBack_1 := dk_seg dksX0_laysBack_0 24 rfl rfl
theorem dksX0_laysBack_2 : cX0_laysBack.data.toList.drop 46 = dktX0_laysBack_2 := dk_seg dksX0_laysBack_1 22 rfl rfl
theorem dksX0_laysBack_3 : cX0_laysBack.data.toList.drop 70 = dktX0_laysBack_3 := dk_seg dksX0_laysBack_2 24 rfl rfl
theorem dksX0_laysBack_4 : cX0_laysBack.data.toList.drop 92 = dktX0_laysBack_4 := dk_seg dksX0_laysBack_3 22 rfl rfl
theorem dX0_laysBack_0 : decode cX0_laysBack 0 = .ok (.iconst 0, 1) := dk_3 (dk_at dksX0_laysBack_0 0 rfl rfl)
theorem dX0_laysBack_1 : decode cX0_laysBack 1 = .ok (.istore_n 2, 1) := dk_61 (dk_at dksX0_laysBack_0 1 rfl rfl)
theorem dX0_laysBack_2 : decode cX0_laysBack 2 = .ok (.iload_n 2, 1) := dk_28 (dk_at dksX0_laysBack_0 2 rfl rfl)
theorem dX0_laysBack_3 : decode cX0_laysBack 3 = .ok (.bipush 20, 2) := dk_16 20 (dk_at dksX0_laysBack_0 3 rfl rfl)
theorem dX0_laysBack_5 : decode cX0_laysBack 5 = .ok (.if_icmp .ge 47, 3) := dk_162 0 47 (dk_at dksX0_laysBack_0 5 rfl rfl)
theorem dX0_laysBack_8 : decode cX0_laysBack 8 = .ok (.aload_n 0, 1) := dk_42 (dk_at dksX0_laysBack_0 8 rfl rfl)
theorem dX0_laysBack_9 : decode cX0_laysBack 9 = .ok (.getfield 20, 3) := dk_180 0 20 (dk_at dksX0_laysBack_0 9 rfl rfl)
theorem dX0_laysBack_12 : decode cX0_laysBack 12 = .ok (.iload_n 2, 1) := dk_28 (dk_at dksX0_laysBack_0 12 rfl rfl)
theorem dX0_laysBack_13 : decode cX0_laysBack 13 = .ok (.aload_n 1, 1) := dk_43 (dk_at dksX0_laysBack_0 13 rfl rfl)
theorem dX0_laysBack_14 : decode cX0_laysBack 14 = .ok (.getfield 480, 3) := dk_180 1 224 (dk_at dksX0_laysBack_0 14 rfl rfl)
theorem dX0_laysBack_17 : decode cX0_laysBack 17 = .ok (.iload_n 2, 1) := dk_28 (dk_at dksX0_laysBack_0 17 rfl rfl)
theorem dX0_laysBack_18 : decode cX0_laysBack 18 = .ok (.aaload, 1) := dk_50 (dk_at dksX0_laysBack_0 18 rfl rfl)
theorem dX0_laysBack_19 : decode cX0_laysBack 19 = .ok (.aastore, 1) := dk_83 (dk_at dksX0_laysBack_0 19 rfl rfl)
theorem dX0_laysBack_20 : decode cX0_laysBack 20 = .ok (.aload_n 0, 1) := dk_42 (dk_at dksX0_laysBack_0 20 rfl rfl)
theorem dX0_laysBack_21 : decode cX0_laysBack 21 = .ok (.getfield 20, 3) := dk_180 0 20 (dk_at dksX0_laysBack_0 21 rfl rfl)
theorem dX0_laysBack_24 : decode cX0_laysBack 24 = .ok (.iload_n 2, 1) := dk_28 (dk_at dksX0_laysBack_1 0 rfl rfl)
theorem dX0_laysBack_25 : decode cX0_laysBack 25 = .ok (.aaload, 1) := dk_50 (dk_at dksX0_laysBack_1 1 rfl rfl)
theorem dX0_laysBack_26 : decode cX0_laysBack 26 = .ok (.instanceof 65, 3) := dk_193 0 65 (dk_at dksX0_laysBack_1 2 rfl rfl)
theorem dX0_laysBack_29 : decode cX0_laysBack 29 = .ok (.ifCond .eq 17, 3) := dk_153 0 17 (dk_at dksX0_laysBack_1 5 rfl rfl)
theorem dX0_laysBack_32 : decode cX0_laysBack 32 = .ok (.aload_n 1, 1) := dk_43 (dk_at dksX0_laysBack_1 8 rfl rfl)
theorem dX0_laysBack_33 : decode cX0_laysBack 33 = .ok (.aload_n 0, 1) := dk_42 (dk_at dksX0_laysBack_1 9 rfl rfl)
theorem dX0_laysBack_34 : decode cX0_laysBack 34 = .ok (.getfield 20, 3) := dk_180 0 20 (dk_at dksX0_laysBack_1 10 rfl rfl)
theorem dX0_laysBack_37 : decode cX0_laysBack 37 = .ok (.iload_n 2, 1) := dk_28 (dk_at dksX0_laysBack_1 13 rfl rfl)
theorem dX0_laysBack_38 : decode cX0_laysBack 38 = .ok (.aaload, 1) := dk_50 (dk_at dksX0_laysBack_1 14 rfl rfl)
theorem dX0_laysBack_39 : decode cX0_laysBack 39 = .ok (.checkcast 65, 3) := dk_192 0 65 (dk_at dksX0_laysBack_1 15 rfl rfl)
theorem dX0_laysBack_42 : decode cX0_laysBack 42 = .ok (.iload_n 2, 1) := dk_28 (dk_at dksX0_laysBack_1 18 rfl rfl)
theorem dX0_laysBack_43 : decode cX0_laysBack 43 = .ok (.invokestatic 491, 3) := dk_184 1 235 (dk_at dksX0_laysBack_1 19 rfl rfl)
theorem dX0_laysBack_46 : decode cX0_laysBack 46 = .ok (.iinc 2 1, 3) := dk_132 2 1 (dk_at dksX0_laysBack_2 0 rfl rfl)
theorem dX0_laysBack_49 : decode cX0_laysBack 49 = .ok (.goto (-47), 3) := dk_167 255 209 (dk_at dksX0_laysBack_2 3 rfl rfl)
theorem dX0_laysBack_52 : decode cX0_laysBack 52 = .ok (.iconst 0, 1) := dk_3 (dk_at dksX0_laysBack_2 6 rfl rfl)
theorem dX0_laysBack_53 : decode cX0_laysBack 53 = .ok (.istore_n 2, 1) := dk_61 (dk_at dksX0_laysBack_2 7 rfl rfl)
theorem dX0_laysBack_54 : decode cX0_laysBack 54 = .ok (.iload_n 2, 1) := dk_28 (dk_at dksX0_laysBack_2 8 rfl rfl)
theorem dX0_laysBack_55 : decode cX0_laysBack 55 = .ok (.bipush 96, 2) := dk_16 96 (dk_at dksX0_laysBack_2 9 rfl rfl)
theorem dX0_laysBack_57 : decode cX0_laysBack 57 = .ok (.if_icmp .ge 33, 3) := dk_162 0 33 (dk_at dksX0_laysBack_2 11 rfl rfl)
theorem dX0_laysBack_60 : decode cX0_laysBack 60 = .ok (.aload_n 0, 1) := dk_42 (dk_at dksX0_laysBack_2 14 rfl rfl)
theorem dX0_laysBack_61 : decode cX0_laysBack 61 = .ok (.getfield 9, 3) := dk_180 0 9 (dk_at dksX0_laysBack_2 15 rfl rfl)
theorem dX0_laysBack_64 : decode cX0_laysBack 64 = .ok (.iload_n 2, 1) := dk_28 (dk_at dksX0_laysBack_2 18 rfl rfl)
theorem dX0_laysBack_65 : decode cX0_laysBack 65 = .ok (.aload_n 1, 1) := dk_43 (dk_at dksX0_laysBack_2 19 rfl rfl)
theorem dX0_laysBack_66 : decode cX0_laysBack 66 = .ok (.getfield 485, 3) := dk_180 1 229 (dk_at dksX0_laysBack_2 20 rfl rfl)
theorem dX0_laysBack_69 : decode cX0_laysBack 69 = .ok (.iload_n 2, 1) := dk_28 (dk_at dksX0_laysBack_2 23 rfl rfl)
theorem dX0_laysBack_70 : decode cX0_laysBack 70 = .ok (.iaload, 1) := dk_46 (dk_at dksX0_laysBack_3 0 rfl rfl)
theorem dX0_laysBack_71 : decode cX0_laysBack 71 = .ok (.iastore, 1) := dk_79 (dk_at dksX0_laysBack_3 1 rfl rfl)
theorem dX0_laysBack_72 : decode cX0_laysBack 72 = .ok (.aload_n 0, 1) := dk_42 (dk_at dksX0_laysBack_3 2 rfl rfl)
theorem dX0_laysBack_73 : decode cX0_laysBack 73 = .ok (.getfield 13, 3) := dk_180 0 13 (dk_at dksX0_laysBack_3 3 rfl rfl)
theorem dX0_laysBack_76 : decode cX0_laysBack 76 = .ok (.iload_n 2, 1) := dk_28 (dk_at dksX0_laysBack_3 6 rfl rfl)
theorem dX0_laysBack_77 : decode cX0_laysBack 77 = .ok (.aload_n 1, 1) := dk_43 (dk_at dksX0_laysBack_3 7 rfl rfl)
theorem dX0_laysBack_78 : decode cX0_laysBack 78 = .ok (.getfield 486, 3) := dk_180 1 230 (dk_at dksX0_laysBack_3 8 rfl rfl)
theorem dX0_laysBack_81 : decode cX0_laysBack 81 = .ok (.iload_n 2, 1) := dk_28 (dk_at dksX0_laysBack_3 11 rfl rfl)
theorem dX0_laysBack_82 : decode cX0_laysBack 82 = .ok (.iaload, 1) := dk_46 (dk_at dksX0_laysBack_3 12 rfl rfl)
theorem dX0_laysBack_83 : decode cX0_laysBack 83 = .ok (.iastore, 1) := dk_79 (dk_at dksX0_laysBack_3 13 rfl rfl)
theorem dX0_laysBack_84 : decode cX0_laysBack 84 = .ok (.iinc 2 1, 3) := dk_132 2 1 (dk_at dksX0_laysBack_3 14 rfl rfl)
theorem dX0_laysBack_87 : decode cX0_laysBack 87 = .ok (.goto (-33), 3) := dk_167 255 223 (dk_at dksX0_laysBack_3 17 rfl rfl)
theorem dX0_laysBack_90 : decode cX0_laysBack 90 = .ok (.aload_n 0, 1) := dk_42 (dk_at dksX0_laysBack_3 20 rfl rfl)
theorem dX0_laysBack_91 : decode cX0_laysBack 91 = .ok (.aload_n 1, 1) := dk_43 (dk_at dksX0_laysBack_3 21 rfl rfl)
theorem dX0_laysBack_92 : decode cX0_laysBack 92 = .ok (.getfield 487, 3) := dk_180 1 231 (dk_at dksX0_laysBack_4 0 rfl rfl)
theorem dX0_laysBack_95 : decode cX0_laysBack 95 = .ok (.putfield 16, 3) := dk_181 0 16 (dk_at dksX0_laysBack_4 3 rfl rfl)
theorem dX0_laysBack_98 : decode cX0_laysBack 98 = .ok (.aload_n 0, 1) := dk_42 (dk_at dksX0_laysBack_4 6 rfl rfl)
theorem dX0_laysBack_99 : decode cX0_laysBack 99 = .ok (.aload_n 1, 1) := dk_43 (dk_at dksX0_laysBack_4 7 rfl rfl)
theorem dX0_laysBack_100 : decode cX0_laysBack 100 = .ok (.getfield 488, 3) := dk_180 1 232 (dk_at dksX0_laysBack_4 8 rfl rfl)
theorem dX0_laysBack_103 : decode cX0_laysBack 103 = .ok (.putfield 50, 3) := dk_181 0 50 (dk_at dksX0_laysBack_4 11 rfl rfl)
theorem dX0_laysBack_106 : decode cX0_laysBack 106 = .ok (.return_, 1) := dk_177 (dk_at dksX0_laysBack_4 14 rfl rfl)
abbrev cX0_laysOneBack : ByteArray := prog_1_method_96_code
def yX0_laysOneBack : MethodName := ⟨RX0, "laysOneBack", "(LDeadListPool$Copy;LDeadListPool$Holder;I)V"⟩
def dkwX0_laysOneBack_4 : List UInt8 := [182, 1, 223, 177]
abbrev dktX0_laysOneBack_4 : List UInt8 := dkwX0_laysOneBack_4 ++ []
def dkwX0_laysOneBack_3 : List UInt8 := [192, 0, 27, 42, 180, 1, 217, 28, 50, 181, 0, 95, 43, 192, 0, 27, 42, 180, 1, 221, 28, 46]
abbrev dktX0_laysOneBack_3 : List UInt8 := dkwX0_laysOneBack_3 ++ dktX0_laysOneBack_4
def dkwX0_laysOneBack_2 : List UInt8 := [28, 46, 181, 0, 122, 43, 42, 180, 1, 214, 28, 50, 181, 0, 88, 43, 193, 0, 27, 153, 0, 29, 43]
abbrev dktX0_laysOneBack_2 : List UInt8 := dkwX0_laysOneBack_2 ++ dktX0_laysOneBack_3
def dkwX0_laysOneBack_1 : List UInt8 := [180, 0, 125, 29, 42, 180, 1, 210, 28, 50, 29, 46, 79, 132, 3, 1, 167, 255, 219, 43, 42, 180, 1, 212]
abbrev dktX0_laysOneBack_1 : List UInt8 := dkwX0_laysOneBack_1 ++ dktX0_laysOneBack_2
def dkwX0_laysOneBack_0 : List UInt8 := [3, 62, 29, 16, 12, 162, 0, 37, 43, 180, 0, 119, 29, 42, 180, 1, 207, 28, 50, 29, 46, 79, 43]
abbrev dktX0_laysOneBack_0 : List UInt8 := dkwX0_laysOneBack_0 ++ dktX0_laysOneBack_1
theorem dksX0_laysOneBack_0 : cX0_laysOneBack.data.toList.drop 0 = dktX0_laysOneBack_0 := by decide +kernel
theorem dksX0_laysOneBack_1 : cX0_laysOneBack.data.toList.drop 23 = dktX0_laysOneBack_1 := dk_seg dksX0_laysOneBack_0 23 rfl rfl
theorem dksX0_laysOneBack_2 : cX0_laysOneBack.data.toList.drop 47 = dktX0_laysOneBack_2 := dk_seg dksX0_laysOneBack_1 24 rfl rfl
theorem dksX0_laysOneBack_3 : cX0_laysOneBack.data.toList.drop 70 = dktX0_laysOneBack_3 := dk_seg dksX0_laysOneBack_2 23 rfl rfl
theorem dksX0_laysOneBack_4 : cX0_laysOneBack.data.toList.drop 92 = dktX0_laysOneBack_4 := dk_seg dksX0_laysOneBack_3 22 rfl rfl
theorem dX0_laysOneBack_0 : decode cX0_laysOneBack 0 = .ok (.iconst 0, 1) := dk_3 (dk_at dksX0_laysOneBack_0 0 rfl rfl)
theorem dX0_laysOneBack_1 : decode cX0_laysOneBack 1 = .ok (.istore_n 3, 1) := dk_62 (dk_at dksX0_laysOneBack_0 1 rfl rfl)
theorem dX0_laysOneBack_2 : decode cX0_laysOneBack 2 = .ok (.iload_n 3, 1) := dk_29 (dk_at dksX0_laysOneBack_0 2 rfl rfl)
theorem dX0_laysOneBack_3 : decode cX0_laysOneBack 3 = .ok (.bipush 12, 2) := dk_16 12 (dk_at dksX0_laysOneBack_0 3 rfl rfl)
theorem dX0_laysOneBack_5 : decode cX0_laysOneBack 5 = .ok (.if_icmp .ge 37, 3) := dk_162 0 37 (dk_at dksX0_laysOneBack_0 5 rfl rfl)
theorem dX0_laysOneBack_8 : decode cX0_laysOneBack 8 = .ok (.aload_n 1, 1) := dk_43 (dk_at dksX0_laysOneBack_0 8 rfl rfl)
theorem dX0_laysOneBack_9 : decode cX0_laysOneBack 9 = .ok (.getfield 119, 3) := dk_180 0 119 (dk_at dksX0_laysOneBack_0 9 rfl rfl)
theorem dX0_laysOneBack_12 : decode cX0_laysOneBack 12 = .ok (.iload_n 3, 1) := dk_29 (dk_at dksX0_laysOneBack_0 12 rfl rfl)
theorem dX0_laysOneBack_13 : decode cX0_laysOneBack 13 = .ok (.aload_n 0, 1) := dk_42 (dk_at dksX0_laysOneBack_0 13 rfl rfl)
theorem dX0_laysOneBack_14 : decode cX0_laysOneBack 14 = .ok (.getfield 463, 3) := dk_180 1 207 (dk_at dksX0_laysOneBack_0 14 rfl rfl)
theorem dX0_laysOneBack_17 : decode cX0_laysOneBack 17 = .ok (.iload_n 2, 1) := dk_28 (dk_at dksX0_laysOneBack_0 17 rfl rfl)
theorem dX0_laysOneBack_18 : decode cX0_laysOneBack 18 = .ok (.aaload, 1) := dk_50 (dk_at dksX0_laysOneBack_0 18 rfl rfl)
theorem dX0_laysOneBack_19 : decode cX0_laysOneBack 19 = .ok (.iload_n 3, 1) := dk_29 (dk_at dksX0_laysOneBack_0 19 rfl rfl)
theorem dX0_laysOneBack_20 : decode cX0_laysOneBack 20 = .ok (.iaload, 1) := dk_46 (dk_at dksX0_laysOneBack_0 20 rfl rfl)
theorem dX0_laysOneBack_21 : decode cX0_laysOneBack 21 = .ok (.iastore, 1) := dk_79 (dk_at dksX0_laysOneBack_0 21 rfl rfl)
theorem dX0_laysOneBack_22 : decode cX0_laysOneBack 22 = .ok (.aload_n 1, 1) := dk_43 (dk_at dksX0_laysOneBack_0 22 rfl rfl)
theorem dX0_laysOneBack_23 : decode cX0_laysOneBack 23 = .ok (.getfield 125, 3) := dk_180 0 125 (dk_at dksX0_laysOneBack_1 0 rfl rfl)
theorem dX0_laysOneBack_26 : decode cX0_laysOneBack 26 = .ok (.iload_n 3, 1) := dk_29 (dk_at dksX0_laysOneBack_1 3 rfl rfl)
theorem dX0_laysOneBack_27 : decode cX0_laysOneBack 27 = .ok (.aload_n 0, 1) := dk_42 (dk_at dksX0_laysOneBack_1 4 rfl rfl)
theorem dX0_laysOneBack_28 : decode cX0_laysOneBack 28 = .ok (.getfield 466, 3) := dk_180 1 210 (dk_at dksX0_laysOneBack_1 5 rfl rfl)
theorem dX0_laysOneBack_31 : decode cX0_laysOneBack 31 = .ok (.iload_n 2, 1) := dk_28 (dk_at dksX0_laysOneBack_1 8 rfl rfl)
theorem dX0_laysOneBack_32 : decode cX0_laysOneBack 32 = .ok (.aaload, 1) := dk_50 (dk_at dksX0_laysOneBack_1 9 rfl rfl)
theorem dX0_laysOneBack_33 : decode cX0_laysOneBack 33 = .ok (.iload_n 3, 1) := dk_29 (dk_at dksX0_laysOneBack_1 10 rfl rfl)
theorem dX0_laysOneBack_34 : decode cX0_laysOneBack 34 = .ok (.iaload, 1) := dk_46 (dk_at dksX0_laysOneBack_1 11 rfl rfl)
theorem dX0_laysOneBack_35 : decode cX0_laysOneBack 35 = .ok (.iastore, 1) := dk_79 (dk_at dksX0_laysOneBack_1 12 rfl rfl)
theorem dX0_laysOneBack_36 : decode cX0_laysOneBack 36 = .ok (.iinc 3 1, 3) := dk_132 3 1 (dk_at dksX0_laysOneBack_1 13 rfl rfl)
theorem dX0_laysOneBack_39 : decode cX0_laysOneBack 39 = .ok (.goto (-37), 3) := dk_167 255 219 (dk_at dksX0_laysOneBack_1 16 rfl rfl)
theorem dX0_laysOneBack_42 : decode cX0_laysOneBack 42 = .ok (.aload_n 1, 1) := dk_43 (dk_at dksX0_laysOneBack_1 19 rfl rfl)
theorem dX0_laysOneBack_43 : decode cX0_laysOneBack 43 = .ok (.aload_n 0, 1) := dk_42 (dk_at dksX0_laysOneBack_1 20 rfl rfl)
theorem dX0_laysOneBack_44 : decode cX0_laysOneBack 44 = .ok (.getfield 468, 3) := dk_180 1 212 (dk_at dksX0_laysOneBack_1 21 rfl rfl)
theorem dX0_laysOneBack_47 : decode cX0_laysOneBack 47 = .ok (.iload_n 2, 1) := dk_28 (dk_at dksX0_laysOneBack_2 0 rfl rfl)
theorem dX0_laysOneBack_48 : decode cX0_laysOneBack 48 = .ok (.iaload, 1) := dk_46 (dk_at dksX0_laysOneBack_2 1 rfl rfl)
theorem dX0_laysOneBack_49 : decode cX0_laysOneBack 49 = .ok (.putfield 122, 3) := dk_181 0 122 (dk_at dksX0_laysOneBack_2 2 rfl rfl)
theorem dX0_laysOneBack_52 : decode cX0_laysOneBack 52 = .ok (.aload_n 1, 1) := dk_43 (dk_at dksX0_laysOneBack_2 5 rfl rfl)
theorem dX0_laysOneBack_53 : decode cX0_laysOneBack 53 = .ok (.aload_n 0, 1) := dk_42 (dk_at dksX0_laysOneBack_2 6 rfl rfl)
theorem dX0_laysOneBack_54 : decode cX0_laysOneBack 54 = .ok (.getfield 470, 3) := dk_180 1 214 (dk_at dksX0_laysOneBack_2 7 rfl rfl)
theorem dX0_laysOneBack_57 : decode cX0_laysOneBack 57 = .ok (.iload_n 2, 1) := dk_28 (dk_at dksX0_laysOneBack_2 10 rfl rfl)
theorem dX0_laysOneBack_58 : decode cX0_laysOneBack 58 = .ok (.aaload, 1) := dk_50 (dk_at dksX0_laysOneBack_2 11 rfl rfl)
theorem dX0_laysOneBack_59 : decode cX0_laysOneBack 59 = .ok (.putfield 88, 3) := dk_181 0 88 (dk_at dksX0_laysOneBack_2 12 rfl rfl)
theorem dX0_laysOneBack_62 : decode cX0_laysOneBack 62 = .ok (.aload_n 1, 1) := dk_43 (dk_at dksX0_laysOneBack_2 15 rfl rfl)
theorem dX0_laysOneBack_63 : decode cX0_laysOneBack 63 = .ok (.instanceof 27, 3) := dk_193 0 27 (dk_at dksX0_laysOneBack_2 16 rfl rfl)
theorem dX0_laysOneBack_66 : decode cX0_laysOneBack 66 = .ok (.ifCond .eq 29, 3) := dk_153 0 29 (dk_at dksX0_laysOneBack_2 19 rfl rfl)
theorem dX0_laysOneBack_69 : decode cX0_laysOneBack 69 = .ok (.aload_n 1, 1) := dk_43 (dk_at dksX0_laysOneBack_2 22 rfl rfl)
theorem dX0_laysOneBack_70 : decode cX0_laysOneBack 70 = .ok (.checkcast 27, 3) := dk_192 0 27 (dk_at dksX0_laysOneBack_3 0 rfl rfl)
theorem dX0_laysOneBack_73 : decode cX0_laysOneBack 73 = .ok (.aload_n 0, 1) := dk_42 (dk_at dksX0_laysOneBack_3 3 rfl rfl)
theorem dX0_laysOneBack_74 : decode cX0_laysOneBack 74 = .ok (.getfield 473, 3) := dk_180 1 217 (dk_at dksX0_laysOneBack_3 4 rfl rfl)
theorem dX0_laysOneBack_77 : decode cX0_laysOneBack 77 = .ok (.iload_n 2, 1) := dk_28 (dk_at dksX0_laysOneBack_3 7 rfl rfl)
theorem dX0_laysOneBack_78 : decode cX0_laysOneBack 78 = .ok (.aaload, 1) := dk_50 (dk_at dksX0_laysOneBack_3 8 rfl rfl)
theorem dX0_laysOneBack_79 : decode cX0_laysOneBack 79 = .ok (.putfield 95, 3) := dk_181 0 95 (dk_at dksX0_laysOneBack_3 9 rfl rfl)
theorem dX0_laysOneBack_82 : decode cX0_laysOneBack 82 = .ok (.aload_n 1, 1) := dk_43 (dk_at dksX0_laysOneBack_3 12 rfl rfl)
theorem dX0_laysOneBack_83 : decode cX0_laysOneBack 83 = .ok (.checkcast 27, 3) := dk_192 0 27 (dk_at dksX0_laysOneBack_3 13 rfl rfl)
theorem dX0_laysOneBack_86 : decode cX0_laysOneBack 86 = .ok (.aload_n 0, 1) := dk_42 (dk_at dksX0_laysOneBack_3 16 rfl rfl)
theorem dX0_laysOneBack_87 : decode cX0_laysOneBack 87 = .ok (.getfield 477, 3) := dk_180 1 221 (dk_at dksX0_laysOneBack_3 17 rfl rfl)
theorem dX0_laysOneBack_90 : decode cX0_laysOneBack 90 = .ok (.iload_n 2, 1) := dk_28 (dk_at dksX0_laysOneBack_3 20 rfl rfl)
theorem dX0_laysOneBack_91 : decode cX0_laysOneBack 91 = .ok (.iaload, 1) := dk_46 (dk_at dksX0_laysOneBack_3 21 rfl rfl)
theorem dX0_laysOneBack_92 : decode cX0_laysOneBack 92 = .ok (.invokevirtual 479, 3) := dk_182 1 223 (dk_at dksX0_laysOneBack_4 0 rfl rfl)
theorem dX0_laysOneBack_95 : decode cX0_laysOneBack 95 = .ok (.return_, 1) := dk_177 (dk_at dksX0_laysOneBack_4 3 rfl rfl)
abbrev cX0_image : ByteArray := prog_1_method_99_code
def yX0_image : MethodName := ⟨RX0, "image", "()I"⟩
def dkwX0_image_0 : List UInt8 := [42, 42, 180, 0, 43, 182, 1, 192, 42, 4, 181, 1, 238, 42, 182, 1, 180, 172]
abbrev dktX0_image_0 : List UInt8 := dkwX0_image_0 ++ []
theorem dksX0_image_0 : cX0_image.data.toList.drop 0 = dktX0_image_0 := by decide +kernel
theorem dX0_image_0 : decode cX0_image 0 = .ok (.aload_n 0, 1) := dk_42 (dk_at dksX0_image_0 0 rfl rfl)
theorem dX0_image_1 : decode cX0_image 1 = .ok (.aload_n 0, 1) := dk_42 (dk_at dksX0_image_0 1 rfl rfl)
theorem dX0_image_2 : decode cX0_image 2 = .ok (.getfield 43, 3) := dk_180 0 43 (dk_at dksX0_image_0 2 rfl rfl)
theorem dX0_image_5 : decode cX0_image 5 = .ok (.invokevirtual 448, 3) := dk_182 1 192 (dk_at dksX0_image_0 5 rfl rfl)
theorem dX0_image_8 : decode cX0_image 8 = .ok (.aload_n 0, 1) := dk_42 (dk_at dksX0_image_0 8 rfl rfl)
theorem dX0_image_9 : decode cX0_image 9 = .ok (.iconst 1, 1) := dk_4 (dk_at dksX0_image_0 9 rfl rfl)
theorem dX0_image_10 : decode cX0_image 10 = .ok (.putfield 494, 3) := dk_181 1 238 (dk_at dksX0_image_0 10 rfl rfl)
theorem dX0_image_13 : decode cX0_image 13 = .ok (.aload_n 0, 1) := dk_42 (dk_at dksX0_image_0 13 rfl rfl)
theorem dX0_image_14 : decode cX0_image 14 = .ok (.invokevirtual 436, 3) := dk_182 1 180 (dk_at dksX0_image_0 14 rfl rfl)
theorem dX0_image_17 : decode cX0_image 17 = .ok (.ireturn, 1) := dk_172 (dk_at dksX0_image_0 17 rfl rfl)
abbrev cX0_back : ByteArray := prog_1_method_100_code
def yX0_back : MethodName := ⟨RX0, "back", "()I"⟩
def dkwX0_back_0 : List UInt8 := [42, 180, 1, 238, 154, 0, 6, 16, 253, 172, 42, 42, 180, 0, 43, 182, 1, 204, 42, 182, 1, 180, 172]
abbrev dktX0_back_0 : List UInt8 := dkwX0_back_0 ++ []
theorem dksX0_back_0 : cX0_back.data.toList.drop 0 = dktX0_back_0 := by decide +kernel
theorem dX0_back_0 : decode cX0_back 0 = .ok (.aload_n 0, 1) := dk_42 (dk_at dksX0_back_0 0 rfl rfl)
theorem dX0_back_1 : decode cX0_back 1 = .ok (.getfield 494, 3) := dk_180 1 238 (dk_at dksX0_back_0 1 rfl rfl)
theorem dX0_back_4 : decode cX0_back 4 = .ok (.ifCond .ne 6, 3) := dk_154 0 6 (dk_at dksX0_back_0 4 rfl rfl)
theorem dX0_back_7 : decode cX0_back 7 = .ok (.bipush (-3), 2) := dk_16 253 (dk_at dksX0_back_0 7 rfl rfl)
theorem dX0_back_9 : decode cX0_back 9 = .ok (.ireturn, 1) := dk_172 (dk_at dksX0_back_0 9 rfl rfl)
theorem dX0_back_10 : decode cX0_back 10 = .ok (.aload_n 0, 1) := dk_42 (dk_at dksX0_back_0 10 rfl rfl)
theorem dX0_back_11 : decode cX0_back 11 = .ok (.aload_n 0, 1) := dk_42 (dk_at dksX0_back_0 11 rfl rfl)
theorem dX0_back_12 : decode cX0_back 12 = .ok (.getfield 43, 3) := dk_180 0 43 (dk_at dksX0_back_0 12 rfl rfl)
theorem dX0_back_15 : decode cX0_back 15 = .ok (.invokevirtual 460, 3) := dk_182 1 204 (dk_at dksX0_back_0 15 rfl rfl)
theorem dX0_back_18 : decode cX0_back 18 = .ok (.aload_n 0, 1) := dk_42 (dk_at dksX0_back_0 18 rfl rfl)
theorem dX0_back_19 : decode cX0_back 19 = .ok (.invokevirtual 436, 3) := dk_182 1 180 (dk_at dksX0_back_0 19 rfl rfl)
theorem dX0_back_22 : decode cX0_back 22 = .ok (.ireturn, 1) := dk_172 (dk_at dksX0_back_0 22 rfl rfl)
abbrev cX0_count : ByteArray := prog_1_method_101_code
def yX0_count : MethodName := ⟨RX0, "count", "(I)I"⟩
def dkwX0_count_2 : List UInt8 := [42, 182, 1, 180, 172, 42, 182, 1, 183, 172, 42, 180, 0, 16, 172, 42, 180, 0, 50, 172, 16, 254, 172]
abbrev dktX0_count_2 : List UInt8 := dkwX0_count_2 ++ []
def dkwX0_count_1 : List UInt8 := [170, 0, 0, 0, 0, 0, 51, 0, 0, 0, 0, 0, 0, 0, 3, 0, 0, 0, 31, 0, 0, 0, 36, 0, 0, 0, 41, 0, 0, 0, 46]
abbrev dktX0_count_1 : List UInt8 := dkwX0_count_1 ++ dktX0_count_2
def dkwX0_count_0 : List UInt8 := [27]
abbrev dktX0_count_0 : List UInt8 := dkwX0_count_0 ++ dktX0_count_1
theorem dksX0_count_0 : cX0_count.data.toList.drop 0 = dktX0_count_0 := by decide +kernel
theorem dksX0_count_1 : cX0_count.data.toList.drop 1 = dktX0_count_1 := dk_seg dksX0_count_0 1 rfl rfl
theorem dksX0_count_2 : cX0_count.data.toList.drop 32 = dktX0_count_2 := dk_seg dksX0_count_1 31 rfl rfl
theorem dX0_count_0 : decode cX0_count 0 = .ok (.iload_n 1, 1) := dk_27 (dk_at dksX0_count_0 0 rfl rfl)
theorem dX0_count_1 : decode cX0_count 1 = .ok (.tableswitch 51 0 3 #[31, 36, 41, 46], 31) := by decide +kernel
theorem dX0_count_32 : decode cX0_count 32 = .ok (.aload_n 0, 1) := dk_42 (dk_at dksX0_count_2 0 rfl rfl)
theorem dX0_count_33 : decode cX0_count 33 = .ok (.invokevirtual 436, 3) := dk_182 1 180 (dk_at dksX0_count_2 1 rfl rfl)
theorem dX0_count_36 : decode cX0_count 36 = .ok (.ireturn, 1) := dk_172 (dk_at dksX0_count_2 4 rfl rfl)
theorem dX0_count_37 : decode cX0_count 37 = .ok (.aload_n 0, 1) := dk_42 (dk_at dksX0_count_2 5 rfl rfl)
theorem dX0_count_38 : decode cX0_count 38 = .ok (.invokevirtual 439, 3) := dk_182 1 183 (dk_at dksX0_count_2 6 rfl rfl)
theorem dX0_count_41 : decode cX0_count 41 = .ok (.ireturn, 1) := dk_172 (dk_at dksX0_count_2 9 rfl rfl)
theorem dX0_count_42 : decode cX0_count 42 = .ok (.aload_n 0, 1) := dk_42 (dk_at dksX0_count_2 10 rfl rfl)
theorem dX0_count_43 : decode cX0_count 43 = .ok (.getfield 16, 3) := dk_180 0 16 (dk_at dksX0_count_2 11 rfl rfl)
theorem dX0_count_46 : decode cX0_count 46 = .ok (.ireturn, 1) := dk_172 (dk_at dksX0_count_2 14 rfl rfl)
theorem dX0_count_47 : decode cX0_count 47 = .ok (.aload_n 0, 1) := dk_42 (dk_at dksX0_count_2 15 rfl rfl)
theorem dX0_count_48 : decode cX0_count 48 = .ok (.getfield 50, 3) := dk_180 0 50 (dk_at dksX0_count_2 16 rfl rfl)
theorem dX0_count_51 : decode cX0_count 51 = .ok (.ireturn, 1) := dk_172 (dk_at dksX0_count_2 19 rfl rfl)
theorem dX0_count_52 : decode cX0_count 52 = .ok (.bipush (-2), 2) := dk_16 254 (dk_at dksX0_count_2 20 rfl rfl)
theorem dX0_count_54 : decode cX0_count 54 = .ok (.ireturn, 1) := dk_172 (dk_at dksX0_count_2 22 rfl rfl)
theorem q89 : (Jvm.Cond.initialized "DeadListPool") ∈ lw_all := lw_g (lw_at lw_m1 1 rfl) rfl
theorem q110 : (Jvm.Cond.instantiable "DeadListPool" (11 : Nat)) ∈ lw_all := lw_g (lw_at lw_m1 22 rfl) rfl
theorem q112 : (Jvm.Cond.instanceMethod ({ cls := "DeadListPool", name := "<init>", desc := "()V" } : Jvm.MethodName)) ∈ lw_all := lw_g (lw_at lw_m1 24 rfl) rfl
theorem q113 : (Jvm.Cond.code ({ cls := "DeadListPool", name := "<init>", desc := "()V" } : Jvm.MethodName) prog_1_method_1_code (1 : Nat) (Option.none : Option Jvm.ClassFile.FieldType)) ∈ lw_all := lw_g (lw_at lw_m1 25 rfl) rfl
theorem q114 : (Jvm.Cond.methodLink "DeadListPool" (1 : Nat) ({ cls := "java/lang/Object", name := "<init>", desc := "()V" } : Jvm.MethodName)) ∈ lw_all := lw_g (lw_at lw_m1 26 rfl) rfl
theorem q117 : (Jvm.Cond.classLink "DeadListPool" (2 : Nat) "java/lang/Object") ∈ lw_all := lw_g (lw_at lw_m1 29 rfl) rfl
theorem q119 : (Jvm.Cond.classLink "DeadListPool" (27 : Nat) "DeadListPool$Snapshot") ∈ lw_all := lw_g (lw_at lw_m1 31 rfl) rfl
theorem q121 : (Jvm.Cond.classLink "DeadListPool" (33 : Nat) "DeadListPool$Sheet") ∈ lw_all := lw_g (lw_at lw_m1 33 rfl) rfl
theorem q124 : (Jvm.Cond.methodLinkNest "DeadListPool" (35 : Nat) ({ cls := "DeadListPool$Sheet", name := "<init>", desc := "()V" } : Jvm.MethodName) "DeadListPool") ∈ lw_tbl := lw_at lw_m1 36 rfl
theorem q128 : (Jvm.Cond.fieldLinkNest "DeadListPool" (376 : Nat) "DeadListPool$Sheet" "row" "Ljava/lang/Object;" "DeadListPool") ∈ lw_tbl := lw_at lw_m1 40 rfl
theorem q133 : (Jvm.Cond.classLink "DeadListPool" (40 : Nat) "DeadListPool$Copy") ∈ lw_all := lw_g (lw_at lw_m1 45 rfl) rfl
theorem q135 : (Jvm.Cond.methodLinkNest "DeadListPool" (42 : Nat) ({ cls := "DeadListPool$Copy", name := "<init>", desc := "()V" } : Jvm.MethodName) "DeadListPool") ∈ lw_tbl := lw_at lw_m1 47 rfl
theorem q146 : (Jvm.Cond.fieldLinkNest "DeadListPool" (480 : Nat) "DeadListPool$Copy" "things" "[Ljava/lang/Object;" "DeadListPool") ∈ lw_tbl := lw_at lw_m1 58 rfl
theorem q148 : (Jvm.Cond.fieldLinkNest "DeadListPool" (463 : Nat) "DeadListPool$Copy" "slots" "[[I" "DeadListPool") ∈ lw_tbl := lw_at lw_m1 60 rfl
theorem q150 : (Jvm.Cond.fieldLinkNest "DeadListPool" (466 : Nat) "DeadListPool$Copy" "dead" "[[I" "DeadListPool") ∈ lw_tbl := lw_at lw_m1 62 rfl
theorem q152 : (Jvm.Cond.fieldLinkNest "DeadListPool" (468 : Nat) "DeadListPool$Copy" "deadMany" "[I" "DeadListPool") ∈ lw_tbl := lw_at lw_m1 64 rfl
theorem q154 : (Jvm.Cond.fieldLinkNest "DeadListPool" (470 : Nat) "DeadListPool$Copy" "prevs" "[LDeadListPool$Snapshot;" "DeadListPool") ∈ lw_tbl := lw_at lw_m1 66 rfl
theorem q156 : (Jvm.Cond.fieldLinkNest "DeadListPool" (473 : Nat) "DeadListPool$Copy" "owners" "[LDeadListPool$Folder;" "DeadListPool") ∈ lw_tbl := lw_at lw_m1 68 rfl
theorem q158 : (Jvm.Cond.fieldLinkNest "DeadListPool" (477 : Nat) "DeadListPool$Copy" "tags" "[I" "DeadListPool") ∈ lw_tbl := lw_at lw_m1 70 rfl
theorem q160 : (Jvm.Cond.fieldLinkNest "DeadListPool" (485 : Nat) "DeadListPool$Copy" "sizes" "[I" "DeadListPool") ∈ lw_tbl := lw_at lw_m1 72 rfl
theorem q162 : (Jvm.Cond.fieldLinkNest "DeadListPool" (486 : Nat) "DeadListPool$Copy" "births" "[I" "DeadListPool") ∈ lw_tbl := lw_at lw_m1 74 rfl
theorem q163 : (Jvm.Cond.fieldLinkNest "DeadListPool" (487 : Nat) "DeadListPool$Copy" "time" "I" "DeadListPool") ∈ lw_tbl := lw_at lw_m1 75 rfl
theorem q164 : (Jvm.Cond.fieldLinkNest "DeadListPool" (488 : Nat) "DeadListPool$Copy" "freed" "I" "DeadListPool") ∈ lw_tbl := lw_at lw_m1 76 rfl
theorem q188 : (Jvm.Cond.fieldLink "DeadListPool" (9 : Nat) "DeadListPool" "sizes" "[I") ∈ lw_all := lw_g (lw_at lw_m1 100 rfl) rfl
theorem q189 : (Jvm.Cond.fieldLink "DeadListPool" (13 : Nat) "DeadListPool" "births" "[I") ∈ lw_all := lw_g (lw_at lw_m1 101 rfl) rfl
theorem q190 : (Jvm.Cond.fieldLink "DeadListPool" (16 : Nat) "DeadListPool" "time" "I") ∈ lw_all := lw_g (lw_at lw_m1 102 rfl) rfl
theorem q191 : (Jvm.Cond.fieldLink "DeadListPool" (50 : Nat) "DeadListPool" "freedInAll" "I") ∈ lw_all := lw_g (lw_at lw_m1 103 rfl) rfl
theorem q192 : (Jvm.Cond.fieldLink "DeadListPool" (20 : Nat) "DeadListPool" "things" "[Ljava/lang/Object;") ∈ lw_all := lw_g (lw_at lw_m1 104 rfl) rfl
theorem q193 : (Jvm.Cond.fieldLink "DeadListPool" (24 : Nat) "DeadListPool" "merged" "[I") ∈ lw_all := lw_g (lw_at lw_m1 105 rfl) rfl
theorem q194 : (Jvm.Cond.fieldLink "DeadListPool" (29 : Nat) "DeadListPool" "own" "[LDeadListPool$Snapshot;") ∈ lw_all := lw_g (lw_at lw_m1 106 rfl) rfl
theorem q195 : (Jvm.Cond.fieldLink "DeadListPool" (36 : Nat) "DeadListPool" "sheets" "[LDeadListPool$Sheet;") ∈ lw_all := lw_g (lw_at lw_m1 107 rfl) rfl
theorem q196 : (Jvm.Cond.fieldLink "DeadListPool" (43 : Nat) "DeadListPool" "kept" "LDeadListPool$Copy;") ∈ lw_all := lw_g (lw_at lw_m1 108 rfl) rfl
theorem q197 : (Jvm.Cond.fieldLink "DeadListPool" (47 : Nat) "DeadListPool" "thought" "LDeadListPool$Copy;") ∈ lw_all := lw_g (lw_at lw_m1 109 rfl) rfl
theorem q198 : (Jvm.Cond.fieldLink "DeadListPool" (494 : Nat) "DeadListPool" "hasImage" "Z") ∈ lw_all := lw_g (lw_at lw_m1 110 rfl) rfl
theorem q199 : (Jvm.Cond.laysFinal "DeadListPool" "DeadListPool" "sizes" "[I") ∈ lw_all := lw_g (lw_at lw_m1 111 rfl) rfl
theorem q200 : (Jvm.Cond.soleField "DeadListPool" "sizes") ∈ lw_all := lw_g (lw_at lw_m1 112 rfl) rfl
theorem q201 : (Jvm.Cond.laysFinal "DeadListPool" "DeadListPool" "births" "[I") ∈ lw_all := lw_g (lw_at lw_m1 113 rfl) rfl
theorem q202 : (Jvm.Cond.soleField "DeadListPool" "births") ∈ lw_all := lw_g (lw_at lw_m1 114 rfl) rfl
theorem q203 : (Jvm.Cond.lays "DeadListPool" "DeadListPool" "time" "I") ∈ lw_all := lw_g (lw_at lw_m1 115 rfl) rfl
theorem q204 : (Jvm.Cond.soleField "DeadListPool" "time") ∈ lw_all := lw_g (lw_at lw_m1 116 rfl) rfl
theorem q205 : (Jvm.Cond.lays "DeadListPool" "DeadListPool" "freedInAll" "I") ∈ lw_all := lw_g (lw_at lw_m1 117 rfl) rfl
theorem q206 : (Jvm.Cond.soleField "DeadListPool" "freedInAll") ∈ lw_all := lw_g (lw_at lw_m1 118 rfl) rfl
theorem q207 : (Jvm.Cond.laysFinal "DeadListPool" "DeadListPool" "things" "[Ljava/lang/Object;") ∈ lw_all := lw_g (lw_at lw_m1 119 rfl) rfl
theorem q208 : (Jvm.Cond.soleField "DeadListPool" "things") ∈ lw_all := lw_g (lw_at lw_m1 120 rfl) rfl
theorem q209 : (Jvm.Cond.laysFinal "DeadListPool" "DeadListPool" "merged" "[I") ∈ lw_all := lw_g (lw_at lw_m1 121 rfl) rfl
theorem q210 : (Jvm.Cond.soleField "DeadListPool" "merged") ∈ lw_all := lw_g (lw_at lw_m1 122 rfl) rfl
theorem q211 : (Jvm.Cond.laysFinal "DeadListPool" "DeadListPool" "own" "[LDeadListPool$Snapshot;") ∈ lw_all := lw_g (lw_at lw_m1 123 rfl) rfl
theorem q212 : (Jvm.Cond.soleField "DeadListPool" "own") ∈ lw_all := lw_g (lw_at lw_m1 124 rfl) rfl
theorem q213 : (Jvm.Cond.laysFinal "DeadListPool" "DeadListPool" "sheets" "[LDeadListPool$Sheet;") ∈ lw_all := lw_g (lw_at lw_m1 125 rfl) rfl
theorem q214 : (Jvm.Cond.soleField "DeadListPool" "sheets") ∈ lw_all := lw_g (lw_at lw_m1 126 rfl) rfl
theorem q215 : (Jvm.Cond.laysFinal "DeadListPool" "DeadListPool" "kept" "LDeadListPool$Copy;") ∈ lw_all := lw_g (lw_at lw_m1 127 rfl) rfl
theorem q216 : (Jvm.Cond.soleField "DeadListPool" "kept") ∈ lw_all := lw_g (lw_at lw_m1 128 rfl) rfl
theorem q217 : (Jvm.Cond.laysFinal "DeadListPool" "DeadListPool" "thought" "LDeadListPool$Copy;") ∈ lw_all := lw_g (lw_at lw_m1 129 rfl) rfl
theorem q218 : (Jvm.Cond.soleField "DeadListPool" "thought") ∈ lw_all := lw_g (lw_at lw_m1 130 rfl) rfl
theorem q219 : (Jvm.Cond.lays "DeadListPool" "DeadListPool" "hasImage" "Z") ∈ lw_all := lw_g (lw_at lw_m1 131 rfl) rfl
theorem q220 : (Jvm.Cond.soleField "DeadListPool" "hasImage") ∈ lw_all := lw_g (lw_at lw_m1 132 rfl) rfl
theorem q221 : (Jvm.Cond.superclass "DeadListPool" "java/lang/Object") ∈ lw_all := lw_g (lw_at lw_m1 133 rfl) rfl
theorem q223 : (Jvm.Cond.instanceMethod ({ cls := "DeadListPool", name := "files", desc := "(I)I" } : Jvm.MethodName)) ∈ lw_all := lw_g (lw_at lw_m1 135 rfl) rfl
theorem q224 : (Jvm.Cond.selects "DeadListPool" ({ cls := "DeadListPool", name := "files", desc := "(I)I" } : Jvm.MethodName) ({ cls := "DeadListPool", name := "files", desc := "(I)I" } : Jvm.MethodName)) ∈ lw_all := lw_g (lw_at lw_m1 136 rfl) rfl
theorem q225 : (Jvm.Cond.code ({ cls := "DeadListPool", name := "files", desc := "(I)I" } : Jvm.MethodName) prog_1_method_18_code (2 : Nat) (Option.some Jvm.ClassFile.FieldType.int)) ∈ lw_all := lw_g (lw_at lw_m1 137 rfl) rfl
theorem q226 : (Jvm.Cond.constantLong "DeadListPool" (104 : Nat) (-1 : Int64)) ∈ lw_all := lw_g (lw_at lw_m1 138 rfl) rfl
theorem q227 : (Jvm.Cond.constantLong "DeadListPool" (106 : Nat) (1000000000 : Int64)) ∈ lw_all := lw_g (lw_at lw_m1 139 rfl) rfl
theorem q228 : (Jvm.Cond.methodLink "DeadListPool" (74 : Nat) ({ cls := "DeadListPool", name := "in", desc := "(JJJ)Z" } : Jvm.MethodName)) ∈ lw_all := lw_g (lw_at lw_m1 140 rfl) rfl
theorem q229 : (Jvm.Cond.static ({ cls := "DeadListPool", name := "in", desc := "(JJJ)Z" } : Jvm.MethodName)) ∈ lw_all := lw_g (lw_at lw_m1 141 rfl) rfl
theorem q230 : (Jvm.Cond.code ({ cls := "DeadListPool", name := "in", desc := "(JJJ)Z" } : Jvm.MethodName) prog_1_method_2_code (6 : Nat) (Option.some Jvm.ClassFile.FieldType.boolean)) ∈ lw_all := lw_g (lw_at lw_m1 142 rfl) rfl
theorem q231 : (Jvm.Cond.methodLink "DeadListPool" (81 : Nat) ({ cls := "DeadListPool", name := "leastThing", desc := "()I" } : Jvm.MethodName)) ∈ lw_all := lw_g (lw_at lw_m1 143 rfl) rfl
theorem q232 : (Jvm.Cond.privateMethod ({ cls := "DeadListPool", name := "leastThing", desc := "()I" } : Jvm.MethodName)) ∈ lw_tbl := lw_at lw_m1 144 rfl
theorem q233 : (Jvm.Cond.instanceMethod ({ cls := "DeadListPool", name := "leastThing", desc := "()I" } : Jvm.MethodName)) ∈ lw_all := lw_g (lw_at lw_m1 145 rfl) rfl
theorem q234 : (Jvm.Cond.code ({ cls := "DeadListPool", name := "leastThing", desc := "()I" } : Jvm.MethodName) prog_1_method_12_code (2 : Nat) (Option.some Jvm.ClassFile.FieldType.int)) ∈ lw_all := lw_g (lw_at lw_m1 146 rfl) rfl
theorem q235 : (Jvm.Cond.classLink "DeadListPool" (93 : Nat) "DeadListPool$Folder") ∈ lw_all := lw_g (lw_at lw_m1 147 rfl) rfl
theorem q237 : (Jvm.Cond.methodLink "DeadListPool" (108 : Nat) ({ cls := "DeadListPool$Folder", name := "<init>", desc := "(ILDeadListPool$Snapshot;)V" } : Jvm.MethodName)) ∈ lw_all := lw_g (lw_at lw_m1 149 rfl) rfl
theorem q247 : (Jvm.Cond.fieldLink "DeadListPool" (67 : Nat) "DeadListPool$Holder" "made" "I") ∈ lw_all := lw_g (lw_at lw_m1 159 rfl) rfl
theorem q248 : (Jvm.Cond.fieldLink "DeadListPool" (197 : Nat) "DeadListPool$Snapshot" "made" "I") ∈ lw_all := lw_g (lw_at lw_m1 160 rfl) rfl
theorem q249 : (Jvm.Cond.fieldLink "DeadListPool" (288 : Nat) "DeadListPool$Folder" "made" "I") ∈ lw_all := lw_g (lw_at lw_m1 161 rfl) rfl
theorem q251 : (Jvm.Cond.fieldLink "DeadListPool" (289 : Nat) "DeadListPool$Bound" "made" "I") ∈ lw_all := lw_g (lw_at lw_m1 163 rfl) rfl
theorem q253 : (Jvm.Cond.fieldLink "DeadListPool" (290 : Nat) "DeadListPool$Tagged" "made" "I") ∈ lw_all := lw_g (lw_at lw_m1 165 rfl) rfl
theorem q256 : (Jvm.Cond.fieldLink "DeadListPool" (119 : Nat) "DeadListPool$Holder" "slots" "[I") ∈ lw_all := lw_g (lw_at lw_m1 168 rfl) rfl
theorem q257 : (Jvm.Cond.fieldLink "DeadListPool" (132 : Nat) "DeadListPool$Folder" "slots" "[I") ∈ lw_all := lw_g (lw_at lw_m1 169 rfl) rfl
theorem q259 : (Jvm.Cond.fieldLink "DeadListPool" (310 : Nat) "DeadListPool$Snapshot" "slots" "[I") ∈ lw_all := lw_g (lw_at lw_m1 171 rfl) rfl
theorem q262 : (Jvm.Cond.fieldLink "DeadListPool" (125 : Nat) "DeadListPool$Holder" "dead" "[I") ∈ lw_all := lw_g (lw_at lw_m1 174 rfl) rfl
theorem q263 : (Jvm.Cond.fieldLink "DeadListPool" (210 : Nat) "DeadListPool$Snapshot" "dead" "[I") ∈ lw_all := lw_g (lw_at lw_m1 175 rfl) rfl
theorem q266 : (Jvm.Cond.fieldLink "DeadListPool" (122 : Nat) "DeadListPool$Holder" "deadMany" "I") ∈ lw_all := lw_g (lw_at lw_m1 178 rfl) rfl
theorem q267 : (Jvm.Cond.fieldLink "DeadListPool" (184 : Nat) "DeadListPool$Folder" "deadMany" "I") ∈ lw_all := lw_g (lw_at lw_m1 179 rfl) rfl
theorem q269 : (Jvm.Cond.fieldLink "DeadListPool" (209 : Nat) "DeadListPool$Snapshot" "deadMany" "I") ∈ lw_all := lw_g (lw_at lw_m1 181 rfl) rfl
theorem q271 : (Jvm.Cond.fieldLink "DeadListPool" (78 : Nat) "DeadListPool$Holder" "number" "I") ∈ lw_all := lw_g (lw_at lw_m1 183 rfl) rfl
theorem q272 : (Jvm.Cond.fieldLink "DeadListPool" (177 : Nat) "DeadListPool$Folder" "number" "I") ∈ lw_all := lw_g (lw_at lw_m1 184 rfl) rfl
theorem q274 : (Jvm.Cond.fieldLink "DeadListPool" (200 : Nat) "DeadListPool$Snapshot" "number" "I") ∈ lw_all := lw_g (lw_at lw_m1 186 rfl) rfl
theorem q279 : (Jvm.Cond.fieldLink "DeadListPool" (88 : Nat) "DeadListPool$Holder" "prev" "LDeadListPool$Snapshot;") ∈ lw_all := lw_g (lw_at lw_m1 191 rfl) rfl
theorem q280 : (Jvm.Cond.fieldLink "DeadListPool" (92 : Nat) "DeadListPool$Folder" "prev" "LDeadListPool$Snapshot;") ∈ lw_all := lw_g (lw_at lw_m1 192 rfl) rfl
theorem q281 : (Jvm.Cond.fieldLink "DeadListPool" (99 : Nat) "DeadListPool$Snapshot" "prev" "LDeadListPool$Snapshot;") ∈ lw_all := lw_g (lw_at lw_m1 193 rfl) rfl
theorem q296 : (Jvm.Cond.classLink "DeadListPool" (111 : Nat) "DeadListPool$Bound") ∈ lw_all := lw_g (lw_at lw_m1 208 rfl) rfl
theorem q298 : (Jvm.Cond.methodLink "DeadListPool" (113 : Nat) ({ cls := "DeadListPool$Bound", name := "<init>", desc := "(II)V" } : Jvm.MethodName)) ∈ lw_all := lw_g (lw_at lw_m1 210 rfl) rfl
theorem q312 : (Jvm.Cond.methodLink "DeadListPool" (115 : Nat) ({ cls := "DeadListPool", name := "takesPlace", desc := "(LDeadListPool$Holder;)I" } : Jvm.MethodName)) ∈ lw_all := lw_g (lw_at lw_m1 224 rfl) rfl
theorem q313 : (Jvm.Cond.privateMethod ({ cls := "DeadListPool", name := "takesPlace", desc := "(LDeadListPool$Holder;)I" } : Jvm.MethodName)) ∈ lw_tbl := lw_at lw_m1 225 rfl
theorem q314 : (Jvm.Cond.instanceMethod ({ cls := "DeadListPool", name := "takesPlace", desc := "(LDeadListPool$Holder;)I" } : Jvm.MethodName)) ∈ lw_all := lw_g (lw_at lw_m1 226 rfl) rfl
theorem q315 : (Jvm.Cond.code ({ cls := "DeadListPool", name := "takesPlace", desc := "(LDeadListPool$Holder;)I" } : Jvm.MethodName) prog_1_method_13_code (3 : Nat) (Option.some Jvm.ClassFile.FieldType.int)) ∈ lw_all := lw_g (lw_at lw_m1 227 rfl) rfl
theorem q317 : (Jvm.Cond.instanceMethod ({ cls := "DeadListPool", name := "write", desc := "(III)I" } : Jvm.MethodName)) ∈ lw_all := lw_g (lw_at lw_m1 229 rfl) rfl
theorem q318 : (Jvm.Cond.selects "DeadListPool" ({ cls := "DeadListPool", name := "write", desc := "(III)I" } : Jvm.MethodName) ({ cls := "DeadListPool", name := "write", desc := "(III)I" } : Jvm.MethodName)) ∈ lw_all := lw_g (lw_at lw_m1 230 rfl) rfl
theorem q319 : (Jvm.Cond.codeWith ({ cls := "DeadListPool", name := "write", desc := "(III)I" } : Jvm.MethodName) prog_1_method_24_code (5 : Nat) (Option.some Jvm.ClassFile.FieldType.int) [((27 : Nat), (41 : Nat), (42 : Nat), (53 : Nat)), ((27 : Nat), (41 : Nat), (47 : Nat), (169 : Nat)), ((27 : Nat), (41 : Nat), (52 : Nat), (171 : Nat))]) ∈ lw_all := lw_g (lw_at lw_m1 231 rfl) rfl
theorem q320 : (Jvm.Cond.classLink "DeadListPool" (53 : Nat) "java/lang/IndexOutOfBoundsException") ∈ lw_all := lw_g (lw_at lw_m1 232 rfl) rfl
theorem q411 : (Jvm.Cond.classLink "DeadListPool" (169 : Nat) "java/lang/NullPointerException") ∈ lw_all := lw_g (lw_at lw_m2 83 rfl) rfl
theorem q436 : (Jvm.Cond.classLink "DeadListPool" (171 : Nat) "java/lang/ClassCastException") ∈ lw_all := lw_g (lw_at lw_m2 108 rfl) rfl
theorem q450 : (Jvm.Cond.constantLong "DeadListPool" (159 : Nat) (11 : Int64)) ∈ lw_all := lw_g (lw_at lw_m2 122 rfl) rfl
theorem q451 : (Jvm.Cond.methodLink "DeadListPool" (161 : Nat) ({ cls := "DeadListPool", name := "thingAt", desc := "(I)Ljava/lang/Object;" } : Jvm.MethodName)) ∈ lw_all := lw_g (lw_at lw_m2 123 rfl) rfl
theorem q452 : (Jvm.Cond.privateMethod ({ cls := "DeadListPool", name := "thingAt", desc := "(I)Ljava/lang/Object;" } : Jvm.MethodName)) ∈ lw_tbl := lw_at lw_m2 124 rfl
theorem q453 : (Jvm.Cond.instanceMethod ({ cls := "DeadListPool", name := "thingAt", desc := "(I)Ljava/lang/Object;" } : Jvm.MethodName)) ∈ lw_all := lw_g (lw_at lw_m2 125 rfl) rfl
theorem q454 : (Jvm.Cond.code ({ cls := "DeadListPool", name := "thingAt", desc := "(I)Ljava/lang/Object;" } : Jvm.MethodName) prog_1_method_6_code (2 : Nat) (Option.some (Jvm.ClassFile.FieldType.object "java/lang/Object"))) ∈ lw_all := lw_g (lw_at lw_m2 126 rfl) rfl
theorem q455 : (Jvm.Cond.methodLink "DeadListPool" (56 : Nat) ({ cls := "DeadListPool", name := "asksPlace", desc := "(II)V" } : Jvm.MethodName)) ∈ lw_all := lw_g (lw_at lw_m2 127 rfl) rfl
theorem q456 : (Jvm.Cond.static ({ cls := "DeadListPool", name := "asksPlace", desc := "(II)V" } : Jvm.MethodName)) ∈ lw_all := lw_g (lw_at lw_m2 128 rfl) rfl
theorem q457 : (Jvm.Cond.code ({ cls := "DeadListPool", name := "asksPlace", desc := "(II)V" } : Jvm.MethodName) prog_1_method_5_code (2 : Nat) (Option.none : Option Jvm.ClassFile.FieldType)) ∈ lw_all := lw_g (lw_at lw_m2 129 rfl) rfl
theorem q466 : (Jvm.Cond.methodLink "DeadListPool" (55 : Nat) ({ cls := "java/lang/IndexOutOfBoundsException", name := "<init>", desc := "()V" } : Jvm.MethodName)) ∈ lw_all := lw_g (lw_at lw_m2 138 rfl) rfl
theorem q472 : (Jvm.Cond.methodLink "DeadListPool" (165 : Nat) ({ cls := "DeadListPool", name := "writes", desc := "(LDeadListPool$Folder;II)I" } : Jvm.MethodName)) ∈ lw_all := lw_g (lw_at lw_m2 144 rfl) rfl
theorem q473 : (Jvm.Cond.privateMethod ({ cls := "DeadListPool", name := "writes", desc := "(LDeadListPool$Folder;II)I" } : Jvm.MethodName)) ∈ lw_tbl := lw_at lw_m2 145 rfl
theorem q474 : (Jvm.Cond.instanceMethod ({ cls := "DeadListPool", name := "writes", desc := "(LDeadListPool$Folder;II)I" } : Jvm.MethodName)) ∈ lw_all := lw_g (lw_at lw_m2 146 rfl) rfl
theorem q475 : (Jvm.Cond.code ({ cls := "DeadListPool", name := "writes", desc := "(LDeadListPool$Folder;II)I" } : Jvm.MethodName) prog_1_method_23_code (7 : Nat) (Option.some Jvm.ClassFile.FieldType.int)) ∈ lw_all := lw_g (lw_at lw_m2 147 rfl) rfl
theorem q476 : (Jvm.Cond.methodLink "DeadListPool" (144 : Nat) ({ cls := "DeadListPool", name := "leastBlock", desc := "()I" } : Jvm.MethodName)) ∈ lw_all := lw_g (lw_at lw_m2 148 rfl) rfl
theorem q477 : (Jvm.Cond.privateMethod ({ cls := "DeadListPool", name := "leastBlock", desc := "()I" } : Jvm.MethodName)) ∈ lw_tbl := lw_at lw_m2 149 rfl
theorem q478 : (Jvm.Cond.instanceMethod ({ cls := "DeadListPool", name := "leastBlock", desc := "()I" } : Jvm.MethodName)) ∈ lw_all := lw_g (lw_at lw_m2 150 rfl) rfl
theorem q479 : (Jvm.Cond.code ({ cls := "DeadListPool", name := "leastBlock", desc := "()I" } : Jvm.MethodName) prog_1_method_3_code (2 : Nat) (Option.some Jvm.ClassFile.FieldType.int)) ∈ lw_all := lw_g (lw_at lw_m2 151 rfl) rfl
theorem q480 : (Jvm.Cond.methodLink "DeadListPool" (147 : Nat) ({ cls := "DeadListPool", name := "spaceOf", desc := "(LDeadListPool$Holder;)J" } : Jvm.MethodName)) ∈ lw_all := lw_g (lw_at lw_m2 152 rfl) rfl
theorem q481 : (Jvm.Cond.privateMethod ({ cls := "DeadListPool", name := "spaceOf", desc := "(LDeadListPool$Holder;)J" } : Jvm.MethodName)) ∈ lw_tbl := lw_at lw_m2 153 rfl
theorem q482 : (Jvm.Cond.instanceMethod ({ cls := "DeadListPool", name := "spaceOf", desc := "(LDeadListPool$Holder;)J" } : Jvm.MethodName)) ∈ lw_all := lw_g (lw_at lw_m2 154 rfl) rfl
theorem q483 : (Jvm.Cond.code ({ cls := "DeadListPool", name := "spaceOf", desc := "(LDeadListPool$Holder;)J" } : Jvm.MethodName) prog_1_method_19_code (5 : Nat) (Option.some Jvm.ClassFile.FieldType.long)) ∈ lw_all := lw_g (lw_at lw_m2 155 rfl) rfl
theorem q484 : (Jvm.Cond.methodLink "DeadListPool" (151 : Nat) ({ cls := "DeadListPool$Folder", name := "mayHave", desc := "(J)Z" } : Jvm.MethodName)) ∈ lw_all := lw_g (lw_at lw_m2 156 rfl) rfl
theorem q493 : (Jvm.Cond.methodLink "DeadListPool" (155 : Nat) ({ cls := "DeadListPool", name := "leaves", desc := "(LDeadListPool$Folder;I)V" } : Jvm.MethodName)) ∈ lw_all := lw_g (lw_at lw_m2 165 rfl) rfl
theorem q494 : (Jvm.Cond.privateMethod ({ cls := "DeadListPool", name := "leaves", desc := "(LDeadListPool$Folder;I)V" } : Jvm.MethodName)) ∈ lw_tbl := lw_at lw_m2 166 rfl
theorem q495 : (Jvm.Cond.instanceMethod ({ cls := "DeadListPool", name := "leaves", desc := "(LDeadListPool$Folder;I)V" } : Jvm.MethodName)) ∈ lw_all := lw_g (lw_at lw_m2 167 rfl) rfl
theorem q496 : (Jvm.Cond.code ({ cls := "DeadListPool", name := "leaves", desc := "(LDeadListPool$Folder;I)V" } : Jvm.MethodName) prog_1_method_22_code (4 : Nat) (Option.none : Option Jvm.ClassFile.FieldType)) ∈ lw_all := lw_g (lw_at lw_m2 168 rfl) rfl
theorem q497 : (Jvm.Cond.methodLink "DeadListPool" (133 : Nat) ({ cls := "DeadListPool$Folder", name := "prevMade", desc := "()I" } : Jvm.MethodName)) ∈ lw_all := lw_g (lw_at lw_m2 169 rfl) rfl
theorem q504 : (Jvm.Cond.methodLink "DeadListPool" (136 : Nat) ({ cls := "DeadListPool", name := "frees", desc := "(I)V" } : Jvm.MethodName)) ∈ lw_all := lw_g (lw_at lw_m2 176 rfl) rfl
theorem q505 : (Jvm.Cond.privateMethod ({ cls := "DeadListPool", name := "frees", desc := "(I)V" } : Jvm.MethodName)) ∈ lw_tbl := lw_at lw_m2 177 rfl
theorem q506 : (Jvm.Cond.instanceMethod ({ cls := "DeadListPool", name := "frees", desc := "(I)V" } : Jvm.MethodName)) ∈ lw_all := lw_g (lw_at lw_m2 178 rfl) rfl
theorem q507 : (Jvm.Cond.code ({ cls := "DeadListPool", name := "frees", desc := "(I)V" } : Jvm.MethodName) prog_1_method_4_code (2 : Nat) (Option.none : Option Jvm.ClassFile.FieldType)) ∈ lw_all := lw_g (lw_at lw_m2 179 rfl) rfl
theorem q508 : (Jvm.Cond.methodLink "DeadListPool" (140 : Nat) ({ cls := "DeadListPool", name := "dies", desc := "(LDeadListPool$Holder;I)V" } : Jvm.MethodName)) ∈ lw_all := lw_g (lw_at lw_m2 180 rfl) rfl
theorem q509 : (Jvm.Cond.privateMethod ({ cls := "DeadListPool", name := "dies", desc := "(LDeadListPool$Holder;I)V" } : Jvm.MethodName)) ∈ lw_tbl := lw_at lw_m2 181 rfl
theorem q510 : (Jvm.Cond.instanceMethod ({ cls := "DeadListPool", name := "dies", desc := "(LDeadListPool$Holder;I)V" } : Jvm.MethodName)) ∈ lw_all := lw_g (lw_at lw_m2 182 rfl) rfl
theorem q511 : (Jvm.Cond.code ({ cls := "DeadListPool", name := "dies", desc := "(LDeadListPool$Holder;I)V" } : Jvm.MethodName) prog_1_method_21_code (4 : Nat) (Option.none : Option Jvm.ClassFile.FieldType)) ∈ lw_all := lw_g (lw_at lw_m2 183 rfl) rfl
theorem q512 : (Jvm.Cond.methodLink "DeadListPool" (128 : Nat) ({ cls := "DeadListPool", name := "isLater", desc := "(II)Z" } : Jvm.MethodName)) ∈ lw_all := lw_g (lw_at lw_m2 184 rfl) rfl
theorem q513 : (Jvm.Cond.privateMethod ({ cls := "DeadListPool", name := "isLater", desc := "(II)Z" } : Jvm.MethodName)) ∈ lw_tbl := lw_at lw_m2 185 rfl
theorem q514 : (Jvm.Cond.instanceMethod ({ cls := "DeadListPool", name := "isLater", desc := "(II)Z" } : Jvm.MethodName)) ∈ lw_all := lw_g (lw_at lw_m2 186 rfl) rfl
theorem q515 : (Jvm.Cond.code ({ cls := "DeadListPool", name := "isLater", desc := "(II)Z" } : Jvm.MethodName) prog_1_method_20_code (3 : Nat) (Option.some Jvm.ClassFile.FieldType.boolean)) ∈ lw_all := lw_g (lw_at lw_m2 187 rfl) rfl
theorem q517 : (Jvm.Cond.instanceMethod ({ cls := "DeadListPool", name := "erase", desc := "(II)I" } : Jvm.MethodName)) ∈ lw_all := lw_g (lw_at lw_m2 189 rfl) rfl
theorem q518 : (Jvm.Cond.selects "DeadListPool" ({ cls := "DeadListPool", name := "erase", desc := "(II)I" } : Jvm.MethodName) ({ cls := "DeadListPool", name := "erase", desc := "(II)I" } : Jvm.MethodName)) ∈ lw_all := lw_g (lw_at lw_m2 190 rfl) rfl
theorem q519 : (Jvm.Cond.codeWith ({ cls := "DeadListPool", name := "erase", desc := "(II)I" } : Jvm.MethodName) prog_1_method_26_code (4 : Nat) (Option.some Jvm.ClassFile.FieldType.int) [((15 : Nat), (28 : Nat), (29 : Nat), (53 : Nat)), ((15 : Nat), (28 : Nat), (33 : Nat), (169 : Nat)), ((15 : Nat), (28 : Nat), (37 : Nat), (171 : Nat))]) ∈ lw_all := lw_g (lw_at lw_m2 191 rfl) rfl
theorem q520 : (Jvm.Cond.methodLink "DeadListPool" (173 : Nat) ({ cls := "DeadListPool", name := "erases", desc := "(LDeadListPool$Folder;I)I" } : Jvm.MethodName)) ∈ lw_all := lw_g (lw_at lw_m2 192 rfl) rfl
theorem q521 : (Jvm.Cond.privateMethod ({ cls := "DeadListPool", name := "erases", desc := "(LDeadListPool$Folder;I)I" } : Jvm.MethodName)) ∈ lw_tbl := lw_at lw_m2 193 rfl
theorem q522 : (Jvm.Cond.instanceMethod ({ cls := "DeadListPool", name := "erases", desc := "(LDeadListPool$Folder;I)I" } : Jvm.MethodName)) ∈ lw_all := lw_g (lw_at lw_m2 194 rfl) rfl
theorem q523 : (Jvm.Cond.code ({ cls := "DeadListPool", name := "erases", desc := "(LDeadListPool$Folder;I)I" } : Jvm.MethodName) prog_1_method_25_code (4 : Nat) (Option.some Jvm.ClassFile.FieldType.int)) ∈ lw_all := lw_g (lw_at lw_m2 195 rfl) rfl
theorem q525 : (Jvm.Cond.instanceMethod ({ cls := "DeadListPool", name := "snap", desc := "(II)I" } : Jvm.MethodName)) ∈ lw_all := lw_g (lw_at lw_m2 197 rfl) rfl
theorem q526 : (Jvm.Cond.selects "DeadListPool" ({ cls := "DeadListPool", name := "snap", desc := "(II)I" } : Jvm.MethodName) ({ cls := "DeadListPool", name := "snap", desc := "(II)I" } : Jvm.MethodName)) ∈ lw_all := lw_g (lw_at lw_m2 198 rfl) rfl
theorem q527 : (Jvm.Cond.codeWith ({ cls := "DeadListPool", name := "snap", desc := "(II)I" } : Jvm.MethodName) prog_1_method_28_code (4 : Nat) (Option.some Jvm.ClassFile.FieldType.int) [((13 : Nat), (35 : Nat), (36 : Nat), (53 : Nat)), ((13 : Nat), (35 : Nat), (40 : Nat), (169 : Nat)), ((13 : Nat), (35 : Nat), (44 : Nat), (171 : Nat))]) ∈ lw_all := lw_g (lw_at lw_m2 199 rfl) rfl
theorem q528 : (Jvm.Cond.methodLink "DeadListPool" (185 : Nat) ({ cls := "DeadListPool", name := "snaps", desc := "(LDeadListPool$Folder;Z)I" } : Jvm.MethodName)) ∈ lw_all := lw_g (lw_at lw_m2 200 rfl) rfl
theorem q529 : (Jvm.Cond.privateMethod ({ cls := "DeadListPool", name := "snaps", desc := "(LDeadListPool$Folder;Z)I" } : Jvm.MethodName)) ∈ lw_tbl := lw_at lw_m2 201 rfl
theorem q530 : (Jvm.Cond.instanceMethod ({ cls := "DeadListPool", name := "snaps", desc := "(LDeadListPool$Folder;Z)I" } : Jvm.MethodName)) ∈ lw_all := lw_g (lw_at lw_m2 202 rfl) rfl
theorem q531 : (Jvm.Cond.code ({ cls := "DeadListPool", name := "snaps", desc := "(LDeadListPool$Folder;Z)I" } : Jvm.MethodName) prog_1_method_27_code (6 : Nat) (Option.some Jvm.ClassFile.FieldType.int)) ∈ lw_all := lw_g (lw_at lw_m2 203 rfl) rfl
theorem q532 : (Jvm.Cond.classLink "DeadListPool" (178 : Nat) "DeadListPool$Tagged") ∈ lw_all := lw_g (lw_at lw_m2 204 rfl) rfl
theorem q534 : (Jvm.Cond.methodLink "DeadListPool" (180 : Nat) ({ cls := "DeadListPool$Tagged", name := "<init>", desc := "(ILDeadListPool$Folder;)V" } : Jvm.MethodName)) ∈ lw_all := lw_g (lw_at lw_m2 206 rfl) rfl
theorem q557 : (Jvm.Cond.fieldLink "DeadListPool" (95 : Nat) "DeadListPool$Snapshot" "owner" "LDeadListPool$Folder;") ∈ lw_all := lw_g (lw_at lw_m2 229 rfl) rfl
theorem q570 : (Jvm.Cond.methodLink "DeadListPool" (183 : Nat) ({ cls := "DeadListPool$Snapshot", name := "<init>", desc := "(ILDeadListPool$Folder;)V" } : Jvm.MethodName)) ∈ lw_all := lw_g (lw_at lw_m3 2 rfl) rfl
theorem q580 : (Jvm.Cond.instanceMethod ({ cls := "DeadListPool", name := "tag", desc := "(II)I" } : Jvm.MethodName)) ∈ lw_all := lw_g (lw_at lw_m3 12 rfl) rfl
theorem q581 : (Jvm.Cond.selects "DeadListPool" ({ cls := "DeadListPool", name := "tag", desc := "(II)I" } : Jvm.MethodName) ({ cls := "DeadListPool", name := "tag", desc := "(II)I" } : Jvm.MethodName)) ∈ lw_all := lw_g (lw_at lw_m3 13 rfl) rfl
theorem q582 : (Jvm.Cond.codeWith ({ cls := "DeadListPool", name := "tag", desc := "(II)I" } : Jvm.MethodName) prog_1_method_29_code (5 : Nat) (Option.some Jvm.ClassFile.FieldType.int) [((15 : Nat), (37 : Nat), (38 : Nat), (53 : Nat)), ((15 : Nat), (37 : Nat), (42 : Nat), (169 : Nat)), ((15 : Nat), (37 : Nat), (46 : Nat), (171 : Nat))]) ∈ lw_all := lw_g (lw_at lw_m3 14 rfl) rfl
theorem q583 : (Jvm.Cond.constantLong "DeadListPool" (189 : Nat) (9 : Int64)) ∈ lw_all := lw_g (lw_at lw_m3 15 rfl) rfl
theorem q584 : (Jvm.Cond.methodLink "DeadListPool" (191 : Nat) ({ cls := "DeadListPool$Tagged", name := "tags", desc := "()I" } : Jvm.MethodName)) ∈ lw_all := lw_g (lw_at lw_m3 16 rfl) rfl
theorem q588 : (Jvm.Cond.methodLink "DeadListPool" (194 : Nat) ({ cls := "DeadListPool$Tagged", name := "tagsAre", desc := "(I)V" } : Jvm.MethodName)) ∈ lw_all := lw_g (lw_at lw_m3 20 rfl) rfl
theorem q593 : (Jvm.Cond.instanceMethod ({ cls := "DeadListPool", name := "mark", desc := "(I)I" } : Jvm.MethodName)) ∈ lw_all := lw_g (lw_at lw_m3 25 rfl) rfl
theorem q594 : (Jvm.Cond.selects "DeadListPool" ({ cls := "DeadListPool", name := "mark", desc := "(I)I" } : Jvm.MethodName) ({ cls := "DeadListPool", name := "mark", desc := "(I)I" } : Jvm.MethodName)) ∈ lw_all := lw_g (lw_at lw_m3 26 rfl) rfl
theorem q595 : (Jvm.Cond.codeWith ({ cls := "DeadListPool", name := "mark", desc := "(I)I" } : Jvm.MethodName) prog_1_method_30_code (5 : Nat) (Option.some Jvm.ClassFile.FieldType.int) [((0 : Nat), (35 : Nat), (47 : Nat), (53 : Nat)), ((36 : Nat), (46 : Nat), (47 : Nat), (53 : Nat)), ((0 : Nat), (35 : Nat), (51 : Nat), (169 : Nat)), ((36 : Nat), (46 : Nat), (51 : Nat), (169 : Nat)), ((0 : Nat), (35 : Nat), (55 : Nat), (171 : Nat)), ((36 : Nat), (46 : Nat), (55 : Nat), (171 : Nat))]) ∈ lw_all := lw_g (lw_at lw_m3 27 rfl) rfl
theorem q596 : (Jvm.Cond.classLink "DeadListPool" (60 : Nat) "DeadListPool$Bookmark") ∈ lw_all := lw_g (lw_at lw_m3 28 rfl) rfl
theorem q598 : (Jvm.Cond.methodLink "DeadListPool" (198 : Nat) ({ cls := "DeadListPool$Bookmark", name := "<init>", desc := "(I)V" } : Jvm.MethodName)) ∈ lw_all := lw_g (lw_at lw_m3 30 rfl) rfl
theorem q603 : (Jvm.Cond.fieldLinkNest "DeadListPool" (62 : Nat) "DeadListPool$Bookmark" "made" "I" "DeadListPool") ∈ lw_tbl := lw_at lw_m3 35 rfl
theorem q608 : (Jvm.Cond.instanceMethod ({ cls := "DeadListPool", name := "fork", desc := "(I)I" } : Jvm.MethodName)) ∈ lw_all := lw_g (lw_at lw_m3 40 rfl) rfl
theorem q609 : (Jvm.Cond.selects "DeadListPool" ({ cls := "DeadListPool", name := "fork", desc := "(I)I" } : Jvm.MethodName) ({ cls := "DeadListPool", name := "fork", desc := "(I)I" } : Jvm.MethodName)) ∈ lw_all := lw_g (lw_at lw_m3 41 rfl) rfl
theorem q610 : (Jvm.Cond.codeWith ({ cls := "DeadListPool", name := "fork", desc := "(I)I" } : Jvm.MethodName) prog_1_method_32_code (3 : Nat) (Option.some Jvm.ClassFile.FieldType.int) [((0 : Nat), (12 : Nat), (13 : Nat), (53 : Nat)), ((0 : Nat), (12 : Nat), (17 : Nat), (169 : Nat)), ((0 : Nat), (12 : Nat), (21 : Nat), (171 : Nat))]) ∈ lw_all := lw_g (lw_at lw_m3 42 rfl) rfl
theorem q611 : (Jvm.Cond.methodLink "DeadListPool" (205 : Nat) ({ cls := "DeadListPool", name := "forks", desc := "(LDeadListPool$Snapshot;)I" } : Jvm.MethodName)) ∈ lw_all := lw_g (lw_at lw_m3 43 rfl) rfl
theorem q612 : (Jvm.Cond.privateMethod ({ cls := "DeadListPool", name := "forks", desc := "(LDeadListPool$Snapshot;)I" } : Jvm.MethodName)) ∈ lw_tbl := lw_at lw_m3 44 rfl
theorem q613 : (Jvm.Cond.instanceMethod ({ cls := "DeadListPool", name := "forks", desc := "(LDeadListPool$Snapshot;)I" } : Jvm.MethodName)) ∈ lw_all := lw_g (lw_at lw_m3 45 rfl) rfl
theorem q614 : (Jvm.Cond.code ({ cls := "DeadListPool", name := "forks", desc := "(LDeadListPool$Snapshot;)I" } : Jvm.MethodName) prog_1_method_31_code (4 : Nat) (Option.some Jvm.ClassFile.FieldType.int)) ∈ lw_all := lw_g (lw_at lw_m3 46 rfl) rfl
theorem q615 : (Jvm.Cond.methodLink "DeadListPool" (201 : Nat) ({ cls := "DeadListPool$Folder", name := "takesSlots", desc := "(LDeadListPool$Holder;)V" } : Jvm.MethodName)) ∈ lw_all := lw_g (lw_at lw_m3 47 rfl) rfl
theorem q620 : (Jvm.Cond.instanceMethod ({ cls := "DeadListPool", name := "remove", desc := "(I)I" } : Jvm.MethodName)) ∈ lw_all := lw_g (lw_at lw_m3 52 rfl) rfl
theorem q621 : (Jvm.Cond.selects "DeadListPool" ({ cls := "DeadListPool", name := "remove", desc := "(I)I" } : Jvm.MethodName) ({ cls := "DeadListPool", name := "remove", desc := "(I)I" } : Jvm.MethodName)) ∈ lw_all := lw_g (lw_at lw_m3 53 rfl) rfl
theorem q622 : (Jvm.Cond.code ({ cls := "DeadListPool", name := "remove", desc := "(I)I" } : Jvm.MethodName) prog_1_method_38_code (3 : Nat) (Option.some Jvm.ClassFile.FieldType.int)) ∈ lw_all := lw_g (lw_at lw_m3 54 rfl) rfl
theorem q623 : (Jvm.Cond.constantLong "DeadListPool" (72 : Nat) (19 : Int64)) ∈ lw_all := lw_g (lw_at lw_m3 55 rfl) rfl
theorem q624 : (Jvm.Cond.methodLink "DeadListPool" (231 : Nat) ({ cls := "DeadListPool", name := "removesFiles", desc := "(LDeadListPool$Folder;)I" } : Jvm.MethodName)) ∈ lw_all := lw_g (lw_at lw_m3 56 rfl) rfl
theorem q625 : (Jvm.Cond.privateMethod ({ cls := "DeadListPool", name := "removesFiles", desc := "(LDeadListPool$Folder;)I" } : Jvm.MethodName)) ∈ lw_tbl := lw_at lw_m3 57 rfl
theorem q626 : (Jvm.Cond.instanceMethod ({ cls := "DeadListPool", name := "removesFiles", desc := "(LDeadListPool$Folder;)I" } : Jvm.MethodName)) ∈ lw_all := lw_g (lw_at lw_m3 58 rfl) rfl
theorem q627 : (Jvm.Cond.code ({ cls := "DeadListPool", name := "removesFiles", desc := "(LDeadListPool$Folder;)I" } : Jvm.MethodName) prog_1_method_37_code (2 : Nat) (Option.some Jvm.ClassFile.FieldType.int)) ∈ lw_all := lw_g (lw_at lw_m3 59 rfl) rfl
theorem q628 : (Jvm.Cond.methodLink "DeadListPool" (224 : Nat) ({ cls := "DeadListPool", name := "ownMany", desc := "(LDeadListPool$Folder;)I" } : Jvm.MethodName)) ∈ lw_all := lw_g (lw_at lw_m3 60 rfl) rfl
theorem q629 : (Jvm.Cond.privateMethod ({ cls := "DeadListPool", name := "ownMany", desc := "(LDeadListPool$Folder;)I" } : Jvm.MethodName)) ∈ lw_tbl := lw_at lw_m3 61 rfl
theorem q630 : (Jvm.Cond.instanceMethod ({ cls := "DeadListPool", name := "ownMany", desc := "(LDeadListPool$Folder;)I" } : Jvm.MethodName)) ∈ lw_all := lw_g (lw_at lw_m3 62 rfl) rfl
theorem q631 : (Jvm.Cond.code ({ cls := "DeadListPool", name := "ownMany", desc := "(LDeadListPool$Folder;)I" } : Jvm.MethodName) prog_1_method_17_code (4 : Nat) (Option.some Jvm.ClassFile.FieldType.int)) ∈ lw_all := lw_g (lw_at lw_m3 63 rfl) rfl
theorem q632 : (Jvm.Cond.methodLink "DeadListPool" (100 : Nat) ({ cls := "DeadListPool", name := "snapshotAt", desc := "(I)LDeadListPool$Snapshot;" } : Jvm.MethodName)) ∈ lw_all := lw_g (lw_at lw_m3 64 rfl) rfl
theorem q633 : (Jvm.Cond.privateMethod ({ cls := "DeadListPool", name := "snapshotAt", desc := "(I)LDeadListPool$Snapshot;" } : Jvm.MethodName)) ∈ lw_tbl := lw_at lw_m3 65 rfl
theorem q634 : (Jvm.Cond.instanceMethod ({ cls := "DeadListPool", name := "snapshotAt", desc := "(I)LDeadListPool$Snapshot;" } : Jvm.MethodName)) ∈ lw_all := lw_g (lw_at lw_m3 66 rfl) rfl
theorem q635 : (Jvm.Cond.code ({ cls := "DeadListPool", name := "snapshotAt", desc := "(I)LDeadListPool$Snapshot;" } : Jvm.MethodName) prog_1_method_10_code (2 : Nat) (Option.some (Jvm.ClassFile.FieldType.object "DeadListPool$Snapshot"))) ∈ lw_all := lw_g (lw_at lw_m3 67 rfl) rfl
theorem q636 : (Jvm.Cond.methodLink "DeadListPool" (228 : Nat) ({ cls := "DeadListPool", name := "freesLive", desc := "(LDeadListPool$Folder;)I" } : Jvm.MethodName)) ∈ lw_all := lw_g (lw_at lw_m3 68 rfl) rfl
theorem q637 : (Jvm.Cond.privateMethod ({ cls := "DeadListPool", name := "freesLive", desc := "(LDeadListPool$Folder;)I" } : Jvm.MethodName)) ∈ lw_tbl := lw_at lw_m3 69 rfl
theorem q638 : (Jvm.Cond.instanceMethod ({ cls := "DeadListPool", name := "freesLive", desc := "(LDeadListPool$Folder;)I" } : Jvm.MethodName)) ∈ lw_all := lw_g (lw_at lw_m3 70 rfl) rfl
theorem q639 : (Jvm.Cond.code ({ cls := "DeadListPool", name := "freesLive", desc := "(LDeadListPool$Folder;)I" } : Jvm.MethodName) prog_1_method_36_code (4 : Nat) (Option.some Jvm.ClassFile.FieldType.int)) ∈ lw_all := lw_g (lw_at lw_m3 71 rfl) rfl
theorem q640 : (Jvm.Cond.methodLink "DeadListPool" (234 : Nat) ({ cls := "DeadListPool", name := "isLoose", desc := "(LDeadListPool$Snapshot;)Z" } : Jvm.MethodName)) ∈ lw_all := lw_g (lw_at lw_m3 72 rfl) rfl
theorem q641 : (Jvm.Cond.privateMethod ({ cls := "DeadListPool", name := "isLoose", desc := "(LDeadListPool$Snapshot;)Z" } : Jvm.MethodName)) ∈ lw_tbl := lw_at lw_m3 73 rfl
theorem q642 : (Jvm.Cond.instanceMethod ({ cls := "DeadListPool", name := "isLoose", desc := "(LDeadListPool$Snapshot;)Z" } : Jvm.MethodName)) ∈ lw_all := lw_g (lw_at lw_m3 74 rfl) rfl
theorem q643 : (Jvm.Cond.code ({ cls := "DeadListPool", name := "isLoose", desc := "(LDeadListPool$Snapshot;)Z" } : Jvm.MethodName) prog_1_method_34_code (2 : Nat) (Option.some Jvm.ClassFile.FieldType.boolean)) ∈ lw_all := lw_g (lw_at lw_m3 75 rfl) rfl
theorem q644 : (Jvm.Cond.methodLink "DeadListPool" (211 : Nat) ({ cls := "DeadListPool$Snapshot", name := "tags", desc := "()I" } : Jvm.MethodName)) ∈ lw_all := lw_g (lw_at lw_m3 76 rfl) rfl
theorem q651 : (Jvm.Cond.methodLink "DeadListPool" (212 : Nat) ({ cls := "DeadListPool", name := "nextMany", desc := "(LDeadListPool$Snapshot;)I" } : Jvm.MethodName)) ∈ lw_all := lw_g (lw_at lw_m3 83 rfl) rfl
theorem q652 : (Jvm.Cond.privateMethod ({ cls := "DeadListPool", name := "nextMany", desc := "(LDeadListPool$Snapshot;)I" } : Jvm.MethodName)) ∈ lw_tbl := lw_at lw_m3 84 rfl
theorem q653 : (Jvm.Cond.instanceMethod ({ cls := "DeadListPool", name := "nextMany", desc := "(LDeadListPool$Snapshot;)I" } : Jvm.MethodName)) ∈ lw_all := lw_g (lw_at lw_m3 85 rfl) rfl
theorem q654 : (Jvm.Cond.code ({ cls := "DeadListPool", name := "nextMany", desc := "(LDeadListPool$Snapshot;)I" } : Jvm.MethodName) prog_1_method_14_code (4 : Nat) (Option.some Jvm.ClassFile.FieldType.int)) ∈ lw_all := lw_g (lw_at lw_m3 86 rfl) rfl
theorem q655 : (Jvm.Cond.methodLink "DeadListPool" (84 : Nat) ({ cls := "DeadListPool", name := "holderAt", desc := "(I)LDeadListPool$Holder;" } : Jvm.MethodName)) ∈ lw_all := lw_g (lw_at lw_m3 87 rfl) rfl
theorem q656 : (Jvm.Cond.privateMethod ({ cls := "DeadListPool", name := "holderAt", desc := "(I)LDeadListPool$Holder;" } : Jvm.MethodName)) ∈ lw_tbl := lw_at lw_m3 88 rfl
theorem q657 : (Jvm.Cond.instanceMethod ({ cls := "DeadListPool", name := "holderAt", desc := "(I)LDeadListPool$Holder;" } : Jvm.MethodName)) ∈ lw_all := lw_g (lw_at lw_m3 89 rfl) rfl
theorem q658 : (Jvm.Cond.code ({ cls := "DeadListPool", name := "holderAt", desc := "(I)LDeadListPool$Holder;" } : Jvm.MethodName) prog_1_method_9_code (2 : Nat) (Option.some (Jvm.ClassFile.FieldType.object "DeadListPool$Holder"))) ∈ lw_all := lw_g (lw_at lw_m3 90 rfl) rfl
theorem q659 : (Jvm.Cond.classLink "DeadListPool" (65 : Nat) "DeadListPool$Holder") ∈ lw_all := lw_g (lw_at lw_m3 91 rfl) rfl
theorem q660 : (Jvm.Cond.methodLink "DeadListPool" (238 : Nat) ({ cls := "DeadListPool", name := "removes", desc := "(LDeadListPool$Snapshot;)I" } : Jvm.MethodName)) ∈ lw_all := lw_g (lw_at lw_m3 92 rfl) rfl
theorem q661 : (Jvm.Cond.privateMethod ({ cls := "DeadListPool", name := "removes", desc := "(LDeadListPool$Snapshot;)I" } : Jvm.MethodName)) ∈ lw_tbl := lw_at lw_m3 93 rfl
theorem q662 : (Jvm.Cond.instanceMethod ({ cls := "DeadListPool", name := "removes", desc := "(LDeadListPool$Snapshot;)I" } : Jvm.MethodName)) ∈ lw_all := lw_g (lw_at lw_m3 94 rfl) rfl
theorem q663 : (Jvm.Cond.code ({ cls := "DeadListPool", name := "removes", desc := "(LDeadListPool$Snapshot;)I" } : Jvm.MethodName) prog_1_method_35_code (4 : Nat) (Option.some Jvm.ClassFile.FieldType.int)) ∈ lw_all := lw_g (lw_at lw_m3 95 rfl) rfl
theorem q664 : (Jvm.Cond.methodLink "DeadListPool" (215 : Nat) ({ cls := "DeadListPool", name := "nextOf", desc := "(LDeadListPool$Snapshot;)LDeadListPool$Holder;" } : Jvm.MethodName)) ∈ lw_all := lw_g (lw_at lw_m3 96 rfl) rfl
theorem q665 : (Jvm.Cond.privateMethod ({ cls := "DeadListPool", name := "nextOf", desc := "(LDeadListPool$Snapshot;)LDeadListPool$Holder;" } : Jvm.MethodName)) ∈ lw_tbl := lw_at lw_m3 97 rfl
theorem q666 : (Jvm.Cond.instanceMethod ({ cls := "DeadListPool", name := "nextOf", desc := "(LDeadListPool$Snapshot;)LDeadListPool$Holder;" } : Jvm.MethodName)) ∈ lw_all := lw_g (lw_at lw_m3 98 rfl) rfl
theorem q667 : (Jvm.Cond.code ({ cls := "DeadListPool", name := "nextOf", desc := "(LDeadListPool$Snapshot;)LDeadListPool$Holder;" } : Jvm.MethodName) prog_1_method_15_code (4 : Nat) (Option.some (Jvm.ClassFile.FieldType.object "DeadListPool$Holder"))) ∈ lw_all := lw_g (lw_at lw_m3 99 rfl) rfl
theorem q668 : (Jvm.Cond.methodLink "DeadListPool" (219 : Nat) ({ cls := "DeadListPool$Snapshot", name := "prevMade", desc := "()I" } : Jvm.MethodName)) ∈ lw_all := lw_g (lw_at lw_m3 100 rfl) rfl
theorem q672 : (Jvm.Cond.methodLink "DeadListPool" (220 : Nat) ({ cls := "DeadListPool", name := "merges", desc := "(LDeadListPool$Holder;ILDeadListPool$Snapshot;)V" } : Jvm.MethodName)) ∈ lw_all := lw_g (lw_at lw_m3 104 rfl) rfl
theorem q673 : (Jvm.Cond.privateMethod ({ cls := "DeadListPool", name := "merges", desc := "(LDeadListPool$Holder;ILDeadListPool$Snapshot;)V" } : Jvm.MethodName)) ∈ lw_tbl := lw_at lw_m3 105 rfl
theorem q674 : (Jvm.Cond.instanceMethod ({ cls := "DeadListPool", name := "merges", desc := "(LDeadListPool$Holder;ILDeadListPool$Snapshot;)V" } : Jvm.MethodName)) ∈ lw_all := lw_g (lw_at lw_m3 106 rfl) rfl
theorem q675 : (Jvm.Cond.code ({ cls := "DeadListPool", name := "merges", desc := "(LDeadListPool$Holder;ILDeadListPool$Snapshot;)V" } : Jvm.MethodName) prog_1_method_33_code (8 : Nat) (Option.none : Option Jvm.ClassFile.FieldType)) ∈ lw_all := lw_g (lw_at lw_m3 107 rfl) rfl
theorem q677 : (Jvm.Cond.instanceMethod ({ cls := "DeadListPool", name := "promote", desc := "(I)I" } : Jvm.MethodName)) ∈ lw_all := lw_g (lw_at lw_m3 109 rfl) rfl
theorem q678 : (Jvm.Cond.selects "DeadListPool" ({ cls := "DeadListPool", name := "promote", desc := "(I)I" } : Jvm.MethodName) ({ cls := "DeadListPool", name := "promote", desc := "(I)I" } : Jvm.MethodName)) ∈ lw_all := lw_g (lw_at lw_m3 110 rfl) rfl
theorem q679 : (Jvm.Cond.codeWith ({ cls := "DeadListPool", name := "promote", desc := "(I)I" } : Jvm.MethodName) prog_1_method_40_code (3 : Nat) (Option.some Jvm.ClassFile.FieldType.int) [((0 : Nat), (12 : Nat), (13 : Nat), (53 : Nat)), ((0 : Nat), (12 : Nat), (17 : Nat), (169 : Nat)), ((0 : Nat), (12 : Nat), (21 : Nat), (171 : Nat))]) ∈ lw_all := lw_g (lw_at lw_m3 111 rfl) rfl
theorem q680 : (Jvm.Cond.methodLink "DeadListPool" (245 : Nat) ({ cls := "DeadListPool", name := "promotes", desc := "(LDeadListPool$Folder;)I" } : Jvm.MethodName)) ∈ lw_all := lw_g (lw_at lw_m3 112 rfl) rfl
theorem q681 : (Jvm.Cond.privateMethod ({ cls := "DeadListPool", name := "promotes", desc := "(LDeadListPool$Folder;)I" } : Jvm.MethodName)) ∈ lw_tbl := lw_at lw_m3 113 rfl
theorem q682 : (Jvm.Cond.instanceMethod ({ cls := "DeadListPool", name := "promotes", desc := "(LDeadListPool$Folder;)I" } : Jvm.MethodName)) ∈ lw_all := lw_g (lw_at lw_m3 114 rfl) rfl
theorem q683 : (Jvm.Cond.code ({ cls := "DeadListPool", name := "promotes", desc := "(LDeadListPool$Folder;)I" } : Jvm.MethodName) prog_1_method_39_code (6 : Nat) (Option.some Jvm.ClassFile.FieldType.int)) ∈ lw_all := lw_g (lw_at lw_m3 115 rfl) rfl
theorem q684 : (Jvm.Cond.methodLink "DeadListPool" (241 : Nat) ({ cls := "DeadListPool", name := "originOf", desc := "(LDeadListPool$Folder;)LDeadListPool$Snapshot;" } : Jvm.MethodName)) ∈ lw_all := lw_g (lw_at lw_m3 116 rfl) rfl
theorem q685 : (Jvm.Cond.static ({ cls := "DeadListPool", name := "originOf", desc := "(LDeadListPool$Folder;)LDeadListPool$Snapshot;" } : Jvm.MethodName)) ∈ lw_all := lw_g (lw_at lw_m3 117 rfl) rfl
theorem q686 : (Jvm.Cond.code ({ cls := "DeadListPool", name := "originOf", desc := "(LDeadListPool$Folder;)LDeadListPool$Snapshot;" } : Jvm.MethodName) prog_1_method_16_code (2 : Nat) (Option.some (Jvm.ClassFile.FieldType.object "DeadListPool$Snapshot"))) ∈ lw_all := lw_g (lw_at lw_m3 118 rfl) rfl
theorem q688 : (Jvm.Cond.instanceMethod ({ cls := "DeadListPool", name := "rollback", desc := "(I)I" } : Jvm.MethodName)) ∈ lw_all := lw_g (lw_at lw_m3 120 rfl) rfl
theorem q689 : (Jvm.Cond.selects "DeadListPool" ({ cls := "DeadListPool", name := "rollback", desc := "(I)I" } : Jvm.MethodName) ({ cls := "DeadListPool", name := "rollback", desc := "(I)I" } : Jvm.MethodName)) ∈ lw_all := lw_g (lw_at lw_m3 121 rfl) rfl
theorem q690 : (Jvm.Cond.codeWith ({ cls := "DeadListPool", name := "rollback", desc := "(I)I" } : Jvm.MethodName) prog_1_method_42_code (3 : Nat) (Option.some Jvm.ClassFile.FieldType.int) [((0 : Nat), (12 : Nat), (13 : Nat), (53 : Nat)), ((0 : Nat), (12 : Nat), (17 : Nat), (169 : Nat)), ((0 : Nat), (12 : Nat), (21 : Nat), (171 : Nat))]) ∈ lw_all := lw_g (lw_at lw_m3 122 rfl) rfl
theorem q691 : (Jvm.Cond.methodLink "DeadListPool" (248 : Nat) ({ cls := "DeadListPool", name := "rollsBack", desc := "(LDeadListPool$Folder;)I" } : Jvm.MethodName)) ∈ lw_all := lw_g (lw_at lw_m3 123 rfl) rfl
theorem q692 : (Jvm.Cond.privateMethod ({ cls := "DeadListPool", name := "rollsBack", desc := "(LDeadListPool$Folder;)I" } : Jvm.MethodName)) ∈ lw_tbl := lw_at lw_m3 124 rfl
theorem q693 : (Jvm.Cond.instanceMethod ({ cls := "DeadListPool", name := "rollsBack", desc := "(LDeadListPool$Folder;)I" } : Jvm.MethodName)) ∈ lw_all := lw_g (lw_at lw_m3 125 rfl) rfl
theorem q694 : (Jvm.Cond.code ({ cls := "DeadListPool", name := "rollsBack", desc := "(LDeadListPool$Folder;)I" } : Jvm.MethodName) prog_1_method_41_code (3 : Nat) (Option.some Jvm.ClassFile.FieldType.int)) ∈ lw_all := lw_g (lw_at lw_m3 126 rfl) rfl
theorem q696 : (Jvm.Cond.instanceMethod ({ cls := "DeadListPool", name := "tick", desc := "()I" } : Jvm.MethodName)) ∈ lw_all := lw_g (lw_at lw_m3 128 rfl) rfl
theorem q697 : (Jvm.Cond.selects "DeadListPool" ({ cls := "DeadListPool", name := "tick", desc := "()I" } : Jvm.MethodName) ({ cls := "DeadListPool", name := "tick", desc := "()I" } : Jvm.MethodName)) ∈ lw_all := lw_g (lw_at lw_m3 129 rfl) rfl
theorem q698 : (Jvm.Cond.code ({ cls := "DeadListPool", name := "tick", desc := "()I" } : Jvm.MethodName) prog_1_method_43_code (1 : Nat) (Option.some Jvm.ClassFile.FieldType.int)) ∈ lw_all := lw_g (lw_at lw_m3 130 rfl) rfl
theorem q699 : (Jvm.Cond.constant "DeadListPool" (251 : Nat) (100000 : Int32)) ∈ lw_all := lw_g (lw_at lw_m3 131 rfl) rfl
theorem q701 : (Jvm.Cond.instanceMethod ({ cls := "DeadListPool", name := "told", desc := "(II)I" } : Jvm.MethodName)) ∈ lw_all := lw_g (lw_at lw_m3 133 rfl) rfl
theorem q702 : (Jvm.Cond.selects "DeadListPool" ({ cls := "DeadListPool", name := "told", desc := "(II)I" } : Jvm.MethodName) ({ cls := "DeadListPool", name := "told", desc := "(II)I" } : Jvm.MethodName)) ∈ lw_all := lw_g (lw_at lw_m3 134 rfl) rfl
theorem q703 : (Jvm.Cond.code ({ cls := "DeadListPool", name := "told", desc := "(II)I" } : Jvm.MethodName) prog_1_method_46_code (4 : Nat) (Option.some Jvm.ClassFile.FieldType.int)) ∈ lw_all := lw_g (lw_at lw_m3 135 rfl) rfl
theorem q704 : (Jvm.Cond.methodLink "DeadListPool" (262 : Nat) ({ cls := "DeadListPool", name := "kindOf", desc := "(Ljava/lang/Object;)I" } : Jvm.MethodName)) ∈ lw_all := lw_g (lw_at lw_m3 136 rfl) rfl
theorem q705 : (Jvm.Cond.static ({ cls := "DeadListPool", name := "kindOf", desc := "(Ljava/lang/Object;)I" } : Jvm.MethodName)) ∈ lw_all := lw_g (lw_at lw_m3 137 rfl) rfl
theorem q706 : (Jvm.Cond.code ({ cls := "DeadListPool", name := "kindOf", desc := "(Ljava/lang/Object;)I" } : Jvm.MethodName) prog_1_method_8_code (1 : Nat) (Option.some Jvm.ClassFile.FieldType.int)) ∈ lw_all := lw_g (lw_at lw_m3 138 rfl) rfl
theorem q707 : (Jvm.Cond.methodLink "DeadListPool" (68 : Nat) ({ cls := "DeadListPool$Holder", name := "kind", desc := "()I" } : Jvm.MethodName)) ∈ lw_all := lw_g (lw_at lw_m3 139 rfl) rfl
theorem q724 : (Jvm.Cond.methodLink "DeadListPool" (266 : Nat) ({ cls := "DeadListPool", name := "madeOf", desc := "(Ljava/lang/Object;)I" } : Jvm.MethodName)) ∈ lw_all := lw_g (lw_at lw_m3 156 rfl) rfl
theorem q725 : (Jvm.Cond.static ({ cls := "DeadListPool", name := "madeOf", desc := "(Ljava/lang/Object;)I" } : Jvm.MethodName)) ∈ lw_all := lw_g (lw_at lw_m3 157 rfl) rfl
theorem q726 : (Jvm.Cond.code ({ cls := "DeadListPool", name := "madeOf", desc := "(Ljava/lang/Object;)I" } : Jvm.MethodName) prog_1_method_7_code (1 : Nat) (Option.some Jvm.ClassFile.FieldType.int)) ∈ lw_all := lw_g (lw_at lw_m3 158 rfl) rfl
theorem q727 : (Jvm.Cond.methodLink "DeadListPool" (269 : Nat) ({ cls := "DeadListPool", name := "toldOfMark", desc := "(I)I" } : Jvm.MethodName)) ∈ lw_all := lw_g (lw_at lw_m3 159 rfl) rfl
theorem q728 : (Jvm.Cond.static ({ cls := "DeadListPool", name := "toldOfMark", desc := "(I)I" } : Jvm.MethodName)) ∈ lw_all := lw_g (lw_at lw_m3 160 rfl) rfl
theorem q729 : (Jvm.Cond.code ({ cls := "DeadListPool", name := "toldOfMark", desc := "(I)I" } : Jvm.MethodName) prog_1_method_45_code (1 : Nat) (Option.some Jvm.ClassFile.FieldType.int)) ∈ lw_all := lw_g (lw_at lw_m3 161 rfl) rfl
theorem q730 : (Jvm.Cond.methodLink "DeadListPool" (273 : Nat) ({ cls := "DeadListPool", name := "toldOf", desc := "(LDeadListPool$Holder;I)I" } : Jvm.MethodName)) ∈ lw_all := lw_g (lw_at lw_m3 162 rfl) rfl
theorem q731 : (Jvm.Cond.privateMethod ({ cls := "DeadListPool", name := "toldOf", desc := "(LDeadListPool$Holder;I)I" } : Jvm.MethodName)) ∈ lw_tbl := lw_at lw_m3 163 rfl
theorem q732 : (Jvm.Cond.instanceMethod ({ cls := "DeadListPool", name := "toldOf", desc := "(LDeadListPool$Holder;I)I" } : Jvm.MethodName)) ∈ lw_all := lw_g (lw_at lw_m3 164 rfl) rfl
theorem q733 : (Jvm.Cond.code ({ cls := "DeadListPool", name := "toldOf", desc := "(LDeadListPool$Holder;I)I" } : Jvm.MethodName) prog_1_method_44_code (3 : Nat) (Option.some Jvm.ClassFile.FieldType.int)) ∈ lw_all := lw_g (lw_at lw_m3 165 rfl) rfl
theorem q734 : (Jvm.Cond.methodLink "DeadListPool" (252 : Nat) ({ cls := "DeadListPool", name := "numberOf", desc := "(LDeadListPool$Holder;)I" } : Jvm.MethodName)) ∈ lw_all := lw_g (lw_at lw_m3 166 rfl) rfl
theorem q735 : (Jvm.Cond.static ({ cls := "DeadListPool", name := "numberOf", desc := "(LDeadListPool$Holder;)I" } : Jvm.MethodName)) ∈ lw_all := lw_g (lw_at lw_m3 167 rfl) rfl
theorem q736 : (Jvm.Cond.code ({ cls := "DeadListPool", name := "numberOf", desc := "(LDeadListPool$Holder;)I" } : Jvm.MethodName) prog_1_method_11_code (1 : Nat) (Option.some Jvm.ClassFile.FieldType.int)) ∈ lw_all := lw_g (lw_at lw_m3 168 rfl) rfl
theorem q737 : (Jvm.Cond.methodLink "DeadListPool" (255 : Nat) ({ cls := "DeadListPool$Holder", name := "holdsMany", desc := "()I" } : Jvm.MethodName)) ∈ lw_all := lw_g (lw_at lw_m3 169 rfl) rfl
theorem q745 : (Jvm.Cond.methodLink "DeadListPool" (258 : Nat) ({ cls := "DeadListPool$Holder", name := "tags", desc := "()I" } : Jvm.MethodName)) ∈ lw_all := lw_g (lw_at lw_m3 177 rfl) rfl
theorem q746 : (Jvm.Cond.methodLink "DeadListPool" (259 : Nat) ({ cls := "DeadListPool$Holder", name := "quota", desc := "()I" } : Jvm.MethodName)) ∈ lw_all := lw_g (lw_at lw_m3 178 rfl) rfl
theorem q757 : (Jvm.Cond.instanceMethod ({ cls := "DeadListPool", name := "slot", desc := "(II)I" } : Jvm.MethodName)) ∈ lw_all := lw_g (lw_at lw_m3 189 rfl) rfl
theorem q758 : (Jvm.Cond.selects "DeadListPool" ({ cls := "DeadListPool", name := "slot", desc := "(II)I" } : Jvm.MethodName) ({ cls := "DeadListPool", name := "slot", desc := "(II)I" } : Jvm.MethodName)) ∈ lw_all := lw_g (lw_at lw_m3 190 rfl) rfl
theorem q759 : (Jvm.Cond.codeWith ({ cls := "DeadListPool", name := "slot", desc := "(II)I" } : Jvm.MethodName) prog_1_method_47_code (4 : Nat) (Option.some Jvm.ClassFile.FieldType.int) [((15 : Nat), (28 : Nat), (29 : Nat), (53 : Nat)), ((15 : Nat), (28 : Nat), (33 : Nat), (169 : Nat)), ((15 : Nat), (28 : Nat), (37 : Nat), (171 : Nat))]) ∈ lw_all := lw_g (lw_at lw_m3 191 rfl) rfl
theorem q761 : (Jvm.Cond.instanceMethod ({ cls := "DeadListPool", name := "block", desc := "(II)I" } : Jvm.MethodName)) ∈ lw_all := lw_g (lw_at lw_m3 193 rfl) rfl
theorem q762 : (Jvm.Cond.selects "DeadListPool" ({ cls := "DeadListPool", name := "block", desc := "(II)I" } : Jvm.MethodName) ({ cls := "DeadListPool", name := "block", desc := "(II)I" } : Jvm.MethodName)) ∈ lw_all := lw_g (lw_at lw_m3 194 rfl) rfl
theorem q763 : (Jvm.Cond.code ({ cls := "DeadListPool", name := "block", desc := "(II)I" } : Jvm.MethodName) prog_1_method_49_code (3 : Nat) (Option.some Jvm.ClassFile.FieldType.int)) ∈ lw_all := lw_g (lw_at lw_m3 195 rfl) rfl
theorem q764 : (Jvm.Cond.constantLong "DeadListPool" (281 : Nat) (2 : Int64)) ∈ lw_all := lw_g (lw_at lw_m3 196 rfl) rfl
theorem q765 : (Jvm.Cond.constantLong "DeadListPool" (283 : Nat) (95 : Int64)) ∈ lw_all := lw_g (lw_at lw_m3 197 rfl) rfl
theorem q766 : (Jvm.Cond.methodLink "DeadListPool" (285 : Nat) ({ cls := "DeadListPool", name := "holdersOf", desc := "(I)I" } : Jvm.MethodName)) ∈ lw_all := lw_g (lw_at lw_m3 198 rfl) rfl
theorem q767 : (Jvm.Cond.privateMethod ({ cls := "DeadListPool", name := "holdersOf", desc := "(I)I" } : Jvm.MethodName)) ∈ lw_tbl := lw_at lw_m3 199 rfl
theorem q768 : (Jvm.Cond.instanceMethod ({ cls := "DeadListPool", name := "holdersOf", desc := "(I)I" } : Jvm.MethodName)) ∈ lw_all := lw_g (lw_at lw_m3 200 rfl) rfl
theorem q769 : (Jvm.Cond.code ({ cls := "DeadListPool", name := "holdersOf", desc := "(I)I" } : Jvm.MethodName) prog_1_method_48_code (4 : Nat) (Option.some Jvm.ClassFile.FieldType.int)) ∈ lw_all := lw_g (lw_at lw_m3 201 rfl) rfl
theorem q770 : (Jvm.Cond.methodLink "DeadListPool" (277 : Nat) ({ cls := "DeadListPool$Holder", name := "holds", desc := "(I)Z" } : Jvm.MethodName)) ∈ lw_all := lw_g (lw_at lw_m3 202 rfl) rfl
theorem q779 : (Jvm.Cond.instanceMethod ({ cls := "DeadListPool", name := "taken", desc := "(II)I" } : Jvm.MethodName)) ∈ lw_all := lw_g (lw_at lw_m3 211 rfl) rfl
theorem q780 : (Jvm.Cond.selects "DeadListPool" ({ cls := "DeadListPool", name := "taken", desc := "(II)I" } : Jvm.MethodName) ({ cls := "DeadListPool", name := "taken", desc := "(II)I" } : Jvm.MethodName)) ∈ lw_all := lw_g (lw_at lw_m3 212 rfl) rfl
theorem q781 : (Jvm.Cond.codeWith ({ cls := "DeadListPool", name := "taken", desc := "(II)I" } : Jvm.MethodName) prog_1_method_51_code (4 : Nat) (Option.some Jvm.ClassFile.FieldType.int) [((15 : Nat), (24 : Nat), (25 : Nat), (53 : Nat)), ((15 : Nat), (24 : Nat), (29 : Nat), (169 : Nat)), ((15 : Nat), (24 : Nat), (33 : Nat), (171 : Nat))]) ∈ lw_all := lw_g (lw_at lw_m3 213 rfl) rfl
theorem q782 : (Jvm.Cond.constantLong "DeadListPool" (291 : Nat) (4 : Int64)) ∈ lw_all := lw_g (lw_at lw_m3 214 rfl) rfl
theorem q783 : (Jvm.Cond.methodLink "DeadListPool" (293 : Nat) ({ cls := "DeadListPool", name := "takenFor", desc := "(Ljava/lang/Object;I)I" } : Jvm.MethodName)) ∈ lw_all := lw_g (lw_at lw_m3 215 rfl) rfl
theorem q784 : (Jvm.Cond.static ({ cls := "DeadListPool", name := "takenFor", desc := "(Ljava/lang/Object;I)I" } : Jvm.MethodName)) ∈ lw_all := lw_g (lw_at lw_m3 216 rfl) rfl
theorem q785 : (Jvm.Cond.code ({ cls := "DeadListPool", name := "takenFor", desc := "(Ljava/lang/Object;I)I" } : Jvm.MethodName) prog_1_method_50_code (2 : Nat) (Option.some Jvm.ClassFile.FieldType.int)) ∈ lw_all := lw_g (lw_at lw_m3 217 rfl) rfl
theorem q787 : (Jvm.Cond.instanceMethod ({ cls := "DeadListPool", name := "dead", desc := "(II)I" } : Jvm.MethodName)) ∈ lw_all := lw_g (lw_at lw_m3 219 rfl) rfl
theorem q788 : (Jvm.Cond.selects "DeadListPool" ({ cls := "DeadListPool", name := "dead", desc := "(II)I" } : Jvm.MethodName) ({ cls := "DeadListPool", name := "dead", desc := "(II)I" } : Jvm.MethodName)) ∈ lw_all := lw_g (lw_at lw_m3 220 rfl) rfl
theorem q789 : (Jvm.Cond.codeWith ({ cls := "DeadListPool", name := "dead", desc := "(II)I" } : Jvm.MethodName) prog_1_method_53_code (4 : Nat) (Option.some Jvm.ClassFile.FieldType.int) [((15 : Nat), (27 : Nat), (28 : Nat), (53 : Nat)), ((15 : Nat), (27 : Nat), (32 : Nat), (169 : Nat)), ((15 : Nat), (27 : Nat), (36 : Nat), (171 : Nat))]) ∈ lw_all := lw_g (lw_at lw_m3 221 rfl) rfl
theorem q790 : (Jvm.Cond.methodLink "DeadListPool" (297 : Nat) ({ cls := "DeadListPool", name := "deadOf", desc := "(LDeadListPool$Holder;I)I" } : Jvm.MethodName)) ∈ lw_all := lw_g (lw_at lw_m3 222 rfl) rfl
theorem q791 : (Jvm.Cond.static ({ cls := "DeadListPool", name := "deadOf", desc := "(LDeadListPool$Holder;I)I" } : Jvm.MethodName)) ∈ lw_all := lw_g (lw_at lw_m3 223 rfl) rfl
theorem q792 : (Jvm.Cond.code ({ cls := "DeadListPool", name := "deadOf", desc := "(LDeadListPool$Holder;I)I" } : Jvm.MethodName) prog_1_method_52_code (2 : Nat) (Option.some Jvm.ClassFile.FieldType.int)) ∈ lw_all := lw_g (lw_at lw_m3 224 rfl) rfl
theorem q794 : (Jvm.Cond.instanceMethod ({ cls := "DeadListPool", name := "deadList", desc := "(II)J" } : Jvm.MethodName)) ∈ lw_all := lw_g (lw_at lw_m3 226 rfl) rfl
theorem q795 : (Jvm.Cond.selects "DeadListPool" ({ cls := "DeadListPool", name := "deadList", desc := "(II)J" } : Jvm.MethodName) ({ cls := "DeadListPool", name := "deadList", desc := "(II)J" } : Jvm.MethodName)) ∈ lw_all := lw_g (lw_at lw_m3 227 rfl) rfl
theorem q796 : (Jvm.Cond.code ({ cls := "DeadListPool", name := "deadList", desc := "(II)J" } : Jvm.MethodName) prog_1_method_55_code (6 : Nat) (Option.some Jvm.ClassFile.FieldType.long)) ∈ lw_all := lw_g (lw_at lw_m3 228 rfl) rfl
theorem q797 : (Jvm.Cond.constantLong "DeadListPool" (300 : Nat) (-4611686018427387904 : Int64)) ∈ lw_all := lw_g (lw_at lw_m3 229 rfl) rfl
theorem q798 : (Jvm.Cond.methodLink "DeadListPool" (302 : Nat) ({ cls := "DeadListPool", name := "deadBetween", desc := "(LDeadListPool$Holder;II)J" } : Jvm.MethodName)) ∈ lw_all := lw_g (lw_at lw_m3 230 rfl) rfl
theorem q799 : (Jvm.Cond.privateMethod ({ cls := "DeadListPool", name := "deadBetween", desc := "(LDeadListPool$Holder;II)J" } : Jvm.MethodName)) ∈ lw_tbl := lw_at lw_m3 231 rfl
theorem q800 : (Jvm.Cond.instanceMethod ({ cls := "DeadListPool", name := "deadBetween", desc := "(LDeadListPool$Holder;II)J" } : Jvm.MethodName)) ∈ lw_all := lw_g (lw_at lw_m3 232 rfl) rfl
theorem q801 : (Jvm.Cond.code ({ cls := "DeadListPool", name := "deadBetween", desc := "(LDeadListPool$Holder;II)J" } : Jvm.MethodName) prog_1_method_54_code (8 : Nat) (Option.some Jvm.ClassFile.FieldType.long)) ∈ lw_all := lw_g (lw_at lw_m3 233 rfl) rfl
theorem q803 : (Jvm.Cond.instanceMethod ({ cls := "DeadListPool", name := "space", desc := "(I)J" } : Jvm.MethodName)) ∈ lw_all := lw_g (lw_at lw_m3 235 rfl) rfl
theorem q804 : (Jvm.Cond.selects "DeadListPool" ({ cls := "DeadListPool", name := "space", desc := "(I)J" } : Jvm.MethodName) ({ cls := "DeadListPool", name := "space", desc := "(I)J" } : Jvm.MethodName)) ∈ lw_all := lw_g (lw_at lw_m3 236 rfl) rfl
theorem q805 : (Jvm.Cond.code ({ cls := "DeadListPool", name := "space", desc := "(I)J" } : Jvm.MethodName) prog_1_method_56_code (3 : Nat) (Option.some Jvm.ClassFile.FieldType.long)) ∈ lw_all := lw_g (lw_at lw_m3 237 rfl) rfl
theorem q807 : (Jvm.Cond.instanceMethod ({ cls := "DeadListPool", name := "range", desc := "(II)J" } : Jvm.MethodName)) ∈ lw_all := lw_g (lw_at lw_m3 239 rfl) rfl
theorem q808 : (Jvm.Cond.selects "DeadListPool" ({ cls := "DeadListPool", name := "range", desc := "(II)J" } : Jvm.MethodName) ({ cls := "DeadListPool", name := "range", desc := "(II)J" } : Jvm.MethodName)) ∈ lw_all := lw_g (lw_at lw_m4 0 rfl) rfl
theorem q809 : (Jvm.Cond.code ({ cls := "DeadListPool", name := "range", desc := "(II)J" } : Jvm.MethodName) prog_1_method_64_code (5 : Nat) (Option.some Jvm.ClassFile.FieldType.long)) ∈ lw_all := lw_g (lw_at lw_m4 1 rfl) rfl
theorem q810 : (Jvm.Cond.methodLink "DeadListPool" (326 : Nat) ({ cls := "DeadListPool", name := "isInChain", desc := "(LDeadListPool$Snapshot;LDeadListPool$Snapshot;)Z" } : Jvm.MethodName)) ∈ lw_all := lw_g (lw_at lw_m4 2 rfl) rfl
theorem q811 : (Jvm.Cond.static ({ cls := "DeadListPool", name := "isInChain", desc := "(LDeadListPool$Snapshot;LDeadListPool$Snapshot;)Z" } : Jvm.MethodName)) ∈ lw_all := lw_g (lw_at lw_m4 3 rfl) rfl
theorem q812 : (Jvm.Cond.code ({ cls := "DeadListPool", name := "isInChain", desc := "(LDeadListPool$Snapshot;LDeadListPool$Snapshot;)Z" } : Jvm.MethodName) prog_1_method_63_code (3 : Nat) (Option.some Jvm.ClassFile.FieldType.boolean)) ∈ lw_all := lw_g (lw_at lw_m4 4 rfl) rfl
theorem q813 : (Jvm.Cond.methodLink "DeadListPool" (330 : Nat) ({ cls := "DeadListPool", name := "rangeOf", desc := "(LDeadListPool$Snapshot;LDeadListPool$Snapshot;)J" } : Jvm.MethodName)) ∈ lw_all := lw_g (lw_at lw_m4 5 rfl) rfl
theorem q814 : (Jvm.Cond.privateMethod ({ cls := "DeadListPool", name := "rangeOf", desc := "(LDeadListPool$Snapshot;LDeadListPool$Snapshot;)J" } : Jvm.MethodName)) ∈ lw_tbl := lw_at lw_m4 6 rfl
theorem q815 : (Jvm.Cond.instanceMethod ({ cls := "DeadListPool", name := "rangeOf", desc := "(LDeadListPool$Snapshot;LDeadListPool$Snapshot;)J" } : Jvm.MethodName)) ∈ lw_all := lw_g (lw_at lw_m4 7 rfl) rfl
theorem q816 : (Jvm.Cond.code ({ cls := "DeadListPool", name := "rangeOf", desc := "(LDeadListPool$Snapshot;LDeadListPool$Snapshot;)J" } : Jvm.MethodName) prog_1_method_62_code (5 : Nat) (Option.some Jvm.ClassFile.FieldType.long)) ∈ lw_all := lw_g (lw_at lw_m4 8 rfl) rfl
theorem q817 : (Jvm.Cond.methodLink "DeadListPool" (319 : Nat) ({ cls := "DeadListPool", name := "rangeByLists", desc := "(LDeadListPool$Snapshot;LDeadListPool$Snapshot;)J" } : Jvm.MethodName)) ∈ lw_all := lw_g (lw_at lw_m4 9 rfl) rfl
theorem q818 : (Jvm.Cond.privateMethod ({ cls := "DeadListPool", name := "rangeByLists", desc := "(LDeadListPool$Snapshot;LDeadListPool$Snapshot;)J" } : Jvm.MethodName)) ∈ lw_tbl := lw_at lw_m4 10 rfl
theorem q819 : (Jvm.Cond.instanceMethod ({ cls := "DeadListPool", name := "rangeByLists", desc := "(LDeadListPool$Snapshot;LDeadListPool$Snapshot;)J" } : Jvm.MethodName)) ∈ lw_all := lw_g (lw_at lw_m4 11 rfl) rfl
theorem q820 : (Jvm.Cond.code ({ cls := "DeadListPool", name := "rangeByLists", desc := "(LDeadListPool$Snapshot;LDeadListPool$Snapshot;)J" } : Jvm.MethodName) prog_1_method_61_code (6 : Nat) (Option.some Jvm.ClassFile.FieldType.long)) ∈ lw_all := lw_g (lw_at lw_m4 12 rfl) rfl
theorem q821 : (Jvm.Cond.constant "DeadListPool" (318 : Nat) (2147483647 : Int32)) ∈ lw_all := lw_g (lw_at lw_m4 13 rfl) rfl
theorem q822 : (Jvm.Cond.methodLink "DeadListPool" (323 : Nat) ({ cls := "DeadListPool", name := "rangeByBlocks", desc := "(LDeadListPool$Snapshot;LDeadListPool$Snapshot;)J" } : Jvm.MethodName)) ∈ lw_all := lw_g (lw_at lw_m4 14 rfl) rfl
theorem q823 : (Jvm.Cond.privateMethod ({ cls := "DeadListPool", name := "rangeByBlocks", desc := "(LDeadListPool$Snapshot;LDeadListPool$Snapshot;)J" } : Jvm.MethodName)) ∈ lw_tbl := lw_at lw_m4 15 rfl
theorem q824 : (Jvm.Cond.instanceMethod ({ cls := "DeadListPool", name := "rangeByBlocks", desc := "(LDeadListPool$Snapshot;LDeadListPool$Snapshot;)J" } : Jvm.MethodName)) ∈ lw_all := lw_g (lw_at lw_m4 16 rfl) rfl
theorem q825 : (Jvm.Cond.code ({ cls := "DeadListPool", name := "rangeByBlocks", desc := "(LDeadListPool$Snapshot;LDeadListPool$Snapshot;)J" } : Jvm.MethodName) prog_1_method_60_code (10 : Nat) (Option.some Jvm.ClassFile.FieldType.long)) ∈ lw_all := lw_g (lw_at lw_m4 17 rfl) rfl
theorem q826 : (Jvm.Cond.methodLink "DeadListPool" (311 : Nat) ({ cls := "DeadListPool$Snapshot", name := "holds", desc := "(I)Z" } : Jvm.MethodName)) ∈ lw_all := lw_g (lw_at lw_m4 18 rfl) rfl
theorem q831 : (Jvm.Cond.methodLink "DeadListPool" (312 : Nat) ({ cls := "DeadListPool", name := "isHeldOutside", desc := "(LDeadListPool$Snapshot;LDeadListPool$Snapshot;I)Z" } : Jvm.MethodName)) ∈ lw_all := lw_g (lw_at lw_m4 23 rfl) rfl
theorem q832 : (Jvm.Cond.privateMethod ({ cls := "DeadListPool", name := "isHeldOutside", desc := "(LDeadListPool$Snapshot;LDeadListPool$Snapshot;I)Z" } : Jvm.MethodName)) ∈ lw_tbl := lw_at lw_m4 24 rfl
theorem q833 : (Jvm.Cond.instanceMethod ({ cls := "DeadListPool", name := "isHeldOutside", desc := "(LDeadListPool$Snapshot;LDeadListPool$Snapshot;I)Z" } : Jvm.MethodName)) ∈ lw_all := lw_g (lw_at lw_m4 25 rfl) rfl
theorem q834 : (Jvm.Cond.code ({ cls := "DeadListPool", name := "isHeldOutside", desc := "(LDeadListPool$Snapshot;LDeadListPool$Snapshot;I)Z" } : Jvm.MethodName) prog_1_method_59_code (6 : Nat) (Option.some Jvm.ClassFile.FieldType.boolean)) ∈ lw_all := lw_g (lw_at lw_m4 26 rfl) rfl
theorem q835 : (Jvm.Cond.methodLink "DeadListPool" (306 : Nat) ({ cls := "DeadListPool", name := "isOnWay", desc := "(LDeadListPool$Snapshot;LDeadListPool$Snapshot;LDeadListPool$Holder;)Z" } : Jvm.MethodName)) ∈ lw_all := lw_g (lw_at lw_m4 27 rfl) rfl
theorem q836 : (Jvm.Cond.privateMethod ({ cls := "DeadListPool", name := "isOnWay", desc := "(LDeadListPool$Snapshot;LDeadListPool$Snapshot;LDeadListPool$Holder;)Z" } : Jvm.MethodName)) ∈ lw_tbl := lw_at lw_m4 28 rfl
theorem q837 : (Jvm.Cond.instanceMethod ({ cls := "DeadListPool", name := "isOnWay", desc := "(LDeadListPool$Snapshot;LDeadListPool$Snapshot;LDeadListPool$Holder;)Z" } : Jvm.MethodName)) ∈ lw_all := lw_g (lw_at lw_m4 29 rfl) rfl
theorem q838 : (Jvm.Cond.code ({ cls := "DeadListPool", name := "isOnWay", desc := "(LDeadListPool$Snapshot;LDeadListPool$Snapshot;LDeadListPool$Holder;)Z" } : Jvm.MethodName) prog_1_method_58_code (5 : Nat) (Option.some Jvm.ClassFile.FieldType.boolean)) ∈ lw_all := lw_g (lw_at lw_m4 30 rfl) rfl
theorem q840 : (Jvm.Cond.instanceMethod ({ cls := "DeadListPool", name := "alone", desc := "(I)J" } : Jvm.MethodName)) ∈ lw_all := lw_g (lw_at lw_m4 32 rfl) rfl
theorem q841 : (Jvm.Cond.selects "DeadListPool" ({ cls := "DeadListPool", name := "alone", desc := "(I)J" } : Jvm.MethodName) ({ cls := "DeadListPool", name := "alone", desc := "(I)J" } : Jvm.MethodName)) ∈ lw_all := lw_g (lw_at lw_m4 33 rfl) rfl
theorem q842 : (Jvm.Cond.code ({ cls := "DeadListPool", name := "alone", desc := "(I)J" } : Jvm.MethodName) prog_1_method_65_code (3 : Nat) (Option.some Jvm.ClassFile.FieldType.long)) ∈ lw_all := lw_g (lw_at lw_m4 34 rfl) rfl
theorem q843 : (Jvm.Cond.methodLink "DeadListPool" (333 : Nat) ({ cls := "DeadListPool", name := "liveAlone", desc := "(LDeadListPool$Folder;)J" } : Jvm.MethodName)) ∈ lw_all := lw_g (lw_at lw_m4 35 rfl) rfl
theorem q844 : (Jvm.Cond.privateMethod ({ cls := "DeadListPool", name := "liveAlone", desc := "(LDeadListPool$Folder;)J" } : Jvm.MethodName)) ∈ lw_tbl := lw_at lw_m4 36 rfl
theorem q845 : (Jvm.Cond.instanceMethod ({ cls := "DeadListPool", name := "liveAlone", desc := "(LDeadListPool$Folder;)J" } : Jvm.MethodName)) ∈ lw_all := lw_g (lw_at lw_m4 37 rfl) rfl
theorem q846 : (Jvm.Cond.code ({ cls := "DeadListPool", name := "liveAlone", desc := "(LDeadListPool$Folder;)J" } : Jvm.MethodName) prog_1_method_57_code (6 : Nat) (Option.some Jvm.ClassFile.FieldType.long)) ∈ lw_all := lw_g (lw_at lw_m4 38 rfl) rfl
theorem q848 : (Jvm.Cond.instanceMethod ({ cls := "DeadListPool", name := "since", desc := "(II)J" } : Jvm.MethodName)) ∈ lw_all := lw_g (lw_at lw_m4 40 rfl) rfl
theorem q849 : (Jvm.Cond.selects "DeadListPool" ({ cls := "DeadListPool", name := "since", desc := "(II)J" } : Jvm.MethodName) ({ cls := "DeadListPool", name := "since", desc := "(II)J" } : Jvm.MethodName)) ∈ lw_all := lw_g (lw_at lw_m4 41 rfl) rfl
theorem q850 : (Jvm.Cond.code ({ cls := "DeadListPool", name := "since", desc := "(II)J" } : Jvm.MethodName) prog_1_method_66_code (9 : Nat) (Option.some Jvm.ClassFile.FieldType.long)) ∈ lw_all := lw_g (lw_at lw_m4 42 rfl) rfl
theorem q852 : (Jvm.Cond.instanceMethod ({ cls := "DeadListPool", name := "common", desc := "(II)J" } : Jvm.MethodName)) ∈ lw_all := lw_g (lw_at lw_m4 44 rfl) rfl
theorem q853 : (Jvm.Cond.selects "DeadListPool" ({ cls := "DeadListPool", name := "common", desc := "(II)J" } : Jvm.MethodName) ({ cls := "DeadListPool", name := "common", desc := "(II)J" } : Jvm.MethodName)) ∈ lw_all := lw_g (lw_at lw_m4 45 rfl) rfl
theorem q854 : (Jvm.Cond.code ({ cls := "DeadListPool", name := "common", desc := "(II)J" } : Jvm.MethodName) prog_1_method_67_code (9 : Nat) (Option.some Jvm.ClassFile.FieldType.long)) ∈ lw_all := lw_g (lw_at lw_m4 46 rfl) rfl
theorem q856 : (Jvm.Cond.instanceMethod ({ cls := "DeadListPool", name := "most", desc := "(II)J" } : Jvm.MethodName)) ∈ lw_all := lw_g (lw_at lw_m4 48 rfl) rfl
theorem q857 : (Jvm.Cond.selects "DeadListPool" ({ cls := "DeadListPool", name := "most", desc := "(II)J" } : Jvm.MethodName) ({ cls := "DeadListPool", name := "most", desc := "(II)J" } : Jvm.MethodName)) ∈ lw_all := lw_g (lw_at lw_m4 49 rfl) rfl
theorem q858 : (Jvm.Cond.code ({ cls := "DeadListPool", name := "most", desc := "(II)J" } : Jvm.MethodName) prog_1_method_71_code (4 : Nat) (Option.some Jvm.ClassFile.FieldType.long)) ∈ lw_all := lw_g (lw_at lw_m4 50 rfl) rfl
theorem q859 : (Jvm.Cond.constantLong "DeadListPool" (354 : Nat) (8 : Int64)) ∈ lw_all := lw_g (lw_at lw_m4 51 rfl) rfl
theorem q860 : (Jvm.Cond.methodLink "DeadListPool" (356 : Nat) ({ cls := "DeadListPool", name := "mostOf", desc := "(LDeadListPool$Folder;I)J" } : Jvm.MethodName)) ∈ lw_all := lw_g (lw_at lw_m4 52 rfl) rfl
theorem q861 : (Jvm.Cond.privateMethod ({ cls := "DeadListPool", name := "mostOf", desc := "(LDeadListPool$Folder;I)J" } : Jvm.MethodName)) ∈ lw_tbl := lw_at lw_m4 53 rfl
theorem q862 : (Jvm.Cond.instanceMethod ({ cls := "DeadListPool", name := "mostOf", desc := "(LDeadListPool$Folder;I)J" } : Jvm.MethodName)) ∈ lw_all := lw_g (lw_at lw_m4 54 rfl) rfl
theorem q863 : (Jvm.Cond.code ({ cls := "DeadListPool", name := "mostOf", desc := "(LDeadListPool$Folder;I)J" } : Jvm.MethodName) prog_1_method_70_code (4 : Nat) (Option.some Jvm.ClassFile.FieldType.long)) ∈ lw_all := lw_g (lw_at lw_m4 55 rfl) rfl
theorem q864 : (Jvm.Cond.methodLink "DeadListPool" (347 : Nat) ({ cls := "DeadListPool", name := "gathers", desc := "(LDeadListPool$Folder;)I" } : Jvm.MethodName)) ∈ lw_all := lw_g (lw_at lw_m4 56 rfl) rfl
theorem q865 : (Jvm.Cond.privateMethod ({ cls := "DeadListPool", name := "gathers", desc := "(LDeadListPool$Folder;)I" } : Jvm.MethodName)) ∈ lw_tbl := lw_at lw_m4 57 rfl
theorem q866 : (Jvm.Cond.instanceMethod ({ cls := "DeadListPool", name := "gathers", desc := "(LDeadListPool$Folder;)I" } : Jvm.MethodName)) ∈ lw_all := lw_g (lw_at lw_m4 58 rfl) rfl
theorem q867 : (Jvm.Cond.code ({ cls := "DeadListPool", name := "gathers", desc := "(LDeadListPool$Folder;)I" } : Jvm.MethodName) prog_1_method_68_code (4 : Nat) (Option.some Jvm.ClassFile.FieldType.int)) ∈ lw_all := lw_g (lw_at lw_m4 59 rfl) rfl
theorem q868 : (Jvm.Cond.methodLink "DeadListPool" (350 : Nat) ({ cls := "java/lang/Math", name := "min", desc := "(II)I" } : Jvm.MethodName)) ∈ lw_all := lw_g (lw_at lw_m4 60 rfl) rfl
theorem q871 : (Jvm.Cond.methodLink "DeadListPool" (337 : Nat) ({ cls := "DeadListPool", name := "mostFrom", desc := "(III)J" } : Jvm.MethodName)) ∈ lw_all := lw_g (lw_at lw_m4 63 rfl) rfl
theorem q872 : (Jvm.Cond.privateMethod ({ cls := "DeadListPool", name := "mostFrom", desc := "(III)J" } : Jvm.MethodName)) ∈ lw_tbl := lw_at lw_m4 64 rfl
theorem q873 : (Jvm.Cond.instanceMethod ({ cls := "DeadListPool", name := "mostFrom", desc := "(III)J" } : Jvm.MethodName)) ∈ lw_all := lw_g (lw_at lw_m4 65 rfl) rfl
theorem q874 : (Jvm.Cond.code ({ cls := "DeadListPool", name := "mostFrom", desc := "(III)J" } : Jvm.MethodName) prog_1_method_69_code (7 : Nat) (Option.some Jvm.ClassFile.FieldType.long)) ∈ lw_all := lw_g (lw_at lw_m4 66 rfl) rfl
theorem q875 : (Jvm.Cond.methodLink "DeadListPool" (341 : Nat) ({ cls := "java/lang/Math", name := "max", desc := "(JJ)J" } : Jvm.MethodName)) ∈ lw_all := lw_g (lw_at lw_m4 67 rfl) rfl
theorem q879 : (Jvm.Cond.instanceMethod ({ cls := "DeadListPool", name := "fewest", desc := "(IJ)I" } : Jvm.MethodName)) ∈ lw_all := lw_g (lw_at lw_m4 71 rfl) rfl
theorem q880 : (Jvm.Cond.selects "DeadListPool" ({ cls := "DeadListPool", name := "fewest", desc := "(IJ)I" } : Jvm.MethodName) ({ cls := "DeadListPool", name := "fewest", desc := "(IJ)I" } : Jvm.MethodName)) ∈ lw_all := lw_g (lw_at lw_m4 72 rfl) rfl
theorem q881 : (Jvm.Cond.codeWith ({ cls := "DeadListPool", name := "fewest", desc := "(IJ)I" } : Jvm.MethodName) prog_1_method_73_code (5 : Nat) (Option.some Jvm.ClassFile.FieldType.int) [((0 : Nat), (13 : Nat), (14 : Nat), (53 : Nat)), ((0 : Nat), (13 : Nat), (19 : Nat), (169 : Nat)), ((0 : Nat), (13 : Nat), (24 : Nat), (171 : Nat))]) ∈ lw_all := lw_g (lw_at lw_m4 73 rfl) rfl
theorem q882 : (Jvm.Cond.methodLink "DeadListPool" (360 : Nat) ({ cls := "DeadListPool", name := "fewestOf", desc := "(LDeadListPool$Folder;J)I" } : Jvm.MethodName)) ∈ lw_all := lw_g (lw_at lw_m4 74 rfl) rfl
theorem q883 : (Jvm.Cond.privateMethod ({ cls := "DeadListPool", name := "fewestOf", desc := "(LDeadListPool$Folder;J)I" } : Jvm.MethodName)) ∈ lw_tbl := lw_at lw_m4 75 rfl
theorem q884 : (Jvm.Cond.instanceMethod ({ cls := "DeadListPool", name := "fewestOf", desc := "(LDeadListPool$Folder;J)I" } : Jvm.MethodName)) ∈ lw_all := lw_g (lw_at lw_m4 76 rfl) rfl
theorem q885 : (Jvm.Cond.code ({ cls := "DeadListPool", name := "fewestOf", desc := "(LDeadListPool$Folder;J)I" } : Jvm.MethodName) prog_1_method_72_code (6 : Nat) (Option.some Jvm.ClassFile.FieldType.int)) ∈ lw_all := lw_g (lw_at lw_m4 77 rfl) rfl
theorem q887 : (Jvm.Cond.instanceMethod ({ cls := "DeadListPool", name := "expire", desc := "(III)I" } : Jvm.MethodName)) ∈ lw_all := lw_g (lw_at lw_m4 79 rfl) rfl
theorem q888 : (Jvm.Cond.selects "DeadListPool" ({ cls := "DeadListPool", name := "expire", desc := "(III)I" } : Jvm.MethodName) ({ cls := "DeadListPool", name := "expire", desc := "(III)I" } : Jvm.MethodName)) ∈ lw_all := lw_g (lw_at lw_m4 80 rfl) rfl
theorem q889 : (Jvm.Cond.codeWith ({ cls := "DeadListPool", name := "expire", desc := "(III)I" } : Jvm.MethodName) prog_1_method_75_code (5 : Nat) (Option.some Jvm.ClassFile.FieldType.int) [((27 : Nat), (41 : Nat), (42 : Nat), (53 : Nat)), ((27 : Nat), (41 : Nat), (47 : Nat), (169 : Nat)), ((27 : Nat), (41 : Nat), (52 : Nat), (171 : Nat))]) ∈ lw_all := lw_g (lw_at lw_m4 81 rfl) rfl
theorem q890 : (Jvm.Cond.constantLong "DeadListPool" (364 : Nat) (20 : Int64)) ∈ lw_all := lw_g (lw_at lw_m4 82 rfl) rfl
theorem q891 : (Jvm.Cond.constantLong "DeadListPool" (366 : Nat) (100 : Int64)) ∈ lw_all := lw_g (lw_at lw_m4 83 rfl) rfl
theorem q892 : (Jvm.Cond.methodLink "DeadListPool" (368 : Nat) ({ cls := "DeadListPool", name := "expires", desc := "(LDeadListPool$Folder;II)I" } : Jvm.MethodName)) ∈ lw_all := lw_g (lw_at lw_m4 84 rfl) rfl
theorem q893 : (Jvm.Cond.privateMethod ({ cls := "DeadListPool", name := "expires", desc := "(LDeadListPool$Folder;II)I" } : Jvm.MethodName)) ∈ lw_tbl := lw_at lw_m4 85 rfl
theorem q894 : (Jvm.Cond.instanceMethod ({ cls := "DeadListPool", name := "expires", desc := "(LDeadListPool$Folder;II)I" } : Jvm.MethodName)) ∈ lw_all := lw_g (lw_at lw_m4 86 rfl) rfl
theorem q895 : (Jvm.Cond.code ({ cls := "DeadListPool", name := "expires", desc := "(LDeadListPool$Folder;II)I" } : Jvm.MethodName) prog_1_method_74_code (7 : Nat) (Option.some Jvm.ClassFile.FieldType.int)) ∈ lw_all := lw_g (lw_at lw_m4 87 rfl) rfl
theorem q897 : (Jvm.Cond.instanceMethod ({ cls := "DeadListPool", name := "sheet", desc := "(III)I" } : Jvm.MethodName)) ∈ lw_all := lw_g (lw_at lw_m4 89 rfl) rfl
theorem q898 : (Jvm.Cond.selects "DeadListPool" ({ cls := "DeadListPool", name := "sheet", desc := "(III)I" } : Jvm.MethodName) ({ cls := "DeadListPool", name := "sheet", desc := "(III)I" } : Jvm.MethodName)) ∈ lw_all := lw_g (lw_at lw_m4 90 rfl) rfl
theorem q899 : (Jvm.Cond.codeWith ({ cls := "DeadListPool", name := "sheet", desc := "(III)I" } : Jvm.MethodName) prog_1_method_78_code (5 : Nat) (Option.some Jvm.ClassFile.FieldType.int) [((50 : Nat), (65 : Nat), (66 : Nat), (384 : Nat))]) ∈ lw_all := lw_g (lw_at lw_m4 91 rfl) rfl
theorem q900 : (Jvm.Cond.classLink "DeadListPool" (384 : Nat) "java/lang/NegativeArraySizeException") ∈ lw_all := lw_g (lw_at lw_m4 92 rfl) rfl
theorem q914 : (Jvm.Cond.methodLink "DeadListPool" (373 : Nat) ({ cls := "DeadListPool", name := "isSheet", desc := "(I)Z" } : Jvm.MethodName)) ∈ lw_all := lw_g (lw_at lw_m4 106 rfl) rfl
theorem q915 : (Jvm.Cond.static ({ cls := "DeadListPool", name := "isSheet", desc := "(I)Z" } : Jvm.MethodName)) ∈ lw_all := lw_g (lw_at lw_m4 107 rfl) rfl
theorem q916 : (Jvm.Cond.code ({ cls := "DeadListPool", name := "isSheet", desc := "(I)Z" } : Jvm.MethodName) prog_1_method_76_code (1 : Nat) (Option.some Jvm.ClassFile.FieldType.boolean)) ∈ lw_all := lw_g (lw_at lw_m4 108 rfl) rfl
theorem q917 : (Jvm.Cond.constantLong "DeadListPool" (371 : Nat) (3 : Int64)) ∈ lw_all := lw_g (lw_at lw_m4 109 rfl) rfl
theorem q918 : (Jvm.Cond.methodLink "DeadListPool" (380 : Nat) ({ cls := "DeadListPool", name := "rowOf", desc := "(II)Ljava/lang/Object;" } : Jvm.MethodName)) ∈ lw_all := lw_g (lw_at lw_m4 110 rfl) rfl
theorem q919 : (Jvm.Cond.static ({ cls := "DeadListPool", name := "rowOf", desc := "(II)Ljava/lang/Object;" } : Jvm.MethodName)) ∈ lw_all := lw_g (lw_at lw_m4 111 rfl) rfl
theorem q920 : (Jvm.Cond.code ({ cls := "DeadListPool", name := "rowOf", desc := "(II)Ljava/lang/Object;" } : Jvm.MethodName) prog_1_method_77_code (2 : Nat) (Option.some (Jvm.ClassFile.FieldType.object "java/lang/Object"))) ∈ lw_all := lw_g (lw_at lw_m4 112 rfl) rfl
theorem q923 : (Jvm.Cond.instanceMethod ({ cls := "DeadListPool", name := "cell", desc := "(IIJ)I" } : Jvm.MethodName)) ∈ lw_all := lw_g (lw_at lw_m4 115 rfl) rfl
theorem q924 : (Jvm.Cond.selects "DeadListPool" ({ cls := "DeadListPool", name := "cell", desc := "(IIJ)I" } : Jvm.MethodName) ({ cls := "DeadListPool", name := "cell", desc := "(IIJ)I" } : Jvm.MethodName)) ∈ lw_all := lw_g (lw_at lw_m4 116 rfl) rfl
theorem q925 : (Jvm.Cond.codeWith ({ cls := "DeadListPool", name := "cell", desc := "(IIJ)I" } : Jvm.MethodName) prog_1_method_80_code (6 : Nat) (Option.some Jvm.ClassFile.FieldType.int) [((10 : Nat), (24 : Nat), (25 : Nat), (169 : Nat)), ((10 : Nat), (24 : Nat), (30 : Nat), (53 : Nat))]) ∈ lw_all := lw_g (lw_at lw_m4 117 rfl) rfl
theorem q926 : (Jvm.Cond.methodLink "DeadListPool" (389 : Nat) ({ cls := "DeadListPool", name := "put", desc := "(Ljava/lang/Object;IJ)I" } : Jvm.MethodName)) ∈ lw_all := lw_g (lw_at lw_m4 118 rfl) rfl
theorem q927 : (Jvm.Cond.static ({ cls := "DeadListPool", name := "put", desc := "(Ljava/lang/Object;IJ)I" } : Jvm.MethodName)) ∈ lw_all := lw_g (lw_at lw_m4 119 rfl) rfl
theorem q928 : (Jvm.Cond.code ({ cls := "DeadListPool", name := "put", desc := "(Ljava/lang/Object;IJ)I" } : Jvm.MethodName) prog_1_method_79_code (4 : Nat) (Option.some Jvm.ClassFile.FieldType.int)) ∈ lw_all := lw_g (lw_at lw_m4 120 rfl) rfl
theorem q929 : (Jvm.Cond.classLink "DeadListPool" (386 : Nat) "[I") ∈ lw_all := lw_g (lw_at lw_m4 121 rfl) rfl
theorem q930 : (Jvm.Cond.classLink "DeadListPool" (387 : Nat) "[J") ∈ lw_all := lw_g (lw_at lw_m4 122 rfl) rfl
theorem q932 : (Jvm.Cond.instanceMethod ({ cls := "DeadListPool", name := "item", desc := "(II)J" } : Jvm.MethodName)) ∈ lw_all := lw_g (lw_at lw_m4 124 rfl) rfl
theorem q933 : (Jvm.Cond.selects "DeadListPool" ({ cls := "DeadListPool", name := "item", desc := "(II)J" } : Jvm.MethodName) ({ cls := "DeadListPool", name := "item", desc := "(II)J" } : Jvm.MethodName)) ∈ lw_all := lw_g (lw_at lw_m4 125 rfl) rfl
theorem q934 : (Jvm.Cond.codeWith ({ cls := "DeadListPool", name := "item", desc := "(II)J" } : Jvm.MethodName) prog_1_method_83_code (5 : Nat) (Option.some Jvm.ClassFile.FieldType.long) [((21 : Nat), (38 : Nat), (39 : Nat), (169 : Nat)), ((21 : Nat), (38 : Nat), (45 : Nat), (53 : Nat))]) ∈ lw_all := lw_g (lw_at lw_m4 126 rfl) rfl
theorem q935 : (Jvm.Cond.methodLink "DeadListPool" (396 : Nat) ({ cls := "DeadListPool", name := "itemOf", desc := "(Ljava/lang/Object;II)J" } : Jvm.MethodName)) ∈ lw_all := lw_g (lw_at lw_m4 127 rfl) rfl
theorem q936 : (Jvm.Cond.static ({ cls := "DeadListPool", name := "itemOf", desc := "(Ljava/lang/Object;II)J" } : Jvm.MethodName)) ∈ lw_all := lw_g (lw_at lw_m4 128 rfl) rfl
theorem q937 : (Jvm.Cond.code ({ cls := "DeadListPool", name := "itemOf", desc := "(Ljava/lang/Object;II)J" } : Jvm.MethodName) prog_1_method_82_code (3 : Nat) (Option.some Jvm.ClassFile.FieldType.long)) ∈ lw_all := lw_g (lw_at lw_m4 129 rfl) rfl
theorem q938 : (Jvm.Cond.methodLink "DeadListPool" (393 : Nat) ({ cls := "DeadListPool", name := "lengthOf", desc := "(Ljava/lang/Object;I)I" } : Jvm.MethodName)) ∈ lw_all := lw_g (lw_at lw_m4 130 rfl) rfl
theorem q939 : (Jvm.Cond.static ({ cls := "DeadListPool", name := "lengthOf", desc := "(Ljava/lang/Object;I)I" } : Jvm.MethodName)) ∈ lw_all := lw_g (lw_at lw_m4 131 rfl) rfl
theorem q940 : (Jvm.Cond.code ({ cls := "DeadListPool", name := "lengthOf", desc := "(Ljava/lang/Object;I)I" } : Jvm.MethodName) prog_1_method_81_code (2 : Nat) (Option.some Jvm.ClassFile.FieldType.int)) ∈ lw_all := lw_g (lw_at lw_m4 132 rfl) rfl
theorem q942 : (Jvm.Cond.instanceMethod ({ cls := "DeadListPool", name := "differ", desc := "(III)I" } : Jvm.MethodName)) ∈ lw_all := lw_g (lw_at lw_m4 134 rfl) rfl
theorem q943 : (Jvm.Cond.selects "DeadListPool" ({ cls := "DeadListPool", name := "differ", desc := "(III)I" } : Jvm.MethodName) ({ cls := "DeadListPool", name := "differ", desc := "(III)I" } : Jvm.MethodName)) ∈ lw_all := lw_g (lw_at lw_m4 135 rfl) rfl
theorem q944 : (Jvm.Cond.codeWith ({ cls := "DeadListPool", name := "differ", desc := "(III)I" } : Jvm.MethodName) prog_1_method_86_code (5 : Nat) (Option.some Jvm.ClassFile.FieldType.int) [((10 : Nat), (29 : Nat), (30 : Nat), (53 : Nat)), ((10 : Nat), (29 : Nat), (35 : Nat), (169 : Nat)), ((10 : Nat), (29 : Nat), (40 : Nat), (171 : Nat))]) ∈ lw_all := lw_g (lw_at lw_m4 136 rfl) rfl
theorem q945 : (Jvm.Cond.methodLink "DeadListPool" (400 : Nat) ({ cls := "DeadListPool", name := "holderAsked", desc := "(I)LDeadListPool$Holder;" } : Jvm.MethodName)) ∈ lw_all := lw_g (lw_at lw_m4 137 rfl) rfl
theorem q946 : (Jvm.Cond.privateMethod ({ cls := "DeadListPool", name := "holderAsked", desc := "(I)LDeadListPool$Holder;" } : Jvm.MethodName)) ∈ lw_tbl := lw_at lw_m4 138 rfl
theorem q947 : (Jvm.Cond.instanceMethod ({ cls := "DeadListPool", name := "holderAsked", desc := "(I)LDeadListPool$Holder;" } : Jvm.MethodName)) ∈ lw_all := lw_g (lw_at lw_m4 139 rfl) rfl
theorem q948 : (Jvm.Cond.code ({ cls := "DeadListPool", name := "holderAsked", desc := "(I)LDeadListPool$Holder;" } : Jvm.MethodName) prog_1_method_85_code (4 : Nat) (Option.some (Jvm.ClassFile.FieldType.object "DeadListPool$Holder"))) ∈ lw_all := lw_g (lw_at lw_m4 140 rfl) rfl
theorem q949 : (Jvm.Cond.methodLink "DeadListPool" (403 : Nat) ({ cls := "DeadListPool", name := "differs", desc := "(ILDeadListPool$Holder;LDeadListPool$Holder;)I" } : Jvm.MethodName)) ∈ lw_all := lw_g (lw_at lw_m4 141 rfl) rfl
theorem q950 : (Jvm.Cond.privateMethod ({ cls := "DeadListPool", name := "differs", desc := "(ILDeadListPool$Holder;LDeadListPool$Holder;)I" } : Jvm.MethodName)) ∈ lw_tbl := lw_at lw_m4 142 rfl
theorem q951 : (Jvm.Cond.instanceMethod ({ cls := "DeadListPool", name := "differs", desc := "(ILDeadListPool$Holder;LDeadListPool$Holder;)I" } : Jvm.MethodName)) ∈ lw_all := lw_g (lw_at lw_m4 143 rfl) rfl
theorem q952 : (Jvm.Cond.code ({ cls := "DeadListPool", name := "differs", desc := "(ILDeadListPool$Holder;LDeadListPool$Holder;)I" } : Jvm.MethodName) prog_1_method_84_code (8 : Nat) (Option.some Jvm.ClassFile.FieldType.int)) ∈ lw_all := lw_g (lw_at lw_m4 144 rfl) rfl
theorem q954 : (Jvm.Cond.instanceMethod ({ cls := "DeadListPool", name := "apply", desc := "(III)I" } : Jvm.MethodName)) ∈ lw_all := lw_g (lw_at lw_m4 146 rfl) rfl
theorem q955 : (Jvm.Cond.selects "DeadListPool" ({ cls := "DeadListPool", name := "apply", desc := "(III)I" } : Jvm.MethodName) ({ cls := "DeadListPool", name := "apply", desc := "(III)I" } : Jvm.MethodName)) ∈ lw_all := lw_g (lw_at lw_m4 147 rfl) rfl
theorem q956 : (Jvm.Cond.codeWith ({ cls := "DeadListPool", name := "apply", desc := "(III)I" } : Jvm.MethodName) prog_1_method_88_code (5 : Nat) (Option.some Jvm.ClassFile.FieldType.int) [((20 : Nat), (42 : Nat), (43 : Nat), (53 : Nat)), ((20 : Nat), (42 : Nat), (48 : Nat), (169 : Nat)), ((20 : Nat), (42 : Nat), (53 : Nat), (171 : Nat))]) ∈ lw_all := lw_g (lw_at lw_m4 148 rfl) rfl
theorem q957 : (Jvm.Cond.methodLink "DeadListPool" (407 : Nat) ({ cls := "DeadListPool", name := "applies", desc := "(LDeadListPool$Folder;Ljava/lang/Object;I)I" } : Jvm.MethodName)) ∈ lw_all := lw_g (lw_at lw_m4 149 rfl) rfl
theorem q958 : (Jvm.Cond.privateMethod ({ cls := "DeadListPool", name := "applies", desc := "(LDeadListPool$Folder;Ljava/lang/Object;I)I" } : Jvm.MethodName)) ∈ lw_tbl := lw_at lw_m4 150 rfl
theorem q959 : (Jvm.Cond.instanceMethod ({ cls := "DeadListPool", name := "applies", desc := "(LDeadListPool$Folder;Ljava/lang/Object;I)I" } : Jvm.MethodName)) ∈ lw_all := lw_g (lw_at lw_m4 151 rfl) rfl
theorem q960 : (Jvm.Cond.code ({ cls := "DeadListPool", name := "applies", desc := "(LDeadListPool$Folder;Ljava/lang/Object;I)I" } : Jvm.MethodName) prog_1_method_87_code (13 : Nat) (Option.some Jvm.ClassFile.FieldType.int)) ∈ lw_all := lw_g (lw_at lw_m4 152 rfl) rfl
theorem q962 : (Jvm.Cond.instanceMethod ({ cls := "DeadListPool", name := "drawn", desc := "(III)J" } : Jvm.MethodName)) ∈ lw_all := lw_g (lw_at lw_m4 154 rfl) rfl
theorem q963 : (Jvm.Cond.selects "DeadListPool" ({ cls := "DeadListPool", name := "drawn", desc := "(III)J" } : Jvm.MethodName) ({ cls := "DeadListPool", name := "drawn", desc := "(III)J" } : Jvm.MethodName)) ∈ lw_all := lw_g (lw_at lw_m4 155 rfl) rfl
theorem q964 : (Jvm.Cond.codeWith ({ cls := "DeadListPool", name := "drawn", desc := "(III)J" } : Jvm.MethodName) prog_1_method_94_code (11 : Nat) (Option.some Jvm.ClassFile.FieldType.long) [((45 : Nat), (135 : Nat), (146 : Nat), (0 : Nat)), ((146 : Nat), (148 : Nat), (146 : Nat), (0 : Nat))]) ∈ lw_all := lw_g (lw_at lw_m4 156 rfl) rfl
theorem q965 : (Jvm.Cond.constantLong "DeadListPool" (446 : Nat) (60 : Int64)) ∈ lw_all := lw_g (lw_at lw_m4 157 rfl) rfl
theorem q966 : (Jvm.Cond.methodLink "DeadListPool" (448 : Nat) ({ cls := "DeadListPool", name := "keeps", desc := "(LDeadListPool$Copy;)V" } : Jvm.MethodName)) ∈ lw_all := lw_g (lw_at lw_m4 158 rfl) rfl
theorem q967 : (Jvm.Cond.privateMethod ({ cls := "DeadListPool", name := "keeps", desc := "(LDeadListPool$Copy;)V" } : Jvm.MethodName)) ∈ lw_tbl := lw_at lw_m4 159 rfl
theorem q968 : (Jvm.Cond.instanceMethod ({ cls := "DeadListPool", name := "keeps", desc := "(LDeadListPool$Copy;)V" } : Jvm.MethodName)) ∈ lw_all := lw_g (lw_at lw_m4 160 rfl) rfl
theorem q969 : (Jvm.Cond.code ({ cls := "DeadListPool", name := "keeps", desc := "(LDeadListPool$Copy;)V" } : Jvm.MethodName) prog_1_method_97_code (3 : Nat) (Option.none : Option Jvm.ClassFile.FieldType)) ∈ lw_all := lw_g (lw_at lw_m4 161 rfl) rfl
theorem q970 : (Jvm.Cond.methodLink "DeadListPool" (481 : Nat) ({ cls := "DeadListPool", name := "keepsOne", desc := "(LDeadListPool$Copy;LDeadListPool$Holder;I)V" } : Jvm.MethodName)) ∈ lw_all := lw_g (lw_at lw_m4 162 rfl) rfl
theorem q971 : (Jvm.Cond.static ({ cls := "DeadListPool", name := "keepsOne", desc := "(LDeadListPool$Copy;LDeadListPool$Holder;I)V" } : Jvm.MethodName)) ∈ lw_all := lw_g (lw_at lw_m4 163 rfl) rfl
theorem q972 : (Jvm.Cond.code ({ cls := "DeadListPool", name := "keepsOne", desc := "(LDeadListPool$Copy;LDeadListPool$Holder;I)V" } : Jvm.MethodName) prog_1_method_95_code (4 : Nat) (Option.none : Option Jvm.ClassFile.FieldType)) ∈ lw_all := lw_g (lw_at lw_m4 164 rfl) rfl
theorem q973 : (Jvm.Cond.constant "DeadListPool" (452 : Nat) (1103515245 : Int32)) ∈ lw_all := lw_g (lw_at lw_m4 165 rfl) rfl
theorem q974 : (Jvm.Cond.methodLink "DeadListPool" (453 : Nat) ({ cls := "DeadListPool", name := "acts", desc := "(III)I" } : Jvm.MethodName)) ∈ lw_all := lw_g (lw_at lw_m4 166 rfl) rfl
theorem q975 : (Jvm.Cond.privateMethod ({ cls := "DeadListPool", name := "acts", desc := "(III)I" } : Jvm.MethodName)) ∈ lw_tbl := lw_at lw_m4 167 rfl
theorem q976 : (Jvm.Cond.instanceMethod ({ cls := "DeadListPool", name := "acts", desc := "(III)I" } : Jvm.MethodName)) ∈ lw_all := lw_g (lw_at lw_m4 168 rfl) rfl
theorem q977 : (Jvm.Cond.code ({ cls := "DeadListPool", name := "acts", desc := "(III)I" } : Jvm.MethodName) prog_1_method_89_code (4 : Nat) (Option.some Jvm.ClassFile.FieldType.int)) ∈ lw_all := lw_g (lw_at lw_m4 169 rfl) rfl
theorem q978 : (Jvm.Cond.methodLink "DeadListPool" (411 : Nat) ({ cls := "DeadListPool", name := "write", desc := "(III)I" } : Jvm.MethodName)) ∈ lw_all := lw_g (lw_at lw_m4 170 rfl) rfl
theorem q979 : (Jvm.Cond.methodLink "DeadListPool" (415 : Nat) ({ cls := "DeadListPool", name := "erase", desc := "(II)I" } : Jvm.MethodName)) ∈ lw_all := lw_g (lw_at lw_m4 171 rfl) rfl
theorem q980 : (Jvm.Cond.methodLink "DeadListPool" (418 : Nat) ({ cls := "DeadListPool", name := "snap", desc := "(II)I" } : Jvm.MethodName)) ∈ lw_all := lw_g (lw_at lw_m4 172 rfl) rfl
theorem q981 : (Jvm.Cond.methodLink "DeadListPool" (421 : Nat) ({ cls := "DeadListPool", name := "remove", desc := "(I)I" } : Jvm.MethodName)) ∈ lw_all := lw_g (lw_at lw_m4 173 rfl) rfl
theorem q982 : (Jvm.Cond.methodLink "DeadListPool" (424 : Nat) ({ cls := "DeadListPool", name := "fork", desc := "(I)I" } : Jvm.MethodName)) ∈ lw_all := lw_g (lw_at lw_m4 174 rfl) rfl
theorem q983 : (Jvm.Cond.methodLink "DeadListPool" (427 : Nat) ({ cls := "DeadListPool", name := "promote", desc := "(I)I" } : Jvm.MethodName)) ∈ lw_all := lw_g (lw_at lw_m4 175 rfl) rfl
theorem q984 : (Jvm.Cond.methodLink "DeadListPool" (430 : Nat) ({ cls := "DeadListPool", name := "rollback", desc := "(I)I" } : Jvm.MethodName)) ∈ lw_all := lw_g (lw_at lw_m4 176 rfl) rfl
theorem q985 : (Jvm.Cond.methodLink "DeadListPool" (433 : Nat) ({ cls := "DeadListPool", name := "files", desc := "(I)I" } : Jvm.MethodName)) ∈ lw_all := lw_g (lw_at lw_m4 177 rfl) rfl
theorem q986 : (Jvm.Cond.methodLink "DeadListPool" (456 : Nat) ({ cls := "DeadListPool", name := "thenTold", desc := "(II)J" } : Jvm.MethodName)) ∈ lw_all := lw_g (lw_at lw_m4 178 rfl) rfl
theorem q987 : (Jvm.Cond.privateMethod ({ cls := "DeadListPool", name := "thenTold", desc := "(II)J" } : Jvm.MethodName)) ∈ lw_tbl := lw_at lw_m4 179 rfl
theorem q988 : (Jvm.Cond.instanceMethod ({ cls := "DeadListPool", name := "thenTold", desc := "(II)J" } : Jvm.MethodName)) ∈ lw_all := lw_g (lw_at lw_m4 180 rfl) rfl
theorem q989 : (Jvm.Cond.code ({ cls := "DeadListPool", name := "thenTold", desc := "(II)J" } : Jvm.MethodName) prog_1_method_93_code (3 : Nat) (Option.some Jvm.ClassFile.FieldType.long)) ∈ lw_all := lw_g (lw_at lw_m4 181 rfl) rfl
theorem q990 : (Jvm.Cond.methodLink "DeadListPool" (436 : Nat) ({ cls := "DeadListPool", name := "thingMany", desc := "()I" } : Jvm.MethodName)) ∈ lw_all := lw_g (lw_at lw_m4 182 rfl) rfl
theorem q991 : (Jvm.Cond.privateMethod ({ cls := "DeadListPool", name := "thingMany", desc := "()I" } : Jvm.MethodName)) ∈ lw_tbl := lw_at lw_m4 183 rfl
theorem q992 : (Jvm.Cond.instanceMethod ({ cls := "DeadListPool", name := "thingMany", desc := "()I" } : Jvm.MethodName)) ∈ lw_all := lw_g (lw_at lw_m4 184 rfl) rfl
theorem q993 : (Jvm.Cond.code ({ cls := "DeadListPool", name := "thingMany", desc := "()I" } : Jvm.MethodName) prog_1_method_90_code (3 : Nat) (Option.some Jvm.ClassFile.FieldType.int)) ∈ lw_all := lw_g (lw_at lw_m4 185 rfl) rfl
theorem q994 : (Jvm.Cond.methodLink "DeadListPool" (439 : Nat) ({ cls := "DeadListPool", name := "blockMany", desc := "()I" } : Jvm.MethodName)) ∈ lw_all := lw_g (lw_at lw_m4 186 rfl) rfl
theorem q995 : (Jvm.Cond.privateMethod ({ cls := "DeadListPool", name := "blockMany", desc := "()I" } : Jvm.MethodName)) ∈ lw_tbl := lw_at lw_m4 187 rfl
theorem q996 : (Jvm.Cond.instanceMethod ({ cls := "DeadListPool", name := "blockMany", desc := "()I" } : Jvm.MethodName)) ∈ lw_all := lw_g (lw_at lw_m4 188 rfl) rfl
theorem q997 : (Jvm.Cond.code ({ cls := "DeadListPool", name := "blockMany", desc := "()I" } : Jvm.MethodName) prog_1_method_91_code (3 : Nat) (Option.some Jvm.ClassFile.FieldType.int)) ∈ lw_all := lw_g (lw_at lw_m4 189 rfl) rfl
theorem q998 : (Jvm.Cond.methodLink "DeadListPool" (442 : Nat) ({ cls := "DeadListPool", name := "sizeOfAll", desc := "()J" } : Jvm.MethodName)) ∈ lw_all := lw_g (lw_at lw_m4 190 rfl) rfl
theorem q999 : (Jvm.Cond.privateMethod ({ cls := "DeadListPool", name := "sizeOfAll", desc := "()J" } : Jvm.MethodName)) ∈ lw_tbl := lw_at lw_m4 191 rfl
theorem q1000 : (Jvm.Cond.instanceMethod ({ cls := "DeadListPool", name := "sizeOfAll", desc := "()J" } : Jvm.MethodName)) ∈ lw_all := lw_g (lw_at lw_m4 192 rfl) rfl
theorem q1001 : (Jvm.Cond.code ({ cls := "DeadListPool", name := "sizeOfAll", desc := "()J" } : Jvm.MethodName) prog_1_method_92_code (4 : Nat) (Option.some Jvm.ClassFile.FieldType.long)) ∈ lw_all := lw_g (lw_at lw_m4 193 rfl) rfl
theorem q1002 : (Jvm.Cond.methodLink "DeadListPool" (460 : Nat) ({ cls := "DeadListPool", name := "laysBack", desc := "(LDeadListPool$Copy;)V" } : Jvm.MethodName)) ∈ lw_all := lw_g (lw_at lw_m4 194 rfl) rfl
theorem q1003 : (Jvm.Cond.privateMethod ({ cls := "DeadListPool", name := "laysBack", desc := "(LDeadListPool$Copy;)V" } : Jvm.MethodName)) ∈ lw_tbl := lw_at lw_m4 195 rfl
theorem q1004 : (Jvm.Cond.instanceMethod ({ cls := "DeadListPool", name := "laysBack", desc := "(LDeadListPool$Copy;)V" } : Jvm.MethodName)) ∈ lw_all := lw_g (lw_at lw_m4 196 rfl) rfl
theorem q1005 : (Jvm.Cond.code ({ cls := "DeadListPool", name := "laysBack", desc := "(LDeadListPool$Copy;)V" } : Jvm.MethodName) prog_1_method_98_code (3 : Nat) (Option.none : Option Jvm.ClassFile.FieldType)) ∈ lw_all := lw_g (lw_at lw_m4 197 rfl) rfl
theorem q1006 : (Jvm.Cond.methodLink "DeadListPool" (491 : Nat) ({ cls := "DeadListPool", name := "laysOneBack", desc := "(LDeadListPool$Copy;LDeadListPool$Holder;I)V" } : Jvm.MethodName)) ∈ lw_all := lw_g (lw_at lw_m4 198 rfl) rfl
theorem q1007 : (Jvm.Cond.static ({ cls := "DeadListPool", name := "laysOneBack", desc := "(LDeadListPool$Copy;LDeadListPool$Holder;I)V" } : Jvm.MethodName)) ∈ lw_all := lw_g (lw_at lw_m4 199 rfl) rfl
theorem q1008 : (Jvm.Cond.code ({ cls := "DeadListPool", name := "laysOneBack", desc := "(LDeadListPool$Copy;LDeadListPool$Holder;I)V" } : Jvm.MethodName) prog_1_method_96_code (4 : Nat) (Option.none : Option Jvm.ClassFile.FieldType)) ∈ lw_all := lw_g (lw_at lw_m4 200 rfl) rfl
theorem q1009 : (Jvm.Cond.methodLink "DeadListPool" (479 : Nat) ({ cls := "DeadListPool$Snapshot", name := "tagsAre", desc := "(I)V" } : Jvm.MethodName)) ∈ lw_all := lw_g (lw_at lw_m4 201 rfl) rfl
theorem q1016 : (Jvm.Cond.instanceMethod ({ cls := "DeadListPool", name := "image", desc := "()I" } : Jvm.MethodName)) ∈ lw_all := lw_g (lw_at lw_m4 208 rfl) rfl
theorem q1017 : (Jvm.Cond.selects "DeadListPool" ({ cls := "DeadListPool", name := "image", desc := "()I" } : Jvm.MethodName) ({ cls := "DeadListPool", name := "image", desc := "()I" } : Jvm.MethodName)) ∈ lw_all := lw_g (lw_at lw_m4 209 rfl) rfl
theorem q1018 : (Jvm.Cond.code ({ cls := "DeadListPool", name := "image", desc := "()I" } : Jvm.MethodName) prog_1_method_99_code (1 : Nat) (Option.some Jvm.ClassFile.FieldType.int)) ∈ lw_all := lw_g (lw_at lw_m4 210 rfl) rfl
theorem q1020 : (Jvm.Cond.instanceMethod ({ cls := "DeadListPool", name := "back", desc := "()I" } : Jvm.MethodName)) ∈ lw_all := lw_g (lw_at lw_m4 212 rfl) rfl
theorem q1021 : (Jvm.Cond.selects "DeadListPool" ({ cls := "DeadListPool", name := "back", desc := "()I" } : Jvm.MethodName) ({ cls := "DeadListPool", name := "back", desc := "()I" } : Jvm.MethodName)) ∈ lw_all := lw_g (lw_at lw_m4 213 rfl) rfl
theorem q1022 : (Jvm.Cond.code ({ cls := "DeadListPool", name := "back", desc := "()I" } : Jvm.MethodName) prog_1_method_100_code (1 : Nat) (Option.some Jvm.ClassFile.FieldType.int)) ∈ lw_all := lw_g (lw_at lw_m4 214 rfl) rfl
theorem q1024 : (Jvm.Cond.instanceMethod ({ cls := "DeadListPool", name := "count", desc := "(I)I" } : Jvm.MethodName)) ∈ lw_all := lw_g (lw_at lw_m4 216 rfl) rfl
theorem q1025 : (Jvm.Cond.selects "DeadListPool" ({ cls := "DeadListPool", name := "count", desc := "(I)I" } : Jvm.MethodName) ({ cls := "DeadListPool", name := "count", desc := "(I)I" } : Jvm.MethodName)) ∈ lw_all := lw_g (lw_at lw_m4 217 rfl) rfl
theorem q1026 : (Jvm.Cond.code ({ cls := "DeadListPool", name := "count", desc := "(I)I" } : Jvm.MethodName) prog_1_method_101_code (2 : Nat) (Option.some Jvm.ClassFile.FieldType.int)) ∈ lw_all := lw_g (lw_at lw_m4 218 rfl) rfl
theorem q1395 : (Jvm.Cond.castable "DeadListPool" "java/lang/Object") ∈ lw_tbl := lw_at lw_m6 107 rfl
theorem in_X0 : ∀ w ∈ wsX00, w ∈ lw_all := lw_in wsX00 [199, 201, 203, 205, 207, 209, 211, 213, 215, 217, 219] (by decide +kernel) (by decide +kernel)

