/-! DeadListPoolModel -/
set_option maxRecDepth 100000
def RX3 : String := "DeadListPoolModel"
def TX3 : u_T := fun k => match k with
  | 0 => ("DeadListPoolModel", "thrown", "I", false)
  | 1 => ("DeadListPoolModel", "s", "[I", true)
  | 2 => ("DeadListPoolModel", "image", "[I", true)
  | 3 => ("DeadListPoolModel", "frame", "[I", true)
  | 4 => ("DeadListPoolModel", "hasImage", "Z", false)
  | 5 => ("DeadListPoolModel", "holds", "[I", true)
  | 6 => ("DeadListPoolModel", "newest", "[I", true)
  | 7 => ("DeadListPoolModel", "owns", "I", false)
  | 8 => ("DeadListPoolModel", "holders", "[I", true)
  | 9 => ("DeadListPoolModel", "sorts", "[I", true)
  | 10 => ("DeadListPoolModel", "sizes", "[I", true)
  | 11 => ("DeadListPoolModel", "items", "[J", true)
  | _ => ("DeadListPoolModel", "lot", "I", false)
def tyX3 : Nat → FieldType := fun k => match k with
  | 0 => .int
  | 1 => .array .int
  | 2 => .array .int
  | 3 => .array .int
  | 4 => .boolean
  | 5 => .array .int
  | 6 => .array .int
  | 7 => .int
  | 8 => .array .int
  | 9 => .array .int
  | 10 => .array .int
  | 11 => .array .long
  | _ => .int
abbrev wsX30 : List Cond := u_ws RX3 TX3 13
set_option maxRecDepth 100000 in
theorem nmX3 : ∀ a, a < 13 → ∀ b, b < 13 → a ≠ b → (TX3 a).2.1 ≠ (TX3 b).2.1 := by decide +kernel
set_option maxRecDepth 100000 in
theorem tyX3_ok : ∀ k, k < 13 → parseFieldDescriptor (TX3 k).2.2.1 = some (tyX3 k) := by decide +kernel
abbrev cX3_init : ByteArray := prog_11_method_1_code
def yX3_init : MethodName := ⟨RX3, "<init>", "()V"⟩
def dkwX3_init_5 : List UInt8 := [180, 0, 28, 27, 2, 79, 132, 1, 1, 167, 255, 241, 177]
abbrev dktX3_init_5 : List UInt8 := dkwX3_init_5 ++ []
def dkwX3_init_4 : List UInt8 := [180, 0, 7, 5, 27, 96, 2, 79, 132, 1, 1, 167, 255, 238, 3, 60, 27, 7, 162, 0, 16, 42]
abbrev dktX3_init_4 : List UInt8 := dkwX3_init_4 ++ dktX3_init_5
def dkwX3_init_3 : List UInt8 := [17, 0, 160, 188, 11, 181, 0, 34, 42, 180, 0, 7, 3, 4, 79, 3, 60, 27, 16, 20, 162, 0, 18, 42]
abbrev dktX3_init_3 : List UInt8 := dkwX3_init_3 ++ dktX3_init_4
def dkwX3_init_2 : List UInt8 := [42, 16, 96, 188, 10, 181, 0, 25, 42, 7, 188, 10, 181, 0, 28, 42, 7, 188, 10, 181, 0, 31, 42]
abbrev dktX3_init_2 : List UInt8 := dkwX3_init_2 ++ dktX3_init_3
def dkwX3_init_1 : List UInt8 := [17, 2, 42, 188, 10, 181, 0, 16, 42, 16, 96, 188, 10, 181, 0, 19, 42, 16, 20, 188, 10, 181, 0, 22]
abbrev dktX3_init_1 : List UInt8 := dkwX3_init_1 ++ dktX3_init_2
def dkwX3_init_0 : List UInt8 := [42, 183, 0, 1, 42, 17, 2, 42, 188, 10, 181, 0, 7, 42, 17, 2, 42, 188, 10, 181, 0, 13, 42]
abbrev dktX3_init_0 : List UInt8 := dkwX3_init_0 ++ dktX3_init_1
theorem dksX3_init_0 : cX3_init.data.toList.drop 0 = dktX3_init_0 := by decide +kernel
theorem dksX3_init_1 : cX3_init.data.toList.drop 23 = dktX3_init_1 := dk_seg dksX3_init_0 23 rfl rfl
theorem dksX3_init_2 : cX3_init.data.toList.drop 47 = dktX3_init_2 := dk_seg dksX3_init_1 24 rfl rfl
theorem dksX3_init_3 : cX3_init.data.toList.drop 70 = dktX3_init_3 := dk_seg dksX3_init_2 23 rfl rfl
theorem dksX3_init_4 : cX3_init.data.toList.drop 94 = dktX3_init_4 := dk_seg dksX3_init_3 24 rfl rfl
theorem dksX3_init_5 : cX3_init.data.toList.drop 116 = dktX3_init_5 := dk_seg dksX3_init_4 22 rfl rfl
theorem dX3_init_0 : decode cX3_init 0 = .ok (.aload_n 0, 1) := dk_42 (dk_at dksX3_init_0 0 rfl rfl)
theorem dX3_init_1 : decode cX3_init 1 = .ok (.invokespecial 1, 3) := dk_183 0 1 (dk_at dksX3_init_0 1 rfl rfl)
theorem dX3_init_4 : decode cX3_init 4 = .ok (.aload_n 0, 1) := dk_42 (dk_at dksX3_init_0 4 rfl rfl)
theorem dX3_init_5 : decode cX3_init 5 = .ok (.sipush 554, 3) := dk_17 2 42 (dk_at dksX3_init_0 5 rfl rfl)
theorem dX3_init_8 : decode cX3_init 8 = .ok (.newarray .int, 2) := dk_188_10 (dk_at dksX3_init_0 8 rfl rfl)
theorem dX3_init_10 : decode cX3_init 10 = .ok (.putfield 7, 3) := dk_181 0 7 (dk_at dksX3_init_0 10 rfl rfl)
theorem dX3_init_13 : decode cX3_init 13 = .ok (.aload_n 0, 1) := dk_42 (dk_at dksX3_init_0 13 rfl rfl)
theorem dX3_init_14 : decode cX3_init 14 = .ok (.sipush 554, 3) := dk_17 2 42 (dk_at dksX3_init_0 14 rfl rfl)
theorem dX3_init_17 : decode cX3_init 17 = .ok (.newarray .int, 2) := dk_188_10 (dk_at dksX3_init_0 17 rfl rfl)
theorem dX3_init_19 : decode cX3_init 19 = .ok (.putfield 13, 3) := dk_181 0 13 (dk_at dksX3_init_0 19 rfl rfl)
theorem dX3_init_22 : decode cX3_init 22 = .ok (.aload_n 0, 1) := dk_42 (dk_at dksX3_init_0 22 rfl rfl)
theorem dX3_init_23 : decode cX3_init 23 = .ok (.sipush 554, 3) := dk_17 2 42 (dk_at dksX3_init_1 0 rfl rfl)
theorem dX3_init_26 : decode cX3_init 26 = .ok (.newarray .int, 2) := dk_188_10 (dk_at dksX3_init_1 3 rfl rfl)
theorem dX3_init_28 : decode cX3_init 28 = .ok (.putfield 16, 3) := dk_181 0 16 (dk_at dksX3_init_1 5 rfl rfl)
theorem dX3_init_31 : decode cX3_init 31 = .ok (.aload_n 0, 1) := dk_42 (dk_at dksX3_init_1 8 rfl rfl)
theorem dX3_init_32 : decode cX3_init 32 = .ok (.bipush 96, 2) := dk_16 96 (dk_at dksX3_init_1 9 rfl rfl)
theorem dX3_init_34 : decode cX3_init 34 = .ok (.newarray .int, 2) := dk_188_10 (dk_at dksX3_init_1 11 rfl rfl)
theorem dX3_init_36 : decode cX3_init 36 = .ok (.putfield 19, 3) := dk_181 0 19 (dk_at dksX3_init_1 13 rfl rfl)
theorem dX3_init_39 : decode cX3_init 39 = .ok (.aload_n 0, 1) := dk_42 (dk_at dksX3_init_1 16 rfl rfl)
theorem dX3_init_40 : decode cX3_init 40 = .ok (.bipush 20, 2) := dk_16 20 (dk_at dksX3_init_1 17 rfl rfl)
theorem dX3_init_42 : decode cX3_init 42 = .ok (.newarray .int, 2) := dk_188_10 (dk_at dksX3_init_1 19 rfl rfl)
theorem dX3_init_44 : decode cX3_init 44 = .ok (.putfield 22, 3) := dk_181 0 22 (dk_at dksX3_init_1 21 rfl rfl)
theorem dX3_init_47 : decode cX3_init 47 = .ok (.aload_n 0, 1) := dk_42 (dk_at dksX3_init_2 0 rfl rfl)
theorem dX3_init_48 : decode cX3_init 48 = .ok (.bipush 96, 2) := dk_16 96 (dk_at dksX3_init_2 1 rfl rfl)
theorem dX3_init_50 : decode cX3_init 50 = .ok (.newarray .int, 2) := dk_188_10 (dk_at dksX3_init_2 3 rfl rfl)
theorem dX3_init_52 : decode cX3_init 52 = .ok (.putfield 25, 3) := dk_181 0 25 (dk_at dksX3_init_2 5 rfl rfl)
theorem dX3_init_55 : decode cX3_init 55 = .ok (.aload_n 0, 1) := dk_42 (dk_at dksX3_init_2 8 rfl rfl)
theorem dX3_init_56 : decode cX3_init 56 = .ok (.iconst 4, 1) := dk_7 (dk_at dksX3_init_2 9 rfl rfl)
theorem dX3_init_57 : decode cX3_init 57 = .ok (.newarray .int, 2) := dk_188_10 (dk_at dksX3_init_2 10 rfl rfl)
theorem dX3_init_59 : decode cX3_init 59 = .ok (.putfield 28, 3) := dk_181 0 28 (dk_at dksX3_init_2 12 rfl rfl)
theorem dX3_init_62 : decode cX3_init 62 = .ok (.aload_n 0, 1) := dk_42 (dk_at dksX3_init_2 15 rfl rfl)
theorem dX3_init_63 : decode cX3_init 63 = .ok (.iconst 4, 1) := dk_7 (dk_at dksX3_init_2 16 rfl rfl)
theorem dX3_init_64 : decode cX3_init 64 = .ok (.newarray .int, 2) := dk_188_10 (dk_at dksX3_init_2 17 rfl rfl)
theorem dX3_init_66 : decode cX3_init 66 = .ok (.putfield 31, 3) := dk_181 0 31 (dk_at dksX3_init_2 19 rfl rfl)
theorem dX3_init_69 : decode cX3_init 69 = .ok (.aload_n 0, 1) := dk_42 (dk_at dksX3_init_2 22 rfl rfl)
theorem dX3_init_70 : decode cX3_init 70 = .ok (.sipush 160, 3) := dk_17 0 160 (dk_at dksX3_init_3 0 rfl rfl)
theorem dX3_init_73 : decode cX3_init 73 = .ok (.newarray .long, 2) := dk_188_11 (dk_at dksX3_init_3 3 rfl rfl)
theorem dX3_init_75 : decode cX3_init 75 = .ok (.putfield 34, 3) := dk_181 0 34 (dk_at dksX3_init_3 5 rfl rfl)
theorem dX3_init_78 : decode cX3_init 78 = .ok (.aload_n 0, 1) := dk_42 (dk_at dksX3_init_3 8 rfl rfl)
theorem dX3_init_79 : decode cX3_init 79 = .ok (.getfield 7, 3) := dk_180 0 7 (dk_at dksX3_init_3 9 rfl rfl)
theorem dX3_init_82 : decode cX3_init 82 = .ok (.iconst 0, 1) := dk_3 (dk_at dksX3_init_3 12 rfl rfl)
theorem dX3_init_83 : decode cX3_init 83 = .ok (.iconst 1, 1) := dk_4 (dk_at dksX3_init_3 13 rfl rfl)
theorem dX3_init_84 : decode cX3_init 84 = .ok (.iastore, 1) := dk_79 (dk_at dksX3_init_3 14 rfl rfl)
theorem dX3_init_85 : decode cX3_init 85 = .ok (.iconst 0, 1) := dk_3 (dk_at dksX3_init_3 15 rfl rfl)
theorem dX3_init_86 : decode cX3_init 86 = .ok (.istore_n 1, 1) := dk_60 (dk_at dksX3_init_3 16 rfl rfl)
theorem dX3_init_87 : decode cX3_init 87 = .ok (.iload_n 1, 1) := dk_27 (dk_at dksX3_init_3 17 rfl rfl)
theorem dX3_init_88 : decode cX3_init 88 = .ok (.bipush 20, 2) := dk_16 20 (dk_at dksX3_init_3 18 rfl rfl)
theorem dX3_init_90 : decode cX3_init 90 = .ok (.if_icmp .ge 18, 3) := dk_162 0 18 (dk_at dksX3_init_3 20 rfl rfl)
theorem dX3_init_93 : decode cX3_init 93 = .ok (.aload_n 0, 1) := dk_42 (dk_at dksX3_init_3 23 rfl rfl)
theorem dX3_init_94 : decode cX3_init 94 = .ok (.getfield 7, 3) := dk_180 0 7 (dk_at dksX3_init_4 0 rfl rfl)
theorem dX3_init_97 : decode cX3_init 97 = .ok (.iconst 2, 1) := dk_5 (dk_at dksX3_init_4 3 rfl rfl)
theorem dX3_init_98 : decode cX3_init 98 = .ok (.iload_n 1, 1) := dk_27 (dk_at dksX3_init_4 4 rfl rfl)
theorem dX3_init_99 : decode cX3_init 99 = .ok (.iadd, 1) := dk_96 (dk_at dksX3_init_4 5 rfl rfl)
theorem dX3_init_100 : decode cX3_init 100 = .ok (.iconst (-1), 1) := dk_2 (dk_at dksX3_init_4 6 rfl rfl)
theorem dX3_init_101 : decode cX3_init 101 = .ok (.iastore, 1) := dk_79 (dk_at dksX3_init_4 7 rfl rfl)
theorem dX3_init_102 : decode cX3_init 102 = .ok (.iinc 1 1, 3) := dk_132 1 1 (dk_at dksX3_init_4 8 rfl rfl)
theorem dX3_init_105 : decode cX3_init 105 = .ok (.goto (-18), 3) := dk_167 255 238 (dk_at dksX3_init_4 11 rfl rfl)
theorem dX3_init_108 : decode cX3_init 108 = .ok (.iconst 0, 1) := dk_3 (dk_at dksX3_init_4 14 rfl rfl)
theorem dX3_init_109 : decode cX3_init 109 = .ok (.istore_n 1, 1) := dk_60 (dk_at dksX3_init_4 15 rfl rfl)
theorem dX3_init_110 : decode cX3_init 110 = .ok (.iload_n 1, 1) := dk_27 (dk_at dksX3_init_4 16 rfl rfl)
theorem dX3_init_111 : decode cX3_init 111 = .ok (.iconst 4, 1) := dk_7 (dk_at dksX3_init_4 17 rfl rfl)
theorem dX3_init_112 : decode cX3_init 112 = .ok (.if_icmp .ge 16, 3) := dk_162 0 16 (dk_at dksX3_init_4 18 rfl rfl)
theorem dX3_init_115 : decode cX3_init 115 = .ok (.aload_n 0, 1) := dk_42 (dk_at dksX3_init_4 21 rfl rfl)
theorem dX3_init_116 : decode cX3_init 116 = .ok (.getfield 28, 3) := dk_180 0 28 (dk_at dksX3_init_5 0 rfl rfl)
theorem dX3_init_119 : decode cX3_init 119 = .ok (.iload_n 1, 1) := dk_27 (dk_at dksX3_init_5 3 rfl rfl)
theorem dX3_init_120 : decode cX3_init 120 = .ok (.iconst (-1), 1) := dk_2 (dk_at dksX3_init_5 4 rfl rfl)
theorem dX3_init_121 : decode cX3_init 121 = .ok (.iastore, 1) := dk_79 (dk_at dksX3_init_5 5 rfl rfl)
theorem dX3_init_122 : decode cX3_init 122 = .ok (.iinc 1 1, 3) := dk_132 1 1 (dk_at dksX3_init_5 6 rfl rfl)
theorem dX3_init_125 : decode cX3_init 125 = .ok (.goto (-15), 3) := dk_167 255 241 (dk_at dksX3_init_5 9 rfl rfl)
theorem dX3_init_128 : decode cX3_init 128 = .ok (.return_, 1) := dk_177 (dk_at dksX3_init_5 12 rfl rfl)
abbrev cX3_files : ByteArray := prog_11_method_20_code
def yX3_files : MethodName := ⟨RX3, "files", "(I)I"⟩
def dkwX3_files_2 : List UInt8 := [180, 0, 7, 16, 82, 28, 96, 27, 79, 28, 172]
abbrev dktX3_files_2 : List UInt8 := dkwX3_files_2 ++ []
def dkwX3_files_1 : List UInt8 := [172, 42, 27, 2, 160, 0, 7, 3, 167, 0, 4, 4, 42, 180, 0, 7, 3, 46, 182, 0, 75, 61, 42]
abbrev dktX3_files_1 : List UInt8 := dkwX3_files_1 ++ dktX3_files_2
def dkwX3_files_0 : List UInt8 := [27, 2, 18, 74, 184, 0, 42, 154, 0, 6, 16, 254, 172, 42, 182, 0, 70, 16, 20, 160, 0, 6, 16, 252]
abbrev dktX3_files_0 : List UInt8 := dkwX3_files_0 ++ dktX3_files_1
theorem dksX3_files_0 : cX3_files.data.toList.drop 0 = dktX3_files_0 := by decide +kernel
theorem dksX3_files_1 : cX3_files.data.toList.drop 24 = dktX3_files_1 := dk_seg dksX3_files_0 24 rfl rfl
theorem dksX3_files_2 : cX3_files.data.toList.drop 47 = dktX3_files_2 := dk_seg dksX3_files_1 23 rfl rfl
theorem dX3_files_0 : decode cX3_files 0 = .ok (.iload_n 1, 1) := dk_27 (dk_at dksX3_files_0 0 rfl rfl)
theorem dX3_files_1 : decode cX3_files 1 = .ok (.iconst (-1), 1) := dk_2 (dk_at dksX3_files_0 1 rfl rfl)
theorem dX3_files_2 : decode cX3_files 2 = .ok (.ldc 74, 2) := dk_18 74 (dk_at dksX3_files_0 2 rfl rfl)
theorem dX3_files_4 : decode cX3_files 4 = .ok (.invokestatic 42, 3) := dk_184 0 42 (dk_at dksX3_files_0 4 rfl rfl)
theorem dX3_files_7 : decode cX3_files 7 = .ok (.ifCond .ne 6, 3) := dk_154 0 6 (dk_at dksX3_files_0 7 rfl rfl)
theorem dX3_files_10 : decode cX3_files 10 = .ok (.bipush (-2), 2) := dk_16 254 (dk_at dksX3_files_0 10 rfl rfl)
theorem dX3_files_12 : decode cX3_files 12 = .ok (.ireturn, 1) := dk_172 (dk_at dksX3_files_0 12 rfl rfl)
theorem dX3_files_13 : decode cX3_files 13 = .ok (.aload_n 0, 1) := dk_42 (dk_at dksX3_files_0 13 rfl rfl)
theorem dX3_files_14 : decode cX3_files 14 = .ok (.invokevirtual 70, 3) := dk_182 0 70 (dk_at dksX3_files_0 14 rfl rfl)
theorem dX3_files_17 : decode cX3_files 17 = .ok (.bipush 20, 2) := dk_16 20 (dk_at dksX3_files_0 17 rfl rfl)
theorem dX3_files_19 : decode cX3_files 19 = .ok (.if_icmp .ne 6, 3) := dk_160 0 6 (dk_at dksX3_files_0 19 rfl rfl)
theorem dX3_files_22 : decode cX3_files 22 = .ok (.bipush (-4), 2) := dk_16 252 (dk_at dksX3_files_0 22 rfl rfl)
theorem dX3_files_24 : decode cX3_files 24 = .ok (.ireturn, 1) := dk_172 (dk_at dksX3_files_1 0 rfl rfl)
theorem dX3_files_25 : decode cX3_files 25 = .ok (.aload_n 0, 1) := dk_42 (dk_at dksX3_files_1 1 rfl rfl)
theorem dX3_files_26 : decode cX3_files 26 = .ok (.iload_n 1, 1) := dk_27 (dk_at dksX3_files_1 2 rfl rfl)
theorem dX3_files_27 : decode cX3_files 27 = .ok (.iconst (-1), 1) := dk_2 (dk_at dksX3_files_1 3 rfl rfl)
theorem dX3_files_28 : decode cX3_files 28 = .ok (.if_icmp .ne 7, 3) := dk_160 0 7 (dk_at dksX3_files_1 4 rfl rfl)
theorem dX3_files_31 : decode cX3_files 31 = .ok (.iconst 0, 1) := dk_3 (dk_at dksX3_files_1 7 rfl rfl)
theorem dX3_files_32 : decode cX3_files 32 = .ok (.goto 4, 3) := dk_167 0 4 (dk_at dksX3_files_1 8 rfl rfl)
theorem dX3_files_35 : decode cX3_files 35 = .ok (.iconst 1, 1) := dk_4 (dk_at dksX3_files_1 11 rfl rfl)
theorem dX3_files_36 : decode cX3_files 36 = .ok (.aload_n 0, 1) := dk_42 (dk_at dksX3_files_1 12 rfl rfl)
theorem dX3_files_37 : decode cX3_files 37 = .ok (.getfield 7, 3) := dk_180 0 7 (dk_at dksX3_files_1 13 rfl rfl)
theorem dX3_files_40 : decode cX3_files 40 = .ok (.iconst 0, 1) := dk_3 (dk_at dksX3_files_1 16 rfl rfl)
theorem dX3_files_41 : decode cX3_files 41 = .ok (.iaload, 1) := dk_46 (dk_at dksX3_files_1 17 rfl rfl)
theorem dX3_files_42 : decode cX3_files 42 = .ok (.invokevirtual 75, 3) := dk_182 0 75 (dk_at dksX3_files_1 18 rfl rfl)
theorem dX3_files_45 : decode cX3_files 45 = .ok (.istore_n 2, 1) := dk_61 (dk_at dksX3_files_1 21 rfl rfl)
theorem dX3_files_46 : decode cX3_files 46 = .ok (.aload_n 0, 1) := dk_42 (dk_at dksX3_files_1 22 rfl rfl)
theorem dX3_files_47 : decode cX3_files 47 = .ok (.getfield 7, 3) := dk_180 0 7 (dk_at dksX3_files_2 0 rfl rfl)
theorem dX3_files_50 : decode cX3_files 50 = .ok (.bipush 82, 2) := dk_16 82 (dk_at dksX3_files_2 3 rfl rfl)
theorem dX3_files_52 : decode cX3_files 52 = .ok (.iload_n 2, 1) := dk_28 (dk_at dksX3_files_2 5 rfl rfl)
theorem dX3_files_53 : decode cX3_files 53 = .ok (.iadd, 1) := dk_96 (dk_at dksX3_files_2 6 rfl rfl)
theorem dX3_files_54 : decode cX3_files 54 = .ok (.iload_n 1, 1) := dk_27 (dk_at dksX3_files_2 7 rfl rfl)
theorem dX3_files_55 : decode cX3_files 55 = .ok (.iastore, 1) := dk_79 (dk_at dksX3_files_2 8 rfl rfl)
theorem dX3_files_56 : decode cX3_files 56 = .ok (.iload_n 2, 1) := dk_28 (dk_at dksX3_files_2 9 rfl rfl)
theorem dX3_files_57 : decode cX3_files 57 = .ok (.ireturn, 1) := dk_172 (dk_at dksX3_files_2 10 rfl rfl)
abbrev cX3_in : ByteArray := prog_11_method_3_code
def yX3_in : MethodName := ⟨RX3, "in", "(III)Z"⟩
def dkwX3_in_0 : List UInt8 := [26, 27, 161, 0, 12, 26, 28, 163, 0, 7, 4, 167, 0, 4, 3, 172]
abbrev dktX3_in_0 : List UInt8 := dkwX3_in_0 ++ []
theorem dksX3_in_0 : cX3_in.data.toList.drop 0 = dktX3_in_0 := by decide +kernel
theorem dX3_in_0 : decode cX3_in 0 = .ok (.iload_n 0, 1) := dk_26 (dk_at dksX3_in_0 0 rfl rfl)
theorem dX3_in_1 : decode cX3_in 1 = .ok (.iload_n 1, 1) := dk_27 (dk_at dksX3_in_0 1 rfl rfl)
theorem dX3_in_2 : decode cX3_in 2 = .ok (.if_icmp .lt 12, 3) := dk_161 0 12 (dk_at dksX3_in_0 2 rfl rfl)
theorem dX3_in_5 : decode cX3_in 5 = .ok (.iload_n 0, 1) := dk_26 (dk_at dksX3_in_0 5 rfl rfl)
theorem dX3_in_6 : decode cX3_in 6 = .ok (.iload_n 2, 1) := dk_28 (dk_at dksX3_in_0 6 rfl rfl)
theorem dX3_in_7 : decode cX3_in 7 = .ok (.if_icmp .gt 7, 3) := dk_163 0 7 (dk_at dksX3_in_0 7 rfl rfl)
theorem dX3_in_10 : decode cX3_in 10 = .ok (.iconst 1, 1) := dk_4 (dk_at dksX3_in_0 10 rfl rfl)
theorem dX3_in_11 : decode cX3_in 11 = .ok (.goto 4, 3) := dk_167 0 4 (dk_at dksX3_in_0 11 rfl rfl)
theorem dX3_in_14 : decode cX3_in 14 = .ok (.iconst 0, 1) := dk_3 (dk_at dksX3_in_0 14 rfl rfl)
theorem dX3_in_15 : decode cX3_in 15 = .ok (.ireturn, 1) := dk_172 (dk_at dksX3_in_0 15 rfl rfl)
abbrev cX3_newThing : ByteArray := prog_11_method_17_code
def yX3_newThing : MethodName := ⟨RX3, "newThing", "()I"⟩
def dkwX3_newThing_1 : List UInt8 := [167, 255, 235, 27, 172]
abbrev dktX3_newThing_1 : List UInt8 := dkwX3_newThing_1 ++ []
def dkwX3_newThing_0 : List UInt8 := [3, 60, 27, 16, 20, 162, 0, 21, 42, 180, 0, 7, 5, 27, 96, 46, 2, 159, 0, 9, 132, 1, 1]
abbrev dktX3_newThing_0 : List UInt8 := dkwX3_newThing_0 ++ dktX3_newThing_1
theorem dksX3_newThing_0 : cX3_newThing.data.toList.drop 0 = dktX3_newThing_0 := by decide +kernel
theorem dksX3_newThing_1 : cX3_newThing.data.toList.drop 23 = dktX3_newThing_1 := dk_seg dksX3_newThing_0 23 rfl rfl
theorem dX3_newThing_0 : decode cX3_newThing 0 = .ok (.iconst 0, 1) := dk_3 (dk_at dksX3_newThing_0 0 rfl rfl)
theorem dX3_newThing_1 : decode cX3_newThing 1 = .ok (.istore_n 1, 1) := dk_60 (dk_at dksX3_newThing_0 1 rfl rfl)
theorem dX3_newThing_2 : decode cX3_newThing 2 = .ok (.iload_n 1, 1) := dk_27 (dk_at dksX3_newThing_0 2 rfl rfl)
theorem dX3_newThing_3 : decode cX3_newThing 3 = .ok (.bipush 20, 2) := dk_16 20 (dk_at dksX3_newThing_0 3 rfl rfl)
theorem dX3_newThing_5 : decode cX3_newThing 5 = .ok (.if_icmp .ge 21, 3) := dk_162 0 21 (dk_at dksX3_newThing_0 5 rfl rfl)
theorem dX3_newThing_8 : decode cX3_newThing 8 = .ok (.aload_n 0, 1) := dk_42 (dk_at dksX3_newThing_0 8 rfl rfl)
theorem dX3_newThing_9 : decode cX3_newThing 9 = .ok (.getfield 7, 3) := dk_180 0 7 (dk_at dksX3_newThing_0 9 rfl rfl)
theorem dX3_newThing_12 : decode cX3_newThing 12 = .ok (.iconst 2, 1) := dk_5 (dk_at dksX3_newThing_0 12 rfl rfl)
theorem dX3_newThing_13 : decode cX3_newThing 13 = .ok (.iload_n 1, 1) := dk_27 (dk_at dksX3_newThing_0 13 rfl rfl)
theorem dX3_newThing_14 : decode cX3_newThing 14 = .ok (.iadd, 1) := dk_96 (dk_at dksX3_newThing_0 14 rfl rfl)
theorem dX3_newThing_15 : decode cX3_newThing 15 = .ok (.iaload, 1) := dk_46 (dk_at dksX3_newThing_0 15 rfl rfl)
theorem dX3_newThing_16 : decode cX3_newThing 16 = .ok (.iconst (-1), 1) := dk_2 (dk_at dksX3_newThing_0 16 rfl rfl)
theorem dX3_newThing_17 : decode cX3_newThing 17 = .ok (.if_icmp .eq 9, 3) := dk_159 0 9 (dk_at dksX3_newThing_0 17 rfl rfl)
theorem dX3_newThing_20 : decode cX3_newThing 20 = .ok (.iinc 1 1, 3) := dk_132 1 1 (dk_at dksX3_newThing_0 20 rfl rfl)
theorem dX3_newThing_23 : decode cX3_newThing 23 = .ok (.goto (-21), 3) := dk_167 255 235 (dk_at dksX3_newThing_1 0 rfl rfl)
theorem dX3_newThing_26 : decode cX3_newThing 26 = .ok (.iload_n 1, 1) := dk_27 (dk_at dksX3_newThing_1 3 rfl rfl)
theorem dX3_newThing_27 : decode cX3_newThing 27 = .ok (.ireturn, 1) := dk_172 (dk_at dksX3_newThing_1 4 rfl rfl)
abbrev cX3_comes : ByteArray := prog_11_method_18_code
def yX3_comes : MethodName := ⟨RX3, "comes", "(II)I"⟩
def dkwX3_comes_4 : List UInt8 := [167, 255, 230, 29, 172]
abbrev dktX3_comes_4 : List UInt8 := dkwX3_comes_4 ++ []
def dkwX3_comes_3 : List UInt8 := [162, 0, 25, 42, 180, 0, 7, 16, 122, 16, 12, 29, 104, 96, 21, 4, 96, 2, 79, 132, 4, 1]
abbrev dktX3_comes_3 : List UInt8 := dkwX3_comes_3 ++ dktX3_comes_4
def dkwX3_comes_2 : List UInt8 := [16, 82, 29, 96, 2, 79, 42, 180, 0, 7, 16, 102, 29, 96, 3, 79, 3, 54, 4, 21, 4, 16, 12]
abbrev dktX3_comes_2 : List UInt8 := dkwX3_comes_2 ++ dktX3_comes_3
def dkwX3_comes_1 : List UInt8 := [42, 180, 0, 7, 16, 42, 29, 96, 2, 79, 42, 180, 0, 7, 16, 62, 29, 96, 2, 79, 42, 180, 0, 7]
abbrev dktX3_comes_1 : List UInt8 := dkwX3_comes_1 ++ dktX3_comes_2
def dkwX3_comes_0 : List UInt8 := [42, 182, 0, 70, 62, 42, 180, 0, 7, 5, 29, 96, 27, 79, 42, 180, 0, 7, 16, 22, 29, 96, 28, 79]
abbrev dktX3_comes_0 : List UInt8 := dkwX3_comes_0 ++ dktX3_comes_1
theorem dksX3_comes_0 : cX3_comes.data.toList.drop 0 = dktX3_comes_0 := by decide +kernel
theorem dksX3_comes_1 : cX3_comes.data.toList.drop 24 = dktX3_comes_1 := dk_seg dksX3_comes_0 24 rfl rfl
theorem dksX3_comes_2 : cX3_comes.data.toList.drop 48 = dktX3_comes_2 := dk_seg dksX3_comes_1 24 rfl rfl
theorem dksX3_comes_3 : cX3_comes.data.toList.drop 71 = dktX3_comes_3 := dk_seg dksX3_comes_2 23 rfl rfl
theorem dksX3_comes_4 : cX3_comes.data.toList.drop 93 = dktX3_comes_4 := dk_seg dksX3_comes_3 22 rfl rfl
theorem dX3_comes_0 : decode cX3_comes 0 = .ok (.aload_n 0, 1) := dk_42 (dk_at dksX3_comes_0 0 rfl rfl)
theorem dX3_comes_1 : decode cX3_comes 1 = .ok (.invokevirtual 70, 3) := dk_182 0 70 (dk_at dksX3_comes_0 1 rfl rfl)
theorem dX3_comes_4 : decode cX3_comes 4 = .ok (.istore_n 3, 1) := dk_62 (dk_at dksX3_comes_0 4 rfl rfl)
theorem dX3_comes_5 : decode cX3_comes 5 = .ok (.aload_n 0, 1) := dk_42 (dk_at dksX3_comes_0 5 rfl rfl)
theorem dX3_comes_6 : decode cX3_comes 6 = .ok (.getfield 7, 3) := dk_180 0 7 (dk_at dksX3_comes_0 6 rfl rfl)
theorem dX3_comes_9 : decode cX3_comes 9 = .ok (.iconst 2, 1) := dk_5 (dk_at dksX3_comes_0 9 rfl rfl)
theorem dX3_comes_10 : decode cX3_comes 10 = .ok (.iload_n 3, 1) := dk_29 (dk_at dksX3_comes_0 10 rfl rfl)
theorem dX3_comes_11 : decode cX3_comes 11 = .ok (.iadd, 1) := dk_96 (dk_at dksX3_comes_0 11 rfl rfl)
theorem dX3_comes_12 : decode cX3_comes 12 = .ok (.iload_n 1, 1) := dk_27 (dk_at dksX3_comes_0 12 rfl rfl)
theorem dX3_comes_13 : decode cX3_comes 13 = .ok (.iastore, 1) := dk_79 (dk_at dksX3_comes_0 13 rfl rfl)
theorem dX3_comes_14 : decode cX3_comes 14 = .ok (.aload_n 0, 1) := dk_42 (dk_at dksX3_comes_0 14 rfl rfl)
theorem dX3_comes_15 : decode cX3_comes 15 = .ok (.getfield 7, 3) := dk_180 0 7 (dk_at dksX3_comes_0 15 rfl rfl)
theorem dX3_comes_18 : decode cX3_comes 18 = .ok (.bipush 22, 2) := dk_16 22 (dk_at dksX3_comes_0 18 rfl rfl)
theorem dX3_comes_20 : decode cX3_comes 20 = .ok (.iload_n 3, 1) := dk_29 (dk_at dksX3_comes_0 20 rfl rfl)
theorem dX3_comes_21 : decode cX3_comes 21 = .ok (.iadd, 1) := dk_96 (dk_at dksX3_comes_0 21 rfl rfl)
theorem dX3_comes_22 : decode cX3_comes 22 = .ok (.iload_n 2, 1) := dk_28 (dk_at dksX3_comes_0 22 rfl rfl)
theorem dX3_comes_23 : decode cX3_comes 23 = .ok (.iastore, 1) := dk_79 (dk_at dksX3_comes_0 23 rfl rfl)
theorem dX3_comes_24 : decode cX3_comes 24 = .ok (.aload_n 0, 1) := dk_42 (dk_at dksX3_comes_1 0 rfl rfl)
theorem dX3_comes_25 : decode cX3_comes 25 = .ok (.getfield 7, 3) := dk_180 0 7 (dk_at dksX3_comes_1 1 rfl rfl)
theorem dX3_comes_28 : decode cX3_comes 28 = .ok (.bipush 42, 2) := dk_16 42 (dk_at dksX3_comes_1 4 rfl rfl)
theorem dX3_comes_30 : decode cX3_comes 30 = .ok (.iload_n 3, 1) := dk_29 (dk_at dksX3_comes_1 6 rfl rfl)
theorem dX3_comes_31 : decode cX3_comes 31 = .ok (.iadd, 1) := dk_96 (dk_at dksX3_comes_1 7 rfl rfl)
theorem dX3_comes_32 : decode cX3_comes 32 = .ok (.iconst (-1), 1) := dk_2 (dk_at dksX3_comes_1 8 rfl rfl)
theorem dX3_comes_33 : decode cX3_comes 33 = .ok (.iastore, 1) := dk_79 (dk_at dksX3_comes_1 9 rfl rfl)
theorem dX3_comes_34 : decode cX3_comes 34 = .ok (.aload_n 0, 1) := dk_42 (dk_at dksX3_comes_1 10 rfl rfl)
theorem dX3_comes_35 : decode cX3_comes 35 = .ok (.getfield 7, 3) := dk_180 0 7 (dk_at dksX3_comes_1 11 rfl rfl)
theorem dX3_comes_38 : decode cX3_comes 38 = .ok (.bipush 62, 2) := dk_16 62 (dk_at dksX3_comes_1 14 rfl rfl)
theorem dX3_comes_40 : decode cX3_comes 40 = .ok (.iload_n 3, 1) := dk_29 (dk_at dksX3_comes_1 16 rfl rfl)
theorem dX3_comes_41 : decode cX3_comes 41 = .ok (.iadd, 1) := dk_96 (dk_at dksX3_comes_1 17 rfl rfl)
theorem dX3_comes_42 : decode cX3_comes 42 = .ok (.iconst (-1), 1) := dk_2 (dk_at dksX3_comes_1 18 rfl rfl)
theorem dX3_comes_43 : decode cX3_comes 43 = .ok (.iastore, 1) := dk_79 (dk_at dksX3_comes_1 19 rfl rfl)
theorem dX3_comes_44 : decode cX3_comes 44 = .ok (.aload_n 0, 1) := dk_42 (dk_at dksX3_comes_1 20 rfl rfl)
theorem dX3_comes_45 : decode cX3_comes 45 = .ok (.getfield 7, 3) := dk_180 0 7 (dk_at dksX3_comes_1 21 rfl rfl)
theorem dX3_comes_48 : decode cX3_comes 48 = .ok (.bipush 82, 2) := dk_16 82 (dk_at dksX3_comes_2 0 rfl rfl)
theorem dX3_comes_50 : decode cX3_comes 50 = .ok (.iload_n 3, 1) := dk_29 (dk_at dksX3_comes_2 2 rfl rfl)
theorem dX3_comes_51 : decode cX3_comes 51 = .ok (.iadd, 1) := dk_96 (dk_at dksX3_comes_2 3 rfl rfl)
theorem dX3_comes_52 : decode cX3_comes 52 = .ok (.iconst (-1), 1) := dk_2 (dk_at dksX3_comes_2 4 rfl rfl)
theorem dX3_comes_53 : decode cX3_comes 53 = .ok (.iastore, 1) := dk_79 (dk_at dksX3_comes_2 5 rfl rfl)
theorem dX3_comes_54 : decode cX3_comes 54 = .ok (.aload_n 0, 1) := dk_42 (dk_at dksX3_comes_2 6 rfl rfl)
theorem dX3_comes_55 : decode cX3_comes 55 = .ok (.getfield 7, 3) := dk_180 0 7 (dk_at dksX3_comes_2 7 rfl rfl)
theorem dX3_comes_58 : decode cX3_comes 58 = .ok (.bipush 102, 2) := dk_16 102 (dk_at dksX3_comes_2 10 rfl rfl)
theorem dX3_comes_60 : decode cX3_comes 60 = .ok (.iload_n 3, 1) := dk_29 (dk_at dksX3_comes_2 12 rfl rfl)
theorem dX3_comes_61 : decode cX3_comes 61 = .ok (.iadd, 1) := dk_96 (dk_at dksX3_comes_2 13 rfl rfl)
theorem dX3_comes_62 : decode cX3_comes 62 = .ok (.iconst 0, 1) := dk_3 (dk_at dksX3_comes_2 14 rfl rfl)
theorem dX3_comes_63 : decode cX3_comes 63 = .ok (.iastore, 1) := dk_79 (dk_at dksX3_comes_2 15 rfl rfl)
theorem dX3_comes_64 : decode cX3_comes 64 = .ok (.iconst 0, 1) := dk_3 (dk_at dksX3_comes_2 16 rfl rfl)
theorem dX3_comes_65 : decode cX3_comes 65 = .ok (.istore 4, 2) := dk_54 4 (dk_at dksX3_comes_2 17 rfl rfl)
theorem dX3_comes_67 : decode cX3_comes 67 = .ok (.iload 4, 2) := dk_21 4 (dk_at dksX3_comes_2 19 rfl rfl)
theorem dX3_comes_69 : decode cX3_comes 69 = .ok (.bipush 12, 2) := dk_16 12 (dk_at dksX3_comes_2 21 rfl rfl)
theorem dX3_comes_71 : decode cX3_comes 71 = .ok (.if_icmp .ge 25, 3) := dk_162 0 25 (dk_at dksX3_comes_3 0 rfl rfl)
theorem dX3_comes_74 : decode cX3_comes 74 = .ok (.aload_n 0, 1) := dk_42 (dk_at dksX3_comes_3 3 rfl rfl)
theorem dX3_comes_75 : decode cX3_comes 75 = .ok (.getfield 7, 3) := dk_180 0 7 (dk_at dksX3_comes_3 4 rfl rfl)
theorem dX3_comes_78 : decode cX3_comes 78 = .ok (.bipush 122, 2) := dk_16 122 (dk_at dksX3_comes_3 7 rfl rfl)
theorem dX3_comes_80 : decode cX3_comes 80 = .ok (.bipush 12, 2) := dk_16 12 (dk_at dksX3_comes_3 9 rfl rfl)
theorem dX3_comes_82 : decode cX3_comes 82 = .ok (.iload_n 3, 1) := dk_29 (dk_at dksX3_comes_3 11 rfl rfl)
theorem dX3_comes_83 : decode cX3_comes 83 = .ok (.imul, 1) := dk_104 (dk_at dksX3_comes_3 12 rfl rfl)
theorem dX3_comes_84 : decode cX3_comes 84 = .ok (.iadd, 1) := dk_96 (dk_at dksX3_comes_3 13 rfl rfl)
theorem dX3_comes_85 : decode cX3_comes 85 = .ok (.iload 4, 2) := dk_21 4 (dk_at dksX3_comes_3 14 rfl rfl)
theorem dX3_comes_87 : decode cX3_comes 87 = .ok (.iadd, 1) := dk_96 (dk_at dksX3_comes_3 16 rfl rfl)
theorem dX3_comes_88 : decode cX3_comes 88 = .ok (.iconst (-1), 1) := dk_2 (dk_at dksX3_comes_3 17 rfl rfl)
theorem dX3_comes_89 : decode cX3_comes 89 = .ok (.iastore, 1) := dk_79 (dk_at dksX3_comes_3 18 rfl rfl)
theorem dX3_comes_90 : decode cX3_comes 90 = .ok (.iinc 4 1, 3) := dk_132 4 1 (dk_at dksX3_comes_3 19 rfl rfl)
theorem dX3_comes_93 : decode cX3_comes 93 = .ok (.goto (-26), 3) := dk_167 255 230 (dk_at dksX3_comes_4 0 rfl rfl)
theorem dX3_comes_96 : decode cX3_comes 96 = .ok (.iload_n 3, 1) := dk_29 (dk_at dksX3_comes_4 3 rfl rfl)
theorem dX3_comes_97 : decode cX3_comes 97 = .ok (.ireturn, 1) := dk_172 (dk_at dksX3_comes_4 4 rfl rfl)
abbrev cX3_write : ByteArray := prog_11_method_25_code
def yX3_write : MethodName := ⟨RX3, "write", "(III)I"⟩
def dkwX3_write_2 : List UInt8 := [172]
abbrev dktX3_write_2 : List UInt8 := dkwX3_write_2 ++ []
def dkwX3_write_1 : List UInt8 := [27, 3, 182, 0, 92, 54, 4, 21, 4, 153, 0, 8, 21, 4, 167, 0, 10, 42, 27, 28, 29, 182, 0, 95]
abbrev dktX3_write_1 : List UInt8 := dkwX3_write_1 ++ dktX3_write_2
def dkwX3_write_0 : List UInt8 := [28, 3, 16, 11, 184, 0, 42, 153, 0, 13, 29, 4, 18, 74, 184, 0, 42, 154, 0, 6, 16, 254, 172, 42]
abbrev dktX3_write_0 : List UInt8 := dkwX3_write_0 ++ dktX3_write_1
theorem dksX3_write_0 : cX3_write.data.toList.drop 0 = dktX3_write_0 := by decide +kernel
theorem dksX3_write_1 : cX3_write.data.toList.drop 24 = dktX3_write_1 := dk_seg dksX3_write_0 24 rfl rfl
theorem dksX3_write_2 : cX3_write.data.toList.drop 48 = dktX3_write_2 := dk_seg dksX3_write_1 24 rfl rfl
theorem dX3_write_0 : decode cX3_write 0 = .ok (.iload_n 2, 1) := dk_28 (dk_at dksX3_write_0 0 rfl rfl)
theorem dX3_write_1 : decode cX3_write 1 = .ok (.iconst 0, 1) := dk_3 (dk_at dksX3_write_0 1 rfl rfl)
theorem dX3_write_2 : decode cX3_write 2 = .ok (.bipush 11, 2) := dk_16 11 (dk_at dksX3_write_0 2 rfl rfl)
theorem dX3_write_4 : decode cX3_write 4 = .ok (.invokestatic 42, 3) := dk_184 0 42 (dk_at dksX3_write_0 4 rfl rfl)
theorem dX3_write_7 : decode cX3_write 7 = .ok (.ifCond .eq 13, 3) := dk_153 0 13 (dk_at dksX3_write_0 7 rfl rfl)
theorem dX3_write_10 : decode cX3_write 10 = .ok (.iload_n 3, 1) := dk_29 (dk_at dksX3_write_0 10 rfl rfl)
theorem dX3_write_11 : decode cX3_write 11 = .ok (.iconst 1, 1) := dk_4 (dk_at dksX3_write_0 11 rfl rfl)
theorem dX3_write_12 : decode cX3_write 12 = .ok (.ldc 74, 2) := dk_18 74 (dk_at dksX3_write_0 12 rfl rfl)
theorem dX3_write_14 : decode cX3_write 14 = .ok (.invokestatic 42, 3) := dk_184 0 42 (dk_at dksX3_write_0 14 rfl rfl)
theorem dX3_write_17 : decode cX3_write 17 = .ok (.ifCond .ne 6, 3) := dk_154 0 6 (dk_at dksX3_write_0 17 rfl rfl)
theorem dX3_write_20 : decode cX3_write 20 = .ok (.bipush (-2), 2) := dk_16 254 (dk_at dksX3_write_0 20 rfl rfl)
theorem dX3_write_22 : decode cX3_write 22 = .ok (.ireturn, 1) := dk_172 (dk_at dksX3_write_0 22 rfl rfl)
theorem dX3_write_23 : decode cX3_write 23 = .ok (.aload_n 0, 1) := dk_42 (dk_at dksX3_write_0 23 rfl rfl)
theorem dX3_write_24 : decode cX3_write 24 = .ok (.iload_n 1, 1) := dk_27 (dk_at dksX3_write_1 0 rfl rfl)
theorem dX3_write_25 : decode cX3_write 25 = .ok (.iconst 0, 1) := dk_3 (dk_at dksX3_write_1 1 rfl rfl)
theorem dX3_write_26 : decode cX3_write 26 = .ok (.invokevirtual 92, 3) := dk_182 0 92 (dk_at dksX3_write_1 2 rfl rfl)
theorem dX3_write_29 : decode cX3_write 29 = .ok (.istore 4, 2) := dk_54 4 (dk_at dksX3_write_1 5 rfl rfl)
theorem dX3_write_31 : decode cX3_write 31 = .ok (.iload 4, 2) := dk_21 4 (dk_at dksX3_write_1 7 rfl rfl)
theorem dX3_write_33 : decode cX3_write 33 = .ok (.ifCond .eq 8, 3) := dk_153 0 8 (dk_at dksX3_write_1 9 rfl rfl)
theorem dX3_write_36 : decode cX3_write 36 = .ok (.iload 4, 2) := dk_21 4 (dk_at dksX3_write_1 12 rfl rfl)
theorem dX3_write_38 : decode cX3_write 38 = .ok (.goto 10, 3) := dk_167 0 10 (dk_at dksX3_write_1 14 rfl rfl)
theorem dX3_write_41 : decode cX3_write 41 = .ok (.aload_n 0, 1) := dk_42 (dk_at dksX3_write_1 17 rfl rfl)
theorem dX3_write_42 : decode cX3_write 42 = .ok (.iload_n 1, 1) := dk_27 (dk_at dksX3_write_1 18 rfl rfl)
theorem dX3_write_43 : decode cX3_write 43 = .ok (.iload_n 2, 1) := dk_28 (dk_at dksX3_write_1 19 rfl rfl)
theorem dX3_write_44 : decode cX3_write 44 = .ok (.iload_n 3, 1) := dk_29 (dk_at dksX3_write_1 20 rfl rfl)
theorem dX3_write_45 : decode cX3_write 45 = .ok (.invokevirtual 95, 3) := dk_182 0 95 (dk_at dksX3_write_1 21 rfl rfl)
theorem dX3_write_48 : decode cX3_write 48 = .ok (.ireturn, 1) := dk_172 (dk_at dksX3_write_2 0 rfl rfl)
abbrev cX3_asked : ByteArray := prog_11_method_10_code
def yX3_asked : MethodName := ⟨RX3, "asked", "(II)I"⟩
def dkwX3_asked_1 : List UInt8 := [184, 0, 50, 153, 0, 7, 3, 167, 0, 5, 16, 243, 172]
abbrev dktX3_asked_1 : List UInt8 := dkwX3_asked_1 ++ []
def dkwX3_asked_0 : List UInt8 := [42, 27, 182, 0, 60, 62, 29, 153, 0, 7, 29, 167, 0, 24, 42, 180, 0, 7, 5, 27, 96, 46, 28]
abbrev dktX3_asked_0 : List UInt8 := dkwX3_asked_0 ++ dktX3_asked_1
theorem dksX3_asked_0 : cX3_asked.data.toList.drop 0 = dktX3_asked_0 := by decide +kernel
theorem dksX3_asked_1 : cX3_asked.data.toList.drop 23 = dktX3_asked_1 := dk_seg dksX3_asked_0 23 rfl rfl
theorem dX3_asked_0 : decode cX3_asked 0 = .ok (.aload_n 0, 1) := dk_42 (dk_at dksX3_asked_0 0 rfl rfl)
theorem dX3_asked_1 : decode cX3_asked 1 = .ok (.iload_n 1, 1) := dk_27 (dk_at dksX3_asked_0 1 rfl rfl)
theorem dX3_asked_2 : decode cX3_asked 2 = .ok (.invokevirtual 60, 3) := dk_182 0 60 (dk_at dksX3_asked_0 2 rfl rfl)
theorem dX3_asked_5 : decode cX3_asked 5 = .ok (.istore_n 3, 1) := dk_62 (dk_at dksX3_asked_0 5 rfl rfl)
theorem dX3_asked_6 : decode cX3_asked 6 = .ok (.iload_n 3, 1) := dk_29 (dk_at dksX3_asked_0 6 rfl rfl)
theorem dX3_asked_7 : decode cX3_asked 7 = .ok (.ifCond .eq 7, 3) := dk_153 0 7 (dk_at dksX3_asked_0 7 rfl rfl)
theorem dX3_asked_10 : decode cX3_asked 10 = .ok (.iload_n 3, 1) := dk_29 (dk_at dksX3_asked_0 10 rfl rfl)
theorem dX3_asked_11 : decode cX3_asked 11 = .ok (.goto 24, 3) := dk_167 0 24 (dk_at dksX3_asked_0 11 rfl rfl)
theorem dX3_asked_14 : decode cX3_asked 14 = .ok (.aload_n 0, 1) := dk_42 (dk_at dksX3_asked_0 14 rfl rfl)
theorem dX3_asked_15 : decode cX3_asked 15 = .ok (.getfield 7, 3) := dk_180 0 7 (dk_at dksX3_asked_0 15 rfl rfl)
theorem dX3_asked_18 : decode cX3_asked 18 = .ok (.iconst 2, 1) := dk_5 (dk_at dksX3_asked_0 18 rfl rfl)
theorem dX3_asked_19 : decode cX3_asked 19 = .ok (.iload_n 1, 1) := dk_27 (dk_at dksX3_asked_0 19 rfl rfl)
theorem dX3_asked_20 : decode cX3_asked 20 = .ok (.iadd, 1) := dk_96 (dk_at dksX3_asked_0 20 rfl rfl)
theorem dX3_asked_21 : decode cX3_asked 21 = .ok (.iaload, 1) := dk_46 (dk_at dksX3_asked_0 21 rfl rfl)
theorem dX3_asked_22 : decode cX3_asked 22 = .ok (.iload_n 2, 1) := dk_28 (dk_at dksX3_asked_0 22 rfl rfl)
theorem dX3_asked_23 : decode cX3_asked 23 = .ok (.invokestatic 50, 3) := dk_184 0 50 (dk_at dksX3_asked_1 0 rfl rfl)
theorem dX3_asked_26 : decode cX3_asked 26 = .ok (.ifCond .eq 7, 3) := dk_153 0 7 (dk_at dksX3_asked_1 3 rfl rfl)
theorem dX3_asked_29 : decode cX3_asked 29 = .ok (.iconst 0, 1) := dk_3 (dk_at dksX3_asked_1 6 rfl rfl)
theorem dX3_asked_30 : decode cX3_asked 30 = .ok (.goto 5, 3) := dk_167 0 5 (dk_at dksX3_asked_1 7 rfl rfl)
theorem dX3_asked_33 : decode cX3_asked 33 = .ok (.bipush (-13), 2) := dk_16 243 (dk_at dksX3_asked_1 10 rfl rfl)
theorem dX3_asked_35 : decode cX3_asked 35 = .ok (.ireturn, 1) := dk_172 (dk_at dksX3_asked_1 12 rfl rfl)
abbrev cX3_there : ByteArray := prog_11_method_9_code
def yX3_there : MethodName := ⟨RX3, "there", "(I)I"⟩
def dkwX3_there_1 : List UInt8 := [167, 0, 5, 16, 245, 172]
abbrev dktX3_there_1 : List UInt8 := dkwX3_there_1 ++ []
def dkwX3_there_0 : List UInt8 := [27, 3, 16, 19, 184, 0, 42, 154, 0, 8, 16, 244, 167, 0, 17, 42, 27, 182, 0, 46, 153, 0, 7, 3]
abbrev dktX3_there_0 : List UInt8 := dkwX3_there_0 ++ dktX3_there_1
theorem dksX3_there_0 : cX3_there.data.toList.drop 0 = dktX3_there_0 := by decide +kernel
theorem dksX3_there_1 : cX3_there.data.toList.drop 24 = dktX3_there_1 := dk_seg dksX3_there_0 24 rfl rfl
theorem dX3_there_0 : decode cX3_there 0 = .ok (.iload_n 1, 1) := dk_27 (dk_at dksX3_there_0 0 rfl rfl)
theorem dX3_there_1 : decode cX3_there 1 = .ok (.iconst 0, 1) := dk_3 (dk_at dksX3_there_0 1 rfl rfl)
theorem dX3_there_2 : decode cX3_there 2 = .ok (.bipush 19, 2) := dk_16 19 (dk_at dksX3_there_0 2 rfl rfl)
theorem dX3_there_4 : decode cX3_there 4 = .ok (.invokestatic 42, 3) := dk_184 0 42 (dk_at dksX3_there_0 4 rfl rfl)
theorem dX3_there_7 : decode cX3_there 7 = .ok (.ifCond .ne 8, 3) := dk_154 0 8 (dk_at dksX3_there_0 7 rfl rfl)
theorem dX3_there_10 : decode cX3_there 10 = .ok (.bipush (-12), 2) := dk_16 244 (dk_at dksX3_there_0 10 rfl rfl)
theorem dX3_there_12 : decode cX3_there 12 = .ok (.goto 17, 3) := dk_167 0 17 (dk_at dksX3_there_0 12 rfl rfl)
theorem dX3_there_15 : decode cX3_there 15 = .ok (.aload_n 0, 1) := dk_42 (dk_at dksX3_there_0 15 rfl rfl)
theorem dX3_there_16 : decode cX3_there 16 = .ok (.iload_n 1, 1) := dk_27 (dk_at dksX3_there_0 16 rfl rfl)
theorem dX3_there_17 : decode cX3_there 17 = .ok (.invokevirtual 46, 3) := dk_182 0 46 (dk_at dksX3_there_0 17 rfl rfl)
theorem dX3_there_20 : decode cX3_there 20 = .ok (.ifCond .eq 7, 3) := dk_153 0 7 (dk_at dksX3_there_0 20 rfl rfl)
theorem dX3_there_23 : decode cX3_there 23 = .ok (.iconst 0, 1) := dk_3 (dk_at dksX3_there_0 23 rfl rfl)
theorem dX3_there_24 : decode cX3_there 24 = .ok (.goto 5, 3) := dk_167 0 5 (dk_at dksX3_there_1 0 rfl rfl)
theorem dX3_there_27 : decode cX3_there 27 = .ok (.bipush (-11), 2) := dk_16 245 (dk_at dksX3_there_1 3 rfl rfl)
theorem dX3_there_29 : decode cX3_there 29 = .ok (.ireturn, 1) := dk_172 (dk_at dksX3_there_1 5 rfl rfl)
abbrev cX3_isThing : ByteArray := prog_11_method_4_code
def yX3_isThing : MethodName := ⟨RX3, "isThing", "(I)Z"⟩
def dkwX3_isThing_1 : List UInt8 := [167, 0, 4, 3, 172]
abbrev dktX3_isThing_1 : List UInt8 := dkwX3_isThing_1 ++ []
def dkwX3_isThing_0 : List UInt8 := [27, 3, 16, 19, 184, 0, 42, 153, 0, 19, 42, 180, 0, 7, 5, 27, 96, 46, 2, 159, 0, 7, 4]
abbrev dktX3_isThing_0 : List UInt8 := dkwX3_isThing_0 ++ dktX3_isThing_1
theorem dksX3_isThing_0 : cX3_isThing.data.toList.drop 0 = dktX3_isThing_0 := by decide +kernel
theorem dksX3_isThing_1 : cX3_isThing.data.toList.drop 23 = dktX3_isThing_1 := dk_seg dksX3_isThing_0 23 rfl rfl
theorem dX3_isThing_0 : decode cX3_isThing 0 = .ok (.iload_n 1, 1) := dk_27 (dk_at dksX3_isThing_0 0 rfl rfl)
theorem dX3_isThing_1 : decode cX3_isThing 1 = .ok (.iconst 0, 1) := dk_3 (dk_at dksX3_isThing_0 1 rfl rfl)
theorem dX3_isThing_2 : decode cX3_isThing 2 = .ok (.bipush 19, 2) := dk_16 19 (dk_at dksX3_isThing_0 2 rfl rfl)
theorem dX3_isThing_4 : decode cX3_isThing 4 = .ok (.invokestatic 42, 3) := dk_184 0 42 (dk_at dksX3_isThing_0 4 rfl rfl)
theorem dX3_isThing_7 : decode cX3_isThing 7 = .ok (.ifCond .eq 19, 3) := dk_153 0 19 (dk_at dksX3_isThing_0 7 rfl rfl)
theorem dX3_isThing_10 : decode cX3_isThing 10 = .ok (.aload_n 0, 1) := dk_42 (dk_at dksX3_isThing_0 10 rfl rfl)
theorem dX3_isThing_11 : decode cX3_isThing 11 = .ok (.getfield 7, 3) := dk_180 0 7 (dk_at dksX3_isThing_0 11 rfl rfl)
theorem dX3_isThing_14 : decode cX3_isThing 14 = .ok (.iconst 2, 1) := dk_5 (dk_at dksX3_isThing_0 14 rfl rfl)
theorem dX3_isThing_15 : decode cX3_isThing 15 = .ok (.iload_n 1, 1) := dk_27 (dk_at dksX3_isThing_0 15 rfl rfl)
theorem dX3_isThing_16 : decode cX3_isThing 16 = .ok (.iadd, 1) := dk_96 (dk_at dksX3_isThing_0 16 rfl rfl)
theorem dX3_isThing_17 : decode cX3_isThing 17 = .ok (.iaload, 1) := dk_46 (dk_at dksX3_isThing_0 17 rfl rfl)
theorem dX3_isThing_18 : decode cX3_isThing 18 = .ok (.iconst (-1), 1) := dk_2 (dk_at dksX3_isThing_0 18 rfl rfl)
theorem dX3_isThing_19 : decode cX3_isThing 19 = .ok (.if_icmp .eq 7, 3) := dk_159 0 7 (dk_at dksX3_isThing_0 19 rfl rfl)
theorem dX3_isThing_22 : decode cX3_isThing 22 = .ok (.iconst 1, 1) := dk_4 (dk_at dksX3_isThing_0 22 rfl rfl)
theorem dX3_isThing_23 : decode cX3_isThing 23 = .ok (.goto 4, 3) := dk_167 0 4 (dk_at dksX3_isThing_1 0 rfl rfl)
theorem dX3_isThing_26 : decode cX3_isThing 26 = .ok (.iconst 0, 1) := dk_3 (dk_at dksX3_isThing_1 3 rfl rfl)
theorem dX3_isThing_27 : decode cX3_isThing 27 = .ok (.ireturn, 1) := dk_172 (dk_at dksX3_isThing_1 4 rfl rfl)
abbrev cX3_isUnder : ByteArray := prog_11_method_5_code
def yX3_isUnder : MethodName := ⟨RX3, "isUnder", "(II)Z"⟩
def dkwX3_isUnder_1 : List UInt8 := [4, 167, 0, 4, 3, 172]
abbrev dktX3_isUnder_1 : List UInt8 := dkwX3_isUnder_1 ++ []
def dkwX3_isUnder_0 : List UInt8 := [26, 27, 159, 0, 22, 26, 4, 160, 0, 7, 27, 153, 0, 13, 26, 6, 160, 0, 12, 27, 5, 160, 0, 7]
abbrev dktX3_isUnder_0 : List UInt8 := dkwX3_isUnder_0 ++ dktX3_isUnder_1
theorem dksX3_isUnder_0 : cX3_isUnder.data.toList.drop 0 = dktX3_isUnder_0 := by decide +kernel
theorem dksX3_isUnder_1 : cX3_isUnder.data.toList.drop 24 = dktX3_isUnder_1 := dk_seg dksX3_isUnder_0 24 rfl rfl
theorem dX3_isUnder_0 : decode cX3_isUnder 0 = .ok (.iload_n 0, 1) := dk_26 (dk_at dksX3_isUnder_0 0 rfl rfl)
theorem dX3_isUnder_1 : decode cX3_isUnder 1 = .ok (.iload_n 1, 1) := dk_27 (dk_at dksX3_isUnder_0 1 rfl rfl)
theorem dX3_isUnder_2 : decode cX3_isUnder 2 = .ok (.if_icmp .eq 22, 3) := dk_159 0 22 (dk_at dksX3_isUnder_0 2 rfl rfl)
theorem dX3_isUnder_5 : decode cX3_isUnder 5 = .ok (.iload_n 0, 1) := dk_26 (dk_at dksX3_isUnder_0 5 rfl rfl)
theorem dX3_isUnder_6 : decode cX3_isUnder 6 = .ok (.iconst 1, 1) := dk_4 (dk_at dksX3_isUnder_0 6 rfl rfl)
theorem dX3_isUnder_7 : decode cX3_isUnder 7 = .ok (.if_icmp .ne 7, 3) := dk_160 0 7 (dk_at dksX3_isUnder_0 7 rfl rfl)
theorem dX3_isUnder_10 : decode cX3_isUnder 10 = .ok (.iload_n 1, 1) := dk_27 (dk_at dksX3_isUnder_0 10 rfl rfl)
theorem dX3_isUnder_11 : decode cX3_isUnder 11 = .ok (.ifCond .eq 13, 3) := dk_153 0 13 (dk_at dksX3_isUnder_0 11 rfl rfl)
theorem dX3_isUnder_14 : decode cX3_isUnder 14 = .ok (.iload_n 0, 1) := dk_26 (dk_at dksX3_isUnder_0 14 rfl rfl)
theorem dX3_isUnder_15 : decode cX3_isUnder 15 = .ok (.iconst 3, 1) := dk_6 (dk_at dksX3_isUnder_0 15 rfl rfl)
theorem dX3_isUnder_16 : decode cX3_isUnder 16 = .ok (.if_icmp .ne 12, 3) := dk_160 0 12 (dk_at dksX3_isUnder_0 16 rfl rfl)
theorem dX3_isUnder_19 : decode cX3_isUnder 19 = .ok (.iload_n 1, 1) := dk_27 (dk_at dksX3_isUnder_0 19 rfl rfl)
theorem dX3_isUnder_20 : decode cX3_isUnder 20 = .ok (.iconst 2, 1) := dk_5 (dk_at dksX3_isUnder_0 20 rfl rfl)
theorem dX3_isUnder_21 : decode cX3_isUnder 21 = .ok (.if_icmp .ne 7, 3) := dk_160 0 7 (dk_at dksX3_isUnder_0 21 rfl rfl)
theorem dX3_isUnder_24 : decode cX3_isUnder 24 = .ok (.iconst 1, 1) := dk_4 (dk_at dksX3_isUnder_1 0 rfl rfl)
theorem dX3_isUnder_25 : decode cX3_isUnder 25 = .ok (.goto 4, 3) := dk_167 0 4 (dk_at dksX3_isUnder_1 1 rfl rfl)
theorem dX3_isUnder_28 : decode cX3_isUnder 28 = .ok (.iconst 0, 1) := dk_3 (dk_at dksX3_isUnder_1 4 rfl rfl)
theorem dX3_isUnder_29 : decode cX3_isUnder 29 = .ok (.ireturn, 1) := dk_172 (dk_at dksX3_isUnder_1 5 rfl rfl)
abbrev cX3_written : ByteArray := prog_11_method_23_code
def yX3_written : MethodName := ⟨RX3, "written", "(III)I"⟩
def dkwX3_written_5 : List UInt8 := [182, 0, 89, 87, 21, 4, 172]
abbrev dktX3_written_5 : List UInt8 := dkwX3_written_5 ++ []
def dkwX3_written_4 : List UInt8 := [180, 0, 7, 3, 46, 79, 42, 180, 0, 7, 16, 122, 16, 12, 27, 104, 96, 28, 96, 21, 4, 79, 42]
abbrev dktX3_written_4 : List UInt8 := dkwX3_written_4 ++ dktX3_written_5
def dkwX3_written_3 : List UInt8 := [180, 0, 7, 17, 1, 106, 21, 4, 96, 29, 79, 42, 180, 0, 7, 17, 1, 202, 21, 4, 96, 42]
abbrev dktX3_written_3 : List UInt8 := dkwX3_written_3 ++ dktX3_written_4
def dkwX3_written_2 : List UInt8 := [4, 167, 0, 4, 3, 54, 5, 21, 4, 16, 96, 159, 0, 8, 21, 5, 153, 0, 6, 16, 252, 172, 42]
abbrev dktX3_written_2 : List UInt8 := dkwX3_written_2 ++ dktX3_written_3
def dkwX3_written_1 : List UInt8 := [27, 28, 182, 0, 86, 133, 101, 29, 133, 97, 42, 180, 0, 7, 16, 82, 27, 96, 46, 133, 148, 158, 0, 7]
abbrev dktX3_written_1 : List UInt8 := dkwX3_written_1 ++ dktX3_written_2
def dkwX3_written_0 : List UInt8 := [42, 182, 0, 79, 54, 4, 42, 180, 0, 7, 5, 27, 96, 46, 4, 160, 0, 37, 42, 27, 182, 0, 82, 42]
abbrev dktX3_written_0 : List UInt8 := dkwX3_written_0 ++ dktX3_written_1
theorem dksX3_written_0 : cX3_written.data.toList.drop 0 = dktX3_written_0 := by decide +kernel
theorem dksX3_written_1 : cX3_written.data.toList.drop 24 = dktX3_written_1 := dk_seg dksX3_written_0 24 rfl rfl
theorem dksX3_written_2 : cX3_written.data.toList.drop 48 = dktX3_written_2 := dk_seg dksX3_written_1 24 rfl rfl
theorem dksX3_written_3 : cX3_written.data.toList.drop 71 = dktX3_written_3 := dk_seg dksX3_written_2 23 rfl rfl
theorem dksX3_written_4 : cX3_written.data.toList.drop 93 = dktX3_written_4 := dk_seg dksX3_written_3 22 rfl rfl
theorem dksX3_written_5 : cX3_written.data.toList.drop 116 = dktX3_written_5 := dk_seg dksX3_written_4 23 rfl rfl
theorem dX3_written_0 : decode cX3_written 0 = .ok (.aload_n 0, 1) := dk_42 (dk_at dksX3_written_0 0 rfl rfl)
theorem dX3_written_1 : decode cX3_written 1 = .ok (.invokevirtual 79, 3) := dk_182 0 79 (dk_at dksX3_written_0 1 rfl rfl)
theorem dX3_written_4 : decode cX3_written 4 = .ok (.istore 4, 2) := dk_54 4 (dk_at dksX3_written_0 4 rfl rfl)
theorem dX3_written_6 : decode cX3_written 6 = .ok (.aload_n 0, 1) := dk_42 (dk_at dksX3_written_0 6 rfl rfl)
theorem dX3_written_7 : decode cX3_written 7 = .ok (.getfield 7, 3) := dk_180 0 7 (dk_at dksX3_written_0 7 rfl rfl)
theorem dX3_written_10 : decode cX3_written 10 = .ok (.iconst 2, 1) := dk_5 (dk_at dksX3_written_0 10 rfl rfl)
theorem dX3_written_11 : decode cX3_written 11 = .ok (.iload_n 1, 1) := dk_27 (dk_at dksX3_written_0 11 rfl rfl)
theorem dX3_written_12 : decode cX3_written 12 = .ok (.iadd, 1) := dk_96 (dk_at dksX3_written_0 12 rfl rfl)
theorem dX3_written_13 : decode cX3_written 13 = .ok (.iaload, 1) := dk_46 (dk_at dksX3_written_0 13 rfl rfl)
theorem dX3_written_14 : decode cX3_written 14 = .ok (.iconst 1, 1) := dk_4 (dk_at dksX3_written_0 14 rfl rfl)
theorem dX3_written_15 : decode cX3_written 15 = .ok (.if_icmp .ne 37, 3) := dk_160 0 37 (dk_at dksX3_written_0 15 rfl rfl)
theorem dX3_written_18 : decode cX3_written 18 = .ok (.aload_n 0, 1) := dk_42 (dk_at dksX3_written_0 18 rfl rfl)
theorem dX3_written_19 : decode cX3_written 19 = .ok (.iload_n 1, 1) := dk_27 (dk_at dksX3_written_0 19 rfl rfl)
theorem dX3_written_20 : decode cX3_written 20 = .ok (.invokevirtual 82, 3) := dk_182 0 82 (dk_at dksX3_written_0 20 rfl rfl)
theorem dX3_written_23 : decode cX3_written 23 = .ok (.aload_n 0, 1) := dk_42 (dk_at dksX3_written_0 23 rfl rfl)
theorem dX3_written_24 : decode cX3_written 24 = .ok (.iload_n 1, 1) := dk_27 (dk_at dksX3_written_1 0 rfl rfl)
theorem dX3_written_25 : decode cX3_written 25 = .ok (.iload_n 2, 1) := dk_28 (dk_at dksX3_written_1 1 rfl rfl)
theorem dX3_written_26 : decode cX3_written 26 = .ok (.invokevirtual 86, 3) := dk_182 0 86 (dk_at dksX3_written_1 2 rfl rfl)
theorem dX3_written_29 : decode cX3_written 29 = .ok (.i2l, 1) := dk_133 (dk_at dksX3_written_1 5 rfl rfl)
theorem dX3_written_30 : decode cX3_written 30 = .ok (.lsub, 1) := dk_101 (dk_at dksX3_written_1 6 rfl rfl)
theorem dX3_written_31 : decode cX3_written 31 = .ok (.iload_n 3, 1) := dk_29 (dk_at dksX3_written_1 7 rfl rfl)
theorem dX3_written_32 : decode cX3_written 32 = .ok (.i2l, 1) := dk_133 (dk_at dksX3_written_1 8 rfl rfl)
theorem dX3_written_33 : decode cX3_written 33 = .ok (.ladd, 1) := dk_97 (dk_at dksX3_written_1 9 rfl rfl)
theorem dX3_written_34 : decode cX3_written 34 = .ok (.aload_n 0, 1) := dk_42 (dk_at dksX3_written_1 10 rfl rfl)
theorem dX3_written_35 : decode cX3_written 35 = .ok (.getfield 7, 3) := dk_180 0 7 (dk_at dksX3_written_1 11 rfl rfl)
theorem dX3_written_38 : decode cX3_written 38 = .ok (.bipush 82, 2) := dk_16 82 (dk_at dksX3_written_1 14 rfl rfl)
theorem dX3_written_40 : decode cX3_written 40 = .ok (.iload_n 1, 1) := dk_27 (dk_at dksX3_written_1 16 rfl rfl)
theorem dX3_written_41 : decode cX3_written 41 = .ok (.iadd, 1) := dk_96 (dk_at dksX3_written_1 17 rfl rfl)
theorem dX3_written_42 : decode cX3_written 42 = .ok (.iaload, 1) := dk_46 (dk_at dksX3_written_1 18 rfl rfl)
theorem dX3_written_43 : decode cX3_written 43 = .ok (.i2l, 1) := dk_133 (dk_at dksX3_written_1 19 rfl rfl)
theorem dX3_written_44 : decode cX3_written 44 = .ok (.lcmp, 1) := dk_148 (dk_at dksX3_written_1 20 rfl rfl)
theorem dX3_written_45 : decode cX3_written 45 = .ok (.ifCond .le 7, 3) := dk_158 0 7 (dk_at dksX3_written_1 21 rfl rfl)
theorem dX3_written_48 : decode cX3_written 48 = .ok (.iconst 1, 1) := dk_4 (dk_at dksX3_written_2 0 rfl rfl)
theorem dX3_written_49 : decode cX3_written 49 = .ok (.goto 4, 3) := dk_167 0 4 (dk_at dksX3_written_2 1 rfl rfl)
theorem dX3_written_52 : decode cX3_written 52 = .ok (.iconst 0, 1) := dk_3 (dk_at dksX3_written_2 4 rfl rfl)
theorem dX3_written_53 : decode cX3_written 53 = .ok (.istore 5, 2) := dk_54 5 (dk_at dksX3_written_2 5 rfl rfl)
theorem dX3_written_55 : decode cX3_written 55 = .ok (.iload 4, 2) := dk_21 4 (dk_at dksX3_written_2 7 rfl rfl)
theorem dX3_written_57 : decode cX3_written 57 = .ok (.bipush 96, 2) := dk_16 96 (dk_at dksX3_written_2 9 rfl rfl)
theorem dX3_written_59 : decode cX3_written 59 = .ok (.if_icmp .eq 8, 3) := dk_159 0 8 (dk_at dksX3_written_2 11 rfl rfl)
theorem dX3_written_62 : decode cX3_written 62 = .ok (.iload 5, 2) := dk_21 5 (dk_at dksX3_written_2 14 rfl rfl)
theorem dX3_written_64 : decode cX3_written 64 = .ok (.ifCond .eq 6, 3) := dk_153 0 6 (dk_at dksX3_written_2 16 rfl rfl)
theorem dX3_written_67 : decode cX3_written 67 = .ok (.bipush (-4), 2) := dk_16 252 (dk_at dksX3_written_2 19 rfl rfl)
theorem dX3_written_69 : decode cX3_written 69 = .ok (.ireturn, 1) := dk_172 (dk_at dksX3_written_2 21 rfl rfl)
theorem dX3_written_70 : decode cX3_written 70 = .ok (.aload_n 0, 1) := dk_42 (dk_at dksX3_written_2 22 rfl rfl)
theorem dX3_written_71 : decode cX3_written 71 = .ok (.getfield 7, 3) := dk_180 0 7 (dk_at dksX3_written_3 0 rfl rfl)
theorem dX3_written_74 : decode cX3_written 74 = .ok (.sipush 362, 3) := dk_17 1 106 (dk_at dksX3_written_3 3 rfl rfl)
theorem dX3_written_77 : decode cX3_written 77 = .ok (.iload 4, 2) := dk_21 4 (dk_at dksX3_written_3 6 rfl rfl)
theorem dX3_written_79 : decode cX3_written 79 = .ok (.iadd, 1) := dk_96 (dk_at dksX3_written_3 8 rfl rfl)
theorem dX3_written_80 : decode cX3_written 80 = .ok (.iload_n 3, 1) := dk_29 (dk_at dksX3_written_3 9 rfl rfl)
theorem dX3_written_81 : decode cX3_written 81 = .ok (.iastore, 1) := dk_79 (dk_at dksX3_written_3 10 rfl rfl)
theorem dX3_written_82 : decode cX3_written 82 = .ok (.aload_n 0, 1) := dk_42 (dk_at dksX3_written_3 11 rfl rfl)
theorem dX3_written_83 : decode cX3_written 83 = .ok (.getfield 7, 3) := dk_180 0 7 (dk_at dksX3_written_3 12 rfl rfl)
theorem dX3_written_86 : decode cX3_written 86 = .ok (.sipush 458, 3) := dk_17 1 202 (dk_at dksX3_written_3 15 rfl rfl)
theorem dX3_written_89 : decode cX3_written 89 = .ok (.iload 4, 2) := dk_21 4 (dk_at dksX3_written_3 18 rfl rfl)
theorem dX3_written_91 : decode cX3_written 91 = .ok (.iadd, 1) := dk_96 (dk_at dksX3_written_3 20 rfl rfl)
theorem dX3_written_92 : decode cX3_written 92 = .ok (.aload_n 0, 1) := dk_42 (dk_at dksX3_written_3 21 rfl rfl)
theorem dX3_written_93 : decode cX3_written 93 = .ok (.getfield 7, 3) := dk_180 0 7 (dk_at dksX3_written_4 0 rfl rfl)
theorem dX3_written_96 : decode cX3_written 96 = .ok (.iconst 0, 1) := dk_3 (dk_at dksX3_written_4 3 rfl rfl)
theorem dX3_written_97 : decode cX3_written 97 = .ok (.iaload, 1) := dk_46 (dk_at dksX3_written_4 4 rfl rfl)
theorem dX3_written_98 : decode cX3_written 98 = .ok (.iastore, 1) := dk_79 (dk_at dksX3_written_4 5 rfl rfl)
theorem dX3_written_99 : decode cX3_written 99 = .ok (.aload_n 0, 1) := dk_42 (dk_at dksX3_written_4 6 rfl rfl)
theorem dX3_written_100 : decode cX3_written 100 = .ok (.getfield 7, 3) := dk_180 0 7 (dk_at dksX3_written_4 7 rfl rfl)
theorem dX3_written_103 : decode cX3_written 103 = .ok (.bipush 122, 2) := dk_16 122 (dk_at dksX3_written_4 10 rfl rfl)
theorem dX3_written_105 : decode cX3_written 105 = .ok (.bipush 12, 2) := dk_16 12 (dk_at dksX3_written_4 12 rfl rfl)
theorem dX3_written_107 : decode cX3_written 107 = .ok (.iload_n 1, 1) := dk_27 (dk_at dksX3_written_4 14 rfl rfl)
theorem dX3_written_108 : decode cX3_written 108 = .ok (.imul, 1) := dk_104 (dk_at dksX3_written_4 15 rfl rfl)
theorem dX3_written_109 : decode cX3_written 109 = .ok (.iadd, 1) := dk_96 (dk_at dksX3_written_4 16 rfl rfl)
theorem dX3_written_110 : decode cX3_written 110 = .ok (.iload_n 2, 1) := dk_28 (dk_at dksX3_written_4 17 rfl rfl)
theorem dX3_written_111 : decode cX3_written 111 = .ok (.iadd, 1) := dk_96 (dk_at dksX3_written_4 18 rfl rfl)
theorem dX3_written_112 : decode cX3_written 112 = .ok (.iload 4, 2) := dk_21 4 (dk_at dksX3_written_4 19 rfl rfl)
theorem dX3_written_114 : decode cX3_written 114 = .ok (.iastore, 1) := dk_79 (dk_at dksX3_written_4 21 rfl rfl)
theorem dX3_written_115 : decode cX3_written 115 = .ok (.aload_n 0, 1) := dk_42 (dk_at dksX3_written_4 22 rfl rfl)
theorem dX3_written_116 : decode cX3_written 116 = .ok (.invokevirtual 89, 3) := dk_182 0 89 (dk_at dksX3_written_5 0 rfl rfl)
theorem dX3_written_119 : decode cX3_written 119 = .ok (.pop, 1) := dk_87 (dk_at dksX3_written_5 3 rfl rfl)
theorem dX3_written_120 : decode cX3_written 120 = .ok (.iload 4, 2) := dk_21 4 (dk_at dksX3_written_5 4 rfl rfl)
theorem dX3_written_122 : decode cX3_written 122 = .ok (.ireturn, 1) := dk_172 (dk_at dksX3_written_5 6 rfl rfl)
abbrev cX3_newBlock : ByteArray := prog_11_method_15_code
def yX3_newBlock : MethodName := ⟨RX3, "newBlock", "()I"⟩
def dkwX3_newBlock_1 : List UInt8 := [167, 255, 234, 27, 172]
abbrev dktX3_newBlock_1 : List UInt8 := dkwX3_newBlock_1 ++ []
def dkwX3_newBlock_0 : List UInt8 := [3, 60, 27, 16, 96, 162, 0, 22, 42, 180, 0, 7, 17, 1, 106, 27, 96, 46, 158, 0, 9, 132, 1, 1]
abbrev dktX3_newBlock_0 : List UInt8 := dkwX3_newBlock_0 ++ dktX3_newBlock_1
theorem dksX3_newBlock_0 : cX3_newBlock.data.toList.drop 0 = dktX3_newBlock_0 := by decide +kernel
theorem dksX3_newBlock_1 : cX3_newBlock.data.toList.drop 24 = dktX3_newBlock_1 := dk_seg dksX3_newBlock_0 24 rfl rfl
theorem dX3_newBlock_0 : decode cX3_newBlock 0 = .ok (.iconst 0, 1) := dk_3 (dk_at dksX3_newBlock_0 0 rfl rfl)
theorem dX3_newBlock_1 : decode cX3_newBlock 1 = .ok (.istore_n 1, 1) := dk_60 (dk_at dksX3_newBlock_0 1 rfl rfl)
theorem dX3_newBlock_2 : decode cX3_newBlock 2 = .ok (.iload_n 1, 1) := dk_27 (dk_at dksX3_newBlock_0 2 rfl rfl)
theorem dX3_newBlock_3 : decode cX3_newBlock 3 = .ok (.bipush 96, 2) := dk_16 96 (dk_at dksX3_newBlock_0 3 rfl rfl)
theorem dX3_newBlock_5 : decode cX3_newBlock 5 = .ok (.if_icmp .ge 22, 3) := dk_162 0 22 (dk_at dksX3_newBlock_0 5 rfl rfl)
theorem dX3_newBlock_8 : decode cX3_newBlock 8 = .ok (.aload_n 0, 1) := dk_42 (dk_at dksX3_newBlock_0 8 rfl rfl)
theorem dX3_newBlock_9 : decode cX3_newBlock 9 = .ok (.getfield 7, 3) := dk_180 0 7 (dk_at dksX3_newBlock_0 9 rfl rfl)
theorem dX3_newBlock_12 : decode cX3_newBlock 12 = .ok (.sipush 362, 3) := dk_17 1 106 (dk_at dksX3_newBlock_0 12 rfl rfl)
theorem dX3_newBlock_15 : decode cX3_newBlock 15 = .ok (.iload_n 1, 1) := dk_27 (dk_at dksX3_newBlock_0 15 rfl rfl)
theorem dX3_newBlock_16 : decode cX3_newBlock 16 = .ok (.iadd, 1) := dk_96 (dk_at dksX3_newBlock_0 16 rfl rfl)
theorem dX3_newBlock_17 : decode cX3_newBlock 17 = .ok (.iaload, 1) := dk_46 (dk_at dksX3_newBlock_0 17 rfl rfl)
theorem dX3_newBlock_18 : decode cX3_newBlock 18 = .ok (.ifCond .le 9, 3) := dk_158 0 9 (dk_at dksX3_newBlock_0 18 rfl rfl)
theorem dX3_newBlock_21 : decode cX3_newBlock 21 = .ok (.iinc 1 1, 3) := dk_132 1 1 (dk_at dksX3_newBlock_0 21 rfl rfl)
theorem dX3_newBlock_24 : decode cX3_newBlock 24 = .ok (.goto (-22), 3) := dk_167 255 234 (dk_at dksX3_newBlock_1 0 rfl rfl)
theorem dX3_newBlock_27 : decode cX3_newBlock 27 = .ok (.iload_n 1, 1) := dk_27 (dk_at dksX3_newBlock_1 3 rfl rfl)
theorem dX3_newBlock_28 : decode cX3_newBlock 28 = .ok (.ireturn, 1) := dk_172 (dk_at dksX3_newBlock_1 4 rfl rfl)
abbrev cX3_spaceOf : ByteArray := prog_11_method_21_code
def yX3_spaceOf : MethodName := ⟨RX3, "spaceOf", "(I)J"⟩
def dkwX3_spaceOf_2 : List UInt8 := [21, 5, 96, 46, 133, 97, 65, 132, 4, 1, 167, 255, 204, 32, 173]
abbrev dktX3_spaceOf_2 : List UInt8 := dkwX3_spaceOf_2 ++ []
def dkwX3_spaceOf_1 : List UInt8 := [21, 4, 96, 46, 54, 5, 32, 21, 5, 2, 160, 0, 7, 9, 167, 0, 15, 42, 180, 0, 7, 17, 1, 106]
abbrev dktX3_spaceOf_1 : List UInt8 := dkwX3_spaceOf_1 ++ dktX3_spaceOf_2
def dkwX3_spaceOf_0 : List UInt8 := [9, 65, 3, 54, 4, 21, 4, 16, 12, 162, 0, 51, 42, 180, 0, 7, 16, 122, 16, 12, 27, 104, 96]
abbrev dktX3_spaceOf_0 : List UInt8 := dkwX3_spaceOf_0 ++ dktX3_spaceOf_1
theorem dksX3_spaceOf_0 : cX3_spaceOf.data.toList.drop 0 = dktX3_spaceOf_0 := by decide +kernel
theorem dksX3_spaceOf_1 : cX3_spaceOf.data.toList.drop 23 = dktX3_spaceOf_1 := dk_seg dksX3_spaceOf_0 23 rfl rfl
theorem dksX3_spaceOf_2 : cX3_spaceOf.data.toList.drop 47 = dktX3_spaceOf_2 := dk_seg dksX3_spaceOf_1 24 rfl rfl
theorem dX3_spaceOf_0 : decode cX3_spaceOf 0 = .ok (.lconst 0, 1) := dk_9 (dk_at dksX3_spaceOf_0 0 rfl rfl)
theorem dX3_spaceOf_1 : decode cX3_spaceOf 1 = .ok (.lstore_n 2, 1) := dk_65 (dk_at dksX3_spaceOf_0 1 rfl rfl)
theorem dX3_spaceOf_2 : decode cX3_spaceOf 2 = .ok (.iconst 0, 1) := dk_3 (dk_at dksX3_spaceOf_0 2 rfl rfl)
theorem dX3_spaceOf_3 : decode cX3_spaceOf 3 = .ok (.istore 4, 2) := dk_54 4 (dk_at dksX3_spaceOf_0 3 rfl rfl)
theorem dX3_spaceOf_5 : decode cX3_spaceOf 5 = .ok (.iload 4, 2) := dk_21 4 (dk_at dksX3_spaceOf_0 5 rfl rfl)
theorem dX3_spaceOf_7 : decode cX3_spaceOf 7 = .ok (.bipush 12, 2) := dk_16 12 (dk_at dksX3_spaceOf_0 7 rfl rfl)
theorem dX3_spaceOf_9 : decode cX3_spaceOf 9 = .ok (.if_icmp .ge 51, 3) := dk_162 0 51 (dk_at dksX3_spaceOf_0 9 rfl rfl)
theorem dX3_spaceOf_12 : decode cX3_spaceOf 12 = .ok (.aload_n 0, 1) := dk_42 (dk_at dksX3_spaceOf_0 12 rfl rfl)
theorem dX3_spaceOf_13 : decode cX3_spaceOf 13 = .ok (.getfield 7, 3) := dk_180 0 7 (dk_at dksX3_spaceOf_0 13 rfl rfl)
theorem dX3_spaceOf_16 : decode cX3_spaceOf 16 = .ok (.bipush 122, 2) := dk_16 122 (dk_at dksX3_spaceOf_0 16 rfl rfl)
theorem dX3_spaceOf_18 : decode cX3_spaceOf 18 = .ok (.bipush 12, 2) := dk_16 12 (dk_at dksX3_spaceOf_0 18 rfl rfl)
theorem dX3_spaceOf_20 : decode cX3_spaceOf 20 = .ok (.iload_n 1, 1) := dk_27 (dk_at dksX3_spaceOf_0 20 rfl rfl)
theorem dX3_spaceOf_21 : decode cX3_spaceOf 21 = .ok (.imul, 1) := dk_104 (dk_at dksX3_spaceOf_0 21 rfl rfl)
theorem dX3_spaceOf_22 : decode cX3_spaceOf 22 = .ok (.iadd, 1) := dk_96 (dk_at dksX3_spaceOf_0 22 rfl rfl)
theorem dX3_spaceOf_23 : decode cX3_spaceOf 23 = .ok (.iload 4, 2) := dk_21 4 (dk_at dksX3_spaceOf_1 0 rfl rfl)
theorem dX3_spaceOf_25 : decode cX3_spaceOf 25 = .ok (.iadd, 1) := dk_96 (dk_at dksX3_spaceOf_1 2 rfl rfl)
theorem dX3_spaceOf_26 : decode cX3_spaceOf 26 = .ok (.iaload, 1) := dk_46 (dk_at dksX3_spaceOf_1 3 rfl rfl)
theorem dX3_spaceOf_27 : decode cX3_spaceOf 27 = .ok (.istore 5, 2) := dk_54 5 (dk_at dksX3_spaceOf_1 4 rfl rfl)
theorem dX3_spaceOf_29 : decode cX3_spaceOf 29 = .ok (.lload_n 2, 1) := dk_32 (dk_at dksX3_spaceOf_1 6 rfl rfl)
theorem dX3_spaceOf_30 : decode cX3_spaceOf 30 = .ok (.iload 5, 2) := dk_21 5 (dk_at dksX3_spaceOf_1 7 rfl rfl)
theorem dX3_spaceOf_32 : decode cX3_spaceOf 32 = .ok (.iconst (-1), 1) := dk_2 (dk_at dksX3_spaceOf_1 9 rfl rfl)
theorem dX3_spaceOf_33 : decode cX3_spaceOf 33 = .ok (.if_icmp .ne 7, 3) := dk_160 0 7 (dk_at dksX3_spaceOf_1 10 rfl rfl)
theorem dX3_spaceOf_36 : decode cX3_spaceOf 36 = .ok (.lconst 0, 1) := dk_9 (dk_at dksX3_spaceOf_1 13 rfl rfl)
theorem dX3_spaceOf_37 : decode cX3_spaceOf 37 = .ok (.goto 15, 3) := dk_167 0 15 (dk_at dksX3_spaceOf_1 14 rfl rfl)
theorem dX3_spaceOf_40 : decode cX3_spaceOf 40 = .ok (.aload_n 0, 1) := dk_42 (dk_at dksX3_spaceOf_1 17 rfl rfl)
theorem dX3_spaceOf_41 : decode cX3_spaceOf 41 = .ok (.getfield 7, 3) := dk_180 0 7 (dk_at dksX3_spaceOf_1 18 rfl rfl)
theorem dX3_spaceOf_44 : decode cX3_spaceOf 44 = .ok (.sipush 362, 3) := dk_17 1 106 (dk_at dksX3_spaceOf_1 21 rfl rfl)
theorem dX3_spaceOf_47 : decode cX3_spaceOf 47 = .ok (.iload 5, 2) := dk_21 5 (dk_at dksX3_spaceOf_2 0 rfl rfl)
theorem dX3_spaceOf_49 : decode cX3_spaceOf 49 = .ok (.iadd, 1) := dk_96 (dk_at dksX3_spaceOf_2 2 rfl rfl)
theorem dX3_spaceOf_50 : decode cX3_spaceOf 50 = .ok (.iaload, 1) := dk_46 (dk_at dksX3_spaceOf_2 3 rfl rfl)
theorem dX3_spaceOf_51 : decode cX3_spaceOf 51 = .ok (.i2l, 1) := dk_133 (dk_at dksX3_spaceOf_2 4 rfl rfl)
theorem dX3_spaceOf_52 : decode cX3_spaceOf 52 = .ok (.ladd, 1) := dk_97 (dk_at dksX3_spaceOf_2 5 rfl rfl)
theorem dX3_spaceOf_53 : decode cX3_spaceOf 53 = .ok (.lstore_n 2, 1) := dk_65 (dk_at dksX3_spaceOf_2 6 rfl rfl)
theorem dX3_spaceOf_54 : decode cX3_spaceOf 54 = .ok (.iinc 4 1, 3) := dk_132 4 1 (dk_at dksX3_spaceOf_2 7 rfl rfl)
theorem dX3_spaceOf_57 : decode cX3_spaceOf 57 = .ok (.goto (-52), 3) := dk_167 255 204 (dk_at dksX3_spaceOf_2 10 rfl rfl)
theorem dX3_spaceOf_60 : decode cX3_spaceOf 60 = .ok (.lload_n 2, 1) := dk_32 (dk_at dksX3_spaceOf_2 13 rfl rfl)
theorem dX3_spaceOf_61 : decode cX3_spaceOf 61 = .ok (.lreturn, 1) := dk_173 (dk_at dksX3_spaceOf_2 14 rfl rfl)
abbrev cX3_sizeIn : ByteArray := prog_11_method_22_code
def yX3_sizeIn : MethodName := ⟨RX3, "sizeIn", "(II)I"⟩
def dkwX3_sizeIn_1 : List UInt8 := [42, 180, 0, 7, 17, 1, 106, 29, 96, 46, 172]
abbrev dktX3_sizeIn_1 : List UInt8 := dkwX3_sizeIn_1 ++ []
def dkwX3_sizeIn_0 : List UInt8 := [42, 180, 0, 7, 16, 122, 16, 12, 27, 104, 96, 28, 96, 46, 62, 29, 2, 160, 0, 7, 3, 167, 0, 13]
abbrev dktX3_sizeIn_0 : List UInt8 := dkwX3_sizeIn_0 ++ dktX3_sizeIn_1
theorem dksX3_sizeIn_0 : cX3_sizeIn.data.toList.drop 0 = dktX3_sizeIn_0 := by decide +kernel
theorem dksX3_sizeIn_1 : cX3_sizeIn.data.toList.drop 24 = dktX3_sizeIn_1 := dk_seg dksX3_sizeIn_0 24 rfl rfl
theorem dX3_sizeIn_0 : decode cX3_sizeIn 0 = .ok (.aload_n 0, 1) := dk_42 (dk_at dksX3_sizeIn_0 0 rfl rfl)
theorem dX3_sizeIn_1 : decode cX3_sizeIn 1 = .ok (.getfield 7, 3) := dk_180 0 7 (dk_at dksX3_sizeIn_0 1 rfl rfl)
theorem dX3_sizeIn_4 : decode cX3_sizeIn 4 = .ok (.bipush 122, 2) := dk_16 122 (dk_at dksX3_sizeIn_0 4 rfl rfl)
theorem dX3_sizeIn_6 : decode cX3_sizeIn 6 = .ok (.bipush 12, 2) := dk_16 12 (dk_at dksX3_sizeIn_0 6 rfl rfl)
theorem dX3_sizeIn_8 : decode cX3_sizeIn 8 = .ok (.iload_n 1, 1) := dk_27 (dk_at dksX3_sizeIn_0 8 rfl rfl)
theorem dX3_sizeIn_9 : decode cX3_sizeIn 9 = .ok (.imul, 1) := dk_104 (dk_at dksX3_sizeIn_0 9 rfl rfl)
theorem dX3_sizeIn_10 : decode cX3_sizeIn 10 = .ok (.iadd, 1) := dk_96 (dk_at dksX3_sizeIn_0 10 rfl rfl)
theorem dX3_sizeIn_11 : decode cX3_sizeIn 11 = .ok (.iload_n 2, 1) := dk_28 (dk_at dksX3_sizeIn_0 11 rfl rfl)
theorem dX3_sizeIn_12 : decode cX3_sizeIn 12 = .ok (.iadd, 1) := dk_96 (dk_at dksX3_sizeIn_0 12 rfl rfl)
theorem dX3_sizeIn_13 : decode cX3_sizeIn 13 = .ok (.iaload, 1) := dk_46 (dk_at dksX3_sizeIn_0 13 rfl rfl)
theorem dX3_sizeIn_14 : decode cX3_sizeIn 14 = .ok (.istore_n 3, 1) := dk_62 (dk_at dksX3_sizeIn_0 14 rfl rfl)
theorem dX3_sizeIn_15 : decode cX3_sizeIn 15 = .ok (.iload_n 3, 1) := dk_29 (dk_at dksX3_sizeIn_0 15 rfl rfl)
theorem dX3_sizeIn_16 : decode cX3_sizeIn 16 = .ok (.iconst (-1), 1) := dk_2 (dk_at dksX3_sizeIn_0 16 rfl rfl)
theorem dX3_sizeIn_17 : decode cX3_sizeIn 17 = .ok (.if_icmp .ne 7, 3) := dk_160 0 7 (dk_at dksX3_sizeIn_0 17 rfl rfl)
theorem dX3_sizeIn_20 : decode cX3_sizeIn 20 = .ok (.iconst 0, 1) := dk_3 (dk_at dksX3_sizeIn_0 20 rfl rfl)
theorem dX3_sizeIn_21 : decode cX3_sizeIn 21 = .ok (.goto 13, 3) := dk_167 0 13 (dk_at dksX3_sizeIn_0 21 rfl rfl)
theorem dX3_sizeIn_24 : decode cX3_sizeIn 24 = .ok (.aload_n 0, 1) := dk_42 (dk_at dksX3_sizeIn_1 0 rfl rfl)
theorem dX3_sizeIn_25 : decode cX3_sizeIn 25 = .ok (.getfield 7, 3) := dk_180 0 7 (dk_at dksX3_sizeIn_1 1 rfl rfl)
theorem dX3_sizeIn_28 : decode cX3_sizeIn 28 = .ok (.sipush 362, 3) := dk_17 1 106 (dk_at dksX3_sizeIn_1 4 rfl rfl)
theorem dX3_sizeIn_31 : decode cX3_sizeIn 31 = .ok (.iload_n 3, 1) := dk_29 (dk_at dksX3_sizeIn_1 7 rfl rfl)
theorem dX3_sizeIn_32 : decode cX3_sizeIn 32 = .ok (.iadd, 1) := dk_96 (dk_at dksX3_sizeIn_1 8 rfl rfl)
theorem dX3_sizeIn_33 : decode cX3_sizeIn 33 = .ok (.iaload, 1) := dk_46 (dk_at dksX3_sizeIn_1 9 rfl rfl)
theorem dX3_sizeIn_34 : decode cX3_sizeIn 34 = .ok (.ireturn, 1) := dk_172 (dk_at dksX3_sizeIn_1 10 rfl rfl)
abbrev cX3_frees : ByteArray := prog_11_method_14_code
def yX3_frees : MethodName := ⟨RX3, "frees", "()I"⟩
def dkwX3_frees_2 : List UInt8 := [132, 1, 1, 132, 2, 1, 167, 255, 211, 42, 180, 0, 7, 4, 92, 46, 27, 96, 79, 27, 172]
abbrev dktX3_frees_2 : List UInt8 := dkwX3_frees_2 ++ []
def dkwX3_frees_1 : List UInt8 := [158, 0, 26, 42, 180, 0, 19, 28, 46, 154, 0, 17, 42, 180, 0, 7, 17, 1, 106, 28, 96, 3, 79]
abbrev dktX3_frees_1 : List UInt8 := dkwX3_frees_1 ++ dktX3_frees_2
def dkwX3_frees_0 : List UInt8 := [42, 182, 0, 67, 3, 60, 3, 61, 28, 16, 96, 162, 0, 45, 42, 180, 0, 7, 17, 1, 106, 28, 96, 46]
abbrev dktX3_frees_0 : List UInt8 := dkwX3_frees_0 ++ dktX3_frees_1
theorem dksX3_frees_0 : cX3_frees.data.toList.drop 0 = dktX3_frees_0 := by decide +kernel
theorem dksX3_frees_1 : cX3_frees.data.toList.drop 24 = dktX3_frees_1 := dk_seg dksX3_frees_0 24 rfl rfl
theorem dksX3_frees_2 : cX3_frees.data.toList.drop 47 = dktX3_frees_2 := dk_seg dksX3_frees_1 23 rfl rfl
theorem dX3_frees_0 : decode cX3_frees 0 = .ok (.aload_n 0, 1) := dk_42 (dk_at dksX3_frees_0 0 rfl rfl)
theorem dX3_frees_1 : decode cX3_frees 1 = .ok (.invokevirtual 67, 3) := dk_182 0 67 (dk_at dksX3_frees_0 1 rfl rfl)
theorem dX3_frees_4 : decode cX3_frees 4 = .ok (.iconst 0, 1) := dk_3 (dk_at dksX3_frees_0 4 rfl rfl)
theorem dX3_frees_5 : decode cX3_frees 5 = .ok (.istore_n 1, 1) := dk_60 (dk_at dksX3_frees_0 5 rfl rfl)
theorem dX3_frees_6 : decode cX3_frees 6 = .ok (.iconst 0, 1) := dk_3 (dk_at dksX3_frees_0 6 rfl rfl)
theorem dX3_frees_7 : decode cX3_frees 7 = .ok (.istore_n 2, 1) := dk_61 (dk_at dksX3_frees_0 7 rfl rfl)
theorem dX3_frees_8 : decode cX3_frees 8 = .ok (.iload_n 2, 1) := dk_28 (dk_at dksX3_frees_0 8 rfl rfl)
theorem dX3_frees_9 : decode cX3_frees 9 = .ok (.bipush 96, 2) := dk_16 96 (dk_at dksX3_frees_0 9 rfl rfl)
theorem dX3_frees_11 : decode cX3_frees 11 = .ok (.if_icmp .ge 45, 3) := dk_162 0 45 (dk_at dksX3_frees_0 11 rfl rfl)
theorem dX3_frees_14 : decode cX3_frees 14 = .ok (.aload_n 0, 1) := dk_42 (dk_at dksX3_frees_0 14 rfl rfl)
theorem dX3_frees_15 : decode cX3_frees 15 = .ok (.getfield 7, 3) := dk_180 0 7 (dk_at dksX3_frees_0 15 rfl rfl)
theorem dX3_frees_18 : decode cX3_frees 18 = .ok (.sipush 362, 3) := dk_17 1 106 (dk_at dksX3_frees_0 18 rfl rfl)
theorem dX3_frees_21 : decode cX3_frees 21 = .ok (.iload_n 2, 1) := dk_28 (dk_at dksX3_frees_0 21 rfl rfl)
theorem dX3_frees_22 : decode cX3_frees 22 = .ok (.iadd, 1) := dk_96 (dk_at dksX3_frees_0 22 rfl rfl)
theorem dX3_frees_23 : decode cX3_frees 23 = .ok (.iaload, 1) := dk_46 (dk_at dksX3_frees_0 23 rfl rfl)
theorem dX3_frees_24 : decode cX3_frees 24 = .ok (.ifCond .le 26, 3) := dk_158 0 26 (dk_at dksX3_frees_1 0 rfl rfl)
theorem dX3_frees_27 : decode cX3_frees 27 = .ok (.aload_n 0, 1) := dk_42 (dk_at dksX3_frees_1 3 rfl rfl)
theorem dX3_frees_28 : decode cX3_frees 28 = .ok (.getfield 19, 3) := dk_180 0 19 (dk_at dksX3_frees_1 4 rfl rfl)
theorem dX3_frees_31 : decode cX3_frees 31 = .ok (.iload_n 2, 1) := dk_28 (dk_at dksX3_frees_1 7 rfl rfl)
theorem dX3_frees_32 : decode cX3_frees 32 = .ok (.iaload, 1) := dk_46 (dk_at dksX3_frees_1 8 rfl rfl)
theorem dX3_frees_33 : decode cX3_frees 33 = .ok (.ifCond .ne 17, 3) := dk_154 0 17 (dk_at dksX3_frees_1 9 rfl rfl)
theorem dX3_frees_36 : decode cX3_frees 36 = .ok (.aload_n 0, 1) := dk_42 (dk_at dksX3_frees_1 12 rfl rfl)
theorem dX3_frees_37 : decode cX3_frees 37 = .ok (.getfield 7, 3) := dk_180 0 7 (dk_at dksX3_frees_1 13 rfl rfl)
theorem dX3_frees_40 : decode cX3_frees 40 = .ok (.sipush 362, 3) := dk_17 1 106 (dk_at dksX3_frees_1 16 rfl rfl)
theorem dX3_frees_43 : decode cX3_frees 43 = .ok (.iload_n 2, 1) := dk_28 (dk_at dksX3_frees_1 19 rfl rfl)
theorem dX3_frees_44 : decode cX3_frees 44 = .ok (.iadd, 1) := dk_96 (dk_at dksX3_frees_1 20 rfl rfl)
theorem dX3_frees_45 : decode cX3_frees 45 = .ok (.iconst 0, 1) := dk_3 (dk_at dksX3_frees_1 21 rfl rfl)
theorem dX3_frees_46 : decode cX3_frees 46 = .ok (.iastore, 1) := dk_79 (dk_at dksX3_frees_1 22 rfl rfl)
theorem dX3_frees_47 : decode cX3_frees 47 = .ok (.iinc 1 1, 3) := dk_132 1 1 (dk_at dksX3_frees_2 0 rfl rfl)
theorem dX3_frees_50 : decode cX3_frees 50 = .ok (.iinc 2 1, 3) := dk_132 2 1 (dk_at dksX3_frees_2 3 rfl rfl)
theorem dX3_frees_53 : decode cX3_frees 53 = .ok (.goto (-45), 3) := dk_167 255 211 (dk_at dksX3_frees_2 6 rfl rfl)
theorem dX3_frees_56 : decode cX3_frees 56 = .ok (.aload_n 0, 1) := dk_42 (dk_at dksX3_frees_2 9 rfl rfl)
theorem dX3_frees_57 : decode cX3_frees 57 = .ok (.getfield 7, 3) := dk_180 0 7 (dk_at dksX3_frees_2 10 rfl rfl)
theorem dX3_frees_60 : decode cX3_frees 60 = .ok (.iconst 1, 1) := dk_4 (dk_at dksX3_frees_2 13 rfl rfl)
theorem dX3_frees_61 : decode cX3_frees 61 = .ok (.dup2, 1) := dk_92 (dk_at dksX3_frees_2 14 rfl rfl)
theorem dX3_frees_62 : decode cX3_frees 62 = .ok (.iaload, 1) := dk_46 (dk_at dksX3_frees_2 15 rfl rfl)
theorem dX3_frees_63 : decode cX3_frees 63 = .ok (.iload_n 1, 1) := dk_27 (dk_at dksX3_frees_2 16 rfl rfl)
theorem dX3_frees_64 : decode cX3_frees 64 = .ok (.iadd, 1) := dk_96 (dk_at dksX3_frees_2 17 rfl rfl)
theorem dX3_frees_65 : decode cX3_frees 65 = .ok (.iastore, 1) := dk_79 (dk_at dksX3_frees_2 18 rfl rfl)
theorem dX3_frees_66 : decode cX3_frees 66 = .ok (.iload_n 1, 1) := dk_27 (dk_at dksX3_frees_2 19 rfl rfl)
theorem dX3_frees_67 : decode cX3_frees 67 = .ok (.ireturn, 1) := dk_172 (dk_at dksX3_frees_2 20 rfl rfl)
abbrev cX3_counts : ByteArray := prog_11_method_12_code
def yX3_counts : MethodName := ⟨RX3, "counts", "()V"⟩
def dkwX3_counts_3 : List UInt8 := [92, 46, 4, 96, 79, 132, 2, 1, 167, 255, 209, 132, 1, 1, 167, 255, 195, 177]
abbrev dktX3_counts_3 : List UInt8 := dkwX3_counts_3 ++ []
def dkwX3_counts_2 : List UInt8 := [180, 0, 7, 16, 122, 16, 12, 27, 104, 96, 28, 96, 46, 62, 29, 2, 159, 0, 13, 42, 180, 0, 19, 29]
abbrev dktX3_counts_2 : List UInt8 := dkwX3_counts_2 ++ dktX3_counts_3
def dkwX3_counts_1 : List UInt8 := [16, 20, 162, 0, 61, 3, 61, 28, 16, 12, 162, 0, 47, 42, 27, 182, 0, 64, 153, 0, 39, 42]
abbrev dktX3_counts_1 : List UInt8 := dkwX3_counts_1 ++ dktX3_counts_2
def dkwX3_counts_0 : List UInt8 := [3, 60, 27, 16, 96, 162, 0, 16, 42, 180, 0, 19, 27, 3, 79, 132, 1, 1, 167, 255, 240, 3, 60, 27]
abbrev dktX3_counts_0 : List UInt8 := dkwX3_counts_0 ++ dktX3_counts_1
theorem dksX3_counts_0 : cX3_counts.data.toList.drop 0 = dktX3_counts_0 := by decide +kernel
theorem dksX3_counts_1 : cX3_counts.data.toList.drop 24 = dktX3_counts_1 := dk_seg dksX3_counts_0 24 rfl rfl
theorem dksX3_counts_2 : cX3_counts.data.toList.drop 46 = dktX3_counts_2 := dk_seg dksX3_counts_1 22 rfl rfl
theorem dksX3_counts_3 : cX3_counts.data.toList.drop 70 = dktX3_counts_3 := dk_seg dksX3_counts_2 24 rfl rfl
theorem dX3_counts_0 : decode cX3_counts 0 = .ok (.iconst 0, 1) := dk_3 (dk_at dksX3_counts_0 0 rfl rfl)
theorem dX3_counts_1 : decode cX3_counts 1 = .ok (.istore_n 1, 1) := dk_60 (dk_at dksX3_counts_0 1 rfl rfl)
theorem dX3_counts_2 : decode cX3_counts 2 = .ok (.iload_n 1, 1) := dk_27 (dk_at dksX3_counts_0 2 rfl rfl)
theorem dX3_counts_3 : decode cX3_counts 3 = .ok (.bipush 96, 2) := dk_16 96 (dk_at dksX3_counts_0 3 rfl rfl)
theorem dX3_counts_5 : decode cX3_counts 5 = .ok (.if_icmp .ge 16, 3) := dk_162 0 16 (dk_at dksX3_counts_0 5 rfl rfl)
theorem dX3_counts_8 : decode cX3_counts 8 = .ok (.aload_n 0, 1) := dk_42 (dk_at dksX3_counts_0 8 rfl rfl)
theorem dX3_counts_9 : decode cX3_counts 9 = .ok (.getfield 19, 3) := dk_180 0 19 (dk_at dksX3_counts_0 9 rfl rfl)
theorem dX3_counts_12 : decode cX3_counts 12 = .ok (.iload_n 1, 1) := dk_27 (dk_at dksX3_counts_0 12 rfl rfl)
theorem dX3_counts_13 : decode cX3_counts 13 = .ok (.iconst 0, 1) := dk_3 (dk_at dksX3_counts_0 13 rfl rfl)
theorem dX3_counts_14 : decode cX3_counts 14 = .ok (.iastore, 1) := dk_79 (dk_at dksX3_counts_0 14 rfl rfl)
theorem dX3_counts_15 : decode cX3_counts 15 = .ok (.iinc 1 1, 3) := dk_132 1 1 (dk_at dksX3_counts_0 15 rfl rfl)
theorem dX3_counts_18 : decode cX3_counts 18 = .ok (.goto (-16), 3) := dk_167 255 240 (dk_at dksX3_counts_0 18 rfl rfl)
theorem dX3_counts_21 : decode cX3_counts 21 = .ok (.iconst 0, 1) := dk_3 (dk_at dksX3_counts_0 21 rfl rfl)
theorem dX3_counts_22 : decode cX3_counts 22 = .ok (.istore_n 1, 1) := dk_60 (dk_at dksX3_counts_0 22 rfl rfl)
theorem dX3_counts_23 : decode cX3_counts 23 = .ok (.iload_n 1, 1) := dk_27 (dk_at dksX3_counts_0 23 rfl rfl)
theorem dX3_counts_24 : decode cX3_counts 24 = .ok (.bipush 20, 2) := dk_16 20 (dk_at dksX3_counts_1 0 rfl rfl)
theorem dX3_counts_26 : decode cX3_counts 26 = .ok (.if_icmp .ge 61, 3) := dk_162 0 61 (dk_at dksX3_counts_1 2 rfl rfl)
theorem dX3_counts_29 : decode cX3_counts 29 = .ok (.iconst 0, 1) := dk_3 (dk_at dksX3_counts_1 5 rfl rfl)
theorem dX3_counts_30 : decode cX3_counts 30 = .ok (.istore_n 2, 1) := dk_61 (dk_at dksX3_counts_1 6 rfl rfl)
theorem dX3_counts_31 : decode cX3_counts 31 = .ok (.iload_n 2, 1) := dk_28 (dk_at dksX3_counts_1 7 rfl rfl)
theorem dX3_counts_32 : decode cX3_counts 32 = .ok (.bipush 12, 2) := dk_16 12 (dk_at dksX3_counts_1 8 rfl rfl)
theorem dX3_counts_34 : decode cX3_counts 34 = .ok (.if_icmp .ge 47, 3) := dk_162 0 47 (dk_at dksX3_counts_1 10 rfl rfl)
theorem dX3_counts_37 : decode cX3_counts 37 = .ok (.aload_n 0, 1) := dk_42 (dk_at dksX3_counts_1 13 rfl rfl)
theorem dX3_counts_38 : decode cX3_counts 38 = .ok (.iload_n 1, 1) := dk_27 (dk_at dksX3_counts_1 14 rfl rfl)
theorem dX3_counts_39 : decode cX3_counts 39 = .ok (.invokevirtual 64, 3) := dk_182 0 64 (dk_at dksX3_counts_1 15 rfl rfl)
theorem dX3_counts_42 : decode cX3_counts 42 = .ok (.ifCond .eq 39, 3) := dk_153 0 39 (dk_at dksX3_counts_1 18 rfl rfl)
theorem dX3_counts_45 : decode cX3_counts 45 = .ok (.aload_n 0, 1) := dk_42 (dk_at dksX3_counts_1 21 rfl rfl)
theorem dX3_counts_46 : decode cX3_counts 46 = .ok (.getfield 7, 3) := dk_180 0 7 (dk_at dksX3_counts_2 0 rfl rfl)
theorem dX3_counts_49 : decode cX3_counts 49 = .ok (.bipush 122, 2) := dk_16 122 (dk_at dksX3_counts_2 3 rfl rfl)
theorem dX3_counts_51 : decode cX3_counts 51 = .ok (.bipush 12, 2) := dk_16 12 (dk_at dksX3_counts_2 5 rfl rfl)
theorem dX3_counts_53 : decode cX3_counts 53 = .ok (.iload_n 1, 1) := dk_27 (dk_at dksX3_counts_2 7 rfl rfl)
theorem dX3_counts_54 : decode cX3_counts 54 = .ok (.imul, 1) := dk_104 (dk_at dksX3_counts_2 8 rfl rfl)
theorem dX3_counts_55 : decode cX3_counts 55 = .ok (.iadd, 1) := dk_96 (dk_at dksX3_counts_2 9 rfl rfl)
theorem dX3_counts_56 : decode cX3_counts 56 = .ok (.iload_n 2, 1) := dk_28 (dk_at dksX3_counts_2 10 rfl rfl)
theorem dX3_counts_57 : decode cX3_counts 57 = .ok (.iadd, 1) := dk_96 (dk_at dksX3_counts_2 11 rfl rfl)
theorem dX3_counts_58 : decode cX3_counts 58 = .ok (.iaload, 1) := dk_46 (dk_at dksX3_counts_2 12 rfl rfl)
theorem dX3_counts_59 : decode cX3_counts 59 = .ok (.istore_n 3, 1) := dk_62 (dk_at dksX3_counts_2 13 rfl rfl)
theorem dX3_counts_60 : decode cX3_counts 60 = .ok (.iload_n 3, 1) := dk_29 (dk_at dksX3_counts_2 14 rfl rfl)
theorem dX3_counts_61 : decode cX3_counts 61 = .ok (.iconst (-1), 1) := dk_2 (dk_at dksX3_counts_2 15 rfl rfl)
theorem dX3_counts_62 : decode cX3_counts 62 = .ok (.if_icmp .eq 13, 3) := dk_159 0 13 (dk_at dksX3_counts_2 16 rfl rfl)
theorem dX3_counts_65 : decode cX3_counts 65 = .ok (.aload_n 0, 1) := dk_42 (dk_at dksX3_counts_2 19 rfl rfl)
theorem dX3_counts_66 : decode cX3_counts 66 = .ok (.getfield 19, 3) := dk_180 0 19 (dk_at dksX3_counts_2 20 rfl rfl)
theorem dX3_counts_69 : decode cX3_counts 69 = .ok (.iload_n 3, 1) := dk_29 (dk_at dksX3_counts_2 23 rfl rfl)
theorem dX3_counts_70 : decode cX3_counts 70 = .ok (.dup2, 1) := dk_92 (dk_at dksX3_counts_3 0 rfl rfl)
theorem dX3_counts_71 : decode cX3_counts 71 = .ok (.iaload, 1) := dk_46 (dk_at dksX3_counts_3 1 rfl rfl)
theorem dX3_counts_72 : decode cX3_counts 72 = .ok (.iconst 1, 1) := dk_4 (dk_at dksX3_counts_3 2 rfl rfl)
theorem dX3_counts_73 : decode cX3_counts 73 = .ok (.iadd, 1) := dk_96 (dk_at dksX3_counts_3 3 rfl rfl)
theorem dX3_counts_74 : decode cX3_counts 74 = .ok (.iastore, 1) := dk_79 (dk_at dksX3_counts_3 4 rfl rfl)
theorem dX3_counts_75 : decode cX3_counts 75 = .ok (.iinc 2 1, 3) := dk_132 2 1 (dk_at dksX3_counts_3 5 rfl rfl)
theorem dX3_counts_78 : decode cX3_counts 78 = .ok (.goto (-47), 3) := dk_167 255 209 (dk_at dksX3_counts_3 8 rfl rfl)
theorem dX3_counts_81 : decode cX3_counts 81 = .ok (.iinc 1 1, 3) := dk_132 1 1 (dk_at dksX3_counts_3 11 rfl rfl)
theorem dX3_counts_84 : decode cX3_counts 84 = .ok (.goto (-61), 3) := dk_167 255 195 (dk_at dksX3_counts_3 14 rfl rfl)
theorem dX3_counts_87 : decode cX3_counts 87 = .ok (.return_, 1) := dk_177 (dk_at dksX3_counts_3 17 rfl rfl)
abbrev cX3_hasSlots : ByteArray := prog_11_method_8_code
def yX3_hasSlots : MethodName := ⟨RX3, "hasSlots", "(I)Z"⟩
def dkwX3_hasSlots_0 : List UInt8 := [42, 27, 182, 0, 54, 154, 0, 11, 42, 27, 182, 0, 57, 153, 0, 7, 4, 167, 0, 4, 3, 172]
abbrev dktX3_hasSlots_0 : List UInt8 := dkwX3_hasSlots_0 ++ []
theorem dksX3_hasSlots_0 : cX3_hasSlots.data.toList.drop 0 = dktX3_hasSlots_0 := by decide +kernel
theorem dX3_hasSlots_0 : decode cX3_hasSlots 0 = .ok (.aload_n 0, 1) := dk_42 (dk_at dksX3_hasSlots_0 0 rfl rfl)
theorem dX3_hasSlots_1 : decode cX3_hasSlots 1 = .ok (.iload_n 1, 1) := dk_27 (dk_at dksX3_hasSlots_0 1 rfl rfl)
theorem dX3_hasSlots_2 : decode cX3_hasSlots 2 = .ok (.invokevirtual 54, 3) := dk_182 0 54 (dk_at dksX3_hasSlots_0 2 rfl rfl)
theorem dX3_hasSlots_5 : decode cX3_hasSlots 5 = .ok (.ifCond .ne 11, 3) := dk_154 0 11 (dk_at dksX3_hasSlots_0 5 rfl rfl)
theorem dX3_hasSlots_8 : decode cX3_hasSlots 8 = .ok (.aload_n 0, 1) := dk_42 (dk_at dksX3_hasSlots_0 8 rfl rfl)
theorem dX3_hasSlots_9 : decode cX3_hasSlots 9 = .ok (.iload_n 1, 1) := dk_27 (dk_at dksX3_hasSlots_0 9 rfl rfl)
theorem dX3_hasSlots_10 : decode cX3_hasSlots 10 = .ok (.invokevirtual 57, 3) := dk_182 0 57 (dk_at dksX3_hasSlots_0 10 rfl rfl)
theorem dX3_hasSlots_13 : decode cX3_hasSlots 13 = .ok (.ifCond .eq 7, 3) := dk_153 0 7 (dk_at dksX3_hasSlots_0 13 rfl rfl)
theorem dX3_hasSlots_16 : decode cX3_hasSlots 16 = .ok (.iconst 1, 1) := dk_4 (dk_at dksX3_hasSlots_0 16 rfl rfl)
theorem dX3_hasSlots_17 : decode cX3_hasSlots 17 = .ok (.goto 4, 3) := dk_167 0 4 (dk_at dksX3_hasSlots_0 17 rfl rfl)
theorem dX3_hasSlots_20 : decode cX3_hasSlots 20 = .ok (.iconst 0, 1) := dk_3 (dk_at dksX3_hasSlots_0 20 rfl rfl)
theorem dX3_hasSlots_21 : decode cX3_hasSlots 21 = .ok (.ireturn, 1) := dk_172 (dk_at dksX3_hasSlots_0 21 rfl rfl)
abbrev cX3_isFiles : ByteArray := prog_11_method_6_code
def yX3_isFiles : MethodName := ⟨RX3, "isFiles", "(I)Z"⟩
def dkwX3_isFiles_1 : List UInt8 := [167, 0, 4, 3, 172]
abbrev dktX3_isFiles_1 : List UInt8 := dkwX3_isFiles_1 ++ []
def dkwX3_isFiles_0 : List UInt8 := [42, 27, 182, 0, 46, 153, 0, 22, 42, 180, 0, 7, 5, 27, 96, 46, 3, 184, 0, 50, 153, 0, 7, 4]
abbrev dktX3_isFiles_0 : List UInt8 := dkwX3_isFiles_0 ++ dktX3_isFiles_1
theorem dksX3_isFiles_0 : cX3_isFiles.data.toList.drop 0 = dktX3_isFiles_0 := by decide +kernel
theorem dksX3_isFiles_1 : cX3_isFiles.data.toList.drop 24 = dktX3_isFiles_1 := dk_seg dksX3_isFiles_0 24 rfl rfl
theorem dX3_isFiles_0 : decode cX3_isFiles 0 = .ok (.aload_n 0, 1) := dk_42 (dk_at dksX3_isFiles_0 0 rfl rfl)
theorem dX3_isFiles_1 : decode cX3_isFiles 1 = .ok (.iload_n 1, 1) := dk_27 (dk_at dksX3_isFiles_0 1 rfl rfl)
theorem dX3_isFiles_2 : decode cX3_isFiles 2 = .ok (.invokevirtual 46, 3) := dk_182 0 46 (dk_at dksX3_isFiles_0 2 rfl rfl)
theorem dX3_isFiles_5 : decode cX3_isFiles 5 = .ok (.ifCond .eq 22, 3) := dk_153 0 22 (dk_at dksX3_isFiles_0 5 rfl rfl)
theorem dX3_isFiles_8 : decode cX3_isFiles 8 = .ok (.aload_n 0, 1) := dk_42 (dk_at dksX3_isFiles_0 8 rfl rfl)
theorem dX3_isFiles_9 : decode cX3_isFiles 9 = .ok (.getfield 7, 3) := dk_180 0 7 (dk_at dksX3_isFiles_0 9 rfl rfl)
theorem dX3_isFiles_12 : decode cX3_isFiles 12 = .ok (.iconst 2, 1) := dk_5 (dk_at dksX3_isFiles_0 12 rfl rfl)
theorem dX3_isFiles_13 : decode cX3_isFiles 13 = .ok (.iload_n 1, 1) := dk_27 (dk_at dksX3_isFiles_0 13 rfl rfl)
theorem dX3_isFiles_14 : decode cX3_isFiles 14 = .ok (.iadd, 1) := dk_96 (dk_at dksX3_isFiles_0 14 rfl rfl)
theorem dX3_isFiles_15 : decode cX3_isFiles 15 = .ok (.iaload, 1) := dk_46 (dk_at dksX3_isFiles_0 15 rfl rfl)
theorem dX3_isFiles_16 : decode cX3_isFiles 16 = .ok (.iconst 0, 1) := dk_3 (dk_at dksX3_isFiles_0 16 rfl rfl)
theorem dX3_isFiles_17 : decode cX3_isFiles 17 = .ok (.invokestatic 50, 3) := dk_184 0 50 (dk_at dksX3_isFiles_0 17 rfl rfl)
theorem dX3_isFiles_20 : decode cX3_isFiles 20 = .ok (.ifCond .eq 7, 3) := dk_153 0 7 (dk_at dksX3_isFiles_0 20 rfl rfl)
theorem dX3_isFiles_23 : decode cX3_isFiles 23 = .ok (.iconst 1, 1) := dk_4 (dk_at dksX3_isFiles_0 23 rfl rfl)
theorem dX3_isFiles_24 : decode cX3_isFiles 24 = .ok (.goto 4, 3) := dk_167 0 4 (dk_at dksX3_isFiles_1 0 rfl rfl)
theorem dX3_isFiles_27 : decode cX3_isFiles 27 = .ok (.iconst 0, 1) := dk_3 (dk_at dksX3_isFiles_1 3 rfl rfl)
theorem dX3_isFiles_28 : decode cX3_isFiles 28 = .ok (.ireturn, 1) := dk_172 (dk_at dksX3_isFiles_1 4 rfl rfl)
abbrev cX3_isSnapshot : ByteArray := prog_11_method_7_code
def yX3_isSnapshot : MethodName := ⟨RX3, "isSnapshot", "(I)Z"⟩
def dkwX3_isSnapshot_1 : List UInt8 := [167, 0, 4, 3, 172]
abbrev dktX3_isSnapshot_1 : List UInt8 := dkwX3_isSnapshot_1 ++ []
def dkwX3_isSnapshot_0 : List UInt8 := [42, 27, 182, 0, 46, 153, 0, 22, 42, 180, 0, 7, 5, 27, 96, 46, 5, 184, 0, 50, 153, 0, 7, 4]
abbrev dktX3_isSnapshot_0 : List UInt8 := dkwX3_isSnapshot_0 ++ dktX3_isSnapshot_1
theorem dksX3_isSnapshot_0 : cX3_isSnapshot.data.toList.drop 0 = dktX3_isSnapshot_0 := by decide +kernel
theorem dksX3_isSnapshot_1 : cX3_isSnapshot.data.toList.drop 24 = dktX3_isSnapshot_1 := dk_seg dksX3_isSnapshot_0 24 rfl rfl
theorem dX3_isSnapshot_0 : decode cX3_isSnapshot 0 = .ok (.aload_n 0, 1) := dk_42 (dk_at dksX3_isSnapshot_0 0 rfl rfl)
theorem dX3_isSnapshot_1 : decode cX3_isSnapshot 1 = .ok (.iload_n 1, 1) := dk_27 (dk_at dksX3_isSnapshot_0 1 rfl rfl)
theorem dX3_isSnapshot_2 : decode cX3_isSnapshot 2 = .ok (.invokevirtual 46, 3) := dk_182 0 46 (dk_at dksX3_isSnapshot_0 2 rfl rfl)
theorem dX3_isSnapshot_5 : decode cX3_isSnapshot 5 = .ok (.ifCond .eq 22, 3) := dk_153 0 22 (dk_at dksX3_isSnapshot_0 5 rfl rfl)
theorem dX3_isSnapshot_8 : decode cX3_isSnapshot 8 = .ok (.aload_n 0, 1) := dk_42 (dk_at dksX3_isSnapshot_0 8 rfl rfl)
theorem dX3_isSnapshot_9 : decode cX3_isSnapshot 9 = .ok (.getfield 7, 3) := dk_180 0 7 (dk_at dksX3_isSnapshot_0 9 rfl rfl)
theorem dX3_isSnapshot_12 : decode cX3_isSnapshot 12 = .ok (.iconst 2, 1) := dk_5 (dk_at dksX3_isSnapshot_0 12 rfl rfl)
theorem dX3_isSnapshot_13 : decode cX3_isSnapshot 13 = .ok (.iload_n 1, 1) := dk_27 (dk_at dksX3_isSnapshot_0 13 rfl rfl)
theorem dX3_isSnapshot_14 : decode cX3_isSnapshot 14 = .ok (.iadd, 1) := dk_96 (dk_at dksX3_isSnapshot_0 14 rfl rfl)
theorem dX3_isSnapshot_15 : decode cX3_isSnapshot 15 = .ok (.iaload, 1) := dk_46 (dk_at dksX3_isSnapshot_0 15 rfl rfl)
theorem dX3_isSnapshot_16 : decode cX3_isSnapshot 16 = .ok (.iconst 2, 1) := dk_5 (dk_at dksX3_isSnapshot_0 16 rfl rfl)
theorem dX3_isSnapshot_17 : decode cX3_isSnapshot 17 = .ok (.invokestatic 50, 3) := dk_184 0 50 (dk_at dksX3_isSnapshot_0 17 rfl rfl)
theorem dX3_isSnapshot_20 : decode cX3_isSnapshot 20 = .ok (.ifCond .eq 7, 3) := dk_153 0 7 (dk_at dksX3_isSnapshot_0 20 rfl rfl)
theorem dX3_isSnapshot_23 : decode cX3_isSnapshot 23 = .ok (.iconst 1, 1) := dk_4 (dk_at dksX3_isSnapshot_0 23 rfl rfl)
theorem dX3_isSnapshot_24 : decode cX3_isSnapshot 24 = .ok (.goto 4, 3) := dk_167 0 4 (dk_at dksX3_isSnapshot_1 0 rfl rfl)
theorem dX3_isSnapshot_27 : decode cX3_isSnapshot 27 = .ok (.iconst 0, 1) := dk_3 (dk_at dksX3_isSnapshot_1 3 rfl rfl)
theorem dX3_isSnapshot_28 : decode cX3_isSnapshot 28 = .ok (.ireturn, 1) := dk_172 (dk_at dksX3_isSnapshot_1 4 rfl rfl)
abbrev cX3_erase : ByteArray := prog_11_method_26_code
def yX3_erase : MethodName := ⟨RX3, "erase", "(II)I"⟩
def dkwX3_erase_1 : List UInt8 := [29, 167, 0, 9, 42, 27, 28, 182, 0, 99, 172]
abbrev dktX3_erase_1 : List UInt8 := dkwX3_erase_1 ++ []
def dkwX3_erase_0 : List UInt8 := [28, 3, 16, 11, 184, 0, 42, 154, 0, 6, 16, 254, 172, 42, 27, 3, 182, 0, 92, 62, 29, 153, 0, 7]
abbrev dktX3_erase_0 : List UInt8 := dkwX3_erase_0 ++ dktX3_erase_1
theorem dksX3_erase_0 : cX3_erase.data.toList.drop 0 = dktX3_erase_0 := by decide +kernel
theorem dksX3_erase_1 : cX3_erase.data.toList.drop 24 = dktX3_erase_1 := dk_seg dksX3_erase_0 24 rfl rfl
theorem dX3_erase_0 : decode cX3_erase 0 = .ok (.iload_n 2, 1) := dk_28 (dk_at dksX3_erase_0 0 rfl rfl)
theorem dX3_erase_1 : decode cX3_erase 1 = .ok (.iconst 0, 1) := dk_3 (dk_at dksX3_erase_0 1 rfl rfl)
theorem dX3_erase_2 : decode cX3_erase 2 = .ok (.bipush 11, 2) := dk_16 11 (dk_at dksX3_erase_0 2 rfl rfl)
theorem dX3_erase_4 : decode cX3_erase 4 = .ok (.invokestatic 42, 3) := dk_184 0 42 (dk_at dksX3_erase_0 4 rfl rfl)
theorem dX3_erase_7 : decode cX3_erase 7 = .ok (.ifCond .ne 6, 3) := dk_154 0 6 (dk_at dksX3_erase_0 7 rfl rfl)
theorem dX3_erase_10 : decode cX3_erase 10 = .ok (.bipush (-2), 2) := dk_16 254 (dk_at dksX3_erase_0 10 rfl rfl)
theorem dX3_erase_12 : decode cX3_erase 12 = .ok (.ireturn, 1) := dk_172 (dk_at dksX3_erase_0 12 rfl rfl)
theorem dX3_erase_13 : decode cX3_erase 13 = .ok (.aload_n 0, 1) := dk_42 (dk_at dksX3_erase_0 13 rfl rfl)
theorem dX3_erase_14 : decode cX3_erase 14 = .ok (.iload_n 1, 1) := dk_27 (dk_at dksX3_erase_0 14 rfl rfl)
theorem dX3_erase_15 : decode cX3_erase 15 = .ok (.iconst 0, 1) := dk_3 (dk_at dksX3_erase_0 15 rfl rfl)
theorem dX3_erase_16 : decode cX3_erase 16 = .ok (.invokevirtual 92, 3) := dk_182 0 92 (dk_at dksX3_erase_0 16 rfl rfl)
theorem dX3_erase_19 : decode cX3_erase 19 = .ok (.istore_n 3, 1) := dk_62 (dk_at dksX3_erase_0 19 rfl rfl)
theorem dX3_erase_20 : decode cX3_erase 20 = .ok (.iload_n 3, 1) := dk_29 (dk_at dksX3_erase_0 20 rfl rfl)
theorem dX3_erase_21 : decode cX3_erase 21 = .ok (.ifCond .eq 7, 3) := dk_153 0 7 (dk_at dksX3_erase_0 21 rfl rfl)
theorem dX3_erase_24 : decode cX3_erase 24 = .ok (.iload_n 3, 1) := dk_29 (dk_at dksX3_erase_1 0 rfl rfl)
theorem dX3_erase_25 : decode cX3_erase 25 = .ok (.goto 9, 3) := dk_167 0 9 (dk_at dksX3_erase_1 1 rfl rfl)
theorem dX3_erase_28 : decode cX3_erase 28 = .ok (.aload_n 0, 1) := dk_42 (dk_at dksX3_erase_1 4 rfl rfl)
theorem dX3_erase_29 : decode cX3_erase 29 = .ok (.iload_n 1, 1) := dk_27 (dk_at dksX3_erase_1 5 rfl rfl)
theorem dX3_erase_30 : decode cX3_erase 30 = .ok (.iload_n 2, 1) := dk_28 (dk_at dksX3_erase_1 6 rfl rfl)
theorem dX3_erase_31 : decode cX3_erase 31 = .ok (.invokevirtual 99, 3) := dk_182 0 99 (dk_at dksX3_erase_1 7 rfl rfl)
theorem dX3_erase_34 : decode cX3_erase 34 = .ok (.ireturn, 1) := dk_172 (dk_at dksX3_erase_1 10 rfl rfl)
abbrev cX3_erased : ByteArray := prog_11_method_24_code
def yX3_erased : MethodName := ⟨RX3, "erased", "(II)I"⟩
def dkwX3_erased_1 : List UInt8 := [104, 96, 28, 96, 2, 79, 42, 182, 0, 89, 87, 29, 172]
abbrev dktX3_erased_1 : List UInt8 := dkwX3_erased_1 ++ []
def dkwX3_erased_0 : List UInt8 := [42, 180, 0, 7, 16, 122, 16, 12, 27, 104, 96, 28, 96, 46, 62, 42, 180, 0, 7, 16, 122, 16, 12, 27]
abbrev dktX3_erased_0 : List UInt8 := dkwX3_erased_0 ++ dktX3_erased_1
theorem dksX3_erased_0 : cX3_erased.data.toList.drop 0 = dktX3_erased_0 := by decide +kernel
theorem dksX3_erased_1 : cX3_erased.data.toList.drop 24 = dktX3_erased_1 := dk_seg dksX3_erased_0 24 rfl rfl
theorem dX3_erased_0 : decode cX3_erased 0 = .ok (.aload_n 0, 1) := dk_42 (dk_at dksX3_erased_0 0 rfl rfl)
theorem dX3_erased_1 : decode cX3_erased 1 = .ok (.getfield 7, 3) := dk_180 0 7 (dk_at dksX3_erased_0 1 rfl rfl)
theorem dX3_erased_4 : decode cX3_erased 4 = .ok (.bipush 122, 2) := dk_16 122 (dk_at dksX3_erased_0 4 rfl rfl)
theorem dX3_erased_6 : decode cX3_erased 6 = .ok (.bipush 12, 2) := dk_16 12 (dk_at dksX3_erased_0 6 rfl rfl)
theorem dX3_erased_8 : decode cX3_erased 8 = .ok (.iload_n 1, 1) := dk_27 (dk_at dksX3_erased_0 8 rfl rfl)
theorem dX3_erased_9 : decode cX3_erased 9 = .ok (.imul, 1) := dk_104 (dk_at dksX3_erased_0 9 rfl rfl)
theorem dX3_erased_10 : decode cX3_erased 10 = .ok (.iadd, 1) := dk_96 (dk_at dksX3_erased_0 10 rfl rfl)
theorem dX3_erased_11 : decode cX3_erased 11 = .ok (.iload_n 2, 1) := dk_28 (dk_at dksX3_erased_0 11 rfl rfl)
theorem dX3_erased_12 : decode cX3_erased 12 = .ok (.iadd, 1) := dk_96 (dk_at dksX3_erased_0 12 rfl rfl)
theorem dX3_erased_13 : decode cX3_erased 13 = .ok (.iaload, 1) := dk_46 (dk_at dksX3_erased_0 13 rfl rfl)
theorem dX3_erased_14 : decode cX3_erased 14 = .ok (.istore_n 3, 1) := dk_62 (dk_at dksX3_erased_0 14 rfl rfl)
theorem dX3_erased_15 : decode cX3_erased 15 = .ok (.aload_n 0, 1) := dk_42 (dk_at dksX3_erased_0 15 rfl rfl)
theorem dX3_erased_16 : decode cX3_erased 16 = .ok (.getfield 7, 3) := dk_180 0 7 (dk_at dksX3_erased_0 16 rfl rfl)
theorem dX3_erased_19 : decode cX3_erased 19 = .ok (.bipush 122, 2) := dk_16 122 (dk_at dksX3_erased_0 19 rfl rfl)
theorem dX3_erased_21 : decode cX3_erased 21 = .ok (.bipush 12, 2) := dk_16 12 (dk_at dksX3_erased_0 21 rfl rfl)
theorem dX3_erased_23 : decode cX3_erased 23 = .ok (.iload_n 1, 1) := dk_27 (dk_at dksX3_erased_0 23 rfl rfl)
theorem dX3_erased_24 : decode cX3_erased 24 = .ok (.imul, 1) := dk_104 (dk_at dksX3_erased_1 0 rfl rfl)
theorem dX3_erased_25 : decode cX3_erased 25 = .ok (.iadd, 1) := dk_96 (dk_at dksX3_erased_1 1 rfl rfl)
theorem dX3_erased_26 : decode cX3_erased 26 = .ok (.iload_n 2, 1) := dk_28 (dk_at dksX3_erased_1 2 rfl rfl)
theorem dX3_erased_27 : decode cX3_erased 27 = .ok (.iadd, 1) := dk_96 (dk_at dksX3_erased_1 3 rfl rfl)
theorem dX3_erased_28 : decode cX3_erased 28 = .ok (.iconst (-1), 1) := dk_2 (dk_at dksX3_erased_1 4 rfl rfl)
theorem dX3_erased_29 : decode cX3_erased 29 = .ok (.iastore, 1) := dk_79 (dk_at dksX3_erased_1 5 rfl rfl)
theorem dX3_erased_30 : decode cX3_erased 30 = .ok (.aload_n 0, 1) := dk_42 (dk_at dksX3_erased_1 6 rfl rfl)
theorem dX3_erased_31 : decode cX3_erased 31 = .ok (.invokevirtual 89, 3) := dk_182 0 89 (dk_at dksX3_erased_1 7 rfl rfl)
theorem dX3_erased_34 : decode cX3_erased 34 = .ok (.pop, 1) := dk_87 (dk_at dksX3_erased_1 10 rfl rfl)
theorem dX3_erased_35 : decode cX3_erased 35 = .ok (.iload_n 3, 1) := dk_29 (dk_at dksX3_erased_1 11 rfl rfl)
theorem dX3_erased_36 : decode cX3_erased 36 = .ok (.ireturn, 1) := dk_172 (dk_at dksX3_erased_1 12 rfl rfl)
abbrev cX3_snap : ByteArray := prog_11_method_27_code
def yX3_snap : MethodName := ⟨RX3, "snap", "(II)I"⟩
def dkwX3_snap_5 : List UInt8 := [46, 4, 96, 79, 21, 4, 172]
abbrev dktX3_snap_5 : List UInt8 := dkwX3_snap_5 ++ []
def dkwX3_snap_4 : List UInt8 := [16, 62, 21, 4, 96, 27, 79, 42, 180, 0, 7, 16, 102, 21, 4, 96, 28, 79, 42, 180, 0, 7, 3, 92]
abbrev dktX3_snap_4 : List UInt8 := dkwX3_snap_4 ++ dktX3_snap_5
def dkwX3_snap_3 : List UInt8 := [180, 0, 7, 16, 42, 27, 96, 46, 79, 42, 180, 0, 7, 16, 42, 27, 96, 21, 4, 79, 42, 180, 0, 7]
abbrev dktX3_snap_3 : List UInt8 := dkwX3_snap_3 ++ dktX3_snap_4
def dkwX3_snap_2 : List UInt8 := [182, 0, 75, 54, 4, 42, 21, 4, 27, 182, 0, 102, 42, 180, 0, 7, 16, 42, 21, 4, 96, 42]
abbrev dktX3_snap_2 : List UInt8 := dkwX3_snap_2 ++ dktX3_snap_3
def dkwX3_snap_1 : List UInt8 := [172, 42, 182, 0, 70, 16, 20, 160, 0, 6, 16, 252, 172, 42, 5, 28, 96, 42, 180, 0, 7, 3, 46]
abbrev dktX3_snap_1 : List UInt8 := dkwX3_snap_1 ++ dktX3_snap_2
def dkwX3_snap_0 : List UInt8 := [28, 3, 4, 184, 0, 42, 154, 0, 6, 16, 254, 172, 42, 27, 3, 182, 0, 92, 62, 29, 153, 0, 5, 29]
abbrev dktX3_snap_0 : List UInt8 := dkwX3_snap_0 ++ dktX3_snap_1
theorem dksX3_snap_0 : cX3_snap.data.toList.drop 0 = dktX3_snap_0 := by decide +kernel
theorem dksX3_snap_1 : cX3_snap.data.toList.drop 24 = dktX3_snap_1 := dk_seg dksX3_snap_0 24 rfl rfl
theorem dksX3_snap_2 : cX3_snap.data.toList.drop 47 = dktX3_snap_2 := dk_seg dksX3_snap_1 23 rfl rfl
theorem dksX3_snap_3 : cX3_snap.data.toList.drop 69 = dktX3_snap_3 := dk_seg dksX3_snap_2 22 rfl rfl
theorem dksX3_snap_4 : cX3_snap.data.toList.drop 93 = dktX3_snap_4 := dk_seg dksX3_snap_3 24 rfl rfl
theorem dksX3_snap_5 : cX3_snap.data.toList.drop 117 = dktX3_snap_5 := dk_seg dksX3_snap_4 24 rfl rfl
theorem dX3_snap_0 : decode cX3_snap 0 = .ok (.iload_n 2, 1) := dk_28 (dk_at dksX3_snap_0 0 rfl rfl)
theorem dX3_snap_1 : decode cX3_snap 1 = .ok (.iconst 0, 1) := dk_3 (dk_at dksX3_snap_0 1 rfl rfl)
theorem dX3_snap_2 : decode cX3_snap 2 = .ok (.iconst 1, 1) := dk_4 (dk_at dksX3_snap_0 2 rfl rfl)
theorem dX3_snap_3 : decode cX3_snap 3 = .ok (.invokestatic 42, 3) := dk_184 0 42 (dk_at dksX3_snap_0 3 rfl rfl)
theorem dX3_snap_6 : decode cX3_snap 6 = .ok (.ifCond .ne 6, 3) := dk_154 0 6 (dk_at dksX3_snap_0 6 rfl rfl)
theorem dX3_snap_9 : decode cX3_snap 9 = .ok (.bipush (-2), 2) := dk_16 254 (dk_at dksX3_snap_0 9 rfl rfl)
theorem dX3_snap_11 : decode cX3_snap 11 = .ok (.ireturn, 1) := dk_172 (dk_at dksX3_snap_0 11 rfl rfl)
theorem dX3_snap_12 : decode cX3_snap 12 = .ok (.aload_n 0, 1) := dk_42 (dk_at dksX3_snap_0 12 rfl rfl)
theorem dX3_snap_13 : decode cX3_snap 13 = .ok (.iload_n 1, 1) := dk_27 (dk_at dksX3_snap_0 13 rfl rfl)
theorem dX3_snap_14 : decode cX3_snap 14 = .ok (.iconst 0, 1) := dk_3 (dk_at dksX3_snap_0 14 rfl rfl)
theorem dX3_snap_15 : decode cX3_snap 15 = .ok (.invokevirtual 92, 3) := dk_182 0 92 (dk_at dksX3_snap_0 15 rfl rfl)
theorem dX3_snap_18 : decode cX3_snap 18 = .ok (.istore_n 3, 1) := dk_62 (dk_at dksX3_snap_0 18 rfl rfl)
theorem dX3_snap_19 : decode cX3_snap 19 = .ok (.iload_n 3, 1) := dk_29 (dk_at dksX3_snap_0 19 rfl rfl)
theorem dX3_snap_20 : decode cX3_snap 20 = .ok (.ifCond .eq 5, 3) := dk_153 0 5 (dk_at dksX3_snap_0 20 rfl rfl)
theorem dX3_snap_23 : decode cX3_snap 23 = .ok (.iload_n 3, 1) := dk_29 (dk_at dksX3_snap_0 23 rfl rfl)
theorem dX3_snap_24 : decode cX3_snap 24 = .ok (.ireturn, 1) := dk_172 (dk_at dksX3_snap_1 0 rfl rfl)
theorem dX3_snap_25 : decode cX3_snap 25 = .ok (.aload_n 0, 1) := dk_42 (dk_at dksX3_snap_1 1 rfl rfl)
theorem dX3_snap_26 : decode cX3_snap 26 = .ok (.invokevirtual 70, 3) := dk_182 0 70 (dk_at dksX3_snap_1 2 rfl rfl)
theorem dX3_snap_29 : decode cX3_snap 29 = .ok (.bipush 20, 2) := dk_16 20 (dk_at dksX3_snap_1 5 rfl rfl)
theorem dX3_snap_31 : decode cX3_snap 31 = .ok (.if_icmp .ne 6, 3) := dk_160 0 6 (dk_at dksX3_snap_1 7 rfl rfl)
theorem dX3_snap_34 : decode cX3_snap 34 = .ok (.bipush (-4), 2) := dk_16 252 (dk_at dksX3_snap_1 10 rfl rfl)
theorem dX3_snap_36 : decode cX3_snap 36 = .ok (.ireturn, 1) := dk_172 (dk_at dksX3_snap_1 12 rfl rfl)
theorem dX3_snap_37 : decode cX3_snap 37 = .ok (.aload_n 0, 1) := dk_42 (dk_at dksX3_snap_1 13 rfl rfl)
theorem dX3_snap_38 : decode cX3_snap 38 = .ok (.iconst 2, 1) := dk_5 (dk_at dksX3_snap_1 14 rfl rfl)
theorem dX3_snap_39 : decode cX3_snap 39 = .ok (.iload_n 2, 1) := dk_28 (dk_at dksX3_snap_1 15 rfl rfl)
theorem dX3_snap_40 : decode cX3_snap 40 = .ok (.iadd, 1) := dk_96 (dk_at dksX3_snap_1 16 rfl rfl)
theorem dX3_snap_41 : decode cX3_snap 41 = .ok (.aload_n 0, 1) := dk_42 (dk_at dksX3_snap_1 17 rfl rfl)
theorem dX3_snap_42 : decode cX3_snap 42 = .ok (.getfield 7, 3) := dk_180 0 7 (dk_at dksX3_snap_1 18 rfl rfl)
theorem dX3_snap_45 : decode cX3_snap 45 = .ok (.iconst 0, 1) := dk_3 (dk_at dksX3_snap_1 21 rfl rfl)
theorem dX3_snap_46 : decode cX3_snap 46 = .ok (.iaload, 1) := dk_46 (dk_at dksX3_snap_1 22 rfl rfl)
theorem dX3_snap_47 : decode cX3_snap 47 = .ok (.invokevirtual 75, 3) := dk_182 0 75 (dk_at dksX3_snap_2 0 rfl rfl)
theorem dX3_snap_50 : decode cX3_snap 50 = .ok (.istore 4, 2) := dk_54 4 (dk_at dksX3_snap_2 3 rfl rfl)
theorem dX3_snap_52 : decode cX3_snap 52 = .ok (.aload_n 0, 1) := dk_42 (dk_at dksX3_snap_2 5 rfl rfl)
theorem dX3_snap_53 : decode cX3_snap 53 = .ok (.iload 4, 2) := dk_21 4 (dk_at dksX3_snap_2 6 rfl rfl)
theorem dX3_snap_55 : decode cX3_snap 55 = .ok (.iload_n 1, 1) := dk_27 (dk_at dksX3_snap_2 8 rfl rfl)
theorem dX3_snap_56 : decode cX3_snap 56 = .ok (.invokevirtual 102, 3) := dk_182 0 102 (dk_at dksX3_snap_2 9 rfl rfl)
theorem dX3_snap_59 : decode cX3_snap 59 = .ok (.aload_n 0, 1) := dk_42 (dk_at dksX3_snap_2 12 rfl rfl)
theorem dX3_snap_60 : decode cX3_snap 60 = .ok (.getfield 7, 3) := dk_180 0 7 (dk_at dksX3_snap_2 13 rfl rfl)
theorem dX3_snap_63 : decode cX3_snap 63 = .ok (.bipush 42, 2) := dk_16 42 (dk_at dksX3_snap_2 16 rfl rfl)
theorem dX3_snap_65 : decode cX3_snap 65 = .ok (.iload 4, 2) := dk_21 4 (dk_at dksX3_snap_2 18 rfl rfl)
theorem dX3_snap_67 : decode cX3_snap 67 = .ok (.iadd, 1) := dk_96 (dk_at dksX3_snap_2 20 rfl rfl)
theorem dX3_snap_68 : decode cX3_snap 68 = .ok (.aload_n 0, 1) := dk_42 (dk_at dksX3_snap_2 21 rfl rfl)
theorem dX3_snap_69 : decode cX3_snap 69 = .ok (.getfield 7, 3) := dk_180 0 7 (dk_at dksX3_snap_3 0 rfl rfl)
theorem dX3_snap_72 : decode cX3_snap 72 = .ok (.bipush 42, 2) := dk_16 42 (dk_at dksX3_snap_3 3 rfl rfl)
theorem dX3_snap_74 : decode cX3_snap 74 = .ok (.iload_n 1, 1) := dk_27 (dk_at dksX3_snap_3 5 rfl rfl)
theorem dX3_snap_75 : decode cX3_snap 75 = .ok (.iadd, 1) := dk_96 (dk_at dksX3_snap_3 6 rfl rfl)
theorem dX3_snap_76 : decode cX3_snap 76 = .ok (.iaload, 1) := dk_46 (dk_at dksX3_snap_3 7 rfl rfl)
theorem dX3_snap_77 : decode cX3_snap 77 = .ok (.iastore, 1) := dk_79 (dk_at dksX3_snap_3 8 rfl rfl)
theorem dX3_snap_78 : decode cX3_snap 78 = .ok (.aload_n 0, 1) := dk_42 (dk_at dksX3_snap_3 9 rfl rfl)
theorem dX3_snap_79 : decode cX3_snap 79 = .ok (.getfield 7, 3) := dk_180 0 7 (dk_at dksX3_snap_3 10 rfl rfl)
theorem dX3_snap_82 : decode cX3_snap 82 = .ok (.bipush 42, 2) := dk_16 42 (dk_at dksX3_snap_3 13 rfl rfl)
theorem dX3_snap_84 : decode cX3_snap 84 = .ok (.iload_n 1, 1) := dk_27 (dk_at dksX3_snap_3 15 rfl rfl)
theorem dX3_snap_85 : decode cX3_snap 85 = .ok (.iadd, 1) := dk_96 (dk_at dksX3_snap_3 16 rfl rfl)
theorem dX3_snap_86 : decode cX3_snap 86 = .ok (.iload 4, 2) := dk_21 4 (dk_at dksX3_snap_3 17 rfl rfl)
theorem dX3_snap_88 : decode cX3_snap 88 = .ok (.iastore, 1) := dk_79 (dk_at dksX3_snap_3 19 rfl rfl)
theorem dX3_snap_89 : decode cX3_snap 89 = .ok (.aload_n 0, 1) := dk_42 (dk_at dksX3_snap_3 20 rfl rfl)
theorem dX3_snap_90 : decode cX3_snap 90 = .ok (.getfield 7, 3) := dk_180 0 7 (dk_at dksX3_snap_3 21 rfl rfl)
theorem dX3_snap_93 : decode cX3_snap 93 = .ok (.bipush 62, 2) := dk_16 62 (dk_at dksX3_snap_4 0 rfl rfl)
theorem dX3_snap_95 : decode cX3_snap 95 = .ok (.iload 4, 2) := dk_21 4 (dk_at dksX3_snap_4 2 rfl rfl)
theorem dX3_snap_97 : decode cX3_snap 97 = .ok (.iadd, 1) := dk_96 (dk_at dksX3_snap_4 4 rfl rfl)
theorem dX3_snap_98 : decode cX3_snap 98 = .ok (.iload_n 1, 1) := dk_27 (dk_at dksX3_snap_4 5 rfl rfl)
theorem dX3_snap_99 : decode cX3_snap 99 = .ok (.iastore, 1) := dk_79 (dk_at dksX3_snap_4 6 rfl rfl)
theorem dX3_snap_100 : decode cX3_snap 100 = .ok (.aload_n 0, 1) := dk_42 (dk_at dksX3_snap_4 7 rfl rfl)
theorem dX3_snap_101 : decode cX3_snap 101 = .ok (.getfield 7, 3) := dk_180 0 7 (dk_at dksX3_snap_4 8 rfl rfl)
theorem dX3_snap_104 : decode cX3_snap 104 = .ok (.bipush 102, 2) := dk_16 102 (dk_at dksX3_snap_4 11 rfl rfl)
theorem dX3_snap_106 : decode cX3_snap 106 = .ok (.iload 4, 2) := dk_21 4 (dk_at dksX3_snap_4 13 rfl rfl)
theorem dX3_snap_108 : decode cX3_snap 108 = .ok (.iadd, 1) := dk_96 (dk_at dksX3_snap_4 15 rfl rfl)
theorem dX3_snap_109 : decode cX3_snap 109 = .ok (.iload_n 2, 1) := dk_28 (dk_at dksX3_snap_4 16 rfl rfl)
theorem dX3_snap_110 : decode cX3_snap 110 = .ok (.iastore, 1) := dk_79 (dk_at dksX3_snap_4 17 rfl rfl)
theorem dX3_snap_111 : decode cX3_snap 111 = .ok (.aload_n 0, 1) := dk_42 (dk_at dksX3_snap_4 18 rfl rfl)
theorem dX3_snap_112 : decode cX3_snap 112 = .ok (.getfield 7, 3) := dk_180 0 7 (dk_at dksX3_snap_4 19 rfl rfl)
theorem dX3_snap_115 : decode cX3_snap 115 = .ok (.iconst 0, 1) := dk_3 (dk_at dksX3_snap_4 22 rfl rfl)
theorem dX3_snap_116 : decode cX3_snap 116 = .ok (.dup2, 1) := dk_92 (dk_at dksX3_snap_4 23 rfl rfl)
theorem dX3_snap_117 : decode cX3_snap 117 = .ok (.iaload, 1) := dk_46 (dk_at dksX3_snap_5 0 rfl rfl)
theorem dX3_snap_118 : decode cX3_snap 118 = .ok (.iconst 1, 1) := dk_4 (dk_at dksX3_snap_5 1 rfl rfl)
theorem dX3_snap_119 : decode cX3_snap 119 = .ok (.iadd, 1) := dk_96 (dk_at dksX3_snap_5 2 rfl rfl)
theorem dX3_snap_120 : decode cX3_snap 120 = .ok (.iastore, 1) := dk_79 (dk_at dksX3_snap_5 3 rfl rfl)
theorem dX3_snap_121 : decode cX3_snap 121 = .ok (.iload 4, 2) := dk_21 4 (dk_at dksX3_snap_5 4 rfl rfl)
theorem dX3_snap_123 : decode cX3_snap 123 = .ok (.ireturn, 1) := dk_172 (dk_at dksX3_snap_5 6 rfl rfl)
abbrev cX3_takesSlots : ByteArray := prog_11_method_19_code
def yX3_takesSlots : MethodName := ⟨RX3, "takesSlots", "(II)V"⟩
def dkwX3_takesSlots_1 : List UInt8 := [180, 0, 7, 16, 122, 16, 12, 28, 104, 96, 29, 96, 46, 79, 132, 3, 1, 167, 255, 219, 177]
abbrev dktX3_takesSlots_1 : List UInt8 := dkwX3_takesSlots_1 ++ []
def dkwX3_takesSlots_0 : List UInt8 := [3, 62, 29, 16, 12, 162, 0, 37, 42, 180, 0, 7, 16, 122, 16, 12, 27, 104, 96, 29, 96, 42]
abbrev dktX3_takesSlots_0 : List UInt8 := dkwX3_takesSlots_0 ++ dktX3_takesSlots_1
theorem dksX3_takesSlots_0 : cX3_takesSlots.data.toList.drop 0 = dktX3_takesSlots_0 := by decide +kernel
theorem dksX3_takesSlots_1 : cX3_takesSlots.data.toList.drop 22 = dktX3_takesSlots_1 := dk_seg dksX3_takesSlots_0 22 rfl rfl
theorem dX3_takesSlots_0 : decode cX3_takesSlots 0 = .ok (.iconst 0, 1) := dk_3 (dk_at dksX3_takesSlots_0 0 rfl rfl)
theorem dX3_takesSlots_1 : decode cX3_takesSlots 1 = .ok (.istore_n 3, 1) := dk_62 (dk_at dksX3_takesSlots_0 1 rfl rfl)
theorem dX3_takesSlots_2 : decode cX3_takesSlots 2 = .ok (.iload_n 3, 1) := dk_29 (dk_at dksX3_takesSlots_0 2 rfl rfl)
theorem dX3_takesSlots_3 : decode cX3_takesSlots 3 = .ok (.bipush 12, 2) := dk_16 12 (dk_at dksX3_takesSlots_0 3 rfl rfl)
theorem dX3_takesSlots_5 : decode cX3_takesSlots 5 = .ok (.if_icmp .ge 37, 3) := dk_162 0 37 (dk_at dksX3_takesSlots_0 5 rfl rfl)
theorem dX3_takesSlots_8 : decode cX3_takesSlots 8 = .ok (.aload_n 0, 1) := dk_42 (dk_at dksX3_takesSlots_0 8 rfl rfl)
theorem dX3_takesSlots_9 : decode cX3_takesSlots 9 = .ok (.getfield 7, 3) := dk_180 0 7 (dk_at dksX3_takesSlots_0 9 rfl rfl)
theorem dX3_takesSlots_12 : decode cX3_takesSlots 12 = .ok (.bipush 122, 2) := dk_16 122 (dk_at dksX3_takesSlots_0 12 rfl rfl)
theorem dX3_takesSlots_14 : decode cX3_takesSlots 14 = .ok (.bipush 12, 2) := dk_16 12 (dk_at dksX3_takesSlots_0 14 rfl rfl)
theorem dX3_takesSlots_16 : decode cX3_takesSlots 16 = .ok (.iload_n 1, 1) := dk_27 (dk_at dksX3_takesSlots_0 16 rfl rfl)
theorem dX3_takesSlots_17 : decode cX3_takesSlots 17 = .ok (.imul, 1) := dk_104 (dk_at dksX3_takesSlots_0 17 rfl rfl)
theorem dX3_takesSlots_18 : decode cX3_takesSlots 18 = .ok (.iadd, 1) := dk_96 (dk_at dksX3_takesSlots_0 18 rfl rfl)
theorem dX3_takesSlots_19 : decode cX3_takesSlots 19 = .ok (.iload_n 3, 1) := dk_29 (dk_at dksX3_takesSlots_0 19 rfl rfl)
theorem dX3_takesSlots_20 : decode cX3_takesSlots 20 = .ok (.iadd, 1) := dk_96 (dk_at dksX3_takesSlots_0 20 rfl rfl)
theorem dX3_takesSlots_21 : decode cX3_takesSlots 21 = .ok (.aload_n 0, 1) := dk_42 (dk_at dksX3_takesSlots_0 21 rfl rfl)
theorem dX3_takesSlots_22 : decode cX3_takesSlots 22 = .ok (.getfield 7, 3) := dk_180 0 7 (dk_at dksX3_takesSlots_1 0 rfl rfl)
theorem dX3_takesSlots_25 : decode cX3_takesSlots 25 = .ok (.bipush 122, 2) := dk_16 122 (dk_at dksX3_takesSlots_1 3 rfl rfl)
theorem dX3_takesSlots_27 : decode cX3_takesSlots 27 = .ok (.bipush 12, 2) := dk_16 12 (dk_at dksX3_takesSlots_1 5 rfl rfl)
theorem dX3_takesSlots_29 : decode cX3_takesSlots 29 = .ok (.iload_n 2, 1) := dk_28 (dk_at dksX3_takesSlots_1 7 rfl rfl)
theorem dX3_takesSlots_30 : decode cX3_takesSlots 30 = .ok (.imul, 1) := dk_104 (dk_at dksX3_takesSlots_1 8 rfl rfl)
theorem dX3_takesSlots_31 : decode cX3_takesSlots 31 = .ok (.iadd, 1) := dk_96 (dk_at dksX3_takesSlots_1 9 rfl rfl)
theorem dX3_takesSlots_32 : decode cX3_takesSlots 32 = .ok (.iload_n 3, 1) := dk_29 (dk_at dksX3_takesSlots_1 10 rfl rfl)
theorem dX3_takesSlots_33 : decode cX3_takesSlots 33 = .ok (.iadd, 1) := dk_96 (dk_at dksX3_takesSlots_1 11 rfl rfl)
theorem dX3_takesSlots_34 : decode cX3_takesSlots 34 = .ok (.iaload, 1) := dk_46 (dk_at dksX3_takesSlots_1 12 rfl rfl)
theorem dX3_takesSlots_35 : decode cX3_takesSlots 35 = .ok (.iastore, 1) := dk_79 (dk_at dksX3_takesSlots_1 13 rfl rfl)
theorem dX3_takesSlots_36 : decode cX3_takesSlots 36 = .ok (.iinc 3 1, 3) := dk_132 3 1 (dk_at dksX3_takesSlots_1 14 rfl rfl)
theorem dX3_takesSlots_39 : decode cX3_takesSlots 39 = .ok (.goto (-37), 3) := dk_167 255 219 (dk_at dksX3_takesSlots_1 17 rfl rfl)
theorem dX3_takesSlots_42 : decode cX3_takesSlots 42 = .ok (.return_, 1) := dk_177 (dk_at dksX3_takesSlots_1 20 rfl rfl)
abbrev cX3_tag : ByteArray := prog_11_method_28_code
def yX3_tag : MethodName := ⟨RX3, "tag", "(II)I"⟩
def dkwX3_tag_2 : List UInt8 := [21, 4, 172]
abbrev dktX3_tag_2 : List UInt8 := dkwX3_tag_2 ++ []
def dkwX3_tag_1 : List UInt8 := [29, 172, 42, 180, 0, 7, 16, 102, 27, 96, 46, 54, 4, 42, 180, 0, 7, 16, 102, 27, 96, 28, 79]
abbrev dktX3_tag_1 : List UInt8 := dkwX3_tag_1 ++ dktX3_tag_2
def dkwX3_tag_0 : List UInt8 := [28, 3, 16, 9, 184, 0, 42, 154, 0, 6, 16, 254, 172, 42, 27, 6, 182, 0, 92, 62, 29, 153, 0, 5]
abbrev dktX3_tag_0 : List UInt8 := dkwX3_tag_0 ++ dktX3_tag_1
theorem dksX3_tag_0 : cX3_tag.data.toList.drop 0 = dktX3_tag_0 := by decide +kernel
theorem dksX3_tag_1 : cX3_tag.data.toList.drop 24 = dktX3_tag_1 := dk_seg dksX3_tag_0 24 rfl rfl
theorem dksX3_tag_2 : cX3_tag.data.toList.drop 47 = dktX3_tag_2 := dk_seg dksX3_tag_1 23 rfl rfl
theorem dX3_tag_0 : decode cX3_tag 0 = .ok (.iload_n 2, 1) := dk_28 (dk_at dksX3_tag_0 0 rfl rfl)
theorem dX3_tag_1 : decode cX3_tag 1 = .ok (.iconst 0, 1) := dk_3 (dk_at dksX3_tag_0 1 rfl rfl)
theorem dX3_tag_2 : decode cX3_tag 2 = .ok (.bipush 9, 2) := dk_16 9 (dk_at dksX3_tag_0 2 rfl rfl)
theorem dX3_tag_4 : decode cX3_tag 4 = .ok (.invokestatic 42, 3) := dk_184 0 42 (dk_at dksX3_tag_0 4 rfl rfl)
theorem dX3_tag_7 : decode cX3_tag 7 = .ok (.ifCond .ne 6, 3) := dk_154 0 6 (dk_at dksX3_tag_0 7 rfl rfl)
theorem dX3_tag_10 : decode cX3_tag 10 = .ok (.bipush (-2), 2) := dk_16 254 (dk_at dksX3_tag_0 10 rfl rfl)
theorem dX3_tag_12 : decode cX3_tag 12 = .ok (.ireturn, 1) := dk_172 (dk_at dksX3_tag_0 12 rfl rfl)
theorem dX3_tag_13 : decode cX3_tag 13 = .ok (.aload_n 0, 1) := dk_42 (dk_at dksX3_tag_0 13 rfl rfl)
theorem dX3_tag_14 : decode cX3_tag 14 = .ok (.iload_n 1, 1) := dk_27 (dk_at dksX3_tag_0 14 rfl rfl)
theorem dX3_tag_15 : decode cX3_tag 15 = .ok (.iconst 3, 1) := dk_6 (dk_at dksX3_tag_0 15 rfl rfl)
theorem dX3_tag_16 : decode cX3_tag 16 = .ok (.invokevirtual 92, 3) := dk_182 0 92 (dk_at dksX3_tag_0 16 rfl rfl)
theorem dX3_tag_19 : decode cX3_tag 19 = .ok (.istore_n 3, 1) := dk_62 (dk_at dksX3_tag_0 19 rfl rfl)
theorem dX3_tag_20 : decode cX3_tag 20 = .ok (.iload_n 3, 1) := dk_29 (dk_at dksX3_tag_0 20 rfl rfl)
theorem dX3_tag_21 : decode cX3_tag 21 = .ok (.ifCond .eq 5, 3) := dk_153 0 5 (dk_at dksX3_tag_0 21 rfl rfl)
theorem dX3_tag_24 : decode cX3_tag 24 = .ok (.iload_n 3, 1) := dk_29 (dk_at dksX3_tag_1 0 rfl rfl)
theorem dX3_tag_25 : decode cX3_tag 25 = .ok (.ireturn, 1) := dk_172 (dk_at dksX3_tag_1 1 rfl rfl)
theorem dX3_tag_26 : decode cX3_tag 26 = .ok (.aload_n 0, 1) := dk_42 (dk_at dksX3_tag_1 2 rfl rfl)
theorem dX3_tag_27 : decode cX3_tag 27 = .ok (.getfield 7, 3) := dk_180 0 7 (dk_at dksX3_tag_1 3 rfl rfl)
theorem dX3_tag_30 : decode cX3_tag 30 = .ok (.bipush 102, 2) := dk_16 102 (dk_at dksX3_tag_1 6 rfl rfl)
theorem dX3_tag_32 : decode cX3_tag 32 = .ok (.iload_n 1, 1) := dk_27 (dk_at dksX3_tag_1 8 rfl rfl)
theorem dX3_tag_33 : decode cX3_tag 33 = .ok (.iadd, 1) := dk_96 (dk_at dksX3_tag_1 9 rfl rfl)
theorem dX3_tag_34 : decode cX3_tag 34 = .ok (.iaload, 1) := dk_46 (dk_at dksX3_tag_1 10 rfl rfl)
theorem dX3_tag_35 : decode cX3_tag 35 = .ok (.istore 4, 2) := dk_54 4 (dk_at dksX3_tag_1 11 rfl rfl)
theorem dX3_tag_37 : decode cX3_tag 37 = .ok (.aload_n 0, 1) := dk_42 (dk_at dksX3_tag_1 13 rfl rfl)
theorem dX3_tag_38 : decode cX3_tag 38 = .ok (.getfield 7, 3) := dk_180 0 7 (dk_at dksX3_tag_1 14 rfl rfl)
theorem dX3_tag_41 : decode cX3_tag 41 = .ok (.bipush 102, 2) := dk_16 102 (dk_at dksX3_tag_1 17 rfl rfl)
theorem dX3_tag_43 : decode cX3_tag 43 = .ok (.iload_n 1, 1) := dk_27 (dk_at dksX3_tag_1 19 rfl rfl)
theorem dX3_tag_44 : decode cX3_tag 44 = .ok (.iadd, 1) := dk_96 (dk_at dksX3_tag_1 20 rfl rfl)
theorem dX3_tag_45 : decode cX3_tag 45 = .ok (.iload_n 2, 1) := dk_28 (dk_at dksX3_tag_1 21 rfl rfl)
theorem dX3_tag_46 : decode cX3_tag 46 = .ok (.iastore, 1) := dk_79 (dk_at dksX3_tag_1 22 rfl rfl)
theorem dX3_tag_47 : decode cX3_tag 47 = .ok (.iload 4, 2) := dk_21 4 (dk_at dksX3_tag_2 0 rfl rfl)
theorem dX3_tag_49 : decode cX3_tag 49 = .ok (.ireturn, 1) := dk_172 (dk_at dksX3_tag_2 2 rfl rfl)
abbrev cX3_mark : ByteArray := prog_11_method_29_code
def yX3_mark : MethodName := ⟨RX3, "mark", "(I)I"⟩
def dkwX3_mark_1 : List UInt8 := [167, 0, 17, 42, 7, 42, 180, 0, 7, 16, 22, 27, 96, 46, 182, 0, 75, 172]
abbrev dktX3_mark_1 : List UInt8 := dkwX3_mark_1 ++ []
def dkwX3_mark_0 : List UInt8 := [42, 27, 5, 182, 0, 92, 61, 28, 153, 0, 5, 28, 172, 42, 182, 0, 70, 16, 20, 160, 0, 8, 16, 252]
abbrev dktX3_mark_0 : List UInt8 := dkwX3_mark_0 ++ dktX3_mark_1
theorem dksX3_mark_0 : cX3_mark.data.toList.drop 0 = dktX3_mark_0 := by decide +kernel
theorem dksX3_mark_1 : cX3_mark.data.toList.drop 24 = dktX3_mark_1 := dk_seg dksX3_mark_0 24 rfl rfl
theorem dX3_mark_0 : decode cX3_mark 0 = .ok (.aload_n 0, 1) := dk_42 (dk_at dksX3_mark_0 0 rfl rfl)
theorem dX3_mark_1 : decode cX3_mark 1 = .ok (.iload_n 1, 1) := dk_27 (dk_at dksX3_mark_0 1 rfl rfl)
theorem dX3_mark_2 : decode cX3_mark 2 = .ok (.iconst 2, 1) := dk_5 (dk_at dksX3_mark_0 2 rfl rfl)
theorem dX3_mark_3 : decode cX3_mark 3 = .ok (.invokevirtual 92, 3) := dk_182 0 92 (dk_at dksX3_mark_0 3 rfl rfl)
theorem dX3_mark_6 : decode cX3_mark 6 = .ok (.istore_n 2, 1) := dk_61 (dk_at dksX3_mark_0 6 rfl rfl)
theorem dX3_mark_7 : decode cX3_mark 7 = .ok (.iload_n 2, 1) := dk_28 (dk_at dksX3_mark_0 7 rfl rfl)
theorem dX3_mark_8 : decode cX3_mark 8 = .ok (.ifCond .eq 5, 3) := dk_153 0 5 (dk_at dksX3_mark_0 8 rfl rfl)
theorem dX3_mark_11 : decode cX3_mark 11 = .ok (.iload_n 2, 1) := dk_28 (dk_at dksX3_mark_0 11 rfl rfl)
theorem dX3_mark_12 : decode cX3_mark 12 = .ok (.ireturn, 1) := dk_172 (dk_at dksX3_mark_0 12 rfl rfl)
theorem dX3_mark_13 : decode cX3_mark 13 = .ok (.aload_n 0, 1) := dk_42 (dk_at dksX3_mark_0 13 rfl rfl)
theorem dX3_mark_14 : decode cX3_mark 14 = .ok (.invokevirtual 70, 3) := dk_182 0 70 (dk_at dksX3_mark_0 14 rfl rfl)
theorem dX3_mark_17 : decode cX3_mark 17 = .ok (.bipush 20, 2) := dk_16 20 (dk_at dksX3_mark_0 17 rfl rfl)
theorem dX3_mark_19 : decode cX3_mark 19 = .ok (.if_icmp .ne 8, 3) := dk_160 0 8 (dk_at dksX3_mark_0 19 rfl rfl)
theorem dX3_mark_22 : decode cX3_mark 22 = .ok (.bipush (-4), 2) := dk_16 252 (dk_at dksX3_mark_0 22 rfl rfl)
theorem dX3_mark_24 : decode cX3_mark 24 = .ok (.goto 17, 3) := dk_167 0 17 (dk_at dksX3_mark_1 0 rfl rfl)
theorem dX3_mark_27 : decode cX3_mark 27 = .ok (.aload_n 0, 1) := dk_42 (dk_at dksX3_mark_1 3 rfl rfl)
theorem dX3_mark_28 : decode cX3_mark 28 = .ok (.iconst 4, 1) := dk_7 (dk_at dksX3_mark_1 4 rfl rfl)
theorem dX3_mark_29 : decode cX3_mark 29 = .ok (.aload_n 0, 1) := dk_42 (dk_at dksX3_mark_1 5 rfl rfl)
theorem dX3_mark_30 : decode cX3_mark 30 = .ok (.getfield 7, 3) := dk_180 0 7 (dk_at dksX3_mark_1 6 rfl rfl)
theorem dX3_mark_33 : decode cX3_mark 33 = .ok (.bipush 22, 2) := dk_16 22 (dk_at dksX3_mark_1 9 rfl rfl)
theorem dX3_mark_35 : decode cX3_mark 35 = .ok (.iload_n 1, 1) := dk_27 (dk_at dksX3_mark_1 11 rfl rfl)
theorem dX3_mark_36 : decode cX3_mark 36 = .ok (.iadd, 1) := dk_96 (dk_at dksX3_mark_1 12 rfl rfl)
theorem dX3_mark_37 : decode cX3_mark 37 = .ok (.iaload, 1) := dk_46 (dk_at dksX3_mark_1 13 rfl rfl)
theorem dX3_mark_38 : decode cX3_mark 38 = .ok (.invokevirtual 75, 3) := dk_182 0 75 (dk_at dksX3_mark_1 14 rfl rfl)
theorem dX3_mark_41 : decode cX3_mark 41 = .ok (.ireturn, 1) := dk_172 (dk_at dksX3_mark_1 17 rfl rfl)
abbrev cX3_remove : ByteArray := prog_11_method_34_code
def yX3_remove : MethodName := ⟨RX3, "remove", "(I)I"⟩
def dkwX3_remove_2 : List UInt8 := [153, 0, 14, 42, 27, 182, 0, 109, 158, 0, 6, 16, 253, 172, 42, 27, 182, 0, 112, 172]
abbrev dktX3_remove_2 : List UInt8 := dkwX3_remove_2 ++ []
def dkwX3_remove_1 : List UInt8 := [16, 102, 27, 96, 46, 154, 0, 28, 42, 27, 182, 0, 106, 4, 163, 0, 19, 42, 27, 182, 0, 54]
abbrev dktX3_remove_1 : List UInt8 := dkwX3_remove_1 ++ dktX3_remove_2
def dkwX3_remove_0 : List UInt8 := [42, 27, 182, 0, 60, 61, 28, 153, 0, 5, 28, 172, 42, 27, 182, 0, 57, 153, 0, 24, 42, 180, 0, 7]
abbrev dktX3_remove_0 : List UInt8 := dkwX3_remove_0 ++ dktX3_remove_1
theorem dksX3_remove_0 : cX3_remove.data.toList.drop 0 = dktX3_remove_0 := by decide +kernel
theorem dksX3_remove_1 : cX3_remove.data.toList.drop 24 = dktX3_remove_1 := dk_seg dksX3_remove_0 24 rfl rfl
theorem dksX3_remove_2 : cX3_remove.data.toList.drop 46 = dktX3_remove_2 := dk_seg dksX3_remove_1 22 rfl rfl
theorem dX3_remove_0 : decode cX3_remove 0 = .ok (.aload_n 0, 1) := dk_42 (dk_at dksX3_remove_0 0 rfl rfl)
theorem dX3_remove_1 : decode cX3_remove 1 = .ok (.iload_n 1, 1) := dk_27 (dk_at dksX3_remove_0 1 rfl rfl)
theorem dX3_remove_2 : decode cX3_remove 2 = .ok (.invokevirtual 60, 3) := dk_182 0 60 (dk_at dksX3_remove_0 2 rfl rfl)
theorem dX3_remove_5 : decode cX3_remove 5 = .ok (.istore_n 2, 1) := dk_61 (dk_at dksX3_remove_0 5 rfl rfl)
theorem dX3_remove_6 : decode cX3_remove 6 = .ok (.iload_n 2, 1) := dk_28 (dk_at dksX3_remove_0 6 rfl rfl)
theorem dX3_remove_7 : decode cX3_remove 7 = .ok (.ifCond .eq 5, 3) := dk_153 0 5 (dk_at dksX3_remove_0 7 rfl rfl)
theorem dX3_remove_10 : decode cX3_remove 10 = .ok (.iload_n 2, 1) := dk_28 (dk_at dksX3_remove_0 10 rfl rfl)
theorem dX3_remove_11 : decode cX3_remove 11 = .ok (.ireturn, 1) := dk_172 (dk_at dksX3_remove_0 11 rfl rfl)
theorem dX3_remove_12 : decode cX3_remove 12 = .ok (.aload_n 0, 1) := dk_42 (dk_at dksX3_remove_0 12 rfl rfl)
theorem dX3_remove_13 : decode cX3_remove 13 = .ok (.iload_n 1, 1) := dk_27 (dk_at dksX3_remove_0 13 rfl rfl)
theorem dX3_remove_14 : decode cX3_remove 14 = .ok (.invokevirtual 57, 3) := dk_182 0 57 (dk_at dksX3_remove_0 14 rfl rfl)
theorem dX3_remove_17 : decode cX3_remove 17 = .ok (.ifCond .eq 24, 3) := dk_153 0 24 (dk_at dksX3_remove_0 17 rfl rfl)
theorem dX3_remove_20 : decode cX3_remove 20 = .ok (.aload_n 0, 1) := dk_42 (dk_at dksX3_remove_0 20 rfl rfl)
theorem dX3_remove_21 : decode cX3_remove 21 = .ok (.getfield 7, 3) := dk_180 0 7 (dk_at dksX3_remove_0 21 rfl rfl)
theorem dX3_remove_24 : decode cX3_remove 24 = .ok (.bipush 102, 2) := dk_16 102 (dk_at dksX3_remove_1 0 rfl rfl)
theorem dX3_remove_26 : decode cX3_remove 26 = .ok (.iload_n 1, 1) := dk_27 (dk_at dksX3_remove_1 2 rfl rfl)
theorem dX3_remove_27 : decode cX3_remove 27 = .ok (.iadd, 1) := dk_96 (dk_at dksX3_remove_1 3 rfl rfl)
theorem dX3_remove_28 : decode cX3_remove 28 = .ok (.iaload, 1) := dk_46 (dk_at dksX3_remove_1 4 rfl rfl)
theorem dX3_remove_29 : decode cX3_remove 29 = .ok (.ifCond .ne 28, 3) := dk_154 0 28 (dk_at dksX3_remove_1 5 rfl rfl)
theorem dX3_remove_32 : decode cX3_remove 32 = .ok (.aload_n 0, 1) := dk_42 (dk_at dksX3_remove_1 8 rfl rfl)
theorem dX3_remove_33 : decode cX3_remove 33 = .ok (.iload_n 1, 1) := dk_27 (dk_at dksX3_remove_1 9 rfl rfl)
theorem dX3_remove_34 : decode cX3_remove 34 = .ok (.invokevirtual 106, 3) := dk_182 0 106 (dk_at dksX3_remove_1 10 rfl rfl)
theorem dX3_remove_37 : decode cX3_remove 37 = .ok (.iconst 1, 1) := dk_4 (dk_at dksX3_remove_1 13 rfl rfl)
theorem dX3_remove_38 : decode cX3_remove 38 = .ok (.if_icmp .gt 19, 3) := dk_163 0 19 (dk_at dksX3_remove_1 14 rfl rfl)
theorem dX3_remove_41 : decode cX3_remove 41 = .ok (.aload_n 0, 1) := dk_42 (dk_at dksX3_remove_1 17 rfl rfl)
theorem dX3_remove_42 : decode cX3_remove 42 = .ok (.iload_n 1, 1) := dk_27 (dk_at dksX3_remove_1 18 rfl rfl)
theorem dX3_remove_43 : decode cX3_remove 43 = .ok (.invokevirtual 54, 3) := dk_182 0 54 (dk_at dksX3_remove_1 19 rfl rfl)
theorem dX3_remove_46 : decode cX3_remove 46 = .ok (.ifCond .eq 14, 3) := dk_153 0 14 (dk_at dksX3_remove_2 0 rfl rfl)
theorem dX3_remove_49 : decode cX3_remove 49 = .ok (.aload_n 0, 1) := dk_42 (dk_at dksX3_remove_2 3 rfl rfl)
theorem dX3_remove_50 : decode cX3_remove 50 = .ok (.iload_n 1, 1) := dk_27 (dk_at dksX3_remove_2 4 rfl rfl)
theorem dX3_remove_51 : decode cX3_remove 51 = .ok (.invokevirtual 109, 3) := dk_182 0 109 (dk_at dksX3_remove_2 5 rfl rfl)
theorem dX3_remove_54 : decode cX3_remove 54 = .ok (.ifCond .le 6, 3) := dk_158 0 6 (dk_at dksX3_remove_2 8 rfl rfl)
theorem dX3_remove_57 : decode cX3_remove 57 = .ok (.bipush (-3), 2) := dk_16 253 (dk_at dksX3_remove_2 11 rfl rfl)
theorem dX3_remove_59 : decode cX3_remove 59 = .ok (.ireturn, 1) := dk_172 (dk_at dksX3_remove_2 13 rfl rfl)
theorem dX3_remove_60 : decode cX3_remove 60 = .ok (.aload_n 0, 1) := dk_42 (dk_at dksX3_remove_2 14 rfl rfl)
theorem dX3_remove_61 : decode cX3_remove 61 = .ok (.iload_n 1, 1) := dk_27 (dk_at dksX3_remove_2 15 rfl rfl)
theorem dX3_remove_62 : decode cX3_remove 62 = .ok (.invokevirtual 112, 3) := dk_182 0 112 (dk_at dksX3_remove_2 16 rfl rfl)
theorem dX3_remove_65 : decode cX3_remove 65 = .ok (.ireturn, 1) := dk_172 (dk_at dksX3_remove_2 19 rfl rfl)
abbrev cX3_nexts : ByteArray := prog_11_method_30_code
def yX3_nexts : MethodName := ⟨RX3, "nexts", "(I)I"⟩
def dkwX3_nexts_1 : List UInt8 := [16, 42, 29, 96, 46, 27, 160, 0, 7, 4, 167, 0, 4, 3, 96, 61, 132, 3, 1, 167, 255, 218, 28, 172]
abbrev dktX3_nexts_1 : List UInt8 := dkwX3_nexts_1 ++ []
def dkwX3_nexts_0 : List UInt8 := [3, 61, 3, 62, 29, 16, 20, 162, 0, 38, 28, 42, 29, 182, 0, 64, 153, 0, 20, 42, 180, 0, 7]
abbrev dktX3_nexts_0 : List UInt8 := dkwX3_nexts_0 ++ dktX3_nexts_1
theorem dksX3_nexts_0 : cX3_nexts.data.toList.drop 0 = dktX3_nexts_0 := by decide +kernel
theorem dksX3_nexts_1 : cX3_nexts.data.toList.drop 23 = dktX3_nexts_1 := dk_seg dksX3_nexts_0 23 rfl rfl
theorem dX3_nexts_0 : decode cX3_nexts 0 = .ok (.iconst 0, 1) := dk_3 (dk_at dksX3_nexts_0 0 rfl rfl)
theorem dX3_nexts_1 : decode cX3_nexts 1 = .ok (.istore_n 2, 1) := dk_61 (dk_at dksX3_nexts_0 1 rfl rfl)
theorem dX3_nexts_2 : decode cX3_nexts 2 = .ok (.iconst 0, 1) := dk_3 (dk_at dksX3_nexts_0 2 rfl rfl)
theorem dX3_nexts_3 : decode cX3_nexts 3 = .ok (.istore_n 3, 1) := dk_62 (dk_at dksX3_nexts_0 3 rfl rfl)
theorem dX3_nexts_4 : decode cX3_nexts 4 = .ok (.iload_n 3, 1) := dk_29 (dk_at dksX3_nexts_0 4 rfl rfl)
theorem dX3_nexts_5 : decode cX3_nexts 5 = .ok (.bipush 20, 2) := dk_16 20 (dk_at dksX3_nexts_0 5 rfl rfl)
theorem dX3_nexts_7 : decode cX3_nexts 7 = .ok (.if_icmp .ge 38, 3) := dk_162 0 38 (dk_at dksX3_nexts_0 7 rfl rfl)
theorem dX3_nexts_10 : decode cX3_nexts 10 = .ok (.iload_n 2, 1) := dk_28 (dk_at dksX3_nexts_0 10 rfl rfl)
theorem dX3_nexts_11 : decode cX3_nexts 11 = .ok (.aload_n 0, 1) := dk_42 (dk_at dksX3_nexts_0 11 rfl rfl)
theorem dX3_nexts_12 : decode cX3_nexts 12 = .ok (.iload_n 3, 1) := dk_29 (dk_at dksX3_nexts_0 12 rfl rfl)
theorem dX3_nexts_13 : decode cX3_nexts 13 = .ok (.invokevirtual 64, 3) := dk_182 0 64 (dk_at dksX3_nexts_0 13 rfl rfl)
theorem dX3_nexts_16 : decode cX3_nexts 16 = .ok (.ifCond .eq 20, 3) := dk_153 0 20 (dk_at dksX3_nexts_0 16 rfl rfl)
theorem dX3_nexts_19 : decode cX3_nexts 19 = .ok (.aload_n 0, 1) := dk_42 (dk_at dksX3_nexts_0 19 rfl rfl)
theorem dX3_nexts_20 : decode cX3_nexts 20 = .ok (.getfield 7, 3) := dk_180 0 7 (dk_at dksX3_nexts_0 20 rfl rfl)
theorem dX3_nexts_23 : decode cX3_nexts 23 = .ok (.bipush 42, 2) := dk_16 42 (dk_at dksX3_nexts_1 0 rfl rfl)
theorem dX3_nexts_25 : decode cX3_nexts 25 = .ok (.iload_n 3, 1) := dk_29 (dk_at dksX3_nexts_1 2 rfl rfl)
theorem dX3_nexts_26 : decode cX3_nexts 26 = .ok (.iadd, 1) := dk_96 (dk_at dksX3_nexts_1 3 rfl rfl)
theorem dX3_nexts_27 : decode cX3_nexts 27 = .ok (.iaload, 1) := dk_46 (dk_at dksX3_nexts_1 4 rfl rfl)
theorem dX3_nexts_28 : decode cX3_nexts 28 = .ok (.iload_n 1, 1) := dk_27 (dk_at dksX3_nexts_1 5 rfl rfl)
theorem dX3_nexts_29 : decode cX3_nexts 29 = .ok (.if_icmp .ne 7, 3) := dk_160 0 7 (dk_at dksX3_nexts_1 6 rfl rfl)
theorem dX3_nexts_32 : decode cX3_nexts 32 = .ok (.iconst 1, 1) := dk_4 (dk_at dksX3_nexts_1 9 rfl rfl)
theorem dX3_nexts_33 : decode cX3_nexts 33 = .ok (.goto 4, 3) := dk_167 0 4 (dk_at dksX3_nexts_1 10 rfl rfl)
theorem dX3_nexts_36 : decode cX3_nexts 36 = .ok (.iconst 0, 1) := dk_3 (dk_at dksX3_nexts_1 13 rfl rfl)
theorem dX3_nexts_37 : decode cX3_nexts 37 = .ok (.iadd, 1) := dk_96 (dk_at dksX3_nexts_1 14 rfl rfl)
theorem dX3_nexts_38 : decode cX3_nexts 38 = .ok (.istore_n 2, 1) := dk_61 (dk_at dksX3_nexts_1 15 rfl rfl)
theorem dX3_nexts_39 : decode cX3_nexts 39 = .ok (.iinc 3 1, 3) := dk_132 3 1 (dk_at dksX3_nexts_1 16 rfl rfl)
theorem dX3_nexts_42 : decode cX3_nexts 42 = .ok (.goto (-38), 3) := dk_167 255 218 (dk_at dksX3_nexts_1 19 rfl rfl)
theorem dX3_nexts_45 : decode cX3_nexts 45 = .ok (.iload_n 2, 1) := dk_28 (dk_at dksX3_nexts_1 22 rfl rfl)
theorem dX3_nexts_46 : decode cX3_nexts 46 = .ok (.ireturn, 1) := dk_172 (dk_at dksX3_nexts_1 23 rfl rfl)
abbrev cX3_owned : ByteArray := prog_11_method_31_code
def yX3_owned : MethodName := ⟨RX3, "owned", "(I)I"⟩
def dkwX3_owned_1 : List UInt8 := [16, 62, 29, 96, 46, 27, 160, 0, 7, 4, 167, 0, 4, 3, 96, 61, 132, 3, 1, 167, 255, 218, 28, 172]
abbrev dktX3_owned_1 : List UInt8 := dkwX3_owned_1 ++ []
def dkwX3_owned_0 : List UInt8 := [3, 61, 3, 62, 29, 16, 20, 162, 0, 38, 28, 42, 29, 182, 0, 57, 153, 0, 20, 42, 180, 0, 7]
abbrev dktX3_owned_0 : List UInt8 := dkwX3_owned_0 ++ dktX3_owned_1
theorem dksX3_owned_0 : cX3_owned.data.toList.drop 0 = dktX3_owned_0 := by decide +kernel
theorem dksX3_owned_1 : cX3_owned.data.toList.drop 23 = dktX3_owned_1 := dk_seg dksX3_owned_0 23 rfl rfl
theorem dX3_owned_0 : decode cX3_owned 0 = .ok (.iconst 0, 1) := dk_3 (dk_at dksX3_owned_0 0 rfl rfl)
theorem dX3_owned_1 : decode cX3_owned 1 = .ok (.istore_n 2, 1) := dk_61 (dk_at dksX3_owned_0 1 rfl rfl)
theorem dX3_owned_2 : decode cX3_owned 2 = .ok (.iconst 0, 1) := dk_3 (dk_at dksX3_owned_0 2 rfl rfl)
theorem dX3_owned_3 : decode cX3_owned 3 = .ok (.istore_n 3, 1) := dk_62 (dk_at dksX3_owned_0 3 rfl rfl)
theorem dX3_owned_4 : decode cX3_owned 4 = .ok (.iload_n 3, 1) := dk_29 (dk_at dksX3_owned_0 4 rfl rfl)
theorem dX3_owned_5 : decode cX3_owned 5 = .ok (.bipush 20, 2) := dk_16 20 (dk_at dksX3_owned_0 5 rfl rfl)
theorem dX3_owned_7 : decode cX3_owned 7 = .ok (.if_icmp .ge 38, 3) := dk_162 0 38 (dk_at dksX3_owned_0 7 rfl rfl)
theorem dX3_owned_10 : decode cX3_owned 10 = .ok (.iload_n 2, 1) := dk_28 (dk_at dksX3_owned_0 10 rfl rfl)
theorem dX3_owned_11 : decode cX3_owned 11 = .ok (.aload_n 0, 1) := dk_42 (dk_at dksX3_owned_0 11 rfl rfl)
theorem dX3_owned_12 : decode cX3_owned 12 = .ok (.iload_n 3, 1) := dk_29 (dk_at dksX3_owned_0 12 rfl rfl)
theorem dX3_owned_13 : decode cX3_owned 13 = .ok (.invokevirtual 57, 3) := dk_182 0 57 (dk_at dksX3_owned_0 13 rfl rfl)
theorem dX3_owned_16 : decode cX3_owned 16 = .ok (.ifCond .eq 20, 3) := dk_153 0 20 (dk_at dksX3_owned_0 16 rfl rfl)
theorem dX3_owned_19 : decode cX3_owned 19 = .ok (.aload_n 0, 1) := dk_42 (dk_at dksX3_owned_0 19 rfl rfl)
theorem dX3_owned_20 : decode cX3_owned 20 = .ok (.getfield 7, 3) := dk_180 0 7 (dk_at dksX3_owned_0 20 rfl rfl)
theorem dX3_owned_23 : decode cX3_owned 23 = .ok (.bipush 62, 2) := dk_16 62 (dk_at dksX3_owned_1 0 rfl rfl)
theorem dX3_owned_25 : decode cX3_owned 25 = .ok (.iload_n 3, 1) := dk_29 (dk_at dksX3_owned_1 2 rfl rfl)
theorem dX3_owned_26 : decode cX3_owned 26 = .ok (.iadd, 1) := dk_96 (dk_at dksX3_owned_1 3 rfl rfl)
theorem dX3_owned_27 : decode cX3_owned 27 = .ok (.iaload, 1) := dk_46 (dk_at dksX3_owned_1 4 rfl rfl)
theorem dX3_owned_28 : decode cX3_owned 28 = .ok (.iload_n 1, 1) := dk_27 (dk_at dksX3_owned_1 5 rfl rfl)
theorem dX3_owned_29 : decode cX3_owned 29 = .ok (.if_icmp .ne 7, 3) := dk_160 0 7 (dk_at dksX3_owned_1 6 rfl rfl)
theorem dX3_owned_32 : decode cX3_owned 32 = .ok (.iconst 1, 1) := dk_4 (dk_at dksX3_owned_1 9 rfl rfl)
theorem dX3_owned_33 : decode cX3_owned 33 = .ok (.goto 4, 3) := dk_167 0 4 (dk_at dksX3_owned_1 10 rfl rfl)
theorem dX3_owned_36 : decode cX3_owned 36 = .ok (.iconst 0, 1) := dk_3 (dk_at dksX3_owned_1 13 rfl rfl)
theorem dX3_owned_37 : decode cX3_owned 37 = .ok (.iadd, 1) := dk_96 (dk_at dksX3_owned_1 14 rfl rfl)
theorem dX3_owned_38 : decode cX3_owned 38 = .ok (.istore_n 2, 1) := dk_61 (dk_at dksX3_owned_1 15 rfl rfl)
theorem dX3_owned_39 : decode cX3_owned 39 = .ok (.iinc 3 1, 3) := dk_132 3 1 (dk_at dksX3_owned_1 16 rfl rfl)
theorem dX3_owned_42 : decode cX3_owned 42 = .ok (.goto (-38), 3) := dk_167 255 218 (dk_at dksX3_owned_1 19 rfl rfl)
theorem dX3_owned_45 : decode cX3_owned 45 = .ok (.iload_n 2, 1) := dk_28 (dk_at dksX3_owned_1 22 rfl rfl)
theorem dX3_owned_46 : decode cX3_owned 46 = .ok (.ireturn, 1) := dk_172 (dk_at dksX3_owned_1 23 rfl rfl)
abbrev cX3_removed : ByteArray := prog_11_method_33_code
def yX3_removed : MethodName := ⟨RX3, "removed", "(I)I"⟩
def dkwX3_removed_2 : List UInt8 := [132, 2, 1, 167, 255, 208, 42, 180, 0, 7, 5, 27, 96, 2, 79, 42, 182, 0, 89, 172]
abbrev dktX3_removed_2 : List UInt8 := dkwX3_removed_2 ++ []
def dkwX3_removed_1 : List UInt8 := [46, 27, 160, 0, 21, 42, 180, 0, 7, 16, 42, 28, 96, 42, 180, 0, 7, 16, 42, 27, 96, 46, 79]
abbrev dktX3_removed_1 : List UInt8 := dkwX3_removed_1 ++ dktX3_removed_2
def dkwX3_removed_0 : List UInt8 := [3, 61, 28, 16, 20, 162, 0, 48, 42, 28, 182, 0, 64, 153, 0, 34, 42, 180, 0, 7, 16, 42, 28, 96]
abbrev dktX3_removed_0 : List UInt8 := dkwX3_removed_0 ++ dktX3_removed_1
theorem dksX3_removed_0 : cX3_removed.data.toList.drop 0 = dktX3_removed_0 := by decide +kernel
theorem dksX3_removed_1 : cX3_removed.data.toList.drop 24 = dktX3_removed_1 := dk_seg dksX3_removed_0 24 rfl rfl
theorem dksX3_removed_2 : cX3_removed.data.toList.drop 47 = dktX3_removed_2 := dk_seg dksX3_removed_1 23 rfl rfl
theorem dX3_removed_0 : decode cX3_removed 0 = .ok (.iconst 0, 1) := dk_3 (dk_at dksX3_removed_0 0 rfl rfl)
theorem dX3_removed_1 : decode cX3_removed 1 = .ok (.istore_n 2, 1) := dk_61 (dk_at dksX3_removed_0 1 rfl rfl)
theorem dX3_removed_2 : decode cX3_removed 2 = .ok (.iload_n 2, 1) := dk_28 (dk_at dksX3_removed_0 2 rfl rfl)
theorem dX3_removed_3 : decode cX3_removed 3 = .ok (.bipush 20, 2) := dk_16 20 (dk_at dksX3_removed_0 3 rfl rfl)
theorem dX3_removed_5 : decode cX3_removed 5 = .ok (.if_icmp .ge 48, 3) := dk_162 0 48 (dk_at dksX3_removed_0 5 rfl rfl)
theorem dX3_removed_8 : decode cX3_removed 8 = .ok (.aload_n 0, 1) := dk_42 (dk_at dksX3_removed_0 8 rfl rfl)
theorem dX3_removed_9 : decode cX3_removed 9 = .ok (.iload_n 2, 1) := dk_28 (dk_at dksX3_removed_0 9 rfl rfl)
theorem dX3_removed_10 : decode cX3_removed 10 = .ok (.invokevirtual 64, 3) := dk_182 0 64 (dk_at dksX3_removed_0 10 rfl rfl)
theorem dX3_removed_13 : decode cX3_removed 13 = .ok (.ifCond .eq 34, 3) := dk_153 0 34 (dk_at dksX3_removed_0 13 rfl rfl)
theorem dX3_removed_16 : decode cX3_removed 16 = .ok (.aload_n 0, 1) := dk_42 (dk_at dksX3_removed_0 16 rfl rfl)
theorem dX3_removed_17 : decode cX3_removed 17 = .ok (.getfield 7, 3) := dk_180 0 7 (dk_at dksX3_removed_0 17 rfl rfl)
theorem dX3_removed_20 : decode cX3_removed 20 = .ok (.bipush 42, 2) := dk_16 42 (dk_at dksX3_removed_0 20 rfl rfl)
theorem dX3_removed_22 : decode cX3_removed 22 = .ok (.iload_n 2, 1) := dk_28 (dk_at dksX3_removed_0 22 rfl rfl)
theorem dX3_removed_23 : decode cX3_removed 23 = .ok (.iadd, 1) := dk_96 (dk_at dksX3_removed_0 23 rfl rfl)
theorem dX3_removed_24 : decode cX3_removed 24 = .ok (.iaload, 1) := dk_46 (dk_at dksX3_removed_1 0 rfl rfl)
theorem dX3_removed_25 : decode cX3_removed 25 = .ok (.iload_n 1, 1) := dk_27 (dk_at dksX3_removed_1 1 rfl rfl)
theorem dX3_removed_26 : decode cX3_removed 26 = .ok (.if_icmp .ne 21, 3) := dk_160 0 21 (dk_at dksX3_removed_1 2 rfl rfl)
theorem dX3_removed_29 : decode cX3_removed 29 = .ok (.aload_n 0, 1) := dk_42 (dk_at dksX3_removed_1 5 rfl rfl)
theorem dX3_removed_30 : decode cX3_removed 30 = .ok (.getfield 7, 3) := dk_180 0 7 (dk_at dksX3_removed_1 6 rfl rfl)
theorem dX3_removed_33 : decode cX3_removed 33 = .ok (.bipush 42, 2) := dk_16 42 (dk_at dksX3_removed_1 9 rfl rfl)
theorem dX3_removed_35 : decode cX3_removed 35 = .ok (.iload_n 2, 1) := dk_28 (dk_at dksX3_removed_1 11 rfl rfl)
theorem dX3_removed_36 : decode cX3_removed 36 = .ok (.iadd, 1) := dk_96 (dk_at dksX3_removed_1 12 rfl rfl)
theorem dX3_removed_37 : decode cX3_removed 37 = .ok (.aload_n 0, 1) := dk_42 (dk_at dksX3_removed_1 13 rfl rfl)
theorem dX3_removed_38 : decode cX3_removed 38 = .ok (.getfield 7, 3) := dk_180 0 7 (dk_at dksX3_removed_1 14 rfl rfl)
theorem dX3_removed_41 : decode cX3_removed 41 = .ok (.bipush 42, 2) := dk_16 42 (dk_at dksX3_removed_1 17 rfl rfl)
theorem dX3_removed_43 : decode cX3_removed 43 = .ok (.iload_n 1, 1) := dk_27 (dk_at dksX3_removed_1 19 rfl rfl)
theorem dX3_removed_44 : decode cX3_removed 44 = .ok (.iadd, 1) := dk_96 (dk_at dksX3_removed_1 20 rfl rfl)
theorem dX3_removed_45 : decode cX3_removed 45 = .ok (.iaload, 1) := dk_46 (dk_at dksX3_removed_1 21 rfl rfl)
theorem dX3_removed_46 : decode cX3_removed 46 = .ok (.iastore, 1) := dk_79 (dk_at dksX3_removed_1 22 rfl rfl)
theorem dX3_removed_47 : decode cX3_removed 47 = .ok (.iinc 2 1, 3) := dk_132 2 1 (dk_at dksX3_removed_2 0 rfl rfl)
theorem dX3_removed_50 : decode cX3_removed 50 = .ok (.goto (-48), 3) := dk_167 255 208 (dk_at dksX3_removed_2 3 rfl rfl)
theorem dX3_removed_53 : decode cX3_removed 53 = .ok (.aload_n 0, 1) := dk_42 (dk_at dksX3_removed_2 6 rfl rfl)
theorem dX3_removed_54 : decode cX3_removed 54 = .ok (.getfield 7, 3) := dk_180 0 7 (dk_at dksX3_removed_2 7 rfl rfl)
theorem dX3_removed_57 : decode cX3_removed 57 = .ok (.iconst 2, 1) := dk_5 (dk_at dksX3_removed_2 10 rfl rfl)
theorem dX3_removed_58 : decode cX3_removed 58 = .ok (.iload_n 1, 1) := dk_27 (dk_at dksX3_removed_2 11 rfl rfl)
theorem dX3_removed_59 : decode cX3_removed 59 = .ok (.iadd, 1) := dk_96 (dk_at dksX3_removed_2 12 rfl rfl)
theorem dX3_removed_60 : decode cX3_removed 60 = .ok (.iconst (-1), 1) := dk_2 (dk_at dksX3_removed_2 13 rfl rfl)
theorem dX3_removed_61 : decode cX3_removed 61 = .ok (.iastore, 1) := dk_79 (dk_at dksX3_removed_2 14 rfl rfl)
theorem dX3_removed_62 : decode cX3_removed 62 = .ok (.aload_n 0, 1) := dk_42 (dk_at dksX3_removed_2 15 rfl rfl)
theorem dX3_removed_63 : decode cX3_removed 63 = .ok (.invokevirtual 89, 3) := dk_182 0 89 (dk_at dksX3_removed_2 16 rfl rfl)
theorem dX3_removed_66 : decode cX3_removed 66 = .ok (.ireturn, 1) := dk_172 (dk_at dksX3_removed_2 19 rfl rfl)
abbrev cX3_fork : ByteArray := prog_11_method_35_code
def yX3_fork : MethodName := ⟨RX3, "fork", "(I)I"⟩
def dkwX3_fork_2 : List UInt8 := [16, 42, 29, 96, 27, 79, 29, 172]
abbrev dktX3_fork_2 : List UInt8 := dkwX3_fork_2 ++ []
def dkwX3_fork_1 : List UInt8 := [172, 42, 3, 42, 180, 0, 7, 3, 46, 182, 0, 75, 62, 42, 29, 27, 182, 0, 102, 42, 180, 0, 7]
abbrev dktX3_fork_1 : List UInt8 := dkwX3_fork_1 ++ dktX3_fork_2
def dkwX3_fork_0 : List UInt8 := [42, 27, 5, 182, 0, 92, 61, 28, 153, 0, 5, 28, 172, 42, 182, 0, 70, 16, 20, 160, 0, 6, 16, 252]
abbrev dktX3_fork_0 : List UInt8 := dkwX3_fork_0 ++ dktX3_fork_1
theorem dksX3_fork_0 : cX3_fork.data.toList.drop 0 = dktX3_fork_0 := by decide +kernel
theorem dksX3_fork_1 : cX3_fork.data.toList.drop 24 = dktX3_fork_1 := dk_seg dksX3_fork_0 24 rfl rfl
theorem dksX3_fork_2 : cX3_fork.data.toList.drop 47 = dktX3_fork_2 := dk_seg dksX3_fork_1 23 rfl rfl
theorem dX3_fork_0 : decode cX3_fork 0 = .ok (.aload_n 0, 1) := dk_42 (dk_at dksX3_fork_0 0 rfl rfl)
theorem dX3_fork_1 : decode cX3_fork 1 = .ok (.iload_n 1, 1) := dk_27 (dk_at dksX3_fork_0 1 rfl rfl)
theorem dX3_fork_2 : decode cX3_fork 2 = .ok (.iconst 2, 1) := dk_5 (dk_at dksX3_fork_0 2 rfl rfl)
theorem dX3_fork_3 : decode cX3_fork 3 = .ok (.invokevirtual 92, 3) := dk_182 0 92 (dk_at dksX3_fork_0 3 rfl rfl)
theorem dX3_fork_6 : decode cX3_fork 6 = .ok (.istore_n 2, 1) := dk_61 (dk_at dksX3_fork_0 6 rfl rfl)
theorem dX3_fork_7 : decode cX3_fork 7 = .ok (.iload_n 2, 1) := dk_28 (dk_at dksX3_fork_0 7 rfl rfl)
theorem dX3_fork_8 : decode cX3_fork 8 = .ok (.ifCond .eq 5, 3) := dk_153 0 5 (dk_at dksX3_fork_0 8 rfl rfl)
theorem dX3_fork_11 : decode cX3_fork 11 = .ok (.iload_n 2, 1) := dk_28 (dk_at dksX3_fork_0 11 rfl rfl)
theorem dX3_fork_12 : decode cX3_fork 12 = .ok (.ireturn, 1) := dk_172 (dk_at dksX3_fork_0 12 rfl rfl)
theorem dX3_fork_13 : decode cX3_fork 13 = .ok (.aload_n 0, 1) := dk_42 (dk_at dksX3_fork_0 13 rfl rfl)
theorem dX3_fork_14 : decode cX3_fork 14 = .ok (.invokevirtual 70, 3) := dk_182 0 70 (dk_at dksX3_fork_0 14 rfl rfl)
theorem dX3_fork_17 : decode cX3_fork 17 = .ok (.bipush 20, 2) := dk_16 20 (dk_at dksX3_fork_0 17 rfl rfl)
theorem dX3_fork_19 : decode cX3_fork 19 = .ok (.if_icmp .ne 6, 3) := dk_160 0 6 (dk_at dksX3_fork_0 19 rfl rfl)
theorem dX3_fork_22 : decode cX3_fork 22 = .ok (.bipush (-4), 2) := dk_16 252 (dk_at dksX3_fork_0 22 rfl rfl)
theorem dX3_fork_24 : decode cX3_fork 24 = .ok (.ireturn, 1) := dk_172 (dk_at dksX3_fork_1 0 rfl rfl)
theorem dX3_fork_25 : decode cX3_fork 25 = .ok (.aload_n 0, 1) := dk_42 (dk_at dksX3_fork_1 1 rfl rfl)
theorem dX3_fork_26 : decode cX3_fork 26 = .ok (.iconst 0, 1) := dk_3 (dk_at dksX3_fork_1 2 rfl rfl)
theorem dX3_fork_27 : decode cX3_fork 27 = .ok (.aload_n 0, 1) := dk_42 (dk_at dksX3_fork_1 3 rfl rfl)
theorem dX3_fork_28 : decode cX3_fork 28 = .ok (.getfield 7, 3) := dk_180 0 7 (dk_at dksX3_fork_1 4 rfl rfl)
theorem dX3_fork_31 : decode cX3_fork 31 = .ok (.iconst 0, 1) := dk_3 (dk_at dksX3_fork_1 7 rfl rfl)
theorem dX3_fork_32 : decode cX3_fork 32 = .ok (.iaload, 1) := dk_46 (dk_at dksX3_fork_1 8 rfl rfl)
theorem dX3_fork_33 : decode cX3_fork 33 = .ok (.invokevirtual 75, 3) := dk_182 0 75 (dk_at dksX3_fork_1 9 rfl rfl)
theorem dX3_fork_36 : decode cX3_fork 36 = .ok (.istore_n 3, 1) := dk_62 (dk_at dksX3_fork_1 12 rfl rfl)
theorem dX3_fork_37 : decode cX3_fork 37 = .ok (.aload_n 0, 1) := dk_42 (dk_at dksX3_fork_1 13 rfl rfl)
theorem dX3_fork_38 : decode cX3_fork 38 = .ok (.iload_n 3, 1) := dk_29 (dk_at dksX3_fork_1 14 rfl rfl)
theorem dX3_fork_39 : decode cX3_fork 39 = .ok (.iload_n 1, 1) := dk_27 (dk_at dksX3_fork_1 15 rfl rfl)
theorem dX3_fork_40 : decode cX3_fork 40 = .ok (.invokevirtual 102, 3) := dk_182 0 102 (dk_at dksX3_fork_1 16 rfl rfl)
theorem dX3_fork_43 : decode cX3_fork 43 = .ok (.aload_n 0, 1) := dk_42 (dk_at dksX3_fork_1 19 rfl rfl)
theorem dX3_fork_44 : decode cX3_fork 44 = .ok (.getfield 7, 3) := dk_180 0 7 (dk_at dksX3_fork_1 20 rfl rfl)
theorem dX3_fork_47 : decode cX3_fork 47 = .ok (.bipush 42, 2) := dk_16 42 (dk_at dksX3_fork_2 0 rfl rfl)
theorem dX3_fork_49 : decode cX3_fork 49 = .ok (.iload_n 3, 1) := dk_29 (dk_at dksX3_fork_2 2 rfl rfl)
theorem dX3_fork_50 : decode cX3_fork 50 = .ok (.iadd, 1) := dk_96 (dk_at dksX3_fork_2 3 rfl rfl)
theorem dX3_fork_51 : decode cX3_fork 51 = .ok (.iload_n 1, 1) := dk_27 (dk_at dksX3_fork_2 4 rfl rfl)
theorem dX3_fork_52 : decode cX3_fork 52 = .ok (.iastore, 1) := dk_79 (dk_at dksX3_fork_2 5 rfl rfl)
theorem dX3_fork_53 : decode cX3_fork 53 = .ok (.iload_n 3, 1) := dk_29 (dk_at dksX3_fork_2 6 rfl rfl)
theorem dX3_fork_54 : decode cX3_fork 54 = .ok (.ireturn, 1) := dk_172 (dk_at dksX3_fork_2 7 rfl rfl)
abbrev cX3_promote : ByteArray := prog_11_method_37_code
def yX3_promote : MethodName := ⟨RX3, "promote", "(I)I"⟩
def dkwX3_promote_4 : List UInt8 := [21, 6, 96, 46, 54, 6, 167, 255, 209, 21, 5, 172]
abbrev dktX3_promote_4 : List UInt8 := dkwX3_promote_4 ++ []
def dkwX3_promote_3 : List UInt8 := [160, 0, 17, 42, 180, 0, 7, 16, 62, 21, 6, 96, 27, 79, 132, 5, 1, 42, 180, 0, 7, 16, 42]
abbrev dktX3_promote_3 : List UInt8 := dkwX3_promote_3 ++ dktX3_promote_4
def dkwX3_promote_2 : List UInt8 := [96, 46, 54, 6, 21, 6, 2, 159, 0, 47, 42, 180, 0, 7, 16, 62, 21, 6, 96, 46, 21, 4]
abbrev dktX3_promote_2 : List UInt8 := dkwX3_promote_2 ++ dktX3_promote_3
def dkwX3_promote_1 : List UInt8 := [16, 253, 172, 42, 180, 0, 7, 16, 62, 29, 96, 46, 54, 4, 3, 54, 5, 42, 180, 0, 7, 16, 42, 27]
abbrev dktX3_promote_1 : List UInt8 := dkwX3_promote_1 ++ dktX3_promote_2
def dkwX3_promote_0 : List UInt8 := [42, 27, 3, 182, 0, 92, 61, 28, 153, 0, 5, 28, 172, 42, 27, 182, 0, 115, 62, 29, 2, 160, 0, 6]
abbrev dktX3_promote_0 : List UInt8 := dkwX3_promote_0 ++ dktX3_promote_1
theorem dksX3_promote_0 : cX3_promote.data.toList.drop 0 = dktX3_promote_0 := by decide +kernel
theorem dksX3_promote_1 : cX3_promote.data.toList.drop 24 = dktX3_promote_1 := dk_seg dksX3_promote_0 24 rfl rfl
theorem dksX3_promote_2 : cX3_promote.data.toList.drop 48 = dktX3_promote_2 := dk_seg dksX3_promote_1 24 rfl rfl
theorem dksX3_promote_3 : cX3_promote.data.toList.drop 70 = dktX3_promote_3 := dk_seg dksX3_promote_2 22 rfl rfl
theorem dksX3_promote_4 : cX3_promote.data.toList.drop 93 = dktX3_promote_4 := dk_seg dksX3_promote_3 23 rfl rfl
theorem dX3_promote_0 : decode cX3_promote 0 = .ok (.aload_n 0, 1) := dk_42 (dk_at dksX3_promote_0 0 rfl rfl)
theorem dX3_promote_1 : decode cX3_promote 1 = .ok (.iload_n 1, 1) := dk_27 (dk_at dksX3_promote_0 1 rfl rfl)
theorem dX3_promote_2 : decode cX3_promote 2 = .ok (.iconst 0, 1) := dk_3 (dk_at dksX3_promote_0 2 rfl rfl)
theorem dX3_promote_3 : decode cX3_promote 3 = .ok (.invokevirtual 92, 3) := dk_182 0 92 (dk_at dksX3_promote_0 3 rfl rfl)
theorem dX3_promote_6 : decode cX3_promote 6 = .ok (.istore_n 2, 1) := dk_61 (dk_at dksX3_promote_0 6 rfl rfl)
theorem dX3_promote_7 : decode cX3_promote 7 = .ok (.iload_n 2, 1) := dk_28 (dk_at dksX3_promote_0 7 rfl rfl)
theorem dX3_promote_8 : decode cX3_promote 8 = .ok (.ifCond .eq 5, 3) := dk_153 0 5 (dk_at dksX3_promote_0 8 rfl rfl)
theorem dX3_promote_11 : decode cX3_promote 11 = .ok (.iload_n 2, 1) := dk_28 (dk_at dksX3_promote_0 11 rfl rfl)
theorem dX3_promote_12 : decode cX3_promote 12 = .ok (.ireturn, 1) := dk_172 (dk_at dksX3_promote_0 12 rfl rfl)
theorem dX3_promote_13 : decode cX3_promote 13 = .ok (.aload_n 0, 1) := dk_42 (dk_at dksX3_promote_0 13 rfl rfl)
theorem dX3_promote_14 : decode cX3_promote 14 = .ok (.iload_n 1, 1) := dk_27 (dk_at dksX3_promote_0 14 rfl rfl)
theorem dX3_promote_15 : decode cX3_promote 15 = .ok (.invokevirtual 115, 3) := dk_182 0 115 (dk_at dksX3_promote_0 15 rfl rfl)
theorem dX3_promote_18 : decode cX3_promote 18 = .ok (.istore_n 3, 1) := dk_62 (dk_at dksX3_promote_0 18 rfl rfl)
theorem dX3_promote_19 : decode cX3_promote 19 = .ok (.iload_n 3, 1) := dk_29 (dk_at dksX3_promote_0 19 rfl rfl)
theorem dX3_promote_20 : decode cX3_promote 20 = .ok (.iconst (-1), 1) := dk_2 (dk_at dksX3_promote_0 20 rfl rfl)
theorem dX3_promote_21 : decode cX3_promote 21 = .ok (.if_icmp .ne 6, 3) := dk_160 0 6 (dk_at dksX3_promote_0 21 rfl rfl)
theorem dX3_promote_24 : decode cX3_promote 24 = .ok (.bipush (-3), 2) := dk_16 253 (dk_at dksX3_promote_1 0 rfl rfl)
theorem dX3_promote_26 : decode cX3_promote 26 = .ok (.ireturn, 1) := dk_172 (dk_at dksX3_promote_1 2 rfl rfl)
theorem dX3_promote_27 : decode cX3_promote 27 = .ok (.aload_n 0, 1) := dk_42 (dk_at dksX3_promote_1 3 rfl rfl)
theorem dX3_promote_28 : decode cX3_promote 28 = .ok (.getfield 7, 3) := dk_180 0 7 (dk_at dksX3_promote_1 4 rfl rfl)
theorem dX3_promote_31 : decode cX3_promote 31 = .ok (.bipush 62, 2) := dk_16 62 (dk_at dksX3_promote_1 7 rfl rfl)
theorem dX3_promote_33 : decode cX3_promote 33 = .ok (.iload_n 3, 1) := dk_29 (dk_at dksX3_promote_1 9 rfl rfl)
theorem dX3_promote_34 : decode cX3_promote 34 = .ok (.iadd, 1) := dk_96 (dk_at dksX3_promote_1 10 rfl rfl)
theorem dX3_promote_35 : decode cX3_promote 35 = .ok (.iaload, 1) := dk_46 (dk_at dksX3_promote_1 11 rfl rfl)
theorem dX3_promote_36 : decode cX3_promote 36 = .ok (.istore 4, 2) := dk_54 4 (dk_at dksX3_promote_1 12 rfl rfl)
theorem dX3_promote_38 : decode cX3_promote 38 = .ok (.iconst 0, 1) := dk_3 (dk_at dksX3_promote_1 14 rfl rfl)
theorem dX3_promote_39 : decode cX3_promote 39 = .ok (.istore 5, 2) := dk_54 5 (dk_at dksX3_promote_1 15 rfl rfl)
theorem dX3_promote_41 : decode cX3_promote 41 = .ok (.aload_n 0, 1) := dk_42 (dk_at dksX3_promote_1 17 rfl rfl)
theorem dX3_promote_42 : decode cX3_promote 42 = .ok (.getfield 7, 3) := dk_180 0 7 (dk_at dksX3_promote_1 18 rfl rfl)
theorem dX3_promote_45 : decode cX3_promote 45 = .ok (.bipush 42, 2) := dk_16 42 (dk_at dksX3_promote_1 21 rfl rfl)
theorem dX3_promote_47 : decode cX3_promote 47 = .ok (.iload_n 1, 1) := dk_27 (dk_at dksX3_promote_1 23 rfl rfl)
theorem dX3_promote_48 : decode cX3_promote 48 = .ok (.iadd, 1) := dk_96 (dk_at dksX3_promote_2 0 rfl rfl)
theorem dX3_promote_49 : decode cX3_promote 49 = .ok (.iaload, 1) := dk_46 (dk_at dksX3_promote_2 1 rfl rfl)
theorem dX3_promote_50 : decode cX3_promote 50 = .ok (.istore 6, 2) := dk_54 6 (dk_at dksX3_promote_2 2 rfl rfl)
theorem dX3_promote_52 : decode cX3_promote 52 = .ok (.iload 6, 2) := dk_21 6 (dk_at dksX3_promote_2 4 rfl rfl)
theorem dX3_promote_54 : decode cX3_promote 54 = .ok (.iconst (-1), 1) := dk_2 (dk_at dksX3_promote_2 6 rfl rfl)
theorem dX3_promote_55 : decode cX3_promote 55 = .ok (.if_icmp .eq 47, 3) := dk_159 0 47 (dk_at dksX3_promote_2 7 rfl rfl)
theorem dX3_promote_58 : decode cX3_promote 58 = .ok (.aload_n 0, 1) := dk_42 (dk_at dksX3_promote_2 10 rfl rfl)
theorem dX3_promote_59 : decode cX3_promote 59 = .ok (.getfield 7, 3) := dk_180 0 7 (dk_at dksX3_promote_2 11 rfl rfl)
theorem dX3_promote_62 : decode cX3_promote 62 = .ok (.bipush 62, 2) := dk_16 62 (dk_at dksX3_promote_2 14 rfl rfl)
theorem dX3_promote_64 : decode cX3_promote 64 = .ok (.iload 6, 2) := dk_21 6 (dk_at dksX3_promote_2 16 rfl rfl)
theorem dX3_promote_66 : decode cX3_promote 66 = .ok (.iadd, 1) := dk_96 (dk_at dksX3_promote_2 18 rfl rfl)
theorem dX3_promote_67 : decode cX3_promote 67 = .ok (.iaload, 1) := dk_46 (dk_at dksX3_promote_2 19 rfl rfl)
theorem dX3_promote_68 : decode cX3_promote 68 = .ok (.iload 4, 2) := dk_21 4 (dk_at dksX3_promote_2 20 rfl rfl)
theorem dX3_promote_70 : decode cX3_promote 70 = .ok (.if_icmp .ne 17, 3) := dk_160 0 17 (dk_at dksX3_promote_3 0 rfl rfl)
theorem dX3_promote_73 : decode cX3_promote 73 = .ok (.aload_n 0, 1) := dk_42 (dk_at dksX3_promote_3 3 rfl rfl)
theorem dX3_promote_74 : decode cX3_promote 74 = .ok (.getfield 7, 3) := dk_180 0 7 (dk_at dksX3_promote_3 4 rfl rfl)
theorem dX3_promote_77 : decode cX3_promote 77 = .ok (.bipush 62, 2) := dk_16 62 (dk_at dksX3_promote_3 7 rfl rfl)
theorem dX3_promote_79 : decode cX3_promote 79 = .ok (.iload 6, 2) := dk_21 6 (dk_at dksX3_promote_3 9 rfl rfl)
theorem dX3_promote_81 : decode cX3_promote 81 = .ok (.iadd, 1) := dk_96 (dk_at dksX3_promote_3 11 rfl rfl)
theorem dX3_promote_82 : decode cX3_promote 82 = .ok (.iload_n 1, 1) := dk_27 (dk_at dksX3_promote_3 12 rfl rfl)
theorem dX3_promote_83 : decode cX3_promote 83 = .ok (.iastore, 1) := dk_79 (dk_at dksX3_promote_3 13 rfl rfl)
theorem dX3_promote_84 : decode cX3_promote 84 = .ok (.iinc 5 1, 3) := dk_132 5 1 (dk_at dksX3_promote_3 14 rfl rfl)
theorem dX3_promote_87 : decode cX3_promote 87 = .ok (.aload_n 0, 1) := dk_42 (dk_at dksX3_promote_3 17 rfl rfl)
theorem dX3_promote_88 : decode cX3_promote 88 = .ok (.getfield 7, 3) := dk_180 0 7 (dk_at dksX3_promote_3 18 rfl rfl)
theorem dX3_promote_91 : decode cX3_promote 91 = .ok (.bipush 42, 2) := dk_16 42 (dk_at dksX3_promote_3 21 rfl rfl)
theorem dX3_promote_93 : decode cX3_promote 93 = .ok (.iload 6, 2) := dk_21 6 (dk_at dksX3_promote_4 0 rfl rfl)
theorem dX3_promote_95 : decode cX3_promote 95 = .ok (.iadd, 1) := dk_96 (dk_at dksX3_promote_4 2 rfl rfl)
theorem dX3_promote_96 : decode cX3_promote 96 = .ok (.iaload, 1) := dk_46 (dk_at dksX3_promote_4 3 rfl rfl)
theorem dX3_promote_97 : decode cX3_promote 97 = .ok (.istore 6, 2) := dk_54 6 (dk_at dksX3_promote_4 4 rfl rfl)
theorem dX3_promote_99 : decode cX3_promote 99 = .ok (.goto (-47), 3) := dk_167 255 209 (dk_at dksX3_promote_4 6 rfl rfl)
theorem dX3_promote_102 : decode cX3_promote 102 = .ok (.iload 5, 2) := dk_21 5 (dk_at dksX3_promote_4 9 rfl rfl)
theorem dX3_promote_104 : decode cX3_promote 104 = .ok (.ireturn, 1) := dk_172 (dk_at dksX3_promote_4 11 rfl rfl)
abbrev cX3_originOf : ByteArray := prog_11_method_36_code
def yX3_originOf : MethodName := ⟨RX3, "originOf", "(I)I"⟩
def dkwX3_originOf_1 : List UInt8 := [27, 160, 0, 16, 42, 180, 0, 7, 16, 42, 28, 96, 46, 61, 167, 255, 228, 28, 172]
abbrev dktX3_originOf_1 : List UInt8 := dkwX3_originOf_1 ++ []
def dkwX3_originOf_0 : List UInt8 := [42, 180, 0, 7, 16, 42, 27, 96, 46, 61, 28, 2, 159, 0, 29, 42, 180, 0, 7, 16, 62, 28, 96, 46]
abbrev dktX3_originOf_0 : List UInt8 := dkwX3_originOf_0 ++ dktX3_originOf_1
theorem dksX3_originOf_0 : cX3_originOf.data.toList.drop 0 = dktX3_originOf_0 := by decide +kernel
theorem dksX3_originOf_1 : cX3_originOf.data.toList.drop 24 = dktX3_originOf_1 := dk_seg dksX3_originOf_0 24 rfl rfl
theorem dX3_originOf_0 : decode cX3_originOf 0 = .ok (.aload_n 0, 1) := dk_42 (dk_at dksX3_originOf_0 0 rfl rfl)
theorem dX3_originOf_1 : decode cX3_originOf 1 = .ok (.getfield 7, 3) := dk_180 0 7 (dk_at dksX3_originOf_0 1 rfl rfl)
theorem dX3_originOf_4 : decode cX3_originOf 4 = .ok (.bipush 42, 2) := dk_16 42 (dk_at dksX3_originOf_0 4 rfl rfl)
theorem dX3_originOf_6 : decode cX3_originOf 6 = .ok (.iload_n 1, 1) := dk_27 (dk_at dksX3_originOf_0 6 rfl rfl)
theorem dX3_originOf_7 : decode cX3_originOf 7 = .ok (.iadd, 1) := dk_96 (dk_at dksX3_originOf_0 7 rfl rfl)
theorem dX3_originOf_8 : decode cX3_originOf 8 = .ok (.iaload, 1) := dk_46 (dk_at dksX3_originOf_0 8 rfl rfl)
theorem dX3_originOf_9 : decode cX3_originOf 9 = .ok (.istore_n 2, 1) := dk_61 (dk_at dksX3_originOf_0 9 rfl rfl)
theorem dX3_originOf_10 : decode cX3_originOf 10 = .ok (.iload_n 2, 1) := dk_28 (dk_at dksX3_originOf_0 10 rfl rfl)
theorem dX3_originOf_11 : decode cX3_originOf 11 = .ok (.iconst (-1), 1) := dk_2 (dk_at dksX3_originOf_0 11 rfl rfl)
theorem dX3_originOf_12 : decode cX3_originOf 12 = .ok (.if_icmp .eq 29, 3) := dk_159 0 29 (dk_at dksX3_originOf_0 12 rfl rfl)
theorem dX3_originOf_15 : decode cX3_originOf 15 = .ok (.aload_n 0, 1) := dk_42 (dk_at dksX3_originOf_0 15 rfl rfl)
theorem dX3_originOf_16 : decode cX3_originOf 16 = .ok (.getfield 7, 3) := dk_180 0 7 (dk_at dksX3_originOf_0 16 rfl rfl)
theorem dX3_originOf_19 : decode cX3_originOf 19 = .ok (.bipush 62, 2) := dk_16 62 (dk_at dksX3_originOf_0 19 rfl rfl)
theorem dX3_originOf_21 : decode cX3_originOf 21 = .ok (.iload_n 2, 1) := dk_28 (dk_at dksX3_originOf_0 21 rfl rfl)
theorem dX3_originOf_22 : decode cX3_originOf 22 = .ok (.iadd, 1) := dk_96 (dk_at dksX3_originOf_0 22 rfl rfl)
theorem dX3_originOf_23 : decode cX3_originOf 23 = .ok (.iaload, 1) := dk_46 (dk_at dksX3_originOf_0 23 rfl rfl)
theorem dX3_originOf_24 : decode cX3_originOf 24 = .ok (.iload_n 1, 1) := dk_27 (dk_at dksX3_originOf_1 0 rfl rfl)
theorem dX3_originOf_25 : decode cX3_originOf 25 = .ok (.if_icmp .ne 16, 3) := dk_160 0 16 (dk_at dksX3_originOf_1 1 rfl rfl)
theorem dX3_originOf_28 : decode cX3_originOf 28 = .ok (.aload_n 0, 1) := dk_42 (dk_at dksX3_originOf_1 4 rfl rfl)
theorem dX3_originOf_29 : decode cX3_originOf 29 = .ok (.getfield 7, 3) := dk_180 0 7 (dk_at dksX3_originOf_1 5 rfl rfl)
theorem dX3_originOf_32 : decode cX3_originOf 32 = .ok (.bipush 42, 2) := dk_16 42 (dk_at dksX3_originOf_1 8 rfl rfl)
theorem dX3_originOf_34 : decode cX3_originOf 34 = .ok (.iload_n 2, 1) := dk_28 (dk_at dksX3_originOf_1 10 rfl rfl)
theorem dX3_originOf_35 : decode cX3_originOf 35 = .ok (.iadd, 1) := dk_96 (dk_at dksX3_originOf_1 11 rfl rfl)
theorem dX3_originOf_36 : decode cX3_originOf 36 = .ok (.iaload, 1) := dk_46 (dk_at dksX3_originOf_1 12 rfl rfl)
theorem dX3_originOf_37 : decode cX3_originOf 37 = .ok (.istore_n 2, 1) := dk_61 (dk_at dksX3_originOf_1 13 rfl rfl)
theorem dX3_originOf_38 : decode cX3_originOf 38 = .ok (.goto (-28), 3) := dk_167 255 228 (dk_at dksX3_originOf_1 14 rfl rfl)
theorem dX3_originOf_41 : decode cX3_originOf 41 = .ok (.iload_n 2, 1) := dk_28 (dk_at dksX3_originOf_1 17 rfl rfl)
theorem dX3_originOf_42 : decode cX3_originOf 42 = .ok (.ireturn, 1) := dk_172 (dk_at dksX3_originOf_1 18 rfl rfl)
abbrev cX3_rollback : ByteArray := prog_11_method_38_code
def yX3_rollback : MethodName := ⟨RX3, "rollback", "(I)I"⟩
def dkwX3_rollback_2 : List UInt8 := [172]
abbrev dktX3_rollback_2 : List UInt8 := dkwX3_rollback_2 ++ []
def dkwX3_rollback_1 : List UInt8 := [160, 0, 6, 16, 253, 172, 42, 27, 42, 180, 0, 7, 16, 42, 27, 96, 46, 182, 0, 102, 42, 182, 0, 89]
abbrev dktX3_rollback_1 : List UInt8 := dkwX3_rollback_1 ++ dktX3_rollback_2
def dkwX3_rollback_0 : List UInt8 := [42, 27, 3, 182, 0, 92, 61, 28, 153, 0, 5, 28, 172, 42, 180, 0, 7, 16, 42, 27, 96, 46, 2]
abbrev dktX3_rollback_0 : List UInt8 := dkwX3_rollback_0 ++ dktX3_rollback_1
theorem dksX3_rollback_0 : cX3_rollback.data.toList.drop 0 = dktX3_rollback_0 := by decide +kernel
theorem dksX3_rollback_1 : cX3_rollback.data.toList.drop 23 = dktX3_rollback_1 := dk_seg dksX3_rollback_0 23 rfl rfl
theorem dksX3_rollback_2 : cX3_rollback.data.toList.drop 47 = dktX3_rollback_2 := dk_seg dksX3_rollback_1 24 rfl rfl
theorem dX3_rollback_0 : decode cX3_rollback 0 = .ok (.aload_n 0, 1) := dk_42 (dk_at dksX3_rollback_0 0 rfl rfl)
theorem dX3_rollback_1 : decode cX3_rollback 1 = .ok (.iload_n 1, 1) := dk_27 (dk_at dksX3_rollback_0 1 rfl rfl)
theorem dX3_rollback_2 : decode cX3_rollback 2 = .ok (.iconst 0, 1) := dk_3 (dk_at dksX3_rollback_0 2 rfl rfl)
theorem dX3_rollback_3 : decode cX3_rollback 3 = .ok (.invokevirtual 92, 3) := dk_182 0 92 (dk_at dksX3_rollback_0 3 rfl rfl)
theorem dX3_rollback_6 : decode cX3_rollback 6 = .ok (.istore_n 2, 1) := dk_61 (dk_at dksX3_rollback_0 6 rfl rfl)
theorem dX3_rollback_7 : decode cX3_rollback 7 = .ok (.iload_n 2, 1) := dk_28 (dk_at dksX3_rollback_0 7 rfl rfl)
theorem dX3_rollback_8 : decode cX3_rollback 8 = .ok (.ifCond .eq 5, 3) := dk_153 0 5 (dk_at dksX3_rollback_0 8 rfl rfl)
theorem dX3_rollback_11 : decode cX3_rollback 11 = .ok (.iload_n 2, 1) := dk_28 (dk_at dksX3_rollback_0 11 rfl rfl)
theorem dX3_rollback_12 : decode cX3_rollback 12 = .ok (.ireturn, 1) := dk_172 (dk_at dksX3_rollback_0 12 rfl rfl)
theorem dX3_rollback_13 : decode cX3_rollback 13 = .ok (.aload_n 0, 1) := dk_42 (dk_at dksX3_rollback_0 13 rfl rfl)
theorem dX3_rollback_14 : decode cX3_rollback 14 = .ok (.getfield 7, 3) := dk_180 0 7 (dk_at dksX3_rollback_0 14 rfl rfl)
theorem dX3_rollback_17 : decode cX3_rollback 17 = .ok (.bipush 42, 2) := dk_16 42 (dk_at dksX3_rollback_0 17 rfl rfl)
theorem dX3_rollback_19 : decode cX3_rollback 19 = .ok (.iload_n 1, 1) := dk_27 (dk_at dksX3_rollback_0 19 rfl rfl)
theorem dX3_rollback_20 : decode cX3_rollback 20 = .ok (.iadd, 1) := dk_96 (dk_at dksX3_rollback_0 20 rfl rfl)
theorem dX3_rollback_21 : decode cX3_rollback 21 = .ok (.iaload, 1) := dk_46 (dk_at dksX3_rollback_0 21 rfl rfl)
theorem dX3_rollback_22 : decode cX3_rollback 22 = .ok (.iconst (-1), 1) := dk_2 (dk_at dksX3_rollback_0 22 rfl rfl)
theorem dX3_rollback_23 : decode cX3_rollback 23 = .ok (.if_icmp .ne 6, 3) := dk_160 0 6 (dk_at dksX3_rollback_1 0 rfl rfl)
theorem dX3_rollback_26 : decode cX3_rollback 26 = .ok (.bipush (-3), 2) := dk_16 253 (dk_at dksX3_rollback_1 3 rfl rfl)
theorem dX3_rollback_28 : decode cX3_rollback 28 = .ok (.ireturn, 1) := dk_172 (dk_at dksX3_rollback_1 5 rfl rfl)
theorem dX3_rollback_29 : decode cX3_rollback 29 = .ok (.aload_n 0, 1) := dk_42 (dk_at dksX3_rollback_1 6 rfl rfl)
theorem dX3_rollback_30 : decode cX3_rollback 30 = .ok (.iload_n 1, 1) := dk_27 (dk_at dksX3_rollback_1 7 rfl rfl)
theorem dX3_rollback_31 : decode cX3_rollback 31 = .ok (.aload_n 0, 1) := dk_42 (dk_at dksX3_rollback_1 8 rfl rfl)
theorem dX3_rollback_32 : decode cX3_rollback 32 = .ok (.getfield 7, 3) := dk_180 0 7 (dk_at dksX3_rollback_1 9 rfl rfl)
theorem dX3_rollback_35 : decode cX3_rollback 35 = .ok (.bipush 42, 2) := dk_16 42 (dk_at dksX3_rollback_1 12 rfl rfl)
theorem dX3_rollback_37 : decode cX3_rollback 37 = .ok (.iload_n 1, 1) := dk_27 (dk_at dksX3_rollback_1 14 rfl rfl)
theorem dX3_rollback_38 : decode cX3_rollback 38 = .ok (.iadd, 1) := dk_96 (dk_at dksX3_rollback_1 15 rfl rfl)
theorem dX3_rollback_39 : decode cX3_rollback 39 = .ok (.iaload, 1) := dk_46 (dk_at dksX3_rollback_1 16 rfl rfl)
theorem dX3_rollback_40 : decode cX3_rollback 40 = .ok (.invokevirtual 102, 3) := dk_182 0 102 (dk_at dksX3_rollback_1 17 rfl rfl)
theorem dX3_rollback_43 : decode cX3_rollback 43 = .ok (.aload_n 0, 1) := dk_42 (dk_at dksX3_rollback_1 20 rfl rfl)
theorem dX3_rollback_44 : decode cX3_rollback 44 = .ok (.invokevirtual 89, 3) := dk_182 0 89 (dk_at dksX3_rollback_1 21 rfl rfl)
theorem dX3_rollback_47 : decode cX3_rollback 47 = .ok (.ireturn, 1) := dk_172 (dk_at dksX3_rollback_2 0 rfl rfl)
abbrev cX3_tick : ByteArray := prog_11_method_39_code
def yX3_tick : MethodName := ⟨RX3, "tick", "()I"⟩
def dkwX3_tick_1 : List UInt8 := [42, 180, 0, 7, 3, 46, 172]
abbrev dktX3_tick_1 : List UInt8 := dkwX3_tick_1 ++ []
def dkwX3_tick_0 : List UInt8 := [42, 180, 0, 7, 3, 46, 18, 118, 161, 0, 6, 16, 253, 172, 42, 180, 0, 7, 3, 92, 46, 4, 96, 79]
abbrev dktX3_tick_0 : List UInt8 := dkwX3_tick_0 ++ dktX3_tick_1
theorem dksX3_tick_0 : cX3_tick.data.toList.drop 0 = dktX3_tick_0 := by decide +kernel
theorem dksX3_tick_1 : cX3_tick.data.toList.drop 24 = dktX3_tick_1 := dk_seg dksX3_tick_0 24 rfl rfl
theorem dX3_tick_0 : decode cX3_tick 0 = .ok (.aload_n 0, 1) := dk_42 (dk_at dksX3_tick_0 0 rfl rfl)
theorem dX3_tick_1 : decode cX3_tick 1 = .ok (.getfield 7, 3) := dk_180 0 7 (dk_at dksX3_tick_0 1 rfl rfl)
theorem dX3_tick_4 : decode cX3_tick 4 = .ok (.iconst 0, 1) := dk_3 (dk_at dksX3_tick_0 4 rfl rfl)
theorem dX3_tick_5 : decode cX3_tick 5 = .ok (.iaload, 1) := dk_46 (dk_at dksX3_tick_0 5 rfl rfl)
theorem dX3_tick_6 : decode cX3_tick 6 = .ok (.ldc 118, 2) := dk_18 118 (dk_at dksX3_tick_0 6 rfl rfl)
theorem dX3_tick_8 : decode cX3_tick 8 = .ok (.if_icmp .lt 6, 3) := dk_161 0 6 (dk_at dksX3_tick_0 8 rfl rfl)
theorem dX3_tick_11 : decode cX3_tick 11 = .ok (.bipush (-3), 2) := dk_16 253 (dk_at dksX3_tick_0 11 rfl rfl)
theorem dX3_tick_13 : decode cX3_tick 13 = .ok (.ireturn, 1) := dk_172 (dk_at dksX3_tick_0 13 rfl rfl)
theorem dX3_tick_14 : decode cX3_tick 14 = .ok (.aload_n 0, 1) := dk_42 (dk_at dksX3_tick_0 14 rfl rfl)
theorem dX3_tick_15 : decode cX3_tick 15 = .ok (.getfield 7, 3) := dk_180 0 7 (dk_at dksX3_tick_0 15 rfl rfl)
theorem dX3_tick_18 : decode cX3_tick 18 = .ok (.iconst 0, 1) := dk_3 (dk_at dksX3_tick_0 18 rfl rfl)
theorem dX3_tick_19 : decode cX3_tick 19 = .ok (.dup2, 1) := dk_92 (dk_at dksX3_tick_0 19 rfl rfl)
theorem dX3_tick_20 : decode cX3_tick 20 = .ok (.iaload, 1) := dk_46 (dk_at dksX3_tick_0 20 rfl rfl)
theorem dX3_tick_21 : decode cX3_tick 21 = .ok (.iconst 1, 1) := dk_4 (dk_at dksX3_tick_0 21 rfl rfl)
theorem dX3_tick_22 : decode cX3_tick 22 = .ok (.iadd, 1) := dk_96 (dk_at dksX3_tick_0 22 rfl rfl)
theorem dX3_tick_23 : decode cX3_tick 23 = .ok (.iastore, 1) := dk_79 (dk_at dksX3_tick_0 23 rfl rfl)
theorem dX3_tick_24 : decode cX3_tick 24 = .ok (.aload_n 0, 1) := dk_42 (dk_at dksX3_tick_1 0 rfl rfl)
theorem dX3_tick_25 : decode cX3_tick 25 = .ok (.getfield 7, 3) := dk_180 0 7 (dk_at dksX3_tick_1 1 rfl rfl)
theorem dX3_tick_28 : decode cX3_tick 28 = .ok (.iconst 0, 1) := dk_3 (dk_at dksX3_tick_1 4 rfl rfl)
theorem dX3_tick_29 : decode cX3_tick 29 = .ok (.iaload, 1) := dk_46 (dk_at dksX3_tick_1 5 rfl rfl)
theorem dX3_tick_30 : decode cX3_tick 30 = .ok (.ireturn, 1) := dk_172 (dk_at dksX3_tick_1 6 rfl rfl)
abbrev cX3_told : ByteArray := prog_11_method_41_code
def yX3_told : MethodName := ⟨RX3, "told", "(II)I"⟩
def dkwX3_told_7 : List UInt8 := [172]
abbrev dktX3_told_7 : List UInt8 := dkwX3_told_7 ++ []
def dkwX3_told_6 : List UInt8 := [180, 0, 7, 16, 102, 27, 96, 46, 172, 42, 180, 0, 7, 16, 82, 27, 96, 46, 172, 42, 27, 182, 0, 109]
abbrev dktX3_told_6 : List UInt8 := dkwX3_told_6 ++ dktX3_told_7
def dkwX3_told_5 : List UInt8 := [42, 27, 182, 0, 115, 167, 0, 4, 2, 172, 42, 27, 182, 0, 106, 172, 42, 27, 182, 0, 119, 172, 42]
abbrev dktX3_told_5 : List UInt8 := dkwX3_told_5 ++ dktX3_told_6
def dkwX3_told_4 : List UInt8 := [16, 42, 27, 96, 46, 172, 42, 180, 0, 7, 16, 62, 27, 96, 46, 172, 42, 27, 182, 0, 54, 153, 0, 11]
abbrev dktX3_told_4 : List UInt8 := dkwX3_told_4 ++ dktX3_told_5
def dkwX3_told_3 : List UInt8 := [42, 180, 0, 7, 5, 27, 96, 46, 172, 42, 180, 0, 7, 16, 22, 27, 96, 46, 172, 42, 180, 0, 7]
abbrev dktX3_told_3 : List UInt8 := dkwX3_told_3 ++ dktX3_told_4
def dkwX3_told_2 : List UInt8 := [170, 0, 0, 0, 0, 139, 0, 0, 0, 0, 0, 0, 0, 8, 0, 0, 0, 50, 0, 0, 0, 59, 0, 0, 0, 69, 0, 0, 0, 79, 0, 0, 0, 89, 0, 0, 0, 107, 0, 0, 0, 113, 0, 0, 0, 119, 0, 0, 0, 129]
abbrev dktX3_told_2 : List UInt8 := dkwX3_told_2 ++ dktX3_told_3
def dkwX3_told_1 : List UInt8 := [172, 28]
abbrev dktX3_told_1 : List UInt8 := dkwX3_told_1 ++ dktX3_told_2
def dkwX3_told_0 : List UInt8 := [28, 3, 16, 9, 184, 0, 42, 154, 0, 6, 16, 254, 172, 42, 27, 182, 0, 60, 62, 29, 153, 0, 5, 29]
abbrev dktX3_told_0 : List UInt8 := dkwX3_told_0 ++ dktX3_told_1
theorem dksX3_told_0 : cX3_told.data.toList.drop 0 = dktX3_told_0 := by decide +kernel
theorem dksX3_told_1 : cX3_told.data.toList.drop 24 = dktX3_told_1 := dk_seg dksX3_told_0 24 rfl rfl
theorem dksX3_told_2 : cX3_told.data.toList.drop 26 = dktX3_told_2 := dk_seg dksX3_told_1 2 rfl rfl
theorem dksX3_told_3 : cX3_told.data.toList.drop 76 = dktX3_told_3 := dk_seg dksX3_told_2 50 rfl rfl
theorem dksX3_told_4 : cX3_told.data.toList.drop 99 = dktX3_told_4 := dk_seg dksX3_told_3 23 rfl rfl
theorem dksX3_told_5 : cX3_told.data.toList.drop 123 = dktX3_told_5 := dk_seg dksX3_told_4 24 rfl rfl
theorem dksX3_told_6 : cX3_told.data.toList.drop 146 = dktX3_told_6 := dk_seg dksX3_told_5 23 rfl rfl
theorem dksX3_told_7 : cX3_told.data.toList.drop 170 = dktX3_told_7 := dk_seg dksX3_told_6 24 rfl rfl
theorem dX3_told_0 : decode cX3_told 0 = .ok (.iload_n 2, 1) := dk_28 (dk_at dksX3_told_0 0 rfl rfl)
theorem dX3_told_1 : decode cX3_told 1 = .ok (.iconst 0, 1) := dk_3 (dk_at dksX3_told_0 1 rfl rfl)
theorem dX3_told_2 : decode cX3_told 2 = .ok (.bipush 9, 2) := dk_16 9 (dk_at dksX3_told_0 2 rfl rfl)
theorem dX3_told_4 : decode cX3_told 4 = .ok (.invokestatic 42, 3) := dk_184 0 42 (dk_at dksX3_told_0 4 rfl rfl)
theorem dX3_told_7 : decode cX3_told 7 = .ok (.ifCond .ne 6, 3) := dk_154 0 6 (dk_at dksX3_told_0 7 rfl rfl)
theorem dX3_told_10 : decode cX3_told 10 = .ok (.bipush (-2), 2) := dk_16 254 (dk_at dksX3_told_0 10 rfl rfl)
theorem dX3_told_12 : decode cX3_told 12 = .ok (.ireturn, 1) := dk_172 (dk_at dksX3_told_0 12 rfl rfl)
theorem dX3_told_13 : decode cX3_told 13 = .ok (.aload_n 0, 1) := dk_42 (dk_at dksX3_told_0 13 rfl rfl)
theorem dX3_told_14 : decode cX3_told 14 = .ok (.iload_n 1, 1) := dk_27 (dk_at dksX3_told_0 14 rfl rfl)
theorem dX3_told_15 : decode cX3_told 15 = .ok (.invokevirtual 60, 3) := dk_182 0 60 (dk_at dksX3_told_0 15 rfl rfl)
theorem dX3_told_18 : decode cX3_told 18 = .ok (.istore_n 3, 1) := dk_62 (dk_at dksX3_told_0 18 rfl rfl)
theorem dX3_told_19 : decode cX3_told 19 = .ok (.iload_n 3, 1) := dk_29 (dk_at dksX3_told_0 19 rfl rfl)
theorem dX3_told_20 : decode cX3_told 20 = .ok (.ifCond .eq 5, 3) := dk_153 0 5 (dk_at dksX3_told_0 20 rfl rfl)
theorem dX3_told_23 : decode cX3_told 23 = .ok (.iload_n 3, 1) := dk_29 (dk_at dksX3_told_0 23 rfl rfl)
theorem dX3_told_24 : decode cX3_told 24 = .ok (.ireturn, 1) := dk_172 (dk_at dksX3_told_1 0 rfl rfl)
theorem dX3_told_25 : decode cX3_told 25 = .ok (.iload_n 2, 1) := dk_28 (dk_at dksX3_told_1 1 rfl rfl)
theorem dX3_told_26 : decode cX3_told 26 = .ok (.tableswitch 139 0 8 #[50, 59, 69, 79, 89, 107, 113, 119, 129], 50) := by decide +kernel
theorem dX3_told_76 : decode cX3_told 76 = .ok (.aload_n 0, 1) := dk_42 (dk_at dksX3_told_3 0 rfl rfl)
theorem dX3_told_77 : decode cX3_told 77 = .ok (.getfield 7, 3) := dk_180 0 7 (dk_at dksX3_told_3 1 rfl rfl)
theorem dX3_told_80 : decode cX3_told 80 = .ok (.iconst 2, 1) := dk_5 (dk_at dksX3_told_3 4 rfl rfl)
theorem dX3_told_81 : decode cX3_told 81 = .ok (.iload_n 1, 1) := dk_27 (dk_at dksX3_told_3 5 rfl rfl)
theorem dX3_told_82 : decode cX3_told 82 = .ok (.iadd, 1) := dk_96 (dk_at dksX3_told_3 6 rfl rfl)
theorem dX3_told_83 : decode cX3_told 83 = .ok (.iaload, 1) := dk_46 (dk_at dksX3_told_3 7 rfl rfl)
theorem dX3_told_84 : decode cX3_told 84 = .ok (.ireturn, 1) := dk_172 (dk_at dksX3_told_3 8 rfl rfl)
theorem dX3_told_85 : decode cX3_told 85 = .ok (.aload_n 0, 1) := dk_42 (dk_at dksX3_told_3 9 rfl rfl)
theorem dX3_told_86 : decode cX3_told 86 = .ok (.getfield 7, 3) := dk_180 0 7 (dk_at dksX3_told_3 10 rfl rfl)
theorem dX3_told_89 : decode cX3_told 89 = .ok (.bipush 22, 2) := dk_16 22 (dk_at dksX3_told_3 13 rfl rfl)
theorem dX3_told_91 : decode cX3_told 91 = .ok (.iload_n 1, 1) := dk_27 (dk_at dksX3_told_3 15 rfl rfl)
theorem dX3_told_92 : decode cX3_told 92 = .ok (.iadd, 1) := dk_96 (dk_at dksX3_told_3 16 rfl rfl)
theorem dX3_told_93 : decode cX3_told 93 = .ok (.iaload, 1) := dk_46 (dk_at dksX3_told_3 17 rfl rfl)
theorem dX3_told_94 : decode cX3_told 94 = .ok (.ireturn, 1) := dk_172 (dk_at dksX3_told_3 18 rfl rfl)
theorem dX3_told_95 : decode cX3_told 95 = .ok (.aload_n 0, 1) := dk_42 (dk_at dksX3_told_3 19 rfl rfl)
theorem dX3_told_96 : decode cX3_told 96 = .ok (.getfield 7, 3) := dk_180 0 7 (dk_at dksX3_told_3 20 rfl rfl)
theorem dX3_told_99 : decode cX3_told 99 = .ok (.bipush 42, 2) := dk_16 42 (dk_at dksX3_told_4 0 rfl rfl)
theorem dX3_told_101 : decode cX3_told 101 = .ok (.iload_n 1, 1) := dk_27 (dk_at dksX3_told_4 2 rfl rfl)
theorem dX3_told_102 : decode cX3_told 102 = .ok (.iadd, 1) := dk_96 (dk_at dksX3_told_4 3 rfl rfl)
theorem dX3_told_103 : decode cX3_told 103 = .ok (.iaload, 1) := dk_46 (dk_at dksX3_told_4 4 rfl rfl)
theorem dX3_told_104 : decode cX3_told 104 = .ok (.ireturn, 1) := dk_172 (dk_at dksX3_told_4 5 rfl rfl)
theorem dX3_told_105 : decode cX3_told 105 = .ok (.aload_n 0, 1) := dk_42 (dk_at dksX3_told_4 6 rfl rfl)
theorem dX3_told_106 : decode cX3_told 106 = .ok (.getfield 7, 3) := dk_180 0 7 (dk_at dksX3_told_4 7 rfl rfl)
theorem dX3_told_109 : decode cX3_told 109 = .ok (.bipush 62, 2) := dk_16 62 (dk_at dksX3_told_4 10 rfl rfl)
theorem dX3_told_111 : decode cX3_told 111 = .ok (.iload_n 1, 1) := dk_27 (dk_at dksX3_told_4 12 rfl rfl)
theorem dX3_told_112 : decode cX3_told 112 = .ok (.iadd, 1) := dk_96 (dk_at dksX3_told_4 13 rfl rfl)
theorem dX3_told_113 : decode cX3_told 113 = .ok (.iaload, 1) := dk_46 (dk_at dksX3_told_4 14 rfl rfl)
theorem dX3_told_114 : decode cX3_told 114 = .ok (.ireturn, 1) := dk_172 (dk_at dksX3_told_4 15 rfl rfl)
theorem dX3_told_115 : decode cX3_told 115 = .ok (.aload_n 0, 1) := dk_42 (dk_at dksX3_told_4 16 rfl rfl)
theorem dX3_told_116 : decode cX3_told 116 = .ok (.iload_n 1, 1) := dk_27 (dk_at dksX3_told_4 17 rfl rfl)
theorem dX3_told_117 : decode cX3_told 117 = .ok (.invokevirtual 54, 3) := dk_182 0 54 (dk_at dksX3_told_4 18 rfl rfl)
theorem dX3_told_120 : decode cX3_told 120 = .ok (.ifCond .eq 11, 3) := dk_153 0 11 (dk_at dksX3_told_4 21 rfl rfl)
theorem dX3_told_123 : decode cX3_told 123 = .ok (.aload_n 0, 1) := dk_42 (dk_at dksX3_told_5 0 rfl rfl)
theorem dX3_told_124 : decode cX3_told 124 = .ok (.iload_n 1, 1) := dk_27 (dk_at dksX3_told_5 1 rfl rfl)
theorem dX3_told_125 : decode cX3_told 125 = .ok (.invokevirtual 115, 3) := dk_182 0 115 (dk_at dksX3_told_5 2 rfl rfl)
theorem dX3_told_128 : decode cX3_told 128 = .ok (.goto 4, 3) := dk_167 0 4 (dk_at dksX3_told_5 5 rfl rfl)
theorem dX3_told_131 : decode cX3_told 131 = .ok (.iconst (-1), 1) := dk_2 (dk_at dksX3_told_5 8 rfl rfl)
theorem dX3_told_132 : decode cX3_told 132 = .ok (.ireturn, 1) := dk_172 (dk_at dksX3_told_5 9 rfl rfl)
theorem dX3_told_133 : decode cX3_told 133 = .ok (.aload_n 0, 1) := dk_42 (dk_at dksX3_told_5 10 rfl rfl)
theorem dX3_told_134 : decode cX3_told 134 = .ok (.iload_n 1, 1) := dk_27 (dk_at dksX3_told_5 11 rfl rfl)
theorem dX3_told_135 : decode cX3_told 135 = .ok (.invokevirtual 106, 3) := dk_182 0 106 (dk_at dksX3_told_5 12 rfl rfl)
theorem dX3_told_138 : decode cX3_told 138 = .ok (.ireturn, 1) := dk_172 (dk_at dksX3_told_5 15 rfl rfl)
theorem dX3_told_139 : decode cX3_told 139 = .ok (.aload_n 0, 1) := dk_42 (dk_at dksX3_told_5 16 rfl rfl)
theorem dX3_told_140 : decode cX3_told 140 = .ok (.iload_n 1, 1) := dk_27 (dk_at dksX3_told_5 17 rfl rfl)
theorem dX3_told_141 : decode cX3_told 141 = .ok (.invokevirtual 119, 3) := dk_182 0 119 (dk_at dksX3_told_5 18 rfl rfl)
theorem dX3_told_144 : decode cX3_told 144 = .ok (.ireturn, 1) := dk_172 (dk_at dksX3_told_5 21 rfl rfl)
theorem dX3_told_145 : decode cX3_told 145 = .ok (.aload_n 0, 1) := dk_42 (dk_at dksX3_told_5 22 rfl rfl)
theorem dX3_told_146 : decode cX3_told 146 = .ok (.getfield 7, 3) := dk_180 0 7 (dk_at dksX3_told_6 0 rfl rfl)
theorem dX3_told_149 : decode cX3_told 149 = .ok (.bipush 102, 2) := dk_16 102 (dk_at dksX3_told_6 3 rfl rfl)
theorem dX3_told_151 : decode cX3_told 151 = .ok (.iload_n 1, 1) := dk_27 (dk_at dksX3_told_6 5 rfl rfl)
theorem dX3_told_152 : decode cX3_told 152 = .ok (.iadd, 1) := dk_96 (dk_at dksX3_told_6 6 rfl rfl)
theorem dX3_told_153 : decode cX3_told 153 = .ok (.iaload, 1) := dk_46 (dk_at dksX3_told_6 7 rfl rfl)
theorem dX3_told_154 : decode cX3_told 154 = .ok (.ireturn, 1) := dk_172 (dk_at dksX3_told_6 8 rfl rfl)
theorem dX3_told_155 : decode cX3_told 155 = .ok (.aload_n 0, 1) := dk_42 (dk_at dksX3_told_6 9 rfl rfl)
theorem dX3_told_156 : decode cX3_told 156 = .ok (.getfield 7, 3) := dk_180 0 7 (dk_at dksX3_told_6 10 rfl rfl)
theorem dX3_told_159 : decode cX3_told 159 = .ok (.bipush 82, 2) := dk_16 82 (dk_at dksX3_told_6 13 rfl rfl)
theorem dX3_told_161 : decode cX3_told 161 = .ok (.iload_n 1, 1) := dk_27 (dk_at dksX3_told_6 15 rfl rfl)
theorem dX3_told_162 : decode cX3_told 162 = .ok (.iadd, 1) := dk_96 (dk_at dksX3_told_6 16 rfl rfl)
theorem dX3_told_163 : decode cX3_told 163 = .ok (.iaload, 1) := dk_46 (dk_at dksX3_told_6 17 rfl rfl)
theorem dX3_told_164 : decode cX3_told 164 = .ok (.ireturn, 1) := dk_172 (dk_at dksX3_told_6 18 rfl rfl)
theorem dX3_told_165 : decode cX3_told 165 = .ok (.aload_n 0, 1) := dk_42 (dk_at dksX3_told_6 19 rfl rfl)
theorem dX3_told_166 : decode cX3_told 166 = .ok (.iload_n 1, 1) := dk_27 (dk_at dksX3_told_6 20 rfl rfl)
theorem dX3_told_167 : decode cX3_told 167 = .ok (.invokevirtual 109, 3) := dk_182 0 109 (dk_at dksX3_told_6 21 rfl rfl)
theorem dX3_told_170 : decode cX3_told 170 = .ok (.ireturn, 1) := dk_172 (dk_at dksX3_told_7 0 rfl rfl)
abbrev cX3_heldMany : ByteArray := prog_11_method_40_code
def yX3_heldMany : MethodName := ⟨RX3, "heldMany", "(I)I"⟩
def dkwX3_heldMany_2 : List UInt8 := [167, 255, 213, 28, 172]
abbrev dktX3_heldMany_2 : List UInt8 := dkwX3_heldMany_2 ++ []
def dkwX3_heldMany_1 : List UInt8 := [16, 122, 16, 12, 27, 104, 96, 29, 96, 46, 2, 159, 0, 7, 4, 167, 0, 4, 3, 96, 61, 132, 3, 1]
abbrev dktX3_heldMany_1 : List UInt8 := dkwX3_heldMany_1 ++ dktX3_heldMany_2
def dkwX3_heldMany_0 : List UInt8 := [3, 61, 3, 62, 29, 16, 12, 162, 0, 43, 28, 42, 27, 182, 0, 64, 153, 0, 25, 42, 180, 0, 7]
abbrev dktX3_heldMany_0 : List UInt8 := dkwX3_heldMany_0 ++ dktX3_heldMany_1
theorem dksX3_heldMany_0 : cX3_heldMany.data.toList.drop 0 = dktX3_heldMany_0 := by decide +kernel
theorem dksX3_heldMany_1 : cX3_heldMany.data.toList.drop 23 = dktX3_heldMany_1 := dk_seg dksX3_heldMany_0 23 rfl rfl
theorem dksX3_heldMany_2 : cX3_heldMany.data.toList.drop 47 = dktX3_heldMany_2 := dk_seg dksX3_heldMany_1 24 rfl rfl
theorem dX3_heldMany_0 : decode cX3_heldMany 0 = .ok (.iconst 0, 1) := dk_3 (dk_at dksX3_heldMany_0 0 rfl rfl)
theorem dX3_heldMany_1 : decode cX3_heldMany 1 = .ok (.istore_n 2, 1) := dk_61 (dk_at dksX3_heldMany_0 1 rfl rfl)
theorem dX3_heldMany_2 : decode cX3_heldMany 2 = .ok (.iconst 0, 1) := dk_3 (dk_at dksX3_heldMany_0 2 rfl rfl)
theorem dX3_heldMany_3 : decode cX3_heldMany 3 = .ok (.istore_n 3, 1) := dk_62 (dk_at dksX3_heldMany_0 3 rfl rfl)
theorem dX3_heldMany_4 : decode cX3_heldMany 4 = .ok (.iload_n 3, 1) := dk_29 (dk_at dksX3_heldMany_0 4 rfl rfl)
theorem dX3_heldMany_5 : decode cX3_heldMany 5 = .ok (.bipush 12, 2) := dk_16 12 (dk_at dksX3_heldMany_0 5 rfl rfl)
theorem dX3_heldMany_7 : decode cX3_heldMany 7 = .ok (.if_icmp .ge 43, 3) := dk_162 0 43 (dk_at dksX3_heldMany_0 7 rfl rfl)
theorem dX3_heldMany_10 : decode cX3_heldMany 10 = .ok (.iload_n 2, 1) := dk_28 (dk_at dksX3_heldMany_0 10 rfl rfl)
theorem dX3_heldMany_11 : decode cX3_heldMany 11 = .ok (.aload_n 0, 1) := dk_42 (dk_at dksX3_heldMany_0 11 rfl rfl)
theorem dX3_heldMany_12 : decode cX3_heldMany 12 = .ok (.iload_n 1, 1) := dk_27 (dk_at dksX3_heldMany_0 12 rfl rfl)
theorem dX3_heldMany_13 : decode cX3_heldMany 13 = .ok (.invokevirtual 64, 3) := dk_182 0 64 (dk_at dksX3_heldMany_0 13 rfl rfl)
theorem dX3_heldMany_16 : decode cX3_heldMany 16 = .ok (.ifCond .eq 25, 3) := dk_153 0 25 (dk_at dksX3_heldMany_0 16 rfl rfl)
theorem dX3_heldMany_19 : decode cX3_heldMany 19 = .ok (.aload_n 0, 1) := dk_42 (dk_at dksX3_heldMany_0 19 rfl rfl)
theorem dX3_heldMany_20 : decode cX3_heldMany 20 = .ok (.getfield 7, 3) := dk_180 0 7 (dk_at dksX3_heldMany_0 20 rfl rfl)
theorem dX3_heldMany_23 : decode cX3_heldMany 23 = .ok (.bipush 122, 2) := dk_16 122 (dk_at dksX3_heldMany_1 0 rfl rfl)
theorem dX3_heldMany_25 : decode cX3_heldMany 25 = .ok (.bipush 12, 2) := dk_16 12 (dk_at dksX3_heldMany_1 2 rfl rfl)
theorem dX3_heldMany_27 : decode cX3_heldMany 27 = .ok (.iload_n 1, 1) := dk_27 (dk_at dksX3_heldMany_1 4 rfl rfl)
theorem dX3_heldMany_28 : decode cX3_heldMany 28 = .ok (.imul, 1) := dk_104 (dk_at dksX3_heldMany_1 5 rfl rfl)
theorem dX3_heldMany_29 : decode cX3_heldMany 29 = .ok (.iadd, 1) := dk_96 (dk_at dksX3_heldMany_1 6 rfl rfl)
theorem dX3_heldMany_30 : decode cX3_heldMany 30 = .ok (.iload_n 3, 1) := dk_29 (dk_at dksX3_heldMany_1 7 rfl rfl)
theorem dX3_heldMany_31 : decode cX3_heldMany 31 = .ok (.iadd, 1) := dk_96 (dk_at dksX3_heldMany_1 8 rfl rfl)
theorem dX3_heldMany_32 : decode cX3_heldMany 32 = .ok (.iaload, 1) := dk_46 (dk_at dksX3_heldMany_1 9 rfl rfl)
theorem dX3_heldMany_33 : decode cX3_heldMany 33 = .ok (.iconst (-1), 1) := dk_2 (dk_at dksX3_heldMany_1 10 rfl rfl)
theorem dX3_heldMany_34 : decode cX3_heldMany 34 = .ok (.if_icmp .eq 7, 3) := dk_159 0 7 (dk_at dksX3_heldMany_1 11 rfl rfl)
theorem dX3_heldMany_37 : decode cX3_heldMany 37 = .ok (.iconst 1, 1) := dk_4 (dk_at dksX3_heldMany_1 14 rfl rfl)
theorem dX3_heldMany_38 : decode cX3_heldMany 38 = .ok (.goto 4, 3) := dk_167 0 4 (dk_at dksX3_heldMany_1 15 rfl rfl)
theorem dX3_heldMany_41 : decode cX3_heldMany 41 = .ok (.iconst 0, 1) := dk_3 (dk_at dksX3_heldMany_1 18 rfl rfl)
theorem dX3_heldMany_42 : decode cX3_heldMany 42 = .ok (.iadd, 1) := dk_96 (dk_at dksX3_heldMany_1 19 rfl rfl)
theorem dX3_heldMany_43 : decode cX3_heldMany 43 = .ok (.istore_n 2, 1) := dk_61 (dk_at dksX3_heldMany_1 20 rfl rfl)
theorem dX3_heldMany_44 : decode cX3_heldMany 44 = .ok (.iinc 3 1, 3) := dk_132 3 1 (dk_at dksX3_heldMany_1 21 rfl rfl)
theorem dX3_heldMany_47 : decode cX3_heldMany 47 = .ok (.goto (-43), 3) := dk_167 255 213 (dk_at dksX3_heldMany_2 0 rfl rfl)
theorem dX3_heldMany_50 : decode cX3_heldMany 50 = .ok (.iload_n 2, 1) := dk_28 (dk_at dksX3_heldMany_2 3 rfl rfl)
theorem dX3_heldMany_51 : decode cX3_heldMany 51 = .ok (.ireturn, 1) := dk_172 (dk_at dksX3_heldMany_2 4 rfl rfl)
abbrev cX3_slot : ByteArray := prog_11_method_42_code
def yX3_slot : MethodName := ⟨RX3, "slot", "(II)I"⟩
def dkwX3_slot_1 : List UInt8 := [167, 0, 17, 42, 180, 0, 7, 16, 122, 16, 12, 27, 104, 96, 28, 96, 46, 172]
abbrev dktX3_slot_1 : List UInt8 := dkwX3_slot_1 ++ []
def dkwX3_slot_0 : List UInt8 := [28, 3, 16, 11, 184, 0, 42, 154, 0, 6, 16, 254, 172, 42, 27, 182, 0, 122, 62, 29, 153, 0, 7, 29]
abbrev dktX3_slot_0 : List UInt8 := dkwX3_slot_0 ++ dktX3_slot_1
theorem dksX3_slot_0 : cX3_slot.data.toList.drop 0 = dktX3_slot_0 := by decide +kernel
theorem dksX3_slot_1 : cX3_slot.data.toList.drop 24 = dktX3_slot_1 := dk_seg dksX3_slot_0 24 rfl rfl
theorem dX3_slot_0 : decode cX3_slot 0 = .ok (.iload_n 2, 1) := dk_28 (dk_at dksX3_slot_0 0 rfl rfl)
theorem dX3_slot_1 : decode cX3_slot 1 = .ok (.iconst 0, 1) := dk_3 (dk_at dksX3_slot_0 1 rfl rfl)
theorem dX3_slot_2 : decode cX3_slot 2 = .ok (.bipush 11, 2) := dk_16 11 (dk_at dksX3_slot_0 2 rfl rfl)
theorem dX3_slot_4 : decode cX3_slot 4 = .ok (.invokestatic 42, 3) := dk_184 0 42 (dk_at dksX3_slot_0 4 rfl rfl)
theorem dX3_slot_7 : decode cX3_slot 7 = .ok (.ifCond .ne 6, 3) := dk_154 0 6 (dk_at dksX3_slot_0 7 rfl rfl)
theorem dX3_slot_10 : decode cX3_slot 10 = .ok (.bipush (-2), 2) := dk_16 254 (dk_at dksX3_slot_0 10 rfl rfl)
theorem dX3_slot_12 : decode cX3_slot 12 = .ok (.ireturn, 1) := dk_172 (dk_at dksX3_slot_0 12 rfl rfl)
theorem dX3_slot_13 : decode cX3_slot 13 = .ok (.aload_n 0, 1) := dk_42 (dk_at dksX3_slot_0 13 rfl rfl)
theorem dX3_slot_14 : decode cX3_slot 14 = .ok (.iload_n 1, 1) := dk_27 (dk_at dksX3_slot_0 14 rfl rfl)
theorem dX3_slot_15 : decode cX3_slot 15 = .ok (.invokevirtual 122, 3) := dk_182 0 122 (dk_at dksX3_slot_0 15 rfl rfl)
theorem dX3_slot_18 : decode cX3_slot 18 = .ok (.istore_n 3, 1) := dk_62 (dk_at dksX3_slot_0 18 rfl rfl)
theorem dX3_slot_19 : decode cX3_slot 19 = .ok (.iload_n 3, 1) := dk_29 (dk_at dksX3_slot_0 19 rfl rfl)
theorem dX3_slot_20 : decode cX3_slot 20 = .ok (.ifCond .eq 7, 3) := dk_153 0 7 (dk_at dksX3_slot_0 20 rfl rfl)
theorem dX3_slot_23 : decode cX3_slot 23 = .ok (.iload_n 3, 1) := dk_29 (dk_at dksX3_slot_0 23 rfl rfl)
theorem dX3_slot_24 : decode cX3_slot 24 = .ok (.goto 17, 3) := dk_167 0 17 (dk_at dksX3_slot_1 0 rfl rfl)
theorem dX3_slot_27 : decode cX3_slot 27 = .ok (.aload_n 0, 1) := dk_42 (dk_at dksX3_slot_1 3 rfl rfl)
theorem dX3_slot_28 : decode cX3_slot 28 = .ok (.getfield 7, 3) := dk_180 0 7 (dk_at dksX3_slot_1 4 rfl rfl)
theorem dX3_slot_31 : decode cX3_slot 31 = .ok (.bipush 122, 2) := dk_16 122 (dk_at dksX3_slot_1 7 rfl rfl)
theorem dX3_slot_33 : decode cX3_slot 33 = .ok (.bipush 12, 2) := dk_16 12 (dk_at dksX3_slot_1 9 rfl rfl)
theorem dX3_slot_35 : decode cX3_slot 35 = .ok (.iload_n 1, 1) := dk_27 (dk_at dksX3_slot_1 11 rfl rfl)
theorem dX3_slot_36 : decode cX3_slot 36 = .ok (.imul, 1) := dk_104 (dk_at dksX3_slot_1 12 rfl rfl)
theorem dX3_slot_37 : decode cX3_slot 37 = .ok (.iadd, 1) := dk_96 (dk_at dksX3_slot_1 13 rfl rfl)
theorem dX3_slot_38 : decode cX3_slot 38 = .ok (.iload_n 2, 1) := dk_28 (dk_at dksX3_slot_1 14 rfl rfl)
theorem dX3_slot_39 : decode cX3_slot 39 = .ok (.iadd, 1) := dk_96 (dk_at dksX3_slot_1 15 rfl rfl)
theorem dX3_slot_40 : decode cX3_slot 40 = .ok (.iaload, 1) := dk_46 (dk_at dksX3_slot_1 16 rfl rfl)
theorem dX3_slot_41 : decode cX3_slot 41 = .ok (.ireturn, 1) := dk_172 (dk_at dksX3_slot_1 17 rfl rfl)
abbrev cX3_askedSlots : ByteArray := prog_11_method_11_code
def yX3_askedSlots : MethodName := ⟨RX3, "askedSlots", "(I)I"⟩
def dkwX3_askedSlots_1 : List UInt8 := [167, 0, 5, 16, 243, 172]
abbrev dktX3_askedSlots_1 : List UInt8 := dkwX3_askedSlots_1 ++ []
def dkwX3_askedSlots_0 : List UInt8 := [42, 27, 182, 0, 60, 61, 28, 153, 0, 7, 28, 167, 0, 17, 42, 27, 182, 0, 64, 153, 0, 7, 3]
abbrev dktX3_askedSlots_0 : List UInt8 := dkwX3_askedSlots_0 ++ dktX3_askedSlots_1
theorem dksX3_askedSlots_0 : cX3_askedSlots.data.toList.drop 0 = dktX3_askedSlots_0 := by decide +kernel
theorem dksX3_askedSlots_1 : cX3_askedSlots.data.toList.drop 23 = dktX3_askedSlots_1 := dk_seg dksX3_askedSlots_0 23 rfl rfl
theorem dX3_askedSlots_0 : decode cX3_askedSlots 0 = .ok (.aload_n 0, 1) := dk_42 (dk_at dksX3_askedSlots_0 0 rfl rfl)
theorem dX3_askedSlots_1 : decode cX3_askedSlots 1 = .ok (.iload_n 1, 1) := dk_27 (dk_at dksX3_askedSlots_0 1 rfl rfl)
theorem dX3_askedSlots_2 : decode cX3_askedSlots 2 = .ok (.invokevirtual 60, 3) := dk_182 0 60 (dk_at dksX3_askedSlots_0 2 rfl rfl)
theorem dX3_askedSlots_5 : decode cX3_askedSlots 5 = .ok (.istore_n 2, 1) := dk_61 (dk_at dksX3_askedSlots_0 5 rfl rfl)
theorem dX3_askedSlots_6 : decode cX3_askedSlots 6 = .ok (.iload_n 2, 1) := dk_28 (dk_at dksX3_askedSlots_0 6 rfl rfl)
theorem dX3_askedSlots_7 : decode cX3_askedSlots 7 = .ok (.ifCond .eq 7, 3) := dk_153 0 7 (dk_at dksX3_askedSlots_0 7 rfl rfl)
theorem dX3_askedSlots_10 : decode cX3_askedSlots 10 = .ok (.iload_n 2, 1) := dk_28 (dk_at dksX3_askedSlots_0 10 rfl rfl)
theorem dX3_askedSlots_11 : decode cX3_askedSlots 11 = .ok (.goto 17, 3) := dk_167 0 17 (dk_at dksX3_askedSlots_0 11 rfl rfl)
theorem dX3_askedSlots_14 : decode cX3_askedSlots 14 = .ok (.aload_n 0, 1) := dk_42 (dk_at dksX3_askedSlots_0 14 rfl rfl)
theorem dX3_askedSlots_15 : decode cX3_askedSlots 15 = .ok (.iload_n 1, 1) := dk_27 (dk_at dksX3_askedSlots_0 15 rfl rfl)
theorem dX3_askedSlots_16 : decode cX3_askedSlots 16 = .ok (.invokevirtual 64, 3) := dk_182 0 64 (dk_at dksX3_askedSlots_0 16 rfl rfl)
theorem dX3_askedSlots_19 : decode cX3_askedSlots 19 = .ok (.ifCond .eq 7, 3) := dk_153 0 7 (dk_at dksX3_askedSlots_0 19 rfl rfl)
theorem dX3_askedSlots_22 : decode cX3_askedSlots 22 = .ok (.iconst 0, 1) := dk_3 (dk_at dksX3_askedSlots_0 22 rfl rfl)
theorem dX3_askedSlots_23 : decode cX3_askedSlots 23 = .ok (.goto 5, 3) := dk_167 0 5 (dk_at dksX3_askedSlots_1 0 rfl rfl)
theorem dX3_askedSlots_26 : decode cX3_askedSlots 26 = .ok (.bipush (-13), 2) := dk_16 243 (dk_at dksX3_askedSlots_1 3 rfl rfl)
theorem dX3_askedSlots_28 : decode cX3_askedSlots 28 = .ok (.ireturn, 1) := dk_172 (dk_at dksX3_askedSlots_1 5 rfl rfl)
abbrev cX3_block : ByteArray := prog_11_method_43_code
def yX3_block : MethodName := ⟨RX3, "block", "(II)I"⟩
def dkwX3_block_3 : List UInt8 := [180, 0, 7, 17, 1, 202, 27, 96, 46, 167, 0, 9, 42, 180, 0, 19, 27, 46, 172]
abbrev dktX3_block_3 : List UInt8 := dkwX3_block_3 ++ []
def dkwX3_block_2 : List UInt8 := [154, 0, 16, 42, 180, 0, 7, 17, 1, 106, 27, 96, 46, 167, 0, 27, 28, 4, 160, 0, 16, 42]
abbrev dktX3_block_2 : List UInt8 := dkwX3_block_2 ++ dktX3_block_3
def dkwX3_block_1 : List UInt8 := [172, 42, 180, 0, 7, 17, 1, 106, 27, 96, 46, 154, 0, 6, 16, 245, 172, 42, 182, 0, 67, 28]
abbrev dktX3_block_1 : List UInt8 := dkwX3_block_1 ++ dktX3_block_2
def dkwX3_block_0 : List UInt8 := [28, 3, 5, 184, 0, 42, 154, 0, 6, 16, 254, 172, 27, 3, 16, 95, 184, 0, 42, 154, 0, 6, 16, 244]
abbrev dktX3_block_0 : List UInt8 := dkwX3_block_0 ++ dktX3_block_1
theorem dksX3_block_0 : cX3_block.data.toList.drop 0 = dktX3_block_0 := by decide +kernel
theorem dksX3_block_1 : cX3_block.data.toList.drop 24 = dktX3_block_1 := dk_seg dksX3_block_0 24 rfl rfl
theorem dksX3_block_2 : cX3_block.data.toList.drop 46 = dktX3_block_2 := dk_seg dksX3_block_1 22 rfl rfl
theorem dksX3_block_3 : cX3_block.data.toList.drop 68 = dktX3_block_3 := dk_seg dksX3_block_2 22 rfl rfl
theorem dX3_block_0 : decode cX3_block 0 = .ok (.iload_n 2, 1) := dk_28 (dk_at dksX3_block_0 0 rfl rfl)
theorem dX3_block_1 : decode cX3_block 1 = .ok (.iconst 0, 1) := dk_3 (dk_at dksX3_block_0 1 rfl rfl)
theorem dX3_block_2 : decode cX3_block 2 = .ok (.iconst 2, 1) := dk_5 (dk_at dksX3_block_0 2 rfl rfl)
theorem dX3_block_3 : decode cX3_block 3 = .ok (.invokestatic 42, 3) := dk_184 0 42 (dk_at dksX3_block_0 3 rfl rfl)
theorem dX3_block_6 : decode cX3_block 6 = .ok (.ifCond .ne 6, 3) := dk_154 0 6 (dk_at dksX3_block_0 6 rfl rfl)
theorem dX3_block_9 : decode cX3_block 9 = .ok (.bipush (-2), 2) := dk_16 254 (dk_at dksX3_block_0 9 rfl rfl)
theorem dX3_block_11 : decode cX3_block 11 = .ok (.ireturn, 1) := dk_172 (dk_at dksX3_block_0 11 rfl rfl)
theorem dX3_block_12 : decode cX3_block 12 = .ok (.iload_n 1, 1) := dk_27 (dk_at dksX3_block_0 12 rfl rfl)
theorem dX3_block_13 : decode cX3_block 13 = .ok (.iconst 0, 1) := dk_3 (dk_at dksX3_block_0 13 rfl rfl)
theorem dX3_block_14 : decode cX3_block 14 = .ok (.bipush 95, 2) := dk_16 95 (dk_at dksX3_block_0 14 rfl rfl)
theorem dX3_block_16 : decode cX3_block 16 = .ok (.invokestatic 42, 3) := dk_184 0 42 (dk_at dksX3_block_0 16 rfl rfl)
theorem dX3_block_19 : decode cX3_block 19 = .ok (.ifCond .ne 6, 3) := dk_154 0 6 (dk_at dksX3_block_0 19 rfl rfl)
theorem dX3_block_22 : decode cX3_block 22 = .ok (.bipush (-12), 2) := dk_16 244 (dk_at dksX3_block_0 22 rfl rfl)
theorem dX3_block_24 : decode cX3_block 24 = .ok (.ireturn, 1) := dk_172 (dk_at dksX3_block_1 0 rfl rfl)
theorem dX3_block_25 : decode cX3_block 25 = .ok (.aload_n 0, 1) := dk_42 (dk_at dksX3_block_1 1 rfl rfl)
theorem dX3_block_26 : decode cX3_block 26 = .ok (.getfield 7, 3) := dk_180 0 7 (dk_at dksX3_block_1 2 rfl rfl)
theorem dX3_block_29 : decode cX3_block 29 = .ok (.sipush 362, 3) := dk_17 1 106 (dk_at dksX3_block_1 5 rfl rfl)
theorem dX3_block_32 : decode cX3_block 32 = .ok (.iload_n 1, 1) := dk_27 (dk_at dksX3_block_1 8 rfl rfl)
theorem dX3_block_33 : decode cX3_block 33 = .ok (.iadd, 1) := dk_96 (dk_at dksX3_block_1 9 rfl rfl)
theorem dX3_block_34 : decode cX3_block 34 = .ok (.iaload, 1) := dk_46 (dk_at dksX3_block_1 10 rfl rfl)
theorem dX3_block_35 : decode cX3_block 35 = .ok (.ifCond .ne 6, 3) := dk_154 0 6 (dk_at dksX3_block_1 11 rfl rfl)
theorem dX3_block_38 : decode cX3_block 38 = .ok (.bipush (-11), 2) := dk_16 245 (dk_at dksX3_block_1 14 rfl rfl)
theorem dX3_block_40 : decode cX3_block 40 = .ok (.ireturn, 1) := dk_172 (dk_at dksX3_block_1 16 rfl rfl)
theorem dX3_block_41 : decode cX3_block 41 = .ok (.aload_n 0, 1) := dk_42 (dk_at dksX3_block_1 17 rfl rfl)
theorem dX3_block_42 : decode cX3_block 42 = .ok (.invokevirtual 67, 3) := dk_182 0 67 (dk_at dksX3_block_1 18 rfl rfl)
theorem dX3_block_45 : decode cX3_block 45 = .ok (.iload_n 2, 1) := dk_28 (dk_at dksX3_block_1 21 rfl rfl)
theorem dX3_block_46 : decode cX3_block 46 = .ok (.ifCond .ne 16, 3) := dk_154 0 16 (dk_at dksX3_block_2 0 rfl rfl)
theorem dX3_block_49 : decode cX3_block 49 = .ok (.aload_n 0, 1) := dk_42 (dk_at dksX3_block_2 3 rfl rfl)
theorem dX3_block_50 : decode cX3_block 50 = .ok (.getfield 7, 3) := dk_180 0 7 (dk_at dksX3_block_2 4 rfl rfl)
theorem dX3_block_53 : decode cX3_block 53 = .ok (.sipush 362, 3) := dk_17 1 106 (dk_at dksX3_block_2 7 rfl rfl)
theorem dX3_block_56 : decode cX3_block 56 = .ok (.iload_n 1, 1) := dk_27 (dk_at dksX3_block_2 10 rfl rfl)
theorem dX3_block_57 : decode cX3_block 57 = .ok (.iadd, 1) := dk_96 (dk_at dksX3_block_2 11 rfl rfl)
theorem dX3_block_58 : decode cX3_block 58 = .ok (.iaload, 1) := dk_46 (dk_at dksX3_block_2 12 rfl rfl)
theorem dX3_block_59 : decode cX3_block 59 = .ok (.goto 27, 3) := dk_167 0 27 (dk_at dksX3_block_2 13 rfl rfl)
theorem dX3_block_62 : decode cX3_block 62 = .ok (.iload_n 2, 1) := dk_28 (dk_at dksX3_block_2 16 rfl rfl)
theorem dX3_block_63 : decode cX3_block 63 = .ok (.iconst 1, 1) := dk_4 (dk_at dksX3_block_2 17 rfl rfl)
theorem dX3_block_64 : decode cX3_block 64 = .ok (.if_icmp .ne 16, 3) := dk_160 0 16 (dk_at dksX3_block_2 18 rfl rfl)
theorem dX3_block_67 : decode cX3_block 67 = .ok (.aload_n 0, 1) := dk_42 (dk_at dksX3_block_2 21 rfl rfl)
theorem dX3_block_68 : decode cX3_block 68 = .ok (.getfield 7, 3) := dk_180 0 7 (dk_at dksX3_block_3 0 rfl rfl)
theorem dX3_block_71 : decode cX3_block 71 = .ok (.sipush 458, 3) := dk_17 1 202 (dk_at dksX3_block_3 3 rfl rfl)
theorem dX3_block_74 : decode cX3_block 74 = .ok (.iload_n 1, 1) := dk_27 (dk_at dksX3_block_3 6 rfl rfl)
theorem dX3_block_75 : decode cX3_block 75 = .ok (.iadd, 1) := dk_96 (dk_at dksX3_block_3 7 rfl rfl)
theorem dX3_block_76 : decode cX3_block 76 = .ok (.iaload, 1) := dk_46 (dk_at dksX3_block_3 8 rfl rfl)
theorem dX3_block_77 : decode cX3_block 77 = .ok (.goto 9, 3) := dk_167 0 9 (dk_at dksX3_block_3 9 rfl rfl)
theorem dX3_block_80 : decode cX3_block 80 = .ok (.aload_n 0, 1) := dk_42 (dk_at dksX3_block_3 12 rfl rfl)
theorem dX3_block_81 : decode cX3_block 81 = .ok (.getfield 19, 3) := dk_180 0 19 (dk_at dksX3_block_3 13 rfl rfl)
theorem dX3_block_84 : decode cX3_block 84 = .ok (.iload_n 1, 1) := dk_27 (dk_at dksX3_block_3 16 rfl rfl)
theorem dX3_block_85 : decode cX3_block 85 = .ok (.iaload, 1) := dk_46 (dk_at dksX3_block_3 17 rfl rfl)
theorem dX3_block_86 : decode cX3_block 86 = .ok (.ireturn, 1) := dk_172 (dk_at dksX3_block_3 18 rfl rfl)
abbrev cX3_taken : ByteArray := prog_11_method_44_code
def yX3_taken : MethodName := ⟨RX3, "taken", "(II)I"⟩
def dkwX3_taken_1 : List UInt8 := [167, 0, 12, 42, 180, 0, 7, 16, 22, 27, 96, 46, 172]
abbrev dktX3_taken_1 : List UInt8 := dkwX3_taken_1 ++ []
def dkwX3_taken_0 : List UInt8 := [28, 3, 7, 184, 0, 42, 154, 0, 6, 16, 254, 172, 42, 27, 28, 182, 0, 92, 62, 29, 153, 0, 7, 29]
abbrev dktX3_taken_0 : List UInt8 := dkwX3_taken_0 ++ dktX3_taken_1
theorem dksX3_taken_0 : cX3_taken.data.toList.drop 0 = dktX3_taken_0 := by decide +kernel
theorem dksX3_taken_1 : cX3_taken.data.toList.drop 24 = dktX3_taken_1 := dk_seg dksX3_taken_0 24 rfl rfl
theorem dX3_taken_0 : decode cX3_taken 0 = .ok (.iload_n 2, 1) := dk_28 (dk_at dksX3_taken_0 0 rfl rfl)
theorem dX3_taken_1 : decode cX3_taken 1 = .ok (.iconst 0, 1) := dk_3 (dk_at dksX3_taken_0 1 rfl rfl)
theorem dX3_taken_2 : decode cX3_taken 2 = .ok (.iconst 4, 1) := dk_7 (dk_at dksX3_taken_0 2 rfl rfl)
theorem dX3_taken_3 : decode cX3_taken 3 = .ok (.invokestatic 42, 3) := dk_184 0 42 (dk_at dksX3_taken_0 3 rfl rfl)
theorem dX3_taken_6 : decode cX3_taken 6 = .ok (.ifCond .ne 6, 3) := dk_154 0 6 (dk_at dksX3_taken_0 6 rfl rfl)
theorem dX3_taken_9 : decode cX3_taken 9 = .ok (.bipush (-2), 2) := dk_16 254 (dk_at dksX3_taken_0 9 rfl rfl)
theorem dX3_taken_11 : decode cX3_taken 11 = .ok (.ireturn, 1) := dk_172 (dk_at dksX3_taken_0 11 rfl rfl)
theorem dX3_taken_12 : decode cX3_taken 12 = .ok (.aload_n 0, 1) := dk_42 (dk_at dksX3_taken_0 12 rfl rfl)
theorem dX3_taken_13 : decode cX3_taken 13 = .ok (.iload_n 1, 1) := dk_27 (dk_at dksX3_taken_0 13 rfl rfl)
theorem dX3_taken_14 : decode cX3_taken 14 = .ok (.iload_n 2, 1) := dk_28 (dk_at dksX3_taken_0 14 rfl rfl)
theorem dX3_taken_15 : decode cX3_taken 15 = .ok (.invokevirtual 92, 3) := dk_182 0 92 (dk_at dksX3_taken_0 15 rfl rfl)
theorem dX3_taken_18 : decode cX3_taken 18 = .ok (.istore_n 3, 1) := dk_62 (dk_at dksX3_taken_0 18 rfl rfl)
theorem dX3_taken_19 : decode cX3_taken 19 = .ok (.iload_n 3, 1) := dk_29 (dk_at dksX3_taken_0 19 rfl rfl)
theorem dX3_taken_20 : decode cX3_taken 20 = .ok (.ifCond .eq 7, 3) := dk_153 0 7 (dk_at dksX3_taken_0 20 rfl rfl)
theorem dX3_taken_23 : decode cX3_taken 23 = .ok (.iload_n 3, 1) := dk_29 (dk_at dksX3_taken_0 23 rfl rfl)
theorem dX3_taken_24 : decode cX3_taken 24 = .ok (.goto 12, 3) := dk_167 0 12 (dk_at dksX3_taken_1 0 rfl rfl)
theorem dX3_taken_27 : decode cX3_taken 27 = .ok (.aload_n 0, 1) := dk_42 (dk_at dksX3_taken_1 3 rfl rfl)
theorem dX3_taken_28 : decode cX3_taken 28 = .ok (.getfield 7, 3) := dk_180 0 7 (dk_at dksX3_taken_1 4 rfl rfl)
theorem dX3_taken_31 : decode cX3_taken 31 = .ok (.bipush 22, 2) := dk_16 22 (dk_at dksX3_taken_1 7 rfl rfl)
theorem dX3_taken_33 : decode cX3_taken 33 = .ok (.iload_n 1, 1) := dk_27 (dk_at dksX3_taken_1 9 rfl rfl)
theorem dX3_taken_34 : decode cX3_taken 34 = .ok (.iadd, 1) := dk_96 (dk_at dksX3_taken_1 10 rfl rfl)
theorem dX3_taken_35 : decode cX3_taken 35 = .ok (.iaload, 1) := dk_46 (dk_at dksX3_taken_1 11 rfl rfl)
theorem dX3_taken_36 : decode cX3_taken 36 = .ok (.ireturn, 1) := dk_172 (dk_at dksX3_taken_1 12 rfl rfl)
abbrev cX3_dead : ByteArray := prog_11_method_46_code
def yX3_dead : MethodName := ⟨RX3, "dead", "(II)I"⟩
def dkwX3_dead_7 : List UInt8 := [172]
abbrev dktX3_dead_7 : List UInt8 := dkwX3_dead_7 ++ []
def dkwX3_dead_6 : List UInt8 := [167, 255, 153, 28, 154, 0, 8, 21, 4, 167, 0, 15, 28, 4, 160, 0, 8, 21, 5, 167, 0, 5, 21, 6]
abbrev dktX3_dead_6 : List UInt8 := dkwX3_dead_6 ++ dktX3_dead_7
def dkwX3_dead_5 : List UInt8 := [17, 1, 202, 21, 6, 96, 46, 163, 0, 8, 21, 7, 167, 0, 5, 21, 6, 54, 6, 132, 7, 1]
abbrev dktX3_dead_5 : List UInt8 := dkwX3_dead_5 ++ dktX3_dead_6
def dkwX3_dead_4 : List UInt8 := [54, 5, 21, 6, 2, 159, 0, 28, 42, 180, 0, 7, 17, 1, 202, 21, 7, 96, 46, 42, 180, 0, 7]
abbrev dktX3_dead_4 : List UInt8 := dkwX3_dead_4 ++ dktX3_dead_5
def dkwX3_dead_3 : List UInt8 := [96, 46, 42, 180, 0, 7, 17, 1, 202, 21, 5, 96, 46, 164, 0, 8, 21, 7, 167, 0, 5, 21, 5]
abbrev dktX3_dead_3 : List UInt8 := dkwX3_dead_3 ++ dktX3_dead_4
def dkwX3_dead_2 : List UInt8 := [182, 0, 128, 153, 0, 86, 132, 4, 1, 21, 5, 2, 159, 0, 28, 42, 180, 0, 7, 17, 1, 202, 21, 7]
abbrev dktX3_dead_2 : List UInt8 := dkwX3_dead_2 ++ dktX3_dead_3
def dkwX3_dead_1 : List UInt8 := [3, 54, 4, 2, 54, 5, 2, 54, 6, 3, 54, 7, 21, 7, 16, 96, 162, 0, 102, 42, 27, 21, 7]
abbrev dktX3_dead_1 : List UInt8 := dkwX3_dead_1 ++ dktX3_dead_2
def dkwX3_dead_0 : List UInt8 := [28, 3, 5, 184, 0, 42, 154, 0, 6, 16, 254, 172, 42, 27, 182, 0, 122, 62, 29, 153, 0, 5, 29, 172]
abbrev dktX3_dead_0 : List UInt8 := dkwX3_dead_0 ++ dktX3_dead_1
theorem dksX3_dead_0 : cX3_dead.data.toList.drop 0 = dktX3_dead_0 := by decide +kernel
theorem dksX3_dead_1 : cX3_dead.data.toList.drop 24 = dktX3_dead_1 := dk_seg dksX3_dead_0 24 rfl rfl
theorem dksX3_dead_2 : cX3_dead.data.toList.drop 47 = dktX3_dead_2 := dk_seg dksX3_dead_1 23 rfl rfl
theorem dksX3_dead_3 : cX3_dead.data.toList.drop 71 = dktX3_dead_3 := dk_seg dksX3_dead_2 24 rfl rfl
theorem dksX3_dead_4 : cX3_dead.data.toList.drop 94 = dktX3_dead_4 := dk_seg dksX3_dead_3 23 rfl rfl
theorem dksX3_dead_5 : cX3_dead.data.toList.drop 117 = dktX3_dead_5 := dk_seg dksX3_dead_4 23 rfl rfl
theorem dksX3_dead_6 : cX3_dead.data.toList.drop 139 = dktX3_dead_6 := dk_seg dksX3_dead_5 22 rfl rfl
theorem dksX3_dead_7 : cX3_dead.data.toList.drop 163 = dktX3_dead_7 := dk_seg dksX3_dead_6 24 rfl rfl
theorem dX3_dead_0 : decode cX3_dead 0 = .ok (.iload_n 2, 1) := dk_28 (dk_at dksX3_dead_0 0 rfl rfl)
theorem dX3_dead_1 : decode cX3_dead 1 = .ok (.iconst 0, 1) := dk_3 (dk_at dksX3_dead_0 1 rfl rfl)
theorem dX3_dead_2 : decode cX3_dead 2 = .ok (.iconst 2, 1) := dk_5 (dk_at dksX3_dead_0 2 rfl rfl)
theorem dX3_dead_3 : decode cX3_dead 3 = .ok (.invokestatic 42, 3) := dk_184 0 42 (dk_at dksX3_dead_0 3 rfl rfl)
theorem dX3_dead_6 : decode cX3_dead 6 = .ok (.ifCond .ne 6, 3) := dk_154 0 6 (dk_at dksX3_dead_0 6 rfl rfl)
theorem dX3_dead_9 : decode cX3_dead 9 = .ok (.bipush (-2), 2) := dk_16 254 (dk_at dksX3_dead_0 9 rfl rfl)
theorem dX3_dead_11 : decode cX3_dead 11 = .ok (.ireturn, 1) := dk_172 (dk_at dksX3_dead_0 11 rfl rfl)
theorem dX3_dead_12 : decode cX3_dead 12 = .ok (.aload_n 0, 1) := dk_42 (dk_at dksX3_dead_0 12 rfl rfl)
theorem dX3_dead_13 : decode cX3_dead 13 = .ok (.iload_n 1, 1) := dk_27 (dk_at dksX3_dead_0 13 rfl rfl)
theorem dX3_dead_14 : decode cX3_dead 14 = .ok (.invokevirtual 122, 3) := dk_182 0 122 (dk_at dksX3_dead_0 14 rfl rfl)
theorem dX3_dead_17 : decode cX3_dead 17 = .ok (.istore_n 3, 1) := dk_62 (dk_at dksX3_dead_0 17 rfl rfl)
theorem dX3_dead_18 : decode cX3_dead 18 = .ok (.iload_n 3, 1) := dk_29 (dk_at dksX3_dead_0 18 rfl rfl)
theorem dX3_dead_19 : decode cX3_dead 19 = .ok (.ifCond .eq 5, 3) := dk_153 0 5 (dk_at dksX3_dead_0 19 rfl rfl)
theorem dX3_dead_22 : decode cX3_dead 22 = .ok (.iload_n 3, 1) := dk_29 (dk_at dksX3_dead_0 22 rfl rfl)
theorem dX3_dead_23 : decode cX3_dead 23 = .ok (.ireturn, 1) := dk_172 (dk_at dksX3_dead_0 23 rfl rfl)
theorem dX3_dead_24 : decode cX3_dead 24 = .ok (.iconst 0, 1) := dk_3 (dk_at dksX3_dead_1 0 rfl rfl)
theorem dX3_dead_25 : decode cX3_dead 25 = .ok (.istore 4, 2) := dk_54 4 (dk_at dksX3_dead_1 1 rfl rfl)
theorem dX3_dead_27 : decode cX3_dead 27 = .ok (.iconst (-1), 1) := dk_2 (dk_at dksX3_dead_1 3 rfl rfl)
theorem dX3_dead_28 : decode cX3_dead 28 = .ok (.istore 5, 2) := dk_54 5 (dk_at dksX3_dead_1 4 rfl rfl)
theorem dX3_dead_30 : decode cX3_dead 30 = .ok (.iconst (-1), 1) := dk_2 (dk_at dksX3_dead_1 6 rfl rfl)
theorem dX3_dead_31 : decode cX3_dead 31 = .ok (.istore 6, 2) := dk_54 6 (dk_at dksX3_dead_1 7 rfl rfl)
theorem dX3_dead_33 : decode cX3_dead 33 = .ok (.iconst 0, 1) := dk_3 (dk_at dksX3_dead_1 9 rfl rfl)
theorem dX3_dead_34 : decode cX3_dead 34 = .ok (.istore 7, 2) := dk_54 7 (dk_at dksX3_dead_1 10 rfl rfl)
theorem dX3_dead_36 : decode cX3_dead 36 = .ok (.iload 7, 2) := dk_21 7 (dk_at dksX3_dead_1 12 rfl rfl)
theorem dX3_dead_38 : decode cX3_dead 38 = .ok (.bipush 96, 2) := dk_16 96 (dk_at dksX3_dead_1 14 rfl rfl)
theorem dX3_dead_40 : decode cX3_dead 40 = .ok (.if_icmp .ge 102, 3) := dk_162 0 102 (dk_at dksX3_dead_1 16 rfl rfl)
theorem dX3_dead_43 : decode cX3_dead 43 = .ok (.aload_n 0, 1) := dk_42 (dk_at dksX3_dead_1 19 rfl rfl)
theorem dX3_dead_44 : decode cX3_dead 44 = .ok (.iload_n 1, 1) := dk_27 (dk_at dksX3_dead_1 20 rfl rfl)
theorem dX3_dead_45 : decode cX3_dead 45 = .ok (.iload 7, 2) := dk_21 7 (dk_at dksX3_dead_1 21 rfl rfl)
theorem dX3_dead_47 : decode cX3_dead 47 = .ok (.invokevirtual 128, 3) := dk_182 0 128 (dk_at dksX3_dead_2 0 rfl rfl)
theorem dX3_dead_50 : decode cX3_dead 50 = .ok (.ifCond .eq 86, 3) := dk_153 0 86 (dk_at dksX3_dead_2 3 rfl rfl)
theorem dX3_dead_53 : decode cX3_dead 53 = .ok (.iinc 4 1, 3) := dk_132 4 1 (dk_at dksX3_dead_2 6 rfl rfl)
theorem dX3_dead_56 : decode cX3_dead 56 = .ok (.iload 5, 2) := dk_21 5 (dk_at dksX3_dead_2 9 rfl rfl)
theorem dX3_dead_58 : decode cX3_dead 58 = .ok (.iconst (-1), 1) := dk_2 (dk_at dksX3_dead_2 11 rfl rfl)
theorem dX3_dead_59 : decode cX3_dead 59 = .ok (.if_icmp .eq 28, 3) := dk_159 0 28 (dk_at dksX3_dead_2 12 rfl rfl)
theorem dX3_dead_62 : decode cX3_dead 62 = .ok (.aload_n 0, 1) := dk_42 (dk_at dksX3_dead_2 15 rfl rfl)
theorem dX3_dead_63 : decode cX3_dead 63 = .ok (.getfield 7, 3) := dk_180 0 7 (dk_at dksX3_dead_2 16 rfl rfl)
theorem dX3_dead_66 : decode cX3_dead 66 = .ok (.sipush 458, 3) := dk_17 1 202 (dk_at dksX3_dead_2 19 rfl rfl)
theorem dX3_dead_69 : decode cX3_dead 69 = .ok (.iload 7, 2) := dk_21 7 (dk_at dksX3_dead_2 22 rfl rfl)
theorem dX3_dead_71 : decode cX3_dead 71 = .ok (.iadd, 1) := dk_96 (dk_at dksX3_dead_3 0 rfl rfl)
theorem dX3_dead_72 : decode cX3_dead 72 = .ok (.iaload, 1) := dk_46 (dk_at dksX3_dead_3 1 rfl rfl)
theorem dX3_dead_73 : decode cX3_dead 73 = .ok (.aload_n 0, 1) := dk_42 (dk_at dksX3_dead_3 2 rfl rfl)
theorem dX3_dead_74 : decode cX3_dead 74 = .ok (.getfield 7, 3) := dk_180 0 7 (dk_at dksX3_dead_3 3 rfl rfl)
theorem dX3_dead_77 : decode cX3_dead 77 = .ok (.sipush 458, 3) := dk_17 1 202 (dk_at dksX3_dead_3 6 rfl rfl)
theorem dX3_dead_80 : decode cX3_dead 80 = .ok (.iload 5, 2) := dk_21 5 (dk_at dksX3_dead_3 9 rfl rfl)
theorem dX3_dead_82 : decode cX3_dead 82 = .ok (.iadd, 1) := dk_96 (dk_at dksX3_dead_3 11 rfl rfl)
theorem dX3_dead_83 : decode cX3_dead 83 = .ok (.iaload, 1) := dk_46 (dk_at dksX3_dead_3 12 rfl rfl)
theorem dX3_dead_84 : decode cX3_dead 84 = .ok (.if_icmp .le 8, 3) := dk_164 0 8 (dk_at dksX3_dead_3 13 rfl rfl)
theorem dX3_dead_87 : decode cX3_dead 87 = .ok (.iload 7, 2) := dk_21 7 (dk_at dksX3_dead_3 16 rfl rfl)
theorem dX3_dead_89 : decode cX3_dead 89 = .ok (.goto 5, 3) := dk_167 0 5 (dk_at dksX3_dead_3 18 rfl rfl)
theorem dX3_dead_92 : decode cX3_dead 92 = .ok (.iload 5, 2) := dk_21 5 (dk_at dksX3_dead_3 21 rfl rfl)
theorem dX3_dead_94 : decode cX3_dead 94 = .ok (.istore 5, 2) := dk_54 5 (dk_at dksX3_dead_4 0 rfl rfl)
theorem dX3_dead_96 : decode cX3_dead 96 = .ok (.iload 6, 2) := dk_21 6 (dk_at dksX3_dead_4 2 rfl rfl)
theorem dX3_dead_98 : decode cX3_dead 98 = .ok (.iconst (-1), 1) := dk_2 (dk_at dksX3_dead_4 4 rfl rfl)
theorem dX3_dead_99 : decode cX3_dead 99 = .ok (.if_icmp .eq 28, 3) := dk_159 0 28 (dk_at dksX3_dead_4 5 rfl rfl)
theorem dX3_dead_102 : decode cX3_dead 102 = .ok (.aload_n 0, 1) := dk_42 (dk_at dksX3_dead_4 8 rfl rfl)
theorem dX3_dead_103 : decode cX3_dead 103 = .ok (.getfield 7, 3) := dk_180 0 7 (dk_at dksX3_dead_4 9 rfl rfl)
theorem dX3_dead_106 : decode cX3_dead 106 = .ok (.sipush 458, 3) := dk_17 1 202 (dk_at dksX3_dead_4 12 rfl rfl)
theorem dX3_dead_109 : decode cX3_dead 109 = .ok (.iload 7, 2) := dk_21 7 (dk_at dksX3_dead_4 15 rfl rfl)
theorem dX3_dead_111 : decode cX3_dead 111 = .ok (.iadd, 1) := dk_96 (dk_at dksX3_dead_4 17 rfl rfl)
theorem dX3_dead_112 : decode cX3_dead 112 = .ok (.iaload, 1) := dk_46 (dk_at dksX3_dead_4 18 rfl rfl)
theorem dX3_dead_113 : decode cX3_dead 113 = .ok (.aload_n 0, 1) := dk_42 (dk_at dksX3_dead_4 19 rfl rfl)
theorem dX3_dead_114 : decode cX3_dead 114 = .ok (.getfield 7, 3) := dk_180 0 7 (dk_at dksX3_dead_4 20 rfl rfl)
theorem dX3_dead_117 : decode cX3_dead 117 = .ok (.sipush 458, 3) := dk_17 1 202 (dk_at dksX3_dead_5 0 rfl rfl)
theorem dX3_dead_120 : decode cX3_dead 120 = .ok (.iload 6, 2) := dk_21 6 (dk_at dksX3_dead_5 3 rfl rfl)
theorem dX3_dead_122 : decode cX3_dead 122 = .ok (.iadd, 1) := dk_96 (dk_at dksX3_dead_5 5 rfl rfl)
theorem dX3_dead_123 : decode cX3_dead 123 = .ok (.iaload, 1) := dk_46 (dk_at dksX3_dead_5 6 rfl rfl)
theorem dX3_dead_124 : decode cX3_dead 124 = .ok (.if_icmp .gt 8, 3) := dk_163 0 8 (dk_at dksX3_dead_5 7 rfl rfl)
theorem dX3_dead_127 : decode cX3_dead 127 = .ok (.iload 7, 2) := dk_21 7 (dk_at dksX3_dead_5 10 rfl rfl)
theorem dX3_dead_129 : decode cX3_dead 129 = .ok (.goto 5, 3) := dk_167 0 5 (dk_at dksX3_dead_5 12 rfl rfl)
theorem dX3_dead_132 : decode cX3_dead 132 = .ok (.iload 6, 2) := dk_21 6 (dk_at dksX3_dead_5 15 rfl rfl)
theorem dX3_dead_134 : decode cX3_dead 134 = .ok (.istore 6, 2) := dk_54 6 (dk_at dksX3_dead_5 17 rfl rfl)
theorem dX3_dead_136 : decode cX3_dead 136 = .ok (.iinc 7 1, 3) := dk_132 7 1 (dk_at dksX3_dead_5 19 rfl rfl)
theorem dX3_dead_139 : decode cX3_dead 139 = .ok (.goto (-103), 3) := dk_167 255 153 (dk_at dksX3_dead_6 0 rfl rfl)
theorem dX3_dead_142 : decode cX3_dead 142 = .ok (.iload_n 2, 1) := dk_28 (dk_at dksX3_dead_6 3 rfl rfl)
theorem dX3_dead_143 : decode cX3_dead 143 = .ok (.ifCond .ne 8, 3) := dk_154 0 8 (dk_at dksX3_dead_6 4 rfl rfl)
theorem dX3_dead_146 : decode cX3_dead 146 = .ok (.iload 4, 2) := dk_21 4 (dk_at dksX3_dead_6 7 rfl rfl)
theorem dX3_dead_148 : decode cX3_dead 148 = .ok (.goto 15, 3) := dk_167 0 15 (dk_at dksX3_dead_6 9 rfl rfl)
theorem dX3_dead_151 : decode cX3_dead 151 = .ok (.iload_n 2, 1) := dk_28 (dk_at dksX3_dead_6 12 rfl rfl)
theorem dX3_dead_152 : decode cX3_dead 152 = .ok (.iconst 1, 1) := dk_4 (dk_at dksX3_dead_6 13 rfl rfl)
theorem dX3_dead_153 : decode cX3_dead 153 = .ok (.if_icmp .ne 8, 3) := dk_160 0 8 (dk_at dksX3_dead_6 14 rfl rfl)
theorem dX3_dead_156 : decode cX3_dead 156 = .ok (.iload 5, 2) := dk_21 5 (dk_at dksX3_dead_6 17 rfl rfl)
theorem dX3_dead_158 : decode cX3_dead 158 = .ok (.goto 5, 3) := dk_167 0 5 (dk_at dksX3_dead_6 19 rfl rfl)
theorem dX3_dead_161 : decode cX3_dead 161 = .ok (.iload 6, 2) := dk_21 6 (dk_at dksX3_dead_6 22 rfl rfl)
theorem dX3_dead_163 : decode cX3_dead 163 = .ok (.ireturn, 1) := dk_172 (dk_at dksX3_dead_7 0 rfl rfl)
abbrev cX3_isDead : ByteArray := prog_11_method_45_code
def yX3_isDead : MethodName := ⟨RX3, "isDead", "(II)Z"⟩
def dkwX3_isDead_1 : List UInt8 := [182, 0, 125, 153, 0, 16, 42, 27, 28, 182, 0, 125, 154, 0, 7, 4, 167, 0, 4, 3, 172]
abbrev dktX3_isDead_1 : List UInt8 := dkwX3_isDead_1 ++ []
def dkwX3_isDead_0 : List UInt8 := [42, 180, 0, 7, 16, 42, 27, 96, 46, 2, 159, 0, 33, 42, 42, 180, 0, 7, 16, 42, 27, 96, 46, 28]
abbrev dktX3_isDead_0 : List UInt8 := dkwX3_isDead_0 ++ dktX3_isDead_1
theorem dksX3_isDead_0 : cX3_isDead.data.toList.drop 0 = dktX3_isDead_0 := by decide +kernel
theorem dksX3_isDead_1 : cX3_isDead.data.toList.drop 24 = dktX3_isDead_1 := dk_seg dksX3_isDead_0 24 rfl rfl
theorem dX3_isDead_0 : decode cX3_isDead 0 = .ok (.aload_n 0, 1) := dk_42 (dk_at dksX3_isDead_0 0 rfl rfl)
theorem dX3_isDead_1 : decode cX3_isDead 1 = .ok (.getfield 7, 3) := dk_180 0 7 (dk_at dksX3_isDead_0 1 rfl rfl)
theorem dX3_isDead_4 : decode cX3_isDead 4 = .ok (.bipush 42, 2) := dk_16 42 (dk_at dksX3_isDead_0 4 rfl rfl)
theorem dX3_isDead_6 : decode cX3_isDead 6 = .ok (.iload_n 1, 1) := dk_27 (dk_at dksX3_isDead_0 6 rfl rfl)
theorem dX3_isDead_7 : decode cX3_isDead 7 = .ok (.iadd, 1) := dk_96 (dk_at dksX3_isDead_0 7 rfl rfl)
theorem dX3_isDead_8 : decode cX3_isDead 8 = .ok (.iaload, 1) := dk_46 (dk_at dksX3_isDead_0 8 rfl rfl)
theorem dX3_isDead_9 : decode cX3_isDead 9 = .ok (.iconst (-1), 1) := dk_2 (dk_at dksX3_isDead_0 9 rfl rfl)
theorem dX3_isDead_10 : decode cX3_isDead 10 = .ok (.if_icmp .eq 33, 3) := dk_159 0 33 (dk_at dksX3_isDead_0 10 rfl rfl)
theorem dX3_isDead_13 : decode cX3_isDead 13 = .ok (.aload_n 0, 1) := dk_42 (dk_at dksX3_isDead_0 13 rfl rfl)
theorem dX3_isDead_14 : decode cX3_isDead 14 = .ok (.aload_n 0, 1) := dk_42 (dk_at dksX3_isDead_0 14 rfl rfl)
theorem dX3_isDead_15 : decode cX3_isDead 15 = .ok (.getfield 7, 3) := dk_180 0 7 (dk_at dksX3_isDead_0 15 rfl rfl)
theorem dX3_isDead_18 : decode cX3_isDead 18 = .ok (.bipush 42, 2) := dk_16 42 (dk_at dksX3_isDead_0 18 rfl rfl)
theorem dX3_isDead_20 : decode cX3_isDead 20 = .ok (.iload_n 1, 1) := dk_27 (dk_at dksX3_isDead_0 20 rfl rfl)
theorem dX3_isDead_21 : decode cX3_isDead 21 = .ok (.iadd, 1) := dk_96 (dk_at dksX3_isDead_0 21 rfl rfl)
theorem dX3_isDead_22 : decode cX3_isDead 22 = .ok (.iaload, 1) := dk_46 (dk_at dksX3_isDead_0 22 rfl rfl)
theorem dX3_isDead_23 : decode cX3_isDead 23 = .ok (.iload_n 2, 1) := dk_28 (dk_at dksX3_isDead_0 23 rfl rfl)
theorem dX3_isDead_24 : decode cX3_isDead 24 = .ok (.invokevirtual 125, 3) := dk_182 0 125 (dk_at dksX3_isDead_1 0 rfl rfl)
theorem dX3_isDead_27 : decode cX3_isDead 27 = .ok (.ifCond .eq 16, 3) := dk_153 0 16 (dk_at dksX3_isDead_1 3 rfl rfl)
theorem dX3_isDead_30 : decode cX3_isDead 30 = .ok (.aload_n 0, 1) := dk_42 (dk_at dksX3_isDead_1 6 rfl rfl)
theorem dX3_isDead_31 : decode cX3_isDead 31 = .ok (.iload_n 1, 1) := dk_27 (dk_at dksX3_isDead_1 7 rfl rfl)
theorem dX3_isDead_32 : decode cX3_isDead 32 = .ok (.iload_n 2, 1) := dk_28 (dk_at dksX3_isDead_1 8 rfl rfl)
theorem dX3_isDead_33 : decode cX3_isDead 33 = .ok (.invokevirtual 125, 3) := dk_182 0 125 (dk_at dksX3_isDead_1 9 rfl rfl)
theorem dX3_isDead_36 : decode cX3_isDead 36 = .ok (.ifCond .ne 7, 3) := dk_154 0 7 (dk_at dksX3_isDead_1 12 rfl rfl)
theorem dX3_isDead_39 : decode cX3_isDead 39 = .ok (.iconst 1, 1) := dk_4 (dk_at dksX3_isDead_1 15 rfl rfl)
theorem dX3_isDead_40 : decode cX3_isDead 40 = .ok (.goto 4, 3) := dk_167 0 4 (dk_at dksX3_isDead_1 16 rfl rfl)
theorem dX3_isDead_43 : decode cX3_isDead 43 = .ok (.iconst 0, 1) := dk_3 (dk_at dksX3_isDead_1 19 rfl rfl)
theorem dX3_isDead_44 : decode cX3_isDead 44 = .ok (.ireturn, 1) := dk_172 (dk_at dksX3_isDead_1 20 rfl rfl)
abbrev cX3_isHeld : ByteArray := prog_11_method_13_code
def yX3_isHeld : MethodName := ⟨RX3, "isHeld", "(II)Z"⟩
def dkwX3_isHeld_2 : List UInt8 := [62, 132, 4, 1, 167, 255, 209, 29, 172]
abbrev dktX3_isHeld_2 : List UInt8 := dkwX3_isHeld_2 ++ []
def dkwX3_isHeld_1 : List UInt8 := [42, 180, 0, 7, 16, 122, 16, 12, 27, 104, 96, 21, 4, 96, 46, 28, 160, 0, 7, 4, 167, 0, 4, 3]
abbrev dktX3_isHeld_1 : List UInt8 := dkwX3_isHeld_1 ++ dktX3_isHeld_2
def dkwX3_isHeld_0 : List UInt8 := [3, 62, 3, 54, 4, 21, 4, 16, 12, 162, 0, 46, 29, 154, 0, 30, 42, 27, 182, 0, 64, 153, 0, 26]
abbrev dktX3_isHeld_0 : List UInt8 := dkwX3_isHeld_0 ++ dktX3_isHeld_1
theorem dksX3_isHeld_0 : cX3_isHeld.data.toList.drop 0 = dktX3_isHeld_0 := by decide +kernel
theorem dksX3_isHeld_1 : cX3_isHeld.data.toList.drop 24 = dktX3_isHeld_1 := dk_seg dksX3_isHeld_0 24 rfl rfl
theorem dksX3_isHeld_2 : cX3_isHeld.data.toList.drop 48 = dktX3_isHeld_2 := dk_seg dksX3_isHeld_1 24 rfl rfl
theorem dX3_isHeld_0 : decode cX3_isHeld 0 = .ok (.iconst 0, 1) := dk_3 (dk_at dksX3_isHeld_0 0 rfl rfl)
theorem dX3_isHeld_1 : decode cX3_isHeld 1 = .ok (.istore_n 3, 1) := dk_62 (dk_at dksX3_isHeld_0 1 rfl rfl)
theorem dX3_isHeld_2 : decode cX3_isHeld 2 = .ok (.iconst 0, 1) := dk_3 (dk_at dksX3_isHeld_0 2 rfl rfl)
theorem dX3_isHeld_3 : decode cX3_isHeld 3 = .ok (.istore 4, 2) := dk_54 4 (dk_at dksX3_isHeld_0 3 rfl rfl)
theorem dX3_isHeld_5 : decode cX3_isHeld 5 = .ok (.iload 4, 2) := dk_21 4 (dk_at dksX3_isHeld_0 5 rfl rfl)
theorem dX3_isHeld_7 : decode cX3_isHeld 7 = .ok (.bipush 12, 2) := dk_16 12 (dk_at dksX3_isHeld_0 7 rfl rfl)
theorem dX3_isHeld_9 : decode cX3_isHeld 9 = .ok (.if_icmp .ge 46, 3) := dk_162 0 46 (dk_at dksX3_isHeld_0 9 rfl rfl)
theorem dX3_isHeld_12 : decode cX3_isHeld 12 = .ok (.iload_n 3, 1) := dk_29 (dk_at dksX3_isHeld_0 12 rfl rfl)
theorem dX3_isHeld_13 : decode cX3_isHeld 13 = .ok (.ifCond .ne 30, 3) := dk_154 0 30 (dk_at dksX3_isHeld_0 13 rfl rfl)
theorem dX3_isHeld_16 : decode cX3_isHeld 16 = .ok (.aload_n 0, 1) := dk_42 (dk_at dksX3_isHeld_0 16 rfl rfl)
theorem dX3_isHeld_17 : decode cX3_isHeld 17 = .ok (.iload_n 1, 1) := dk_27 (dk_at dksX3_isHeld_0 17 rfl rfl)
theorem dX3_isHeld_18 : decode cX3_isHeld 18 = .ok (.invokevirtual 64, 3) := dk_182 0 64 (dk_at dksX3_isHeld_0 18 rfl rfl)
theorem dX3_isHeld_21 : decode cX3_isHeld 21 = .ok (.ifCond .eq 26, 3) := dk_153 0 26 (dk_at dksX3_isHeld_0 21 rfl rfl)
theorem dX3_isHeld_24 : decode cX3_isHeld 24 = .ok (.aload_n 0, 1) := dk_42 (dk_at dksX3_isHeld_1 0 rfl rfl)
theorem dX3_isHeld_25 : decode cX3_isHeld 25 = .ok (.getfield 7, 3) := dk_180 0 7 (dk_at dksX3_isHeld_1 1 rfl rfl)
theorem dX3_isHeld_28 : decode cX3_isHeld 28 = .ok (.bipush 122, 2) := dk_16 122 (dk_at dksX3_isHeld_1 4 rfl rfl)
theorem dX3_isHeld_30 : decode cX3_isHeld 30 = .ok (.bipush 12, 2) := dk_16 12 (dk_at dksX3_isHeld_1 6 rfl rfl)
theorem dX3_isHeld_32 : decode cX3_isHeld 32 = .ok (.iload_n 1, 1) := dk_27 (dk_at dksX3_isHeld_1 8 rfl rfl)
theorem dX3_isHeld_33 : decode cX3_isHeld 33 = .ok (.imul, 1) := dk_104 (dk_at dksX3_isHeld_1 9 rfl rfl)
theorem dX3_isHeld_34 : decode cX3_isHeld 34 = .ok (.iadd, 1) := dk_96 (dk_at dksX3_isHeld_1 10 rfl rfl)
theorem dX3_isHeld_35 : decode cX3_isHeld 35 = .ok (.iload 4, 2) := dk_21 4 (dk_at dksX3_isHeld_1 11 rfl rfl)
theorem dX3_isHeld_37 : decode cX3_isHeld 37 = .ok (.iadd, 1) := dk_96 (dk_at dksX3_isHeld_1 13 rfl rfl)
theorem dX3_isHeld_38 : decode cX3_isHeld 38 = .ok (.iaload, 1) := dk_46 (dk_at dksX3_isHeld_1 14 rfl rfl)
theorem dX3_isHeld_39 : decode cX3_isHeld 39 = .ok (.iload_n 2, 1) := dk_28 (dk_at dksX3_isHeld_1 15 rfl rfl)
theorem dX3_isHeld_40 : decode cX3_isHeld 40 = .ok (.if_icmp .ne 7, 3) := dk_160 0 7 (dk_at dksX3_isHeld_1 16 rfl rfl)
theorem dX3_isHeld_43 : decode cX3_isHeld 43 = .ok (.iconst 1, 1) := dk_4 (dk_at dksX3_isHeld_1 19 rfl rfl)
theorem dX3_isHeld_44 : decode cX3_isHeld 44 = .ok (.goto 4, 3) := dk_167 0 4 (dk_at dksX3_isHeld_1 20 rfl rfl)
theorem dX3_isHeld_47 : decode cX3_isHeld 47 = .ok (.iconst 0, 1) := dk_3 (dk_at dksX3_isHeld_1 23 rfl rfl)
theorem dX3_isHeld_48 : decode cX3_isHeld 48 = .ok (.istore_n 3, 1) := dk_62 (dk_at dksX3_isHeld_2 0 rfl rfl)
theorem dX3_isHeld_49 : decode cX3_isHeld 49 = .ok (.iinc 4 1, 3) := dk_132 4 1 (dk_at dksX3_isHeld_2 1 rfl rfl)
theorem dX3_isHeld_52 : decode cX3_isHeld 52 = .ok (.goto (-47), 3) := dk_167 255 209 (dk_at dksX3_isHeld_2 4 rfl rfl)
theorem dX3_isHeld_55 : decode cX3_isHeld 55 = .ok (.iload_n 3, 1) := dk_29 (dk_at dksX3_isHeld_2 7 rfl rfl)
theorem dX3_isHeld_56 : decode cX3_isHeld 56 = .ok (.ireturn, 1) := dk_172 (dk_at dksX3_isHeld_2 8 rfl rfl)
abbrev cX3_deadList : ByteArray := prog_11_method_48_code
def yX3_deadList : MethodName := ⟨RX3, "deadList", "(II)J"⟩
def dkwX3_deadList_7 : List UInt8 := [22, 5, 173]
abbrev dktX3_deadList_7 : List UInt8 := dkwX3_deadList_7 ++ []
def dkwX3_deadList_6 : List UInt8 := [180, 0, 7, 17, 1, 106, 21, 7, 96, 46, 133, 167, 0, 4, 9, 97, 55, 5, 132, 7, 1, 167, 255, 150]
abbrev dktX3_deadList_6 : List UInt8 := dkwX3_deadList_6 ++ dktX3_deadList_7
def dkwX3_deadList_5 : List UInt8 := [16, 22, 21, 4, 96, 46, 164, 0, 7, 4, 167, 0, 4, 3, 54, 8, 22, 5, 21, 8, 153, 0, 18, 42]
abbrev dktX3_deadList_5 : List UInt8 := dkwX3_deadList_5 ++ dktX3_deadList_6
def dkwX3_deadList_4 : List UInt8 := [163, 0, 37, 21, 4, 2, 159, 0, 27, 42, 180, 0, 7, 17, 1, 202, 21, 7, 96, 46, 42, 180, 0, 7]
abbrev dktX3_deadList_4 : List UInt8 := dkwX3_deadList_4 ++ dktX3_deadList_5
def dkwX3_deadList_3 : List UInt8 := [153, 0, 60, 42, 180, 0, 7, 17, 1, 202, 21, 7, 96, 46, 42, 180, 0, 7, 16, 22, 29, 96, 46]
abbrev dktX3_deadList_3 : List UInt8 := dkwX3_deadList_3 ++ dktX3_deadList_4
def dkwX3_deadList_2 : List UInt8 := [54, 4, 9, 55, 5, 3, 54, 7, 21, 7, 16, 96, 162, 0, 105, 42, 27, 21, 7, 182, 0, 128]
abbrev dktX3_deadList_2 : List UInt8 := dkwX3_deadList_2 ++ dktX3_deadList_3
def dkwX3_deadList_1 : List UInt8 := [2, 160, 0, 7, 20, 0, 134, 173, 42, 27, 28, 182, 0, 131, 62, 42, 27, 28, 4, 96, 182, 0, 131]
abbrev dktX3_deadList_1 : List UInt8 := dkwX3_deadList_1 ++ dktX3_deadList_2
def dkwX3_deadList_0 : List UInt8 := [42, 27, 182, 0, 64, 153, 0, 23, 28, 3, 16, 19, 184, 0, 42, 153, 0, 13, 42, 27, 28, 182, 0, 131]
abbrev dktX3_deadList_0 : List UInt8 := dkwX3_deadList_0 ++ dktX3_deadList_1
theorem dksX3_deadList_0 : cX3_deadList.data.toList.drop 0 = dktX3_deadList_0 := by decide +kernel
theorem dksX3_deadList_1 : cX3_deadList.data.toList.drop 24 = dktX3_deadList_1 := dk_seg dksX3_deadList_0 24 rfl rfl
theorem dksX3_deadList_2 : cX3_deadList.data.toList.drop 47 = dktX3_deadList_2 := dk_seg dksX3_deadList_1 23 rfl rfl
theorem dksX3_deadList_3 : cX3_deadList.data.toList.drop 69 = dktX3_deadList_3 := dk_seg dksX3_deadList_2 22 rfl rfl
theorem dksX3_deadList_4 : cX3_deadList.data.toList.drop 92 = dktX3_deadList_4 := dk_seg dksX3_deadList_3 23 rfl rfl
theorem dksX3_deadList_5 : cX3_deadList.data.toList.drop 116 = dktX3_deadList_5 := dk_seg dksX3_deadList_4 24 rfl rfl
theorem dksX3_deadList_6 : cX3_deadList.data.toList.drop 140 = dktX3_deadList_6 := dk_seg dksX3_deadList_5 24 rfl rfl
theorem dksX3_deadList_7 : cX3_deadList.data.toList.drop 164 = dktX3_deadList_7 := dk_seg dksX3_deadList_6 24 rfl rfl
theorem dX3_deadList_0 : decode cX3_deadList 0 = .ok (.aload_n 0, 1) := dk_42 (dk_at dksX3_deadList_0 0 rfl rfl)
theorem dX3_deadList_1 : decode cX3_deadList 1 = .ok (.iload_n 1, 1) := dk_27 (dk_at dksX3_deadList_0 1 rfl rfl)
theorem dX3_deadList_2 : decode cX3_deadList 2 = .ok (.invokevirtual 64, 3) := dk_182 0 64 (dk_at dksX3_deadList_0 2 rfl rfl)
theorem dX3_deadList_5 : decode cX3_deadList 5 = .ok (.ifCond .eq 23, 3) := dk_153 0 23 (dk_at dksX3_deadList_0 5 rfl rfl)
theorem dX3_deadList_8 : decode cX3_deadList 8 = .ok (.iload_n 2, 1) := dk_28 (dk_at dksX3_deadList_0 8 rfl rfl)
theorem dX3_deadList_9 : decode cX3_deadList 9 = .ok (.iconst 0, 1) := dk_3 (dk_at dksX3_deadList_0 9 rfl rfl)
theorem dX3_deadList_10 : decode cX3_deadList 10 = .ok (.bipush 19, 2) := dk_16 19 (dk_at dksX3_deadList_0 10 rfl rfl)
theorem dX3_deadList_12 : decode cX3_deadList 12 = .ok (.invokestatic 42, 3) := dk_184 0 42 (dk_at dksX3_deadList_0 12 rfl rfl)
theorem dX3_deadList_15 : decode cX3_deadList 15 = .ok (.ifCond .eq 13, 3) := dk_153 0 13 (dk_at dksX3_deadList_0 15 rfl rfl)
theorem dX3_deadList_18 : decode cX3_deadList 18 = .ok (.aload_n 0, 1) := dk_42 (dk_at dksX3_deadList_0 18 rfl rfl)
theorem dX3_deadList_19 : decode cX3_deadList 19 = .ok (.iload_n 1, 1) := dk_27 (dk_at dksX3_deadList_0 19 rfl rfl)
theorem dX3_deadList_20 : decode cX3_deadList 20 = .ok (.iload_n 2, 1) := dk_28 (dk_at dksX3_deadList_0 20 rfl rfl)
theorem dX3_deadList_21 : decode cX3_deadList 21 = .ok (.invokevirtual 131, 3) := dk_182 0 131 (dk_at dksX3_deadList_0 21 rfl rfl)
theorem dX3_deadList_24 : decode cX3_deadList 24 = .ok (.iconst (-1), 1) := dk_2 (dk_at dksX3_deadList_1 0 rfl rfl)
theorem dX3_deadList_25 : decode cX3_deadList 25 = .ok (.if_icmp .ne 7, 3) := dk_160 0 7 (dk_at dksX3_deadList_1 1 rfl rfl)
theorem dX3_deadList_28 : decode cX3_deadList 28 = .ok (.ldc2_w 134, 3) := dk_20 0 134 (dk_at dksX3_deadList_1 4 rfl rfl)
theorem dX3_deadList_31 : decode cX3_deadList 31 = .ok (.lreturn, 1) := dk_173 (dk_at dksX3_deadList_1 7 rfl rfl)
theorem dX3_deadList_32 : decode cX3_deadList 32 = .ok (.aload_n 0, 1) := dk_42 (dk_at dksX3_deadList_1 8 rfl rfl)
theorem dX3_deadList_33 : decode cX3_deadList 33 = .ok (.iload_n 1, 1) := dk_27 (dk_at dksX3_deadList_1 9 rfl rfl)
theorem dX3_deadList_34 : decode cX3_deadList 34 = .ok (.iload_n 2, 1) := dk_28 (dk_at dksX3_deadList_1 10 rfl rfl)
theorem dX3_deadList_35 : decode cX3_deadList 35 = .ok (.invokevirtual 131, 3) := dk_182 0 131 (dk_at dksX3_deadList_1 11 rfl rfl)
theorem dX3_deadList_38 : decode cX3_deadList 38 = .ok (.istore_n 3, 1) := dk_62 (dk_at dksX3_deadList_1 14 rfl rfl)
theorem dX3_deadList_39 : decode cX3_deadList 39 = .ok (.aload_n 0, 1) := dk_42 (dk_at dksX3_deadList_1 15 rfl rfl)
theorem dX3_deadList_40 : decode cX3_deadList 40 = .ok (.iload_n 1, 1) := dk_27 (dk_at dksX3_deadList_1 16 rfl rfl)
theorem dX3_deadList_41 : decode cX3_deadList 41 = .ok (.iload_n 2, 1) := dk_28 (dk_at dksX3_deadList_1 17 rfl rfl)
theorem dX3_deadList_42 : decode cX3_deadList 42 = .ok (.iconst 1, 1) := dk_4 (dk_at dksX3_deadList_1 18 rfl rfl)
theorem dX3_deadList_43 : decode cX3_deadList 43 = .ok (.iadd, 1) := dk_96 (dk_at dksX3_deadList_1 19 rfl rfl)
theorem dX3_deadList_44 : decode cX3_deadList 44 = .ok (.invokevirtual 131, 3) := dk_182 0 131 (dk_at dksX3_deadList_1 20 rfl rfl)
theorem dX3_deadList_47 : decode cX3_deadList 47 = .ok (.istore 4, 2) := dk_54 4 (dk_at dksX3_deadList_2 0 rfl rfl)
theorem dX3_deadList_49 : decode cX3_deadList 49 = .ok (.lconst 0, 1) := dk_9 (dk_at dksX3_deadList_2 2 rfl rfl)
theorem dX3_deadList_50 : decode cX3_deadList 50 = .ok (.lstore 5, 2) := dk_55 5 (dk_at dksX3_deadList_2 3 rfl rfl)
theorem dX3_deadList_52 : decode cX3_deadList 52 = .ok (.iconst 0, 1) := dk_3 (dk_at dksX3_deadList_2 5 rfl rfl)
theorem dX3_deadList_53 : decode cX3_deadList 53 = .ok (.istore 7, 2) := dk_54 7 (dk_at dksX3_deadList_2 6 rfl rfl)
theorem dX3_deadList_55 : decode cX3_deadList 55 = .ok (.iload 7, 2) := dk_21 7 (dk_at dksX3_deadList_2 8 rfl rfl)
theorem dX3_deadList_57 : decode cX3_deadList 57 = .ok (.bipush 96, 2) := dk_16 96 (dk_at dksX3_deadList_2 10 rfl rfl)
theorem dX3_deadList_59 : decode cX3_deadList 59 = .ok (.if_icmp .ge 105, 3) := dk_162 0 105 (dk_at dksX3_deadList_2 12 rfl rfl)
theorem dX3_deadList_62 : decode cX3_deadList 62 = .ok (.aload_n 0, 1) := dk_42 (dk_at dksX3_deadList_2 15 rfl rfl)
theorem dX3_deadList_63 : decode cX3_deadList 63 = .ok (.iload_n 1, 1) := dk_27 (dk_at dksX3_deadList_2 16 rfl rfl)
theorem dX3_deadList_64 : decode cX3_deadList 64 = .ok (.iload 7, 2) := dk_21 7 (dk_at dksX3_deadList_2 17 rfl rfl)
theorem dX3_deadList_66 : decode cX3_deadList 66 = .ok (.invokevirtual 128, 3) := dk_182 0 128 (dk_at dksX3_deadList_2 19 rfl rfl)
theorem dX3_deadList_69 : decode cX3_deadList 69 = .ok (.ifCond .eq 60, 3) := dk_153 0 60 (dk_at dksX3_deadList_3 0 rfl rfl)
theorem dX3_deadList_72 : decode cX3_deadList 72 = .ok (.aload_n 0, 1) := dk_42 (dk_at dksX3_deadList_3 3 rfl rfl)
theorem dX3_deadList_73 : decode cX3_deadList 73 = .ok (.getfield 7, 3) := dk_180 0 7 (dk_at dksX3_deadList_3 4 rfl rfl)
theorem dX3_deadList_76 : decode cX3_deadList 76 = .ok (.sipush 458, 3) := dk_17 1 202 (dk_at dksX3_deadList_3 7 rfl rfl)
theorem dX3_deadList_79 : decode cX3_deadList 79 = .ok (.iload 7, 2) := dk_21 7 (dk_at dksX3_deadList_3 10 rfl rfl)
theorem dX3_deadList_81 : decode cX3_deadList 81 = .ok (.iadd, 1) := dk_96 (dk_at dksX3_deadList_3 12 rfl rfl)
theorem dX3_deadList_82 : decode cX3_deadList 82 = .ok (.iaload, 1) := dk_46 (dk_at dksX3_deadList_3 13 rfl rfl)
theorem dX3_deadList_83 : decode cX3_deadList 83 = .ok (.aload_n 0, 1) := dk_42 (dk_at dksX3_deadList_3 14 rfl rfl)
theorem dX3_deadList_84 : decode cX3_deadList 84 = .ok (.getfield 7, 3) := dk_180 0 7 (dk_at dksX3_deadList_3 15 rfl rfl)
theorem dX3_deadList_87 : decode cX3_deadList 87 = .ok (.bipush 22, 2) := dk_16 22 (dk_at dksX3_deadList_3 18 rfl rfl)
theorem dX3_deadList_89 : decode cX3_deadList 89 = .ok (.iload_n 3, 1) := dk_29 (dk_at dksX3_deadList_3 20 rfl rfl)
theorem dX3_deadList_90 : decode cX3_deadList 90 = .ok (.iadd, 1) := dk_96 (dk_at dksX3_deadList_3 21 rfl rfl)
theorem dX3_deadList_91 : decode cX3_deadList 91 = .ok (.iaload, 1) := dk_46 (dk_at dksX3_deadList_3 22 rfl rfl)
theorem dX3_deadList_92 : decode cX3_deadList 92 = .ok (.if_icmp .gt 37, 3) := dk_163 0 37 (dk_at dksX3_deadList_4 0 rfl rfl)
theorem dX3_deadList_95 : decode cX3_deadList 95 = .ok (.iload 4, 2) := dk_21 4 (dk_at dksX3_deadList_4 3 rfl rfl)
theorem dX3_deadList_97 : decode cX3_deadList 97 = .ok (.iconst (-1), 1) := dk_2 (dk_at dksX3_deadList_4 5 rfl rfl)
theorem dX3_deadList_98 : decode cX3_deadList 98 = .ok (.if_icmp .eq 27, 3) := dk_159 0 27 (dk_at dksX3_deadList_4 6 rfl rfl)
theorem dX3_deadList_101 : decode cX3_deadList 101 = .ok (.aload_n 0, 1) := dk_42 (dk_at dksX3_deadList_4 9 rfl rfl)
theorem dX3_deadList_102 : decode cX3_deadList 102 = .ok (.getfield 7, 3) := dk_180 0 7 (dk_at dksX3_deadList_4 10 rfl rfl)
theorem dX3_deadList_105 : decode cX3_deadList 105 = .ok (.sipush 458, 3) := dk_17 1 202 (dk_at dksX3_deadList_4 13 rfl rfl)
theorem dX3_deadList_108 : decode cX3_deadList 108 = .ok (.iload 7, 2) := dk_21 7 (dk_at dksX3_deadList_4 16 rfl rfl)
theorem dX3_deadList_110 : decode cX3_deadList 110 = .ok (.iadd, 1) := dk_96 (dk_at dksX3_deadList_4 18 rfl rfl)
theorem dX3_deadList_111 : decode cX3_deadList 111 = .ok (.iaload, 1) := dk_46 (dk_at dksX3_deadList_4 19 rfl rfl)
theorem dX3_deadList_112 : decode cX3_deadList 112 = .ok (.aload_n 0, 1) := dk_42 (dk_at dksX3_deadList_4 20 rfl rfl)
theorem dX3_deadList_113 : decode cX3_deadList 113 = .ok (.getfield 7, 3) := dk_180 0 7 (dk_at dksX3_deadList_4 21 rfl rfl)
theorem dX3_deadList_116 : decode cX3_deadList 116 = .ok (.bipush 22, 2) := dk_16 22 (dk_at dksX3_deadList_5 0 rfl rfl)
theorem dX3_deadList_118 : decode cX3_deadList 118 = .ok (.iload 4, 2) := dk_21 4 (dk_at dksX3_deadList_5 2 rfl rfl)
theorem dX3_deadList_120 : decode cX3_deadList 120 = .ok (.iadd, 1) := dk_96 (dk_at dksX3_deadList_5 4 rfl rfl)
theorem dX3_deadList_121 : decode cX3_deadList 121 = .ok (.iaload, 1) := dk_46 (dk_at dksX3_deadList_5 5 rfl rfl)
theorem dX3_deadList_122 : decode cX3_deadList 122 = .ok (.if_icmp .le 7, 3) := dk_164 0 7 (dk_at dksX3_deadList_5 6 rfl rfl)
theorem dX3_deadList_125 : decode cX3_deadList 125 = .ok (.iconst 1, 1) := dk_4 (dk_at dksX3_deadList_5 9 rfl rfl)
theorem dX3_deadList_126 : decode cX3_deadList 126 = .ok (.goto 4, 3) := dk_167 0 4 (dk_at dksX3_deadList_5 10 rfl rfl)
theorem dX3_deadList_129 : decode cX3_deadList 129 = .ok (.iconst 0, 1) := dk_3 (dk_at dksX3_deadList_5 13 rfl rfl)
theorem dX3_deadList_130 : decode cX3_deadList 130 = .ok (.istore 8, 2) := dk_54 8 (dk_at dksX3_deadList_5 14 rfl rfl)
theorem dX3_deadList_132 : decode cX3_deadList 132 = .ok (.lload 5, 2) := dk_22 5 (dk_at dksX3_deadList_5 16 rfl rfl)
theorem dX3_deadList_134 : decode cX3_deadList 134 = .ok (.iload 8, 2) := dk_21 8 (dk_at dksX3_deadList_5 18 rfl rfl)
theorem dX3_deadList_136 : decode cX3_deadList 136 = .ok (.ifCond .eq 18, 3) := dk_153 0 18 (dk_at dksX3_deadList_5 20 rfl rfl)
theorem dX3_deadList_139 : decode cX3_deadList 139 = .ok (.aload_n 0, 1) := dk_42 (dk_at dksX3_deadList_5 23 rfl rfl)
theorem dX3_deadList_140 : decode cX3_deadList 140 = .ok (.getfield 7, 3) := dk_180 0 7 (dk_at dksX3_deadList_6 0 rfl rfl)
theorem dX3_deadList_143 : decode cX3_deadList 143 = .ok (.sipush 362, 3) := dk_17 1 106 (dk_at dksX3_deadList_6 3 rfl rfl)
theorem dX3_deadList_146 : decode cX3_deadList 146 = .ok (.iload 7, 2) := dk_21 7 (dk_at dksX3_deadList_6 6 rfl rfl)
theorem dX3_deadList_148 : decode cX3_deadList 148 = .ok (.iadd, 1) := dk_96 (dk_at dksX3_deadList_6 8 rfl rfl)
theorem dX3_deadList_149 : decode cX3_deadList 149 = .ok (.iaload, 1) := dk_46 (dk_at dksX3_deadList_6 9 rfl rfl)
theorem dX3_deadList_150 : decode cX3_deadList 150 = .ok (.i2l, 1) := dk_133 (dk_at dksX3_deadList_6 10 rfl rfl)
theorem dX3_deadList_151 : decode cX3_deadList 151 = .ok (.goto 4, 3) := dk_167 0 4 (dk_at dksX3_deadList_6 11 rfl rfl)
theorem dX3_deadList_154 : decode cX3_deadList 154 = .ok (.lconst 0, 1) := dk_9 (dk_at dksX3_deadList_6 14 rfl rfl)
theorem dX3_deadList_155 : decode cX3_deadList 155 = .ok (.ladd, 1) := dk_97 (dk_at dksX3_deadList_6 15 rfl rfl)
theorem dX3_deadList_156 : decode cX3_deadList 156 = .ok (.lstore 5, 2) := dk_55 5 (dk_at dksX3_deadList_6 16 rfl rfl)
theorem dX3_deadList_158 : decode cX3_deadList 158 = .ok (.iinc 7 1, 3) := dk_132 7 1 (dk_at dksX3_deadList_6 18 rfl rfl)
theorem dX3_deadList_161 : decode cX3_deadList 161 = .ok (.goto (-106), 3) := dk_167 255 150 (dk_at dksX3_deadList_6 21 rfl rfl)
theorem dX3_deadList_164 : decode cX3_deadList 164 = .ok (.lload 5, 2) := dk_22 5 (dk_at dksX3_deadList_7 0 rfl rfl)
theorem dX3_deadList_166 : decode cX3_deadList 166 = .ok (.lreturn, 1) := dk_173 (dk_at dksX3_deadList_7 2 rfl rfl)
abbrev cX3_chained : ByteArray := prog_11_method_47_code
def yX3_chained : MethodName := ⟨RX3, "chained", "(II)I"⟩
def dkwX3_chained_1 : List UInt8 := [42, 180, 0, 7, 16, 42, 29, 96, 46, 62, 132, 4, 1, 167, 255, 232, 29, 172]
abbrev dktX3_chained_1 : List UInt8 := dkwX3_chained_1 ++ []
def dkwX3_chained_0 : List UInt8 := [42, 180, 0, 7, 16, 42, 27, 96, 46, 62, 3, 54, 4, 21, 4, 28, 162, 0, 24, 29, 2, 159, 0, 19]
abbrev dktX3_chained_0 : List UInt8 := dkwX3_chained_0 ++ dktX3_chained_1
theorem dksX3_chained_0 : cX3_chained.data.toList.drop 0 = dktX3_chained_0 := by decide +kernel
theorem dksX3_chained_1 : cX3_chained.data.toList.drop 24 = dktX3_chained_1 := dk_seg dksX3_chained_0 24 rfl rfl
theorem dX3_chained_0 : decode cX3_chained 0 = .ok (.aload_n 0, 1) := dk_42 (dk_at dksX3_chained_0 0 rfl rfl)
theorem dX3_chained_1 : decode cX3_chained 1 = .ok (.getfield 7, 3) := dk_180 0 7 (dk_at dksX3_chained_0 1 rfl rfl)
theorem dX3_chained_4 : decode cX3_chained 4 = .ok (.bipush 42, 2) := dk_16 42 (dk_at dksX3_chained_0 4 rfl rfl)
theorem dX3_chained_6 : decode cX3_chained 6 = .ok (.iload_n 1, 1) := dk_27 (dk_at dksX3_chained_0 6 rfl rfl)
theorem dX3_chained_7 : decode cX3_chained 7 = .ok (.iadd, 1) := dk_96 (dk_at dksX3_chained_0 7 rfl rfl)
theorem dX3_chained_8 : decode cX3_chained 8 = .ok (.iaload, 1) := dk_46 (dk_at dksX3_chained_0 8 rfl rfl)
theorem dX3_chained_9 : decode cX3_chained 9 = .ok (.istore_n 3, 1) := dk_62 (dk_at dksX3_chained_0 9 rfl rfl)
theorem dX3_chained_10 : decode cX3_chained 10 = .ok (.iconst 0, 1) := dk_3 (dk_at dksX3_chained_0 10 rfl rfl)
theorem dX3_chained_11 : decode cX3_chained 11 = .ok (.istore 4, 2) := dk_54 4 (dk_at dksX3_chained_0 11 rfl rfl)
theorem dX3_chained_13 : decode cX3_chained 13 = .ok (.iload 4, 2) := dk_21 4 (dk_at dksX3_chained_0 13 rfl rfl)
theorem dX3_chained_15 : decode cX3_chained 15 = .ok (.iload_n 2, 1) := dk_28 (dk_at dksX3_chained_0 15 rfl rfl)
theorem dX3_chained_16 : decode cX3_chained 16 = .ok (.if_icmp .ge 24, 3) := dk_162 0 24 (dk_at dksX3_chained_0 16 rfl rfl)
theorem dX3_chained_19 : decode cX3_chained 19 = .ok (.iload_n 3, 1) := dk_29 (dk_at dksX3_chained_0 19 rfl rfl)
theorem dX3_chained_20 : decode cX3_chained 20 = .ok (.iconst (-1), 1) := dk_2 (dk_at dksX3_chained_0 20 rfl rfl)
theorem dX3_chained_21 : decode cX3_chained 21 = .ok (.if_icmp .eq 19, 3) := dk_159 0 19 (dk_at dksX3_chained_0 21 rfl rfl)
theorem dX3_chained_24 : decode cX3_chained 24 = .ok (.aload_n 0, 1) := dk_42 (dk_at dksX3_chained_1 0 rfl rfl)
theorem dX3_chained_25 : decode cX3_chained 25 = .ok (.getfield 7, 3) := dk_180 0 7 (dk_at dksX3_chained_1 1 rfl rfl)
theorem dX3_chained_28 : decode cX3_chained 28 = .ok (.bipush 42, 2) := dk_16 42 (dk_at dksX3_chained_1 4 rfl rfl)
theorem dX3_chained_30 : decode cX3_chained 30 = .ok (.iload_n 3, 1) := dk_29 (dk_at dksX3_chained_1 6 rfl rfl)
theorem dX3_chained_31 : decode cX3_chained 31 = .ok (.iadd, 1) := dk_96 (dk_at dksX3_chained_1 7 rfl rfl)
theorem dX3_chained_32 : decode cX3_chained 32 = .ok (.iaload, 1) := dk_46 (dk_at dksX3_chained_1 8 rfl rfl)
theorem dX3_chained_33 : decode cX3_chained 33 = .ok (.istore_n 3, 1) := dk_62 (dk_at dksX3_chained_1 9 rfl rfl)
theorem dX3_chained_34 : decode cX3_chained 34 = .ok (.iinc 4 1, 3) := dk_132 4 1 (dk_at dksX3_chained_1 10 rfl rfl)
theorem dX3_chained_37 : decode cX3_chained 37 = .ok (.goto (-24), 3) := dk_167 255 232 (dk_at dksX3_chained_1 13 rfl rfl)
theorem dX3_chained_40 : decode cX3_chained 40 = .ok (.iload_n 3, 1) := dk_29 (dk_at dksX3_chained_1 16 rfl rfl)
theorem dX3_chained_41 : decode cX3_chained 41 = .ok (.ireturn, 1) := dk_172 (dk_at dksX3_chained_1 17 rfl rfl)
abbrev cX3_space : ByteArray := prog_11_method_49_code
def yX3_space : MethodName := ⟨RX3, "space", "(I)J"⟩
def dkwX3_space_0 : List UInt8 := [42, 27, 182, 0, 64, 153, 0, 11, 42, 27, 182, 0, 82, 167, 0, 6, 20, 0, 134, 173]
abbrev dktX3_space_0 : List UInt8 := dkwX3_space_0 ++ []
theorem dksX3_space_0 : cX3_space.data.toList.drop 0 = dktX3_space_0 := by decide +kernel
theorem dX3_space_0 : decode cX3_space 0 = .ok (.aload_n 0, 1) := dk_42 (dk_at dksX3_space_0 0 rfl rfl)
theorem dX3_space_1 : decode cX3_space 1 = .ok (.iload_n 1, 1) := dk_27 (dk_at dksX3_space_0 1 rfl rfl)
theorem dX3_space_2 : decode cX3_space 2 = .ok (.invokevirtual 64, 3) := dk_182 0 64 (dk_at dksX3_space_0 2 rfl rfl)
theorem dX3_space_5 : decode cX3_space 5 = .ok (.ifCond .eq 11, 3) := dk_153 0 11 (dk_at dksX3_space_0 5 rfl rfl)
theorem dX3_space_8 : decode cX3_space 8 = .ok (.aload_n 0, 1) := dk_42 (dk_at dksX3_space_0 8 rfl rfl)
theorem dX3_space_9 : decode cX3_space 9 = .ok (.iload_n 1, 1) := dk_27 (dk_at dksX3_space_0 9 rfl rfl)
theorem dX3_space_10 : decode cX3_space 10 = .ok (.invokevirtual 82, 3) := dk_182 0 82 (dk_at dksX3_space_0 10 rfl rfl)
theorem dX3_space_13 : decode cX3_space 13 = .ok (.goto 6, 3) := dk_167 0 6 (dk_at dksX3_space_0 13 rfl rfl)
theorem dX3_space_16 : decode cX3_space 16 = .ok (.ldc2_w 134, 3) := dk_20 0 134 (dk_at dksX3_space_0 16 rfl rfl)
theorem dX3_space_19 : decode cX3_space 19 = .ok (.lreturn, 1) := dk_173 (dk_at dksX3_space_0 19 rfl rfl)
abbrev cX3_alone : ByteArray := prog_11_method_51_code
def yX3_alone : MethodName := ⟨RX3, "alone", "(I)J"⟩
def dkwX3_alone_0 : List UInt8 := [42, 27, 182, 0, 64, 153, 0, 13, 42, 4, 27, 120, 182, 0, 136, 167, 0, 6, 20, 0, 134, 173]
abbrev dktX3_alone_0 : List UInt8 := dkwX3_alone_0 ++ []
theorem dksX3_alone_0 : cX3_alone.data.toList.drop 0 = dktX3_alone_0 := by decide +kernel
theorem dX3_alone_0 : decode cX3_alone 0 = .ok (.aload_n 0, 1) := dk_42 (dk_at dksX3_alone_0 0 rfl rfl)
theorem dX3_alone_1 : decode cX3_alone 1 = .ok (.iload_n 1, 1) := dk_27 (dk_at dksX3_alone_0 1 rfl rfl)
theorem dX3_alone_2 : decode cX3_alone 2 = .ok (.invokevirtual 64, 3) := dk_182 0 64 (dk_at dksX3_alone_0 2 rfl rfl)
theorem dX3_alone_5 : decode cX3_alone 5 = .ok (.ifCond .eq 13, 3) := dk_153 0 13 (dk_at dksX3_alone_0 5 rfl rfl)
theorem dX3_alone_8 : decode cX3_alone 8 = .ok (.aload_n 0, 1) := dk_42 (dk_at dksX3_alone_0 8 rfl rfl)
theorem dX3_alone_9 : decode cX3_alone 9 = .ok (.iconst 1, 1) := dk_4 (dk_at dksX3_alone_0 9 rfl rfl)
theorem dX3_alone_10 : decode cX3_alone 10 = .ok (.iload_n 1, 1) := dk_27 (dk_at dksX3_alone_0 10 rfl rfl)
theorem dX3_alone_11 : decode cX3_alone 11 = .ok (.ishl, 1) := dk_120 (dk_at dksX3_alone_0 11 rfl rfl)
theorem dX3_alone_12 : decode cX3_alone 12 = .ok (.invokevirtual 136, 3) := dk_182 0 136 (dk_at dksX3_alone_0 12 rfl rfl)
theorem dX3_alone_15 : decode cX3_alone 15 = .ok (.goto 6, 3) := dk_167 0 6 (dk_at dksX3_alone_0 15 rfl rfl)
theorem dX3_alone_18 : decode cX3_alone 18 = .ok (.ldc2_w 134, 3) := dk_20 0 134 (dk_at dksX3_alone_0 18 rfl rfl)
theorem dX3_alone_21 : decode cX3_alone 21 = .ok (.lreturn, 1) := dk_173 (dk_at dksX3_alone_0 21 rfl rfl)
abbrev cX3_aloneIn : ByteArray := prog_11_method_50_code
def yX3_aloneIn : MethodName := ⟨RX3, "aloneIn", "(I)J"⟩
def dkwX3_aloneIn_4 : List UInt8 := [96, 46, 133, 167, 0, 4, 9, 97, 65, 132, 4, 1, 167, 255, 160, 32, 173]
abbrev dktX3_aloneIn_4 : List UInt8 := dkwX3_aloneIn_4 ++ []
def dkwX3_aloneIn_3 : List UInt8 := [158, 0, 30, 21, 5, 42, 180, 0, 19, 21, 4, 46, 160, 0, 18, 42, 180, 0, 7, 17, 1, 106, 21, 4]
abbrev dktX3_aloneIn_3 : List UInt8 := dkwX3_aloneIn_3 ++ dktX3_aloneIn_4
def dkwX3_aloneIn_2 : List UInt8 := [182, 0, 125, 153, 0, 7, 4, 167, 0, 4, 3, 96, 54, 5, 132, 6, 1, 167, 255, 215, 32, 21, 5]
abbrev dktX3_aloneIn_2 : List UInt8 := dkwX3_aloneIn_2 ++ dktX3_aloneIn_3
def dkwX3_aloneIn_1 : List UInt8 := [16, 20, 162, 0, 40, 21, 5, 27, 21, 6, 122, 4, 126, 4, 160, 0, 18, 42, 21, 6, 21, 4]
abbrev dktX3_aloneIn_1 : List UInt8 := dkwX3_aloneIn_1 ++ dktX3_aloneIn_2
def dkwX3_aloneIn_0 : List UInt8 := [42, 182, 0, 67, 9, 65, 3, 54, 4, 21, 4, 16, 96, 162, 0, 95, 3, 54, 5, 3, 54, 6, 21, 6]
abbrev dktX3_aloneIn_0 : List UInt8 := dkwX3_aloneIn_0 ++ dktX3_aloneIn_1
theorem dksX3_aloneIn_0 : cX3_aloneIn.data.toList.drop 0 = dktX3_aloneIn_0 := by decide +kernel
theorem dksX3_aloneIn_1 : cX3_aloneIn.data.toList.drop 24 = dktX3_aloneIn_1 := dk_seg dksX3_aloneIn_0 24 rfl rfl
theorem dksX3_aloneIn_2 : cX3_aloneIn.data.toList.drop 46 = dktX3_aloneIn_2 := dk_seg dksX3_aloneIn_1 22 rfl rfl
theorem dksX3_aloneIn_3 : cX3_aloneIn.data.toList.drop 69 = dktX3_aloneIn_3 := dk_seg dksX3_aloneIn_2 23 rfl rfl
theorem dksX3_aloneIn_4 : cX3_aloneIn.data.toList.drop 93 = dktX3_aloneIn_4 := dk_seg dksX3_aloneIn_3 24 rfl rfl
theorem dX3_aloneIn_0 : decode cX3_aloneIn 0 = .ok (.aload_n 0, 1) := dk_42 (dk_at dksX3_aloneIn_0 0 rfl rfl)
theorem dX3_aloneIn_1 : decode cX3_aloneIn 1 = .ok (.invokevirtual 67, 3) := dk_182 0 67 (dk_at dksX3_aloneIn_0 1 rfl rfl)
theorem dX3_aloneIn_4 : decode cX3_aloneIn 4 = .ok (.lconst 0, 1) := dk_9 (dk_at dksX3_aloneIn_0 4 rfl rfl)
theorem dX3_aloneIn_5 : decode cX3_aloneIn 5 = .ok (.lstore_n 2, 1) := dk_65 (dk_at dksX3_aloneIn_0 5 rfl rfl)
theorem dX3_aloneIn_6 : decode cX3_aloneIn 6 = .ok (.iconst 0, 1) := dk_3 (dk_at dksX3_aloneIn_0 6 rfl rfl)
theorem dX3_aloneIn_7 : decode cX3_aloneIn 7 = .ok (.istore 4, 2) := dk_54 4 (dk_at dksX3_aloneIn_0 7 rfl rfl)
theorem dX3_aloneIn_9 : decode cX3_aloneIn 9 = .ok (.iload 4, 2) := dk_21 4 (dk_at dksX3_aloneIn_0 9 rfl rfl)
theorem dX3_aloneIn_11 : decode cX3_aloneIn 11 = .ok (.bipush 96, 2) := dk_16 96 (dk_at dksX3_aloneIn_0 11 rfl rfl)
theorem dX3_aloneIn_13 : decode cX3_aloneIn 13 = .ok (.if_icmp .ge 95, 3) := dk_162 0 95 (dk_at dksX3_aloneIn_0 13 rfl rfl)
theorem dX3_aloneIn_16 : decode cX3_aloneIn 16 = .ok (.iconst 0, 1) := dk_3 (dk_at dksX3_aloneIn_0 16 rfl rfl)
theorem dX3_aloneIn_17 : decode cX3_aloneIn 17 = .ok (.istore 5, 2) := dk_54 5 (dk_at dksX3_aloneIn_0 17 rfl rfl)
theorem dX3_aloneIn_19 : decode cX3_aloneIn 19 = .ok (.iconst 0, 1) := dk_3 (dk_at dksX3_aloneIn_0 19 rfl rfl)
theorem dX3_aloneIn_20 : decode cX3_aloneIn 20 = .ok (.istore 6, 2) := dk_54 6 (dk_at dksX3_aloneIn_0 20 rfl rfl)
theorem dX3_aloneIn_22 : decode cX3_aloneIn 22 = .ok (.iload 6, 2) := dk_21 6 (dk_at dksX3_aloneIn_0 22 rfl rfl)
theorem dX3_aloneIn_24 : decode cX3_aloneIn 24 = .ok (.bipush 20, 2) := dk_16 20 (dk_at dksX3_aloneIn_1 0 rfl rfl)
theorem dX3_aloneIn_26 : decode cX3_aloneIn 26 = .ok (.if_icmp .ge 40, 3) := dk_162 0 40 (dk_at dksX3_aloneIn_1 2 rfl rfl)
theorem dX3_aloneIn_29 : decode cX3_aloneIn 29 = .ok (.iload 5, 2) := dk_21 5 (dk_at dksX3_aloneIn_1 5 rfl rfl)
theorem dX3_aloneIn_31 : decode cX3_aloneIn 31 = .ok (.iload_n 1, 1) := dk_27 (dk_at dksX3_aloneIn_1 7 rfl rfl)
theorem dX3_aloneIn_32 : decode cX3_aloneIn 32 = .ok (.iload 6, 2) := dk_21 6 (dk_at dksX3_aloneIn_1 8 rfl rfl)
theorem dX3_aloneIn_34 : decode cX3_aloneIn 34 = .ok (.ishr, 1) := dk_122 (dk_at dksX3_aloneIn_1 10 rfl rfl)
theorem dX3_aloneIn_35 : decode cX3_aloneIn 35 = .ok (.iconst 1, 1) := dk_4 (dk_at dksX3_aloneIn_1 11 rfl rfl)
theorem dX3_aloneIn_36 : decode cX3_aloneIn 36 = .ok (.iand, 1) := dk_126 (dk_at dksX3_aloneIn_1 12 rfl rfl)
theorem dX3_aloneIn_37 : decode cX3_aloneIn 37 = .ok (.iconst 1, 1) := dk_4 (dk_at dksX3_aloneIn_1 13 rfl rfl)
theorem dX3_aloneIn_38 : decode cX3_aloneIn 38 = .ok (.if_icmp .ne 18, 3) := dk_160 0 18 (dk_at dksX3_aloneIn_1 14 rfl rfl)
theorem dX3_aloneIn_41 : decode cX3_aloneIn 41 = .ok (.aload_n 0, 1) := dk_42 (dk_at dksX3_aloneIn_1 17 rfl rfl)
theorem dX3_aloneIn_42 : decode cX3_aloneIn 42 = .ok (.iload 6, 2) := dk_21 6 (dk_at dksX3_aloneIn_1 18 rfl rfl)
theorem dX3_aloneIn_44 : decode cX3_aloneIn 44 = .ok (.iload 4, 2) := dk_21 4 (dk_at dksX3_aloneIn_1 20 rfl rfl)
theorem dX3_aloneIn_46 : decode cX3_aloneIn 46 = .ok (.invokevirtual 125, 3) := dk_182 0 125 (dk_at dksX3_aloneIn_2 0 rfl rfl)
theorem dX3_aloneIn_49 : decode cX3_aloneIn 49 = .ok (.ifCond .eq 7, 3) := dk_153 0 7 (dk_at dksX3_aloneIn_2 3 rfl rfl)
theorem dX3_aloneIn_52 : decode cX3_aloneIn 52 = .ok (.iconst 1, 1) := dk_4 (dk_at dksX3_aloneIn_2 6 rfl rfl)
theorem dX3_aloneIn_53 : decode cX3_aloneIn 53 = .ok (.goto 4, 3) := dk_167 0 4 (dk_at dksX3_aloneIn_2 7 rfl rfl)
theorem dX3_aloneIn_56 : decode cX3_aloneIn 56 = .ok (.iconst 0, 1) := dk_3 (dk_at dksX3_aloneIn_2 10 rfl rfl)
theorem dX3_aloneIn_57 : decode cX3_aloneIn 57 = .ok (.iadd, 1) := dk_96 (dk_at dksX3_aloneIn_2 11 rfl rfl)
theorem dX3_aloneIn_58 : decode cX3_aloneIn 58 = .ok (.istore 5, 2) := dk_54 5 (dk_at dksX3_aloneIn_2 12 rfl rfl)
theorem dX3_aloneIn_60 : decode cX3_aloneIn 60 = .ok (.iinc 6 1, 3) := dk_132 6 1 (dk_at dksX3_aloneIn_2 14 rfl rfl)
theorem dX3_aloneIn_63 : decode cX3_aloneIn 63 = .ok (.goto (-41), 3) := dk_167 255 215 (dk_at dksX3_aloneIn_2 17 rfl rfl)
theorem dX3_aloneIn_66 : decode cX3_aloneIn 66 = .ok (.lload_n 2, 1) := dk_32 (dk_at dksX3_aloneIn_2 20 rfl rfl)
theorem dX3_aloneIn_67 : decode cX3_aloneIn 67 = .ok (.iload 5, 2) := dk_21 5 (dk_at dksX3_aloneIn_2 21 rfl rfl)
theorem dX3_aloneIn_69 : decode cX3_aloneIn 69 = .ok (.ifCond .le 30, 3) := dk_158 0 30 (dk_at dksX3_aloneIn_3 0 rfl rfl)
theorem dX3_aloneIn_72 : decode cX3_aloneIn 72 = .ok (.iload 5, 2) := dk_21 5 (dk_at dksX3_aloneIn_3 3 rfl rfl)
theorem dX3_aloneIn_74 : decode cX3_aloneIn 74 = .ok (.aload_n 0, 1) := dk_42 (dk_at dksX3_aloneIn_3 5 rfl rfl)
theorem dX3_aloneIn_75 : decode cX3_aloneIn 75 = .ok (.getfield 19, 3) := dk_180 0 19 (dk_at dksX3_aloneIn_3 6 rfl rfl)
theorem dX3_aloneIn_78 : decode cX3_aloneIn 78 = .ok (.iload 4, 2) := dk_21 4 (dk_at dksX3_aloneIn_3 9 rfl rfl)
theorem dX3_aloneIn_80 : decode cX3_aloneIn 80 = .ok (.iaload, 1) := dk_46 (dk_at dksX3_aloneIn_3 11 rfl rfl)
theorem dX3_aloneIn_81 : decode cX3_aloneIn 81 = .ok (.if_icmp .ne 18, 3) := dk_160 0 18 (dk_at dksX3_aloneIn_3 12 rfl rfl)
theorem dX3_aloneIn_84 : decode cX3_aloneIn 84 = .ok (.aload_n 0, 1) := dk_42 (dk_at dksX3_aloneIn_3 15 rfl rfl)
theorem dX3_aloneIn_85 : decode cX3_aloneIn 85 = .ok (.getfield 7, 3) := dk_180 0 7 (dk_at dksX3_aloneIn_3 16 rfl rfl)
theorem dX3_aloneIn_88 : decode cX3_aloneIn 88 = .ok (.sipush 362, 3) := dk_17 1 106 (dk_at dksX3_aloneIn_3 19 rfl rfl)
theorem dX3_aloneIn_91 : decode cX3_aloneIn 91 = .ok (.iload 4, 2) := dk_21 4 (dk_at dksX3_aloneIn_3 22 rfl rfl)
theorem dX3_aloneIn_93 : decode cX3_aloneIn 93 = .ok (.iadd, 1) := dk_96 (dk_at dksX3_aloneIn_4 0 rfl rfl)
theorem dX3_aloneIn_94 : decode cX3_aloneIn 94 = .ok (.iaload, 1) := dk_46 (dk_at dksX3_aloneIn_4 1 rfl rfl)
theorem dX3_aloneIn_95 : decode cX3_aloneIn 95 = .ok (.i2l, 1) := dk_133 (dk_at dksX3_aloneIn_4 2 rfl rfl)
theorem dX3_aloneIn_96 : decode cX3_aloneIn 96 = .ok (.goto 4, 3) := dk_167 0 4 (dk_at dksX3_aloneIn_4 3 rfl rfl)
theorem dX3_aloneIn_99 : decode cX3_aloneIn 99 = .ok (.lconst 0, 1) := dk_9 (dk_at dksX3_aloneIn_4 6 rfl rfl)
theorem dX3_aloneIn_100 : decode cX3_aloneIn 100 = .ok (.ladd, 1) := dk_97 (dk_at dksX3_aloneIn_4 7 rfl rfl)
theorem dX3_aloneIn_101 : decode cX3_aloneIn 101 = .ok (.lstore_n 2, 1) := dk_65 (dk_at dksX3_aloneIn_4 8 rfl rfl)
theorem dX3_aloneIn_102 : decode cX3_aloneIn 102 = .ok (.iinc 4 1, 3) := dk_132 4 1 (dk_at dksX3_aloneIn_4 9 rfl rfl)
theorem dX3_aloneIn_105 : decode cX3_aloneIn 105 = .ok (.goto (-96), 3) := dk_167 255 160 (dk_at dksX3_aloneIn_4 12 rfl rfl)
theorem dX3_aloneIn_108 : decode cX3_aloneIn 108 = .ok (.lload_n 2, 1) := dk_32 (dk_at dksX3_aloneIn_4 15 rfl rfl)
theorem dX3_aloneIn_109 : decode cX3_aloneIn 109 = .ok (.lreturn, 1) := dk_173 (dk_at dksX3_aloneIn_4 16 rfl rfl)
abbrev cX3_range : ByteArray := prog_11_method_52_code
def yX3_range : MethodName := ⟨RX3, "range", "(II)J"⟩
def dkwX3_range_3 : List UInt8 := [167, 0, 12, 42, 29, 4, 27, 120, 128, 182, 0, 136, 173]
abbrev dktX3_range_3 : List UInt8 := dkwX3_range_3 ++ []
def dkwX3_range_2 : List UInt8 := [180, 0, 7, 16, 42, 21, 4, 96, 46, 54, 4, 167, 255, 225, 21, 4, 2, 160, 0, 9, 20, 0, 134]
abbrev dktX3_range_2 : List UInt8 := dkwX3_range_2 ++ dktX3_range_3
def dkwX3_range_1 : List UInt8 := [54, 4, 21, 4, 2, 159, 0, 31, 21, 4, 27, 159, 0, 25, 29, 4, 21, 4, 120, 128, 62, 42]
abbrev dktX3_range_1 : List UInt8 := dkwX3_range_1 ++ dktX3_range_2
def dkwX3_range_0 : List UInt8 := [42, 27, 182, 0, 57, 153, 0, 11, 42, 28, 182, 0, 57, 154, 0, 7, 20, 0, 134, 173, 3, 62, 28]
abbrev dktX3_range_0 : List UInt8 := dkwX3_range_0 ++ dktX3_range_1
theorem dksX3_range_0 : cX3_range.data.toList.drop 0 = dktX3_range_0 := by decide +kernel
theorem dksX3_range_1 : cX3_range.data.toList.drop 23 = dktX3_range_1 := dk_seg dksX3_range_0 23 rfl rfl
theorem dksX3_range_2 : cX3_range.data.toList.drop 45 = dktX3_range_2 := dk_seg dksX3_range_1 22 rfl rfl
theorem dksX3_range_3 : cX3_range.data.toList.drop 68 = dktX3_range_3 := dk_seg dksX3_range_2 23 rfl rfl
theorem dX3_range_0 : decode cX3_range 0 = .ok (.aload_n 0, 1) := dk_42 (dk_at dksX3_range_0 0 rfl rfl)
theorem dX3_range_1 : decode cX3_range 1 = .ok (.iload_n 1, 1) := dk_27 (dk_at dksX3_range_0 1 rfl rfl)
theorem dX3_range_2 : decode cX3_range 2 = .ok (.invokevirtual 57, 3) := dk_182 0 57 (dk_at dksX3_range_0 2 rfl rfl)
theorem dX3_range_5 : decode cX3_range 5 = .ok (.ifCond .eq 11, 3) := dk_153 0 11 (dk_at dksX3_range_0 5 rfl rfl)
theorem dX3_range_8 : decode cX3_range 8 = .ok (.aload_n 0, 1) := dk_42 (dk_at dksX3_range_0 8 rfl rfl)
theorem dX3_range_9 : decode cX3_range 9 = .ok (.iload_n 2, 1) := dk_28 (dk_at dksX3_range_0 9 rfl rfl)
theorem dX3_range_10 : decode cX3_range 10 = .ok (.invokevirtual 57, 3) := dk_182 0 57 (dk_at dksX3_range_0 10 rfl rfl)
theorem dX3_range_13 : decode cX3_range 13 = .ok (.ifCond .ne 7, 3) := dk_154 0 7 (dk_at dksX3_range_0 13 rfl rfl)
theorem dX3_range_16 : decode cX3_range 16 = .ok (.ldc2_w 134, 3) := dk_20 0 134 (dk_at dksX3_range_0 16 rfl rfl)
theorem dX3_range_19 : decode cX3_range 19 = .ok (.lreturn, 1) := dk_173 (dk_at dksX3_range_0 19 rfl rfl)
theorem dX3_range_20 : decode cX3_range 20 = .ok (.iconst 0, 1) := dk_3 (dk_at dksX3_range_0 20 rfl rfl)
theorem dX3_range_21 : decode cX3_range 21 = .ok (.istore_n 3, 1) := dk_62 (dk_at dksX3_range_0 21 rfl rfl)
theorem dX3_range_22 : decode cX3_range 22 = .ok (.iload_n 2, 1) := dk_28 (dk_at dksX3_range_0 22 rfl rfl)
theorem dX3_range_23 : decode cX3_range 23 = .ok (.istore 4, 2) := dk_54 4 (dk_at dksX3_range_1 0 rfl rfl)
theorem dX3_range_25 : decode cX3_range 25 = .ok (.iload 4, 2) := dk_21 4 (dk_at dksX3_range_1 2 rfl rfl)
theorem dX3_range_27 : decode cX3_range 27 = .ok (.iconst (-1), 1) := dk_2 (dk_at dksX3_range_1 4 rfl rfl)
theorem dX3_range_28 : decode cX3_range 28 = .ok (.if_icmp .eq 31, 3) := dk_159 0 31 (dk_at dksX3_range_1 5 rfl rfl)
theorem dX3_range_31 : decode cX3_range 31 = .ok (.iload 4, 2) := dk_21 4 (dk_at dksX3_range_1 8 rfl rfl)
theorem dX3_range_33 : decode cX3_range 33 = .ok (.iload_n 1, 1) := dk_27 (dk_at dksX3_range_1 10 rfl rfl)
theorem dX3_range_34 : decode cX3_range 34 = .ok (.if_icmp .eq 25, 3) := dk_159 0 25 (dk_at dksX3_range_1 11 rfl rfl)
theorem dX3_range_37 : decode cX3_range 37 = .ok (.iload_n 3, 1) := dk_29 (dk_at dksX3_range_1 14 rfl rfl)
theorem dX3_range_38 : decode cX3_range 38 = .ok (.iconst 1, 1) := dk_4 (dk_at dksX3_range_1 15 rfl rfl)
theorem dX3_range_39 : decode cX3_range 39 = .ok (.iload 4, 2) := dk_21 4 (dk_at dksX3_range_1 16 rfl rfl)
theorem dX3_range_41 : decode cX3_range 41 = .ok (.ishl, 1) := dk_120 (dk_at dksX3_range_1 18 rfl rfl)
theorem dX3_range_42 : decode cX3_range 42 = .ok (.ior, 1) := dk_128 (dk_at dksX3_range_1 19 rfl rfl)
theorem dX3_range_43 : decode cX3_range 43 = .ok (.istore_n 3, 1) := dk_62 (dk_at dksX3_range_1 20 rfl rfl)
theorem dX3_range_44 : decode cX3_range 44 = .ok (.aload_n 0, 1) := dk_42 (dk_at dksX3_range_1 21 rfl rfl)
theorem dX3_range_45 : decode cX3_range 45 = .ok (.getfield 7, 3) := dk_180 0 7 (dk_at dksX3_range_2 0 rfl rfl)
theorem dX3_range_48 : decode cX3_range 48 = .ok (.bipush 42, 2) := dk_16 42 (dk_at dksX3_range_2 3 rfl rfl)
theorem dX3_range_50 : decode cX3_range 50 = .ok (.iload 4, 2) := dk_21 4 (dk_at dksX3_range_2 5 rfl rfl)
theorem dX3_range_52 : decode cX3_range 52 = .ok (.iadd, 1) := dk_96 (dk_at dksX3_range_2 7 rfl rfl)
theorem dX3_range_53 : decode cX3_range 53 = .ok (.iaload, 1) := dk_46 (dk_at dksX3_range_2 8 rfl rfl)
theorem dX3_range_54 : decode cX3_range 54 = .ok (.istore 4, 2) := dk_54 4 (dk_at dksX3_range_2 9 rfl rfl)
theorem dX3_range_56 : decode cX3_range 56 = .ok (.goto (-31), 3) := dk_167 255 225 (dk_at dksX3_range_2 11 rfl rfl)
theorem dX3_range_59 : decode cX3_range 59 = .ok (.iload 4, 2) := dk_21 4 (dk_at dksX3_range_2 14 rfl rfl)
theorem dX3_range_61 : decode cX3_range 61 = .ok (.iconst (-1), 1) := dk_2 (dk_at dksX3_range_2 16 rfl rfl)
theorem dX3_range_62 : decode cX3_range 62 = .ok (.if_icmp .ne 9, 3) := dk_160 0 9 (dk_at dksX3_range_2 17 rfl rfl)
theorem dX3_range_65 : decode cX3_range 65 = .ok (.ldc2_w 134, 3) := dk_20 0 134 (dk_at dksX3_range_2 20 rfl rfl)
theorem dX3_range_68 : decode cX3_range 68 = .ok (.goto 12, 3) := dk_167 0 12 (dk_at dksX3_range_3 0 rfl rfl)
theorem dX3_range_71 : decode cX3_range 71 = .ok (.aload_n 0, 1) := dk_42 (dk_at dksX3_range_3 3 rfl rfl)
theorem dX3_range_72 : decode cX3_range 72 = .ok (.iload_n 3, 1) := dk_29 (dk_at dksX3_range_3 4 rfl rfl)
theorem dX3_range_73 : decode cX3_range 73 = .ok (.iconst 1, 1) := dk_4 (dk_at dksX3_range_3 5 rfl rfl)
theorem dX3_range_74 : decode cX3_range 74 = .ok (.iload_n 1, 1) := dk_27 (dk_at dksX3_range_3 6 rfl rfl)
theorem dX3_range_75 : decode cX3_range 75 = .ok (.ishl, 1) := dk_120 (dk_at dksX3_range_3 7 rfl rfl)
theorem dX3_range_76 : decode cX3_range 76 = .ok (.ior, 1) := dk_128 (dk_at dksX3_range_3 8 rfl rfl)
theorem dX3_range_77 : decode cX3_range 77 = .ok (.invokevirtual 136, 3) := dk_182 0 136 (dk_at dksX3_range_3 9 rfl rfl)
theorem dX3_range_80 : decode cX3_range 80 = .ok (.lreturn, 1) := dk_173 (dk_at dksX3_range_3 12 rfl rfl)
abbrev cX3_since : ByteArray := prog_11_method_53_code
def yX3_since : MethodName := ⟨RX3, "since", "(II)J"⟩
def dkwX3_since_4 : List UInt8 := [97, 66, 132, 5, 1, 167, 255, 181, 33, 173]
abbrev dktX3_since_4 : List UInt8 := dkwX3_since_4 ++ []
def dkwX3_since_3 : List UInt8 := [16, 22, 28, 96, 46, 164, 0, 18, 42, 180, 0, 7, 17, 1, 106, 21, 6, 96, 46, 133, 167, 0, 4, 9]
abbrev dktX3_since_3 : List UInt8 := dkwX3_since_3 ++ dktX3_since_4
def dkwX3_since_2 : List UInt8 := [54, 6, 33, 21, 6, 2, 159, 0, 41, 42, 180, 0, 7, 17, 1, 202, 21, 6, 96, 46, 42, 180, 0, 7]
abbrev dktX3_since_2 : List UInt8 := dkwX3_since_2 ++ dktX3_since_3
def dkwX3_since_1 : List UInt8 := [54, 5, 21, 5, 16, 12, 162, 0, 74, 42, 180, 0, 7, 16, 122, 16, 12, 27, 104, 96, 21, 5, 96, 46]
abbrev dktX3_since_1 : List UInt8 := dkwX3_since_1 ++ dktX3_since_2
def dkwX3_since_0 : List UInt8 := [42, 27, 182, 0, 64, 153, 0, 11, 42, 28, 182, 0, 46, 154, 0, 7, 20, 0, 134, 173, 9, 66, 3]
abbrev dktX3_since_0 : List UInt8 := dkwX3_since_0 ++ dktX3_since_1
theorem dksX3_since_0 : cX3_since.data.toList.drop 0 = dktX3_since_0 := by decide +kernel
theorem dksX3_since_1 : cX3_since.data.toList.drop 23 = dktX3_since_1 := dk_seg dksX3_since_0 23 rfl rfl
theorem dksX3_since_2 : cX3_since.data.toList.drop 47 = dktX3_since_2 := dk_seg dksX3_since_1 24 rfl rfl
theorem dksX3_since_3 : cX3_since.data.toList.drop 71 = dktX3_since_3 := dk_seg dksX3_since_2 24 rfl rfl
theorem dksX3_since_4 : cX3_since.data.toList.drop 95 = dktX3_since_4 := dk_seg dksX3_since_3 24 rfl rfl
theorem dX3_since_0 : decode cX3_since 0 = .ok (.aload_n 0, 1) := dk_42 (dk_at dksX3_since_0 0 rfl rfl)
theorem dX3_since_1 : decode cX3_since 1 = .ok (.iload_n 1, 1) := dk_27 (dk_at dksX3_since_0 1 rfl rfl)
theorem dX3_since_2 : decode cX3_since 2 = .ok (.invokevirtual 64, 3) := dk_182 0 64 (dk_at dksX3_since_0 2 rfl rfl)
theorem dX3_since_5 : decode cX3_since 5 = .ok (.ifCond .eq 11, 3) := dk_153 0 11 (dk_at dksX3_since_0 5 rfl rfl)
theorem dX3_since_8 : decode cX3_since 8 = .ok (.aload_n 0, 1) := dk_42 (dk_at dksX3_since_0 8 rfl rfl)
theorem dX3_since_9 : decode cX3_since 9 = .ok (.iload_n 2, 1) := dk_28 (dk_at dksX3_since_0 9 rfl rfl)
theorem dX3_since_10 : decode cX3_since 10 = .ok (.invokevirtual 46, 3) := dk_182 0 46 (dk_at dksX3_since_0 10 rfl rfl)
theorem dX3_since_13 : decode cX3_since 13 = .ok (.ifCond .ne 7, 3) := dk_154 0 7 (dk_at dksX3_since_0 13 rfl rfl)
theorem dX3_since_16 : decode cX3_since 16 = .ok (.ldc2_w 134, 3) := dk_20 0 134 (dk_at dksX3_since_0 16 rfl rfl)
theorem dX3_since_19 : decode cX3_since 19 = .ok (.lreturn, 1) := dk_173 (dk_at dksX3_since_0 19 rfl rfl)
theorem dX3_since_20 : decode cX3_since 20 = .ok (.lconst 0, 1) := dk_9 (dk_at dksX3_since_0 20 rfl rfl)
theorem dX3_since_21 : decode cX3_since 21 = .ok (.lstore_n 3, 1) := dk_66 (dk_at dksX3_since_0 21 rfl rfl)
theorem dX3_since_22 : decode cX3_since 22 = .ok (.iconst 0, 1) := dk_3 (dk_at dksX3_since_0 22 rfl rfl)
theorem dX3_since_23 : decode cX3_since 23 = .ok (.istore 5, 2) := dk_54 5 (dk_at dksX3_since_1 0 rfl rfl)
theorem dX3_since_25 : decode cX3_since 25 = .ok (.iload 5, 2) := dk_21 5 (dk_at dksX3_since_1 2 rfl rfl)
theorem dX3_since_27 : decode cX3_since 27 = .ok (.bipush 12, 2) := dk_16 12 (dk_at dksX3_since_1 4 rfl rfl)
theorem dX3_since_29 : decode cX3_since 29 = .ok (.if_icmp .ge 74, 3) := dk_162 0 74 (dk_at dksX3_since_1 6 rfl rfl)
theorem dX3_since_32 : decode cX3_since 32 = .ok (.aload_n 0, 1) := dk_42 (dk_at dksX3_since_1 9 rfl rfl)
theorem dX3_since_33 : decode cX3_since 33 = .ok (.getfield 7, 3) := dk_180 0 7 (dk_at dksX3_since_1 10 rfl rfl)
theorem dX3_since_36 : decode cX3_since 36 = .ok (.bipush 122, 2) := dk_16 122 (dk_at dksX3_since_1 13 rfl rfl)
theorem dX3_since_38 : decode cX3_since 38 = .ok (.bipush 12, 2) := dk_16 12 (dk_at dksX3_since_1 15 rfl rfl)
theorem dX3_since_40 : decode cX3_since 40 = .ok (.iload_n 1, 1) := dk_27 (dk_at dksX3_since_1 17 rfl rfl)
theorem dX3_since_41 : decode cX3_since 41 = .ok (.imul, 1) := dk_104 (dk_at dksX3_since_1 18 rfl rfl)
theorem dX3_since_42 : decode cX3_since 42 = .ok (.iadd, 1) := dk_96 (dk_at dksX3_since_1 19 rfl rfl)
theorem dX3_since_43 : decode cX3_since 43 = .ok (.iload 5, 2) := dk_21 5 (dk_at dksX3_since_1 20 rfl rfl)
theorem dX3_since_45 : decode cX3_since 45 = .ok (.iadd, 1) := dk_96 (dk_at dksX3_since_1 22 rfl rfl)
theorem dX3_since_46 : decode cX3_since 46 = .ok (.iaload, 1) := dk_46 (dk_at dksX3_since_1 23 rfl rfl)
theorem dX3_since_47 : decode cX3_since 47 = .ok (.istore 6, 2) := dk_54 6 (dk_at dksX3_since_2 0 rfl rfl)
theorem dX3_since_49 : decode cX3_since 49 = .ok (.lload_n 3, 1) := dk_33 (dk_at dksX3_since_2 2 rfl rfl)
theorem dX3_since_50 : decode cX3_since 50 = .ok (.iload 6, 2) := dk_21 6 (dk_at dksX3_since_2 3 rfl rfl)
theorem dX3_since_52 : decode cX3_since 52 = .ok (.iconst (-1), 1) := dk_2 (dk_at dksX3_since_2 5 rfl rfl)
theorem dX3_since_53 : decode cX3_since 53 = .ok (.if_icmp .eq 41, 3) := dk_159 0 41 (dk_at dksX3_since_2 6 rfl rfl)
theorem dX3_since_56 : decode cX3_since 56 = .ok (.aload_n 0, 1) := dk_42 (dk_at dksX3_since_2 9 rfl rfl)
theorem dX3_since_57 : decode cX3_since 57 = .ok (.getfield 7, 3) := dk_180 0 7 (dk_at dksX3_since_2 10 rfl rfl)
theorem dX3_since_60 : decode cX3_since 60 = .ok (.sipush 458, 3) := dk_17 1 202 (dk_at dksX3_since_2 13 rfl rfl)
theorem dX3_since_63 : decode cX3_since 63 = .ok (.iload 6, 2) := dk_21 6 (dk_at dksX3_since_2 16 rfl rfl)
theorem dX3_since_65 : decode cX3_since 65 = .ok (.iadd, 1) := dk_96 (dk_at dksX3_since_2 18 rfl rfl)
theorem dX3_since_66 : decode cX3_since 66 = .ok (.iaload, 1) := dk_46 (dk_at dksX3_since_2 19 rfl rfl)
theorem dX3_since_67 : decode cX3_since 67 = .ok (.aload_n 0, 1) := dk_42 (dk_at dksX3_since_2 20 rfl rfl)
theorem dX3_since_68 : decode cX3_since 68 = .ok (.getfield 7, 3) := dk_180 0 7 (dk_at dksX3_since_2 21 rfl rfl)
theorem dX3_since_71 : decode cX3_since 71 = .ok (.bipush 22, 2) := dk_16 22 (dk_at dksX3_since_3 0 rfl rfl)
theorem dX3_since_73 : decode cX3_since 73 = .ok (.iload_n 2, 1) := dk_28 (dk_at dksX3_since_3 2 rfl rfl)
theorem dX3_since_74 : decode cX3_since 74 = .ok (.iadd, 1) := dk_96 (dk_at dksX3_since_3 3 rfl rfl)
theorem dX3_since_75 : decode cX3_since 75 = .ok (.iaload, 1) := dk_46 (dk_at dksX3_since_3 4 rfl rfl)
theorem dX3_since_76 : decode cX3_since 76 = .ok (.if_icmp .le 18, 3) := dk_164 0 18 (dk_at dksX3_since_3 5 rfl rfl)
theorem dX3_since_79 : decode cX3_since 79 = .ok (.aload_n 0, 1) := dk_42 (dk_at dksX3_since_3 8 rfl rfl)
theorem dX3_since_80 : decode cX3_since 80 = .ok (.getfield 7, 3) := dk_180 0 7 (dk_at dksX3_since_3 9 rfl rfl)
theorem dX3_since_83 : decode cX3_since 83 = .ok (.sipush 362, 3) := dk_17 1 106 (dk_at dksX3_since_3 12 rfl rfl)
theorem dX3_since_86 : decode cX3_since 86 = .ok (.iload 6, 2) := dk_21 6 (dk_at dksX3_since_3 15 rfl rfl)
theorem dX3_since_88 : decode cX3_since 88 = .ok (.iadd, 1) := dk_96 (dk_at dksX3_since_3 17 rfl rfl)
theorem dX3_since_89 : decode cX3_since 89 = .ok (.iaload, 1) := dk_46 (dk_at dksX3_since_3 18 rfl rfl)
theorem dX3_since_90 : decode cX3_since 90 = .ok (.i2l, 1) := dk_133 (dk_at dksX3_since_3 19 rfl rfl)
theorem dX3_since_91 : decode cX3_since 91 = .ok (.goto 4, 3) := dk_167 0 4 (dk_at dksX3_since_3 20 rfl rfl)
theorem dX3_since_94 : decode cX3_since 94 = .ok (.lconst 0, 1) := dk_9 (dk_at dksX3_since_3 23 rfl rfl)
theorem dX3_since_95 : decode cX3_since 95 = .ok (.ladd, 1) := dk_97 (dk_at dksX3_since_4 0 rfl rfl)
theorem dX3_since_96 : decode cX3_since 96 = .ok (.lstore_n 3, 1) := dk_66 (dk_at dksX3_since_4 1 rfl rfl)
theorem dX3_since_97 : decode cX3_since 97 = .ok (.iinc 5 1, 3) := dk_132 5 1 (dk_at dksX3_since_4 2 rfl rfl)
theorem dX3_since_100 : decode cX3_since 100 = .ok (.goto (-75), 3) := dk_167 255 181 (dk_at dksX3_since_4 5 rfl rfl)
theorem dX3_since_103 : decode cX3_since 103 = .ok (.lload_n 3, 1) := dk_33 (dk_at dksX3_since_4 8 rfl rfl)
theorem dX3_since_104 : decode cX3_since 104 = .ok (.lreturn, 1) := dk_173 (dk_at dksX3_since_4 9 rfl rfl)
abbrev cX3_common : ByteArray := prog_11_method_54_code
def yX3_common : MethodName := ⟨RX3, "common", "(II)J"⟩
def dkwX3_common_3 : List UInt8 := [17, 1, 106, 21, 5, 96, 46, 133, 167, 0, 4, 9, 97, 66, 132, 5, 1, 167, 255, 193, 33, 173]
abbrev dktX3_common_3 : List UInt8 := dkwX3_common_3 ++ []
def dkwX3_common_2 : List UInt8 := [42, 27, 21, 5, 182, 0, 125, 153, 0, 28, 42, 28, 21, 5, 182, 0, 125, 153, 0, 18, 42, 180, 0, 7]
abbrev dktX3_common_2 : List UInt8 := dkwX3_common_2 ++ dktX3_common_3
def dkwX3_common_1 : List UInt8 := [54, 5, 21, 5, 16, 96, 162, 0, 62, 33, 42, 180, 0, 7, 17, 1, 106, 21, 5, 96, 46, 158, 0, 38]
abbrev dktX3_common_1 : List UInt8 := dkwX3_common_1 ++ dktX3_common_2
def dkwX3_common_0 : List UInt8 := [42, 27, 182, 0, 64, 153, 0, 11, 42, 28, 182, 0, 64, 154, 0, 7, 20, 0, 134, 173, 9, 66, 3]
abbrev dktX3_common_0 : List UInt8 := dkwX3_common_0 ++ dktX3_common_1
theorem dksX3_common_0 : cX3_common.data.toList.drop 0 = dktX3_common_0 := by decide +kernel
theorem dksX3_common_1 : cX3_common.data.toList.drop 23 = dktX3_common_1 := dk_seg dksX3_common_0 23 rfl rfl
theorem dksX3_common_2 : cX3_common.data.toList.drop 47 = dktX3_common_2 := dk_seg dksX3_common_1 24 rfl rfl
theorem dksX3_common_3 : cX3_common.data.toList.drop 71 = dktX3_common_3 := dk_seg dksX3_common_2 24 rfl rfl
theorem dX3_common_0 : decode cX3_common 0 = .ok (.aload_n 0, 1) := dk_42 (dk_at dksX3_common_0 0 rfl rfl)
theorem dX3_common_1 : decode cX3_common 1 = .ok (.iload_n 1, 1) := dk_27 (dk_at dksX3_common_0 1 rfl rfl)
theorem dX3_common_2 : decode cX3_common 2 = .ok (.invokevirtual 64, 3) := dk_182 0 64 (dk_at dksX3_common_0 2 rfl rfl)
theorem dX3_common_5 : decode cX3_common 5 = .ok (.ifCond .eq 11, 3) := dk_153 0 11 (dk_at dksX3_common_0 5 rfl rfl)
theorem dX3_common_8 : decode cX3_common 8 = .ok (.aload_n 0, 1) := dk_42 (dk_at dksX3_common_0 8 rfl rfl)
theorem dX3_common_9 : decode cX3_common 9 = .ok (.iload_n 2, 1) := dk_28 (dk_at dksX3_common_0 9 rfl rfl)
theorem dX3_common_10 : decode cX3_common 10 = .ok (.invokevirtual 64, 3) := dk_182 0 64 (dk_at dksX3_common_0 10 rfl rfl)
theorem dX3_common_13 : decode cX3_common 13 = .ok (.ifCond .ne 7, 3) := dk_154 0 7 (dk_at dksX3_common_0 13 rfl rfl)
theorem dX3_common_16 : decode cX3_common 16 = .ok (.ldc2_w 134, 3) := dk_20 0 134 (dk_at dksX3_common_0 16 rfl rfl)
theorem dX3_common_19 : decode cX3_common 19 = .ok (.lreturn, 1) := dk_173 (dk_at dksX3_common_0 19 rfl rfl)
theorem dX3_common_20 : decode cX3_common 20 = .ok (.lconst 0, 1) := dk_9 (dk_at dksX3_common_0 20 rfl rfl)
theorem dX3_common_21 : decode cX3_common 21 = .ok (.lstore_n 3, 1) := dk_66 (dk_at dksX3_common_0 21 rfl rfl)
theorem dX3_common_22 : decode cX3_common 22 = .ok (.iconst 0, 1) := dk_3 (dk_at dksX3_common_0 22 rfl rfl)
theorem dX3_common_23 : decode cX3_common 23 = .ok (.istore 5, 2) := dk_54 5 (dk_at dksX3_common_1 0 rfl rfl)
theorem dX3_common_25 : decode cX3_common 25 = .ok (.iload 5, 2) := dk_21 5 (dk_at dksX3_common_1 2 rfl rfl)
theorem dX3_common_27 : decode cX3_common 27 = .ok (.bipush 96, 2) := dk_16 96 (dk_at dksX3_common_1 4 rfl rfl)
theorem dX3_common_29 : decode cX3_common 29 = .ok (.if_icmp .ge 62, 3) := dk_162 0 62 (dk_at dksX3_common_1 6 rfl rfl)
theorem dX3_common_32 : decode cX3_common 32 = .ok (.lload_n 3, 1) := dk_33 (dk_at dksX3_common_1 9 rfl rfl)
theorem dX3_common_33 : decode cX3_common 33 = .ok (.aload_n 0, 1) := dk_42 (dk_at dksX3_common_1 10 rfl rfl)
theorem dX3_common_34 : decode cX3_common 34 = .ok (.getfield 7, 3) := dk_180 0 7 (dk_at dksX3_common_1 11 rfl rfl)
theorem dX3_common_37 : decode cX3_common 37 = .ok (.sipush 362, 3) := dk_17 1 106 (dk_at dksX3_common_1 14 rfl rfl)
theorem dX3_common_40 : decode cX3_common 40 = .ok (.iload 5, 2) := dk_21 5 (dk_at dksX3_common_1 17 rfl rfl)
theorem dX3_common_42 : decode cX3_common 42 = .ok (.iadd, 1) := dk_96 (dk_at dksX3_common_1 19 rfl rfl)
theorem dX3_common_43 : decode cX3_common 43 = .ok (.iaload, 1) := dk_46 (dk_at dksX3_common_1 20 rfl rfl)
theorem dX3_common_44 : decode cX3_common 44 = .ok (.ifCond .le 38, 3) := dk_158 0 38 (dk_at dksX3_common_1 21 rfl rfl)
theorem dX3_common_47 : decode cX3_common 47 = .ok (.aload_n 0, 1) := dk_42 (dk_at dksX3_common_2 0 rfl rfl)
theorem dX3_common_48 : decode cX3_common 48 = .ok (.iload_n 1, 1) := dk_27 (dk_at dksX3_common_2 1 rfl rfl)
theorem dX3_common_49 : decode cX3_common 49 = .ok (.iload 5, 2) := dk_21 5 (dk_at dksX3_common_2 2 rfl rfl)
theorem dX3_common_51 : decode cX3_common 51 = .ok (.invokevirtual 125, 3) := dk_182 0 125 (dk_at dksX3_common_2 4 rfl rfl)
theorem dX3_common_54 : decode cX3_common 54 = .ok (.ifCond .eq 28, 3) := dk_153 0 28 (dk_at dksX3_common_2 7 rfl rfl)
theorem dX3_common_57 : decode cX3_common 57 = .ok (.aload_n 0, 1) := dk_42 (dk_at dksX3_common_2 10 rfl rfl)
theorem dX3_common_58 : decode cX3_common 58 = .ok (.iload_n 2, 1) := dk_28 (dk_at dksX3_common_2 11 rfl rfl)
theorem dX3_common_59 : decode cX3_common 59 = .ok (.iload 5, 2) := dk_21 5 (dk_at dksX3_common_2 12 rfl rfl)
theorem dX3_common_61 : decode cX3_common 61 = .ok (.invokevirtual 125, 3) := dk_182 0 125 (dk_at dksX3_common_2 14 rfl rfl)
theorem dX3_common_64 : decode cX3_common 64 = .ok (.ifCond .eq 18, 3) := dk_153 0 18 (dk_at dksX3_common_2 17 rfl rfl)
theorem dX3_common_67 : decode cX3_common 67 = .ok (.aload_n 0, 1) := dk_42 (dk_at dksX3_common_2 20 rfl rfl)
theorem dX3_common_68 : decode cX3_common 68 = .ok (.getfield 7, 3) := dk_180 0 7 (dk_at dksX3_common_2 21 rfl rfl)
theorem dX3_common_71 : decode cX3_common 71 = .ok (.sipush 362, 3) := dk_17 1 106 (dk_at dksX3_common_3 0 rfl rfl)
theorem dX3_common_74 : decode cX3_common 74 = .ok (.iload 5, 2) := dk_21 5 (dk_at dksX3_common_3 3 rfl rfl)
theorem dX3_common_76 : decode cX3_common 76 = .ok (.iadd, 1) := dk_96 (dk_at dksX3_common_3 5 rfl rfl)
theorem dX3_common_77 : decode cX3_common 77 = .ok (.iaload, 1) := dk_46 (dk_at dksX3_common_3 6 rfl rfl)
theorem dX3_common_78 : decode cX3_common 78 = .ok (.i2l, 1) := dk_133 (dk_at dksX3_common_3 7 rfl rfl)
theorem dX3_common_79 : decode cX3_common 79 = .ok (.goto 4, 3) := dk_167 0 4 (dk_at dksX3_common_3 8 rfl rfl)
theorem dX3_common_82 : decode cX3_common 82 = .ok (.lconst 0, 1) := dk_9 (dk_at dksX3_common_3 11 rfl rfl)
theorem dX3_common_83 : decode cX3_common 83 = .ok (.ladd, 1) := dk_97 (dk_at dksX3_common_3 12 rfl rfl)
theorem dX3_common_84 : decode cX3_common 84 = .ok (.lstore_n 3, 1) := dk_66 (dk_at dksX3_common_3 13 rfl rfl)
theorem dX3_common_85 : decode cX3_common 85 = .ok (.iinc 5 1, 3) := dk_132 5 1 (dk_at dksX3_common_3 14 rfl rfl)
theorem dX3_common_88 : decode cX3_common 88 = .ok (.goto (-63), 3) := dk_167 255 193 (dk_at dksX3_common_3 17 rfl rfl)
theorem dX3_common_91 : decode cX3_common 91 = .ok (.lload_n 3, 1) := dk_33 (dk_at dksX3_common_3 20 rfl rfl)
theorem dX3_common_92 : decode cX3_common 92 = .ok (.lreturn, 1) := dk_173 (dk_at dksX3_common_3 21 rfl rfl)
abbrev cX3_most : ByteArray := prog_11_method_59_code
def yX3_most : MethodName := ⟨RX3, "most", "(II)J"⟩
def dkwX3_most_4 : List UInt8 := [167, 255, 201, 22, 4, 173]
abbrev dktX3_most_4 : List UInt8 := dkwX3_most_4 ++ []
def dkwX3_most_3 : List UInt8 := [55, 7, 22, 7, 22, 4, 148, 158, 0, 8, 22, 7, 167, 0, 5, 22, 4, 55, 4, 132, 6, 1]
abbrev dktX3_most_3 : List UInt8 := dkwX3_most_3 ++ dktX3_most_4
def dkwX3_most_2 : List UInt8 := [29, 2, 130, 126, 154, 0, 38, 42, 21, 6, 182, 0, 145, 28, 163, 0, 28, 42, 21, 6, 182, 0, 155]
abbrev dktX3_most_2 : List UInt8 := dkwX3_most_2 ++ dktX3_most_3
def dkwX3_most_1 : List UInt8 := [182, 0, 148, 42, 182, 0, 152, 62, 9, 55, 4, 3, 54, 6, 21, 6, 17, 1, 0, 162, 0, 53, 21, 6]
abbrev dktX3_most_1 : List UInt8 := dkwX3_most_1 ++ dktX3_most_2
def dkwX3_most_0 : List UInt8 := [28, 3, 16, 8, 184, 0, 42, 153, 0, 11, 42, 27, 182, 0, 54, 154, 0, 7, 20, 0, 134, 173, 42, 27]
abbrev dktX3_most_0 : List UInt8 := dkwX3_most_0 ++ dktX3_most_1
theorem dksX3_most_0 : cX3_most.data.toList.drop 0 = dktX3_most_0 := by decide +kernel
theorem dksX3_most_1 : cX3_most.data.toList.drop 24 = dktX3_most_1 := dk_seg dksX3_most_0 24 rfl rfl
theorem dksX3_most_2 : cX3_most.data.toList.drop 48 = dktX3_most_2 := dk_seg dksX3_most_1 24 rfl rfl
theorem dksX3_most_3 : cX3_most.data.toList.drop 71 = dktX3_most_3 := dk_seg dksX3_most_2 23 rfl rfl
theorem dksX3_most_4 : cX3_most.data.toList.drop 93 = dktX3_most_4 := dk_seg dksX3_most_3 22 rfl rfl
theorem dX3_most_0 : decode cX3_most 0 = .ok (.iload_n 2, 1) := dk_28 (dk_at dksX3_most_0 0 rfl rfl)
theorem dX3_most_1 : decode cX3_most 1 = .ok (.iconst 0, 1) := dk_3 (dk_at dksX3_most_0 1 rfl rfl)
theorem dX3_most_2 : decode cX3_most 2 = .ok (.bipush 8, 2) := dk_16 8 (dk_at dksX3_most_0 2 rfl rfl)
theorem dX3_most_4 : decode cX3_most 4 = .ok (.invokestatic 42, 3) := dk_184 0 42 (dk_at dksX3_most_0 4 rfl rfl)
theorem dX3_most_7 : decode cX3_most 7 = .ok (.ifCond .eq 11, 3) := dk_153 0 11 (dk_at dksX3_most_0 7 rfl rfl)
theorem dX3_most_10 : decode cX3_most 10 = .ok (.aload_n 0, 1) := dk_42 (dk_at dksX3_most_0 10 rfl rfl)
theorem dX3_most_11 : decode cX3_most 11 = .ok (.iload_n 1, 1) := dk_27 (dk_at dksX3_most_0 11 rfl rfl)
theorem dX3_most_12 : decode cX3_most 12 = .ok (.invokevirtual 54, 3) := dk_182 0 54 (dk_at dksX3_most_0 12 rfl rfl)
theorem dX3_most_15 : decode cX3_most 15 = .ok (.ifCond .ne 7, 3) := dk_154 0 7 (dk_at dksX3_most_0 15 rfl rfl)
theorem dX3_most_18 : decode cX3_most 18 = .ok (.ldc2_w 134, 3) := dk_20 0 134 (dk_at dksX3_most_0 18 rfl rfl)
theorem dX3_most_21 : decode cX3_most 21 = .ok (.lreturn, 1) := dk_173 (dk_at dksX3_most_0 21 rfl rfl)
theorem dX3_most_22 : decode cX3_most 22 = .ok (.aload_n 0, 1) := dk_42 (dk_at dksX3_most_0 22 rfl rfl)
theorem dX3_most_23 : decode cX3_most 23 = .ok (.iload_n 1, 1) := dk_27 (dk_at dksX3_most_0 23 rfl rfl)
theorem dX3_most_24 : decode cX3_most 24 = .ok (.invokevirtual 148, 3) := dk_182 0 148 (dk_at dksX3_most_1 0 rfl rfl)
theorem dX3_most_27 : decode cX3_most 27 = .ok (.aload_n 0, 1) := dk_42 (dk_at dksX3_most_1 3 rfl rfl)
theorem dX3_most_28 : decode cX3_most 28 = .ok (.invokevirtual 152, 3) := dk_182 0 152 (dk_at dksX3_most_1 4 rfl rfl)
theorem dX3_most_31 : decode cX3_most 31 = .ok (.istore_n 3, 1) := dk_62 (dk_at dksX3_most_1 7 rfl rfl)
theorem dX3_most_32 : decode cX3_most 32 = .ok (.lconst 0, 1) := dk_9 (dk_at dksX3_most_1 8 rfl rfl)
theorem dX3_most_33 : decode cX3_most 33 = .ok (.lstore 4, 2) := dk_55 4 (dk_at dksX3_most_1 9 rfl rfl)
theorem dX3_most_35 : decode cX3_most 35 = .ok (.iconst 0, 1) := dk_3 (dk_at dksX3_most_1 11 rfl rfl)
theorem dX3_most_36 : decode cX3_most 36 = .ok (.istore 6, 2) := dk_54 6 (dk_at dksX3_most_1 12 rfl rfl)
theorem dX3_most_38 : decode cX3_most 38 = .ok (.iload 6, 2) := dk_21 6 (dk_at dksX3_most_1 14 rfl rfl)
theorem dX3_most_40 : decode cX3_most 40 = .ok (.sipush 256, 3) := dk_17 1 0 (dk_at dksX3_most_1 16 rfl rfl)
theorem dX3_most_43 : decode cX3_most 43 = .ok (.if_icmp .ge 53, 3) := dk_162 0 53 (dk_at dksX3_most_1 19 rfl rfl)
theorem dX3_most_46 : decode cX3_most 46 = .ok (.iload 6, 2) := dk_21 6 (dk_at dksX3_most_1 22 rfl rfl)
theorem dX3_most_48 : decode cX3_most 48 = .ok (.iload_n 3, 1) := dk_29 (dk_at dksX3_most_2 0 rfl rfl)
theorem dX3_most_49 : decode cX3_most 49 = .ok (.iconst (-1), 1) := dk_2 (dk_at dksX3_most_2 1 rfl rfl)
theorem dX3_most_50 : decode cX3_most 50 = .ok (.ixor, 1) := dk_130 (dk_at dksX3_most_2 2 rfl rfl)
theorem dX3_most_51 : decode cX3_most 51 = .ok (.iand, 1) := dk_126 (dk_at dksX3_most_2 3 rfl rfl)
theorem dX3_most_52 : decode cX3_most 52 = .ok (.ifCond .ne 38, 3) := dk_154 0 38 (dk_at dksX3_most_2 4 rfl rfl)
theorem dX3_most_55 : decode cX3_most 55 = .ok (.aload_n 0, 1) := dk_42 (dk_at dksX3_most_2 7 rfl rfl)
theorem dX3_most_56 : decode cX3_most 56 = .ok (.iload 6, 2) := dk_21 6 (dk_at dksX3_most_2 8 rfl rfl)
theorem dX3_most_58 : decode cX3_most 58 = .ok (.invokevirtual 145, 3) := dk_182 0 145 (dk_at dksX3_most_2 10 rfl rfl)
theorem dX3_most_61 : decode cX3_most 61 = .ok (.iload_n 2, 1) := dk_28 (dk_at dksX3_most_2 13 rfl rfl)
theorem dX3_most_62 : decode cX3_most 62 = .ok (.if_icmp .gt 28, 3) := dk_163 0 28 (dk_at dksX3_most_2 14 rfl rfl)
theorem dX3_most_65 : decode cX3_most 65 = .ok (.aload_n 0, 1) := dk_42 (dk_at dksX3_most_2 17 rfl rfl)
theorem dX3_most_66 : decode cX3_most 66 = .ok (.iload 6, 2) := dk_21 6 (dk_at dksX3_most_2 18 rfl rfl)
theorem dX3_most_68 : decode cX3_most 68 = .ok (.invokevirtual 155, 3) := dk_182 0 155 (dk_at dksX3_most_2 20 rfl rfl)
theorem dX3_most_71 : decode cX3_most 71 = .ok (.lstore 7, 2) := dk_55 7 (dk_at dksX3_most_3 0 rfl rfl)
theorem dX3_most_73 : decode cX3_most 73 = .ok (.lload 7, 2) := dk_22 7 (dk_at dksX3_most_3 2 rfl rfl)
theorem dX3_most_75 : decode cX3_most 75 = .ok (.lload 4, 2) := dk_22 4 (dk_at dksX3_most_3 4 rfl rfl)
theorem dX3_most_77 : decode cX3_most 77 = .ok (.lcmp, 1) := dk_148 (dk_at dksX3_most_3 6 rfl rfl)
theorem dX3_most_78 : decode cX3_most 78 = .ok (.ifCond .le 8, 3) := dk_158 0 8 (dk_at dksX3_most_3 7 rfl rfl)
theorem dX3_most_81 : decode cX3_most 81 = .ok (.lload 7, 2) := dk_22 7 (dk_at dksX3_most_3 10 rfl rfl)
theorem dX3_most_83 : decode cX3_most 83 = .ok (.goto 5, 3) := dk_167 0 5 (dk_at dksX3_most_3 12 rfl rfl)
theorem dX3_most_86 : decode cX3_most 86 = .ok (.lload 4, 2) := dk_22 4 (dk_at dksX3_most_3 15 rfl rfl)
theorem dX3_most_88 : decode cX3_most 88 = .ok (.lstore 4, 2) := dk_55 4 (dk_at dksX3_most_3 17 rfl rfl)
theorem dX3_most_90 : decode cX3_most 90 = .ok (.iinc 6 1, 3) := dk_132 6 1 (dk_at dksX3_most_3 19 rfl rfl)
theorem dX3_most_93 : decode cX3_most 93 = .ok (.goto (-55), 3) := dk_167 255 201 (dk_at dksX3_most_4 0 rfl rfl)
theorem dX3_most_96 : decode cX3_most 96 = .ok (.lload 4, 2) := dk_22 4 (dk_at dksX3_most_4 3 rfl rfl)
theorem dX3_most_98 : decode cX3_most 98 = .ok (.lreturn, 1) := dk_173 (dk_at dksX3_most_4 5 rfl rfl)
abbrev cX3_looksForOwned : ByteArray := prog_11_method_55_code
def yX3_looksForOwned : MethodName := ⟨RX3, "looksForOwned", "(I)V"⟩
def dkwX3_looksForOwned_4 : List UInt8 := [180, 0, 22, 29, 28, 79, 42, 89, 180, 0, 139, 4, 96, 181, 0, 139, 132, 2, 1, 167, 255, 152, 177]
abbrev dktX3_looksForOwned_4 : List UInt8 := dkwX3_looksForOwned_4 ++ []
def dkwX3_looksForOwned_3 : List UInt8 := [162, 0, 23, 42, 180, 0, 22, 29, 42, 180, 0, 22, 29, 4, 100, 46, 79, 132, 3, 255, 167, 255, 207, 42]
abbrev dktX3_looksForOwned_3 : List UInt8 := dkwX3_looksForOwned_3 ++ dktX3_looksForOwned_4
def dkwX3_looksForOwned_2 : List UInt8 := [180, 0, 7, 16, 22, 42, 180, 0, 22, 29, 4, 100, 46, 96, 46, 42, 180, 0, 7, 16, 22, 28, 96, 46]
abbrev dktX3_looksForOwned_2 : List UInt8 := dkwX3_looksForOwned_2 ++ dktX3_looksForOwned_3
def dkwX3_looksForOwned_1 : List UInt8 := [180, 0, 7, 16, 62, 28, 96, 46, 27, 160, 0, 77, 42, 180, 0, 139, 62, 29, 158, 0, 51, 42]
abbrev dktX3_looksForOwned_1 : List UInt8 := dkwX3_looksForOwned_1 ++ dktX3_looksForOwned_2
def dkwX3_looksForOwned_0 : List UInt8 := [42, 3, 181, 0, 139, 3, 61, 28, 16, 20, 162, 0, 104, 42, 28, 182, 0, 57, 153, 0, 90, 42]
abbrev dktX3_looksForOwned_0 : List UInt8 := dkwX3_looksForOwned_0 ++ dktX3_looksForOwned_1
theorem dksX3_looksForOwned_0 : cX3_looksForOwned.data.toList.drop 0 = dktX3_looksForOwned_0 := by decide +kernel
theorem dksX3_looksForOwned_1 : cX3_looksForOwned.data.toList.drop 22 = dktX3_looksForOwned_1 := dk_seg dksX3_looksForOwned_0 22 rfl rfl
theorem dksX3_looksForOwned_2 : cX3_looksForOwned.data.toList.drop 44 = dktX3_looksForOwned_2 := dk_seg dksX3_looksForOwned_1 22 rfl rfl
theorem dksX3_looksForOwned_3 : cX3_looksForOwned.data.toList.drop 68 = dktX3_looksForOwned_3 := dk_seg dksX3_looksForOwned_2 24 rfl rfl
theorem dksX3_looksForOwned_4 : cX3_looksForOwned.data.toList.drop 92 = dktX3_looksForOwned_4 := dk_seg dksX3_looksForOwned_3 24 rfl rfl
theorem dX3_looksForOwned_0 : decode cX3_looksForOwned 0 = .ok (.aload_n 0, 1) := dk_42 (dk_at dksX3_looksForOwned_0 0 rfl rfl)
theorem dX3_looksForOwned_1 : decode cX3_looksForOwned 1 = .ok (.iconst 0, 1) := dk_3 (dk_at dksX3_looksForOwned_0 1 rfl rfl)
theorem dX3_looksForOwned_2 : decode cX3_looksForOwned 2 = .ok (.putfield 139, 3) := dk_181 0 139 (dk_at dksX3_looksForOwned_0 2 rfl rfl)
theorem dX3_looksForOwned_5 : decode cX3_looksForOwned 5 = .ok (.iconst 0, 1) := dk_3 (dk_at dksX3_looksForOwned_0 5 rfl rfl)
theorem dX3_looksForOwned_6 : decode cX3_looksForOwned 6 = .ok (.istore_n 2, 1) := dk_61 (dk_at dksX3_looksForOwned_0 6 rfl rfl)
theorem dX3_looksForOwned_7 : decode cX3_looksForOwned 7 = .ok (.iload_n 2, 1) := dk_28 (dk_at dksX3_looksForOwned_0 7 rfl rfl)
theorem dX3_looksForOwned_8 : decode cX3_looksForOwned 8 = .ok (.bipush 20, 2) := dk_16 20 (dk_at dksX3_looksForOwned_0 8 rfl rfl)
theorem dX3_looksForOwned_10 : decode cX3_looksForOwned 10 = .ok (.if_icmp .ge 104, 3) := dk_162 0 104 (dk_at dksX3_looksForOwned_0 10 rfl rfl)
theorem dX3_looksForOwned_13 : decode cX3_looksForOwned 13 = .ok (.aload_n 0, 1) := dk_42 (dk_at dksX3_looksForOwned_0 13 rfl rfl)
theorem dX3_looksForOwned_14 : decode cX3_looksForOwned 14 = .ok (.iload_n 2, 1) := dk_28 (dk_at dksX3_looksForOwned_0 14 rfl rfl)
theorem dX3_looksForOwned_15 : decode cX3_looksForOwned 15 = .ok (.invokevirtual 57, 3) := dk_182 0 57 (dk_at dksX3_looksForOwned_0 15 rfl rfl)
theorem dX3_looksForOwned_18 : decode cX3_looksForOwned 18 = .ok (.ifCond .eq 90, 3) := dk_153 0 90 (dk_at dksX3_looksForOwned_0 18 rfl rfl)
theorem dX3_looksForOwned_21 : decode cX3_looksForOwned 21 = .ok (.aload_n 0, 1) := dk_42 (dk_at dksX3_looksForOwned_0 21 rfl rfl)
theorem dX3_looksForOwned_22 : decode cX3_looksForOwned 22 = .ok (.getfield 7, 3) := dk_180 0 7 (dk_at dksX3_looksForOwned_1 0 rfl rfl)
theorem dX3_looksForOwned_25 : decode cX3_looksForOwned 25 = .ok (.bipush 62, 2) := dk_16 62 (dk_at dksX3_looksForOwned_1 3 rfl rfl)
theorem dX3_looksForOwned_27 : decode cX3_looksForOwned 27 = .ok (.iload_n 2, 1) := dk_28 (dk_at dksX3_looksForOwned_1 5 rfl rfl)
theorem dX3_looksForOwned_28 : decode cX3_looksForOwned 28 = .ok (.iadd, 1) := dk_96 (dk_at dksX3_looksForOwned_1 6 rfl rfl)
theorem dX3_looksForOwned_29 : decode cX3_looksForOwned 29 = .ok (.iaload, 1) := dk_46 (dk_at dksX3_looksForOwned_1 7 rfl rfl)
theorem dX3_looksForOwned_30 : decode cX3_looksForOwned 30 = .ok (.iload_n 1, 1) := dk_27 (dk_at dksX3_looksForOwned_1 8 rfl rfl)
theorem dX3_looksForOwned_31 : decode cX3_looksForOwned 31 = .ok (.if_icmp .ne 77, 3) := dk_160 0 77 (dk_at dksX3_looksForOwned_1 9 rfl rfl)
theorem dX3_looksForOwned_34 : decode cX3_looksForOwned 34 = .ok (.aload_n 0, 1) := dk_42 (dk_at dksX3_looksForOwned_1 12 rfl rfl)
theorem dX3_looksForOwned_35 : decode cX3_looksForOwned 35 = .ok (.getfield 139, 3) := dk_180 0 139 (dk_at dksX3_looksForOwned_1 13 rfl rfl)
theorem dX3_looksForOwned_38 : decode cX3_looksForOwned 38 = .ok (.istore_n 3, 1) := dk_62 (dk_at dksX3_looksForOwned_1 16 rfl rfl)
theorem dX3_looksForOwned_39 : decode cX3_looksForOwned 39 = .ok (.iload_n 3, 1) := dk_29 (dk_at dksX3_looksForOwned_1 17 rfl rfl)
theorem dX3_looksForOwned_40 : decode cX3_looksForOwned 40 = .ok (.ifCond .le 51, 3) := dk_158 0 51 (dk_at dksX3_looksForOwned_1 18 rfl rfl)
theorem dX3_looksForOwned_43 : decode cX3_looksForOwned 43 = .ok (.aload_n 0, 1) := dk_42 (dk_at dksX3_looksForOwned_1 21 rfl rfl)
theorem dX3_looksForOwned_44 : decode cX3_looksForOwned 44 = .ok (.getfield 7, 3) := dk_180 0 7 (dk_at dksX3_looksForOwned_2 0 rfl rfl)
theorem dX3_looksForOwned_47 : decode cX3_looksForOwned 47 = .ok (.bipush 22, 2) := dk_16 22 (dk_at dksX3_looksForOwned_2 3 rfl rfl)
theorem dX3_looksForOwned_49 : decode cX3_looksForOwned 49 = .ok (.aload_n 0, 1) := dk_42 (dk_at dksX3_looksForOwned_2 5 rfl rfl)
theorem dX3_looksForOwned_50 : decode cX3_looksForOwned 50 = .ok (.getfield 22, 3) := dk_180 0 22 (dk_at dksX3_looksForOwned_2 6 rfl rfl)
theorem dX3_looksForOwned_53 : decode cX3_looksForOwned 53 = .ok (.iload_n 3, 1) := dk_29 (dk_at dksX3_looksForOwned_2 9 rfl rfl)
theorem dX3_looksForOwned_54 : decode cX3_looksForOwned 54 = .ok (.iconst 1, 1) := dk_4 (dk_at dksX3_looksForOwned_2 10 rfl rfl)
theorem dX3_looksForOwned_55 : decode cX3_looksForOwned 55 = .ok (.isub, 1) := dk_100 (dk_at dksX3_looksForOwned_2 11 rfl rfl)
theorem dX3_looksForOwned_56 : decode cX3_looksForOwned 56 = .ok (.iaload, 1) := dk_46 (dk_at dksX3_looksForOwned_2 12 rfl rfl)
theorem dX3_looksForOwned_57 : decode cX3_looksForOwned 57 = .ok (.iadd, 1) := dk_96 (dk_at dksX3_looksForOwned_2 13 rfl rfl)
theorem dX3_looksForOwned_58 : decode cX3_looksForOwned 58 = .ok (.iaload, 1) := dk_46 (dk_at dksX3_looksForOwned_2 14 rfl rfl)
theorem dX3_looksForOwned_59 : decode cX3_looksForOwned 59 = .ok (.aload_n 0, 1) := dk_42 (dk_at dksX3_looksForOwned_2 15 rfl rfl)
theorem dX3_looksForOwned_60 : decode cX3_looksForOwned 60 = .ok (.getfield 7, 3) := dk_180 0 7 (dk_at dksX3_looksForOwned_2 16 rfl rfl)
theorem dX3_looksForOwned_63 : decode cX3_looksForOwned 63 = .ok (.bipush 22, 2) := dk_16 22 (dk_at dksX3_looksForOwned_2 19 rfl rfl)
theorem dX3_looksForOwned_65 : decode cX3_looksForOwned 65 = .ok (.iload_n 2, 1) := dk_28 (dk_at dksX3_looksForOwned_2 21 rfl rfl)
theorem dX3_looksForOwned_66 : decode cX3_looksForOwned 66 = .ok (.iadd, 1) := dk_96 (dk_at dksX3_looksForOwned_2 22 rfl rfl)
theorem dX3_looksForOwned_67 : decode cX3_looksForOwned 67 = .ok (.iaload, 1) := dk_46 (dk_at dksX3_looksForOwned_2 23 rfl rfl)
theorem dX3_looksForOwned_68 : decode cX3_looksForOwned 68 = .ok (.if_icmp .ge 23, 3) := dk_162 0 23 (dk_at dksX3_looksForOwned_3 0 rfl rfl)
theorem dX3_looksForOwned_71 : decode cX3_looksForOwned 71 = .ok (.aload_n 0, 1) := dk_42 (dk_at dksX3_looksForOwned_3 3 rfl rfl)
theorem dX3_looksForOwned_72 : decode cX3_looksForOwned 72 = .ok (.getfield 22, 3) := dk_180 0 22 (dk_at dksX3_looksForOwned_3 4 rfl rfl)
theorem dX3_looksForOwned_75 : decode cX3_looksForOwned 75 = .ok (.iload_n 3, 1) := dk_29 (dk_at dksX3_looksForOwned_3 7 rfl rfl)
theorem dX3_looksForOwned_76 : decode cX3_looksForOwned 76 = .ok (.aload_n 0, 1) := dk_42 (dk_at dksX3_looksForOwned_3 8 rfl rfl)
theorem dX3_looksForOwned_77 : decode cX3_looksForOwned 77 = .ok (.getfield 22, 3) := dk_180 0 22 (dk_at dksX3_looksForOwned_3 9 rfl rfl)
theorem dX3_looksForOwned_80 : decode cX3_looksForOwned 80 = .ok (.iload_n 3, 1) := dk_29 (dk_at dksX3_looksForOwned_3 12 rfl rfl)
theorem dX3_looksForOwned_81 : decode cX3_looksForOwned 81 = .ok (.iconst 1, 1) := dk_4 (dk_at dksX3_looksForOwned_3 13 rfl rfl)
theorem dX3_looksForOwned_82 : decode cX3_looksForOwned 82 = .ok (.isub, 1) := dk_100 (dk_at dksX3_looksForOwned_3 14 rfl rfl)
theorem dX3_looksForOwned_83 : decode cX3_looksForOwned 83 = .ok (.iaload, 1) := dk_46 (dk_at dksX3_looksForOwned_3 15 rfl rfl)
theorem dX3_looksForOwned_84 : decode cX3_looksForOwned 84 = .ok (.iastore, 1) := dk_79 (dk_at dksX3_looksForOwned_3 16 rfl rfl)
theorem dX3_looksForOwned_85 : decode cX3_looksForOwned 85 = .ok (.iinc 3 (-1), 3) := dk_132 3 255 (dk_at dksX3_looksForOwned_3 17 rfl rfl)
theorem dX3_looksForOwned_88 : decode cX3_looksForOwned 88 = .ok (.goto (-49), 3) := dk_167 255 207 (dk_at dksX3_looksForOwned_3 20 rfl rfl)
theorem dX3_looksForOwned_91 : decode cX3_looksForOwned 91 = .ok (.aload_n 0, 1) := dk_42 (dk_at dksX3_looksForOwned_3 23 rfl rfl)
theorem dX3_looksForOwned_92 : decode cX3_looksForOwned 92 = .ok (.getfield 22, 3) := dk_180 0 22 (dk_at dksX3_looksForOwned_4 0 rfl rfl)
theorem dX3_looksForOwned_95 : decode cX3_looksForOwned 95 = .ok (.iload_n 3, 1) := dk_29 (dk_at dksX3_looksForOwned_4 3 rfl rfl)
theorem dX3_looksForOwned_96 : decode cX3_looksForOwned 96 = .ok (.iload_n 2, 1) := dk_28 (dk_at dksX3_looksForOwned_4 4 rfl rfl)
theorem dX3_looksForOwned_97 : decode cX3_looksForOwned 97 = .ok (.iastore, 1) := dk_79 (dk_at dksX3_looksForOwned_4 5 rfl rfl)
theorem dX3_looksForOwned_98 : decode cX3_looksForOwned 98 = .ok (.aload_n 0, 1) := dk_42 (dk_at dksX3_looksForOwned_4 6 rfl rfl)
theorem dX3_looksForOwned_99 : decode cX3_looksForOwned 99 = .ok (.dup, 1) := dk_89 (dk_at dksX3_looksForOwned_4 7 rfl rfl)
theorem dX3_looksForOwned_100 : decode cX3_looksForOwned 100 = .ok (.getfield 139, 3) := dk_180 0 139 (dk_at dksX3_looksForOwned_4 8 rfl rfl)
theorem dX3_looksForOwned_103 : decode cX3_looksForOwned 103 = .ok (.iconst 1, 1) := dk_4 (dk_at dksX3_looksForOwned_4 11 rfl rfl)
theorem dX3_looksForOwned_104 : decode cX3_looksForOwned 104 = .ok (.iadd, 1) := dk_96 (dk_at dksX3_looksForOwned_4 12 rfl rfl)
theorem dX3_looksForOwned_105 : decode cX3_looksForOwned 105 = .ok (.putfield 139, 3) := dk_181 0 139 (dk_at dksX3_looksForOwned_4 13 rfl rfl)
theorem dX3_looksForOwned_108 : decode cX3_looksForOwned 108 = .ok (.iinc 2 1, 3) := dk_132 2 1 (dk_at dksX3_looksForOwned_4 16 rfl rfl)
theorem dX3_looksForOwned_111 : decode cX3_looksForOwned 111 = .ok (.goto (-104), 3) := dk_167 255 152 (dk_at dksX3_looksForOwned_4 19 rfl rfl)
theorem dX3_looksForOwned_114 : decode cX3_looksForOwned 114 = .ok (.return_, 1) := dk_177 (dk_at dksX3_looksForOwned_4 22 rfl rfl)
abbrev cX3_looksForHolders : ByteArray := prog_11_method_57_code
def yX3_looksForHolders : MethodName := ⟨RX3, "looksForHolders", "()I"⟩
def dkwX3_looksForHolders_8 : List UInt8 := [29, 46, 167, 0, 4, 3, 79, 132, 3, 1, 167, 255, 212, 28, 172]
abbrev dktX3_looksForHolders_8 : List UInt8 := dkwX3_looksForHolders_8 ++ []
def dkwX3_looksForHolders_7 : List UInt8 := [29, 42, 42, 180, 0, 25, 29, 46, 182, 0, 145, 42, 180, 0, 19, 29, 46, 160, 0, 12, 42, 180, 0, 25]
abbrev dktX3_looksForHolders_7 : List UInt8 := dkwX3_looksForHolders_7 ++ dktX3_looksForHolders_8
def dkwX3_looksForHolders_6 : List UInt8 := [132, 5, 1, 167, 255, 199, 132, 3, 1, 167, 255, 158, 3, 62, 29, 16, 96, 162, 0, 44, 42, 180, 0, 25]
abbrev dktX3_looksForHolders_6 : List UInt8 := dkwX3_looksForHolders_6 ++ dktX3_looksForHolders_7
def dkwX3_looksForHolders_5 : List UInt8 := [180, 0, 7, 16, 122, 16, 12, 21, 4, 104, 96, 21, 5, 96, 46, 92, 46, 4, 29, 120, 128, 79]
abbrev dktX3_looksForHolders_5 : List UInt8 := dkwX3_looksForHolders_5 ++ dktX3_looksForHolders_6
def dkwX3_looksForHolders_4 : List UInt8 := [180, 0, 7, 16, 122, 16, 12, 21, 4, 104, 96, 21, 5, 96, 46, 2, 159, 0, 30, 42, 180, 0, 25, 42]
abbrev dktX3_looksForHolders_4 : List UInt8 := dkwX3_looksForHolders_4 ++ dktX3_looksForHolders_5
def dkwX3_looksForHolders_3 : List UInt8 := [153, 0, 9, 4, 29, 120, 167, 0, 4, 3, 128, 61, 3, 54, 5, 21, 5, 16, 12, 162, 0, 56, 42]
abbrev dktX3_looksForHolders_3 : List UInt8 := dkwX3_looksForHolders_3 ++ dktX3_looksForHolders_4
def dkwX3_looksForHolders_2 : List UInt8 := [3, 62, 29, 27, 162, 0, 99, 42, 180, 0, 22, 29, 46, 54, 4, 28, 42, 21, 4, 182, 0, 142]
abbrev dktX3_looksForHolders_2 : List UInt8 := dkwX3_looksForHolders_2 ++ dktX3_looksForHolders_3
def dkwX3_looksForHolders_1 : List UInt8 := [182, 0, 67, 3, 62, 29, 16, 96, 162, 0, 16, 42, 180, 0, 25, 29, 3, 79, 132, 3, 1, 167, 255, 240]
abbrev dktX3_looksForHolders_1 : List UInt8 := dkwX3_looksForHolders_1 ++ dktX3_looksForHolders_2
def dkwX3_looksForHolders_0 : List UInt8 := [42, 180, 0, 139, 16, 8, 162, 0, 10, 42, 180, 0, 139, 167, 0, 5, 16, 8, 60, 3, 61, 42]
abbrev dktX3_looksForHolders_0 : List UInt8 := dkwX3_looksForHolders_0 ++ dktX3_looksForHolders_1
theorem dksX3_looksForHolders_0 : cX3_looksForHolders.data.toList.drop 0 = dktX3_looksForHolders_0 := by decide +kernel
theorem dksX3_looksForHolders_1 : cX3_looksForHolders.data.toList.drop 22 = dktX3_looksForHolders_1 := dk_seg dksX3_looksForHolders_0 22 rfl rfl
theorem dksX3_looksForHolders_2 : cX3_looksForHolders.data.toList.drop 46 = dktX3_looksForHolders_2 := dk_seg dksX3_looksForHolders_1 24 rfl rfl
theorem dksX3_looksForHolders_3 : cX3_looksForHolders.data.toList.drop 68 = dktX3_looksForHolders_3 := dk_seg dksX3_looksForHolders_2 22 rfl rfl
theorem dksX3_looksForHolders_4 : cX3_looksForHolders.data.toList.drop 91 = dktX3_looksForHolders_4 := dk_seg dksX3_looksForHolders_3 23 rfl rfl
theorem dksX3_looksForHolders_5 : cX3_looksForHolders.data.toList.drop 115 = dktX3_looksForHolders_5 := dk_seg dksX3_looksForHolders_4 24 rfl rfl
theorem dksX3_looksForHolders_6 : cX3_looksForHolders.data.toList.drop 137 = dktX3_looksForHolders_6 := dk_seg dksX3_looksForHolders_5 22 rfl rfl
theorem dksX3_looksForHolders_7 : cX3_looksForHolders.data.toList.drop 161 = dktX3_looksForHolders_7 := dk_seg dksX3_looksForHolders_6 24 rfl rfl
theorem dksX3_looksForHolders_8 : cX3_looksForHolders.data.toList.drop 185 = dktX3_looksForHolders_8 := dk_seg dksX3_looksForHolders_7 24 rfl rfl
theorem dX3_looksForHolders_0 : decode cX3_looksForHolders 0 = .ok (.aload_n 0, 1) := dk_42 (dk_at dksX3_looksForHolders_0 0 rfl rfl)
theorem dX3_looksForHolders_1 : decode cX3_looksForHolders 1 = .ok (.getfield 139, 3) := dk_180 0 139 (dk_at dksX3_looksForHolders_0 1 rfl rfl)
theorem dX3_looksForHolders_4 : decode cX3_looksForHolders 4 = .ok (.bipush 8, 2) := dk_16 8 (dk_at dksX3_looksForHolders_0 4 rfl rfl)
theorem dX3_looksForHolders_6 : decode cX3_looksForHolders 6 = .ok (.if_icmp .ge 10, 3) := dk_162 0 10 (dk_at dksX3_looksForHolders_0 6 rfl rfl)
theorem dX3_looksForHolders_9 : decode cX3_looksForHolders 9 = .ok (.aload_n 0, 1) := dk_42 (dk_at dksX3_looksForHolders_0 9 rfl rfl)
theorem dX3_looksForHolders_10 : decode cX3_looksForHolders 10 = .ok (.getfield 139, 3) := dk_180 0 139 (dk_at dksX3_looksForHolders_0 10 rfl rfl)
theorem dX3_looksForHolders_13 : decode cX3_looksForHolders 13 = .ok (.goto 5, 3) := dk_167 0 5 (dk_at dksX3_looksForHolders_0 13 rfl rfl)
theorem dX3_looksForHolders_16 : decode cX3_looksForHolders 16 = .ok (.bipush 8, 2) := dk_16 8 (dk_at dksX3_looksForHolders_0 16 rfl rfl)
theorem dX3_looksForHolders_18 : decode cX3_looksForHolders 18 = .ok (.istore_n 1, 1) := dk_60 (dk_at dksX3_looksForHolders_0 18 rfl rfl)
theorem dX3_looksForHolders_19 : decode cX3_looksForHolders 19 = .ok (.iconst 0, 1) := dk_3 (dk_at dksX3_looksForHolders_0 19 rfl rfl)
theorem dX3_looksForHolders_20 : decode cX3_looksForHolders 20 = .ok (.istore_n 2, 1) := dk_61 (dk_at dksX3_looksForHolders_0 20 rfl rfl)
theorem dX3_looksForHolders_21 : decode cX3_looksForHolders 21 = .ok (.aload_n 0, 1) := dk_42 (dk_at dksX3_looksForHolders_0 21 rfl rfl)
theorem dX3_looksForHolders_22 : decode cX3_looksForHolders 22 = .ok (.invokevirtual 67, 3) := dk_182 0 67 (dk_at dksX3_looksForHolders_1 0 rfl rfl)
theorem dX3_looksForHolders_25 : decode cX3_looksForHolders 25 = .ok (.iconst 0, 1) := dk_3 (dk_at dksX3_looksForHolders_1 3 rfl rfl)
theorem dX3_looksForHolders_26 : decode cX3_looksForHolders 26 = .ok (.istore_n 3, 1) := dk_62 (dk_at dksX3_looksForHolders_1 4 rfl rfl)
theorem dX3_looksForHolders_27 : decode cX3_looksForHolders 27 = .ok (.iload_n 3, 1) := dk_29 (dk_at dksX3_looksForHolders_1 5 rfl rfl)
theorem dX3_looksForHolders_28 : decode cX3_looksForHolders 28 = .ok (.bipush 96, 2) := dk_16 96 (dk_at dksX3_looksForHolders_1 6 rfl rfl)
theorem dX3_looksForHolders_30 : decode cX3_looksForHolders 30 = .ok (.if_icmp .ge 16, 3) := dk_162 0 16 (dk_at dksX3_looksForHolders_1 8 rfl rfl)
theorem dX3_looksForHolders_33 : decode cX3_looksForHolders 33 = .ok (.aload_n 0, 1) := dk_42 (dk_at dksX3_looksForHolders_1 11 rfl rfl)
theorem dX3_looksForHolders_34 : decode cX3_looksForHolders 34 = .ok (.getfield 25, 3) := dk_180 0 25 (dk_at dksX3_looksForHolders_1 12 rfl rfl)
theorem dX3_looksForHolders_37 : decode cX3_looksForHolders 37 = .ok (.iload_n 3, 1) := dk_29 (dk_at dksX3_looksForHolders_1 15 rfl rfl)
theorem dX3_looksForHolders_38 : decode cX3_looksForHolders 38 = .ok (.iconst 0, 1) := dk_3 (dk_at dksX3_looksForHolders_1 16 rfl rfl)
theorem dX3_looksForHolders_39 : decode cX3_looksForHolders 39 = .ok (.iastore, 1) := dk_79 (dk_at dksX3_looksForHolders_1 17 rfl rfl)
theorem dX3_looksForHolders_40 : decode cX3_looksForHolders 40 = .ok (.iinc 3 1, 3) := dk_132 3 1 (dk_at dksX3_looksForHolders_1 18 rfl rfl)
theorem dX3_looksForHolders_43 : decode cX3_looksForHolders 43 = .ok (.goto (-16), 3) := dk_167 255 240 (dk_at dksX3_looksForHolders_1 21 rfl rfl)
theorem dX3_looksForHolders_46 : decode cX3_looksForHolders 46 = .ok (.iconst 0, 1) := dk_3 (dk_at dksX3_looksForHolders_2 0 rfl rfl)
theorem dX3_looksForHolders_47 : decode cX3_looksForHolders 47 = .ok (.istore_n 3, 1) := dk_62 (dk_at dksX3_looksForHolders_2 1 rfl rfl)
theorem dX3_looksForHolders_48 : decode cX3_looksForHolders 48 = .ok (.iload_n 3, 1) := dk_29 (dk_at dksX3_looksForHolders_2 2 rfl rfl)
theorem dX3_looksForHolders_49 : decode cX3_looksForHolders 49 = .ok (.iload_n 1, 1) := dk_27 (dk_at dksX3_looksForHolders_2 3 rfl rfl)
theorem dX3_looksForHolders_50 : decode cX3_looksForHolders 50 = .ok (.if_icmp .ge 99, 3) := dk_162 0 99 (dk_at dksX3_looksForHolders_2 4 rfl rfl)
theorem dX3_looksForHolders_53 : decode cX3_looksForHolders 53 = .ok (.aload_n 0, 1) := dk_42 (dk_at dksX3_looksForHolders_2 7 rfl rfl)
theorem dX3_looksForHolders_54 : decode cX3_looksForHolders 54 = .ok (.getfield 22, 3) := dk_180 0 22 (dk_at dksX3_looksForHolders_2 8 rfl rfl)
theorem dX3_looksForHolders_57 : decode cX3_looksForHolders 57 = .ok (.iload_n 3, 1) := dk_29 (dk_at dksX3_looksForHolders_2 11 rfl rfl)
theorem dX3_looksForHolders_58 : decode cX3_looksForHolders 58 = .ok (.iaload, 1) := dk_46 (dk_at dksX3_looksForHolders_2 12 rfl rfl)
theorem dX3_looksForHolders_59 : decode cX3_looksForHolders 59 = .ok (.istore 4, 2) := dk_54 4 (dk_at dksX3_looksForHolders_2 13 rfl rfl)
theorem dX3_looksForHolders_61 : decode cX3_looksForHolders 61 = .ok (.iload_n 2, 1) := dk_28 (dk_at dksX3_looksForHolders_2 15 rfl rfl)
theorem dX3_looksForHolders_62 : decode cX3_looksForHolders 62 = .ok (.aload_n 0, 1) := dk_42 (dk_at dksX3_looksForHolders_2 16 rfl rfl)
theorem dX3_looksForHolders_63 : decode cX3_looksForHolders 63 = .ok (.iload 4, 2) := dk_21 4 (dk_at dksX3_looksForHolders_2 17 rfl rfl)
theorem dX3_looksForHolders_65 : decode cX3_looksForHolders 65 = .ok (.invokevirtual 142, 3) := dk_182 0 142 (dk_at dksX3_looksForHolders_2 19 rfl rfl)
theorem dX3_looksForHolders_68 : decode cX3_looksForHolders 68 = .ok (.ifCond .eq 9, 3) := dk_153 0 9 (dk_at dksX3_looksForHolders_3 0 rfl rfl)
theorem dX3_looksForHolders_71 : decode cX3_looksForHolders 71 = .ok (.iconst 1, 1) := dk_4 (dk_at dksX3_looksForHolders_3 3 rfl rfl)
theorem dX3_looksForHolders_72 : decode cX3_looksForHolders 72 = .ok (.iload_n 3, 1) := dk_29 (dk_at dksX3_looksForHolders_3 4 rfl rfl)
theorem dX3_looksForHolders_73 : decode cX3_looksForHolders 73 = .ok (.ishl, 1) := dk_120 (dk_at dksX3_looksForHolders_3 5 rfl rfl)
theorem dX3_looksForHolders_74 : decode cX3_looksForHolders 74 = .ok (.goto 4, 3) := dk_167 0 4 (dk_at dksX3_looksForHolders_3 6 rfl rfl)
theorem dX3_looksForHolders_77 : decode cX3_looksForHolders 77 = .ok (.iconst 0, 1) := dk_3 (dk_at dksX3_looksForHolders_3 9 rfl rfl)
theorem dX3_looksForHolders_78 : decode cX3_looksForHolders 78 = .ok (.ior, 1) := dk_128 (dk_at dksX3_looksForHolders_3 10 rfl rfl)
theorem dX3_looksForHolders_79 : decode cX3_looksForHolders 79 = .ok (.istore_n 2, 1) := dk_61 (dk_at dksX3_looksForHolders_3 11 rfl rfl)
theorem dX3_looksForHolders_80 : decode cX3_looksForHolders 80 = .ok (.iconst 0, 1) := dk_3 (dk_at dksX3_looksForHolders_3 12 rfl rfl)
theorem dX3_looksForHolders_81 : decode cX3_looksForHolders 81 = .ok (.istore 5, 2) := dk_54 5 (dk_at dksX3_looksForHolders_3 13 rfl rfl)
theorem dX3_looksForHolders_83 : decode cX3_looksForHolders 83 = .ok (.iload 5, 2) := dk_21 5 (dk_at dksX3_looksForHolders_3 15 rfl rfl)
theorem dX3_looksForHolders_85 : decode cX3_looksForHolders 85 = .ok (.bipush 12, 2) := dk_16 12 (dk_at dksX3_looksForHolders_3 17 rfl rfl)
theorem dX3_looksForHolders_87 : decode cX3_looksForHolders 87 = .ok (.if_icmp .ge 56, 3) := dk_162 0 56 (dk_at dksX3_looksForHolders_3 19 rfl rfl)
theorem dX3_looksForHolders_90 : decode cX3_looksForHolders 90 = .ok (.aload_n 0, 1) := dk_42 (dk_at dksX3_looksForHolders_3 22 rfl rfl)
theorem dX3_looksForHolders_91 : decode cX3_looksForHolders 91 = .ok (.getfield 7, 3) := dk_180 0 7 (dk_at dksX3_looksForHolders_4 0 rfl rfl)
theorem dX3_looksForHolders_94 : decode cX3_looksForHolders 94 = .ok (.bipush 122, 2) := dk_16 122 (dk_at dksX3_looksForHolders_4 3 rfl rfl)
theorem dX3_looksForHolders_96 : decode cX3_looksForHolders 96 = .ok (.bipush 12, 2) := dk_16 12 (dk_at dksX3_looksForHolders_4 5 rfl rfl)
theorem dX3_looksForHolders_98 : decode cX3_looksForHolders 98 = .ok (.iload 4, 2) := dk_21 4 (dk_at dksX3_looksForHolders_4 7 rfl rfl)
theorem dX3_looksForHolders_100 : decode cX3_looksForHolders 100 = .ok (.imul, 1) := dk_104 (dk_at dksX3_looksForHolders_4 9 rfl rfl)
theorem dX3_looksForHolders_101 : decode cX3_looksForHolders 101 = .ok (.iadd, 1) := dk_96 (dk_at dksX3_looksForHolders_4 10 rfl rfl)
theorem dX3_looksForHolders_102 : decode cX3_looksForHolders 102 = .ok (.iload 5, 2) := dk_21 5 (dk_at dksX3_looksForHolders_4 11 rfl rfl)
theorem dX3_looksForHolders_104 : decode cX3_looksForHolders 104 = .ok (.iadd, 1) := dk_96 (dk_at dksX3_looksForHolders_4 13 rfl rfl)
theorem dX3_looksForHolders_105 : decode cX3_looksForHolders 105 = .ok (.iaload, 1) := dk_46 (dk_at dksX3_looksForHolders_4 14 rfl rfl)
theorem dX3_looksForHolders_106 : decode cX3_looksForHolders 106 = .ok (.iconst (-1), 1) := dk_2 (dk_at dksX3_looksForHolders_4 15 rfl rfl)
theorem dX3_looksForHolders_107 : decode cX3_looksForHolders 107 = .ok (.if_icmp .eq 30, 3) := dk_159 0 30 (dk_at dksX3_looksForHolders_4 16 rfl rfl)
theorem dX3_looksForHolders_110 : decode cX3_looksForHolders 110 = .ok (.aload_n 0, 1) := dk_42 (dk_at dksX3_looksForHolders_4 19 rfl rfl)
theorem dX3_looksForHolders_111 : decode cX3_looksForHolders 111 = .ok (.getfield 25, 3) := dk_180 0 25 (dk_at dksX3_looksForHolders_4 20 rfl rfl)
theorem dX3_looksForHolders_114 : decode cX3_looksForHolders 114 = .ok (.aload_n 0, 1) := dk_42 (dk_at dksX3_looksForHolders_4 23 rfl rfl)
theorem dX3_looksForHolders_115 : decode cX3_looksForHolders 115 = .ok (.getfield 7, 3) := dk_180 0 7 (dk_at dksX3_looksForHolders_5 0 rfl rfl)
theorem dX3_looksForHolders_118 : decode cX3_looksForHolders 118 = .ok (.bipush 122, 2) := dk_16 122 (dk_at dksX3_looksForHolders_5 3 rfl rfl)
theorem dX3_looksForHolders_120 : decode cX3_looksForHolders 120 = .ok (.bipush 12, 2) := dk_16 12 (dk_at dksX3_looksForHolders_5 5 rfl rfl)
theorem dX3_looksForHolders_122 : decode cX3_looksForHolders 122 = .ok (.iload 4, 2) := dk_21 4 (dk_at dksX3_looksForHolders_5 7 rfl rfl)
theorem dX3_looksForHolders_124 : decode cX3_looksForHolders 124 = .ok (.imul, 1) := dk_104 (dk_at dksX3_looksForHolders_5 9 rfl rfl)
theorem dX3_looksForHolders_125 : decode cX3_looksForHolders 125 = .ok (.iadd, 1) := dk_96 (dk_at dksX3_looksForHolders_5 10 rfl rfl)
theorem dX3_looksForHolders_126 : decode cX3_looksForHolders 126 = .ok (.iload 5, 2) := dk_21 5 (dk_at dksX3_looksForHolders_5 11 rfl rfl)
theorem dX3_looksForHolders_128 : decode cX3_looksForHolders 128 = .ok (.iadd, 1) := dk_96 (dk_at dksX3_looksForHolders_5 13 rfl rfl)
theorem dX3_looksForHolders_129 : decode cX3_looksForHolders 129 = .ok (.iaload, 1) := dk_46 (dk_at dksX3_looksForHolders_5 14 rfl rfl)
theorem dX3_looksForHolders_130 : decode cX3_looksForHolders 130 = .ok (.dup2, 1) := dk_92 (dk_at dksX3_looksForHolders_5 15 rfl rfl)
theorem dX3_looksForHolders_131 : decode cX3_looksForHolders 131 = .ok (.iaload, 1) := dk_46 (dk_at dksX3_looksForHolders_5 16 rfl rfl)
theorem dX3_looksForHolders_132 : decode cX3_looksForHolders 132 = .ok (.iconst 1, 1) := dk_4 (dk_at dksX3_looksForHolders_5 17 rfl rfl)
theorem dX3_looksForHolders_133 : decode cX3_looksForHolders 133 = .ok (.iload_n 3, 1) := dk_29 (dk_at dksX3_looksForHolders_5 18 rfl rfl)
theorem dX3_looksForHolders_134 : decode cX3_looksForHolders 134 = .ok (.ishl, 1) := dk_120 (dk_at dksX3_looksForHolders_5 19 rfl rfl)
theorem dX3_looksForHolders_135 : decode cX3_looksForHolders 135 = .ok (.ior, 1) := dk_128 (dk_at dksX3_looksForHolders_5 20 rfl rfl)
theorem dX3_looksForHolders_136 : decode cX3_looksForHolders 136 = .ok (.iastore, 1) := dk_79 (dk_at dksX3_looksForHolders_5 21 rfl rfl)
theorem dX3_looksForHolders_137 : decode cX3_looksForHolders 137 = .ok (.iinc 5 1, 3) := dk_132 5 1 (dk_at dksX3_looksForHolders_6 0 rfl rfl)
theorem dX3_looksForHolders_140 : decode cX3_looksForHolders 140 = .ok (.goto (-57), 3) := dk_167 255 199 (dk_at dksX3_looksForHolders_6 3 rfl rfl)
theorem dX3_looksForHolders_143 : decode cX3_looksForHolders 143 = .ok (.iinc 3 1, 3) := dk_132 3 1 (dk_at dksX3_looksForHolders_6 6 rfl rfl)
theorem dX3_looksForHolders_146 : decode cX3_looksForHolders 146 = .ok (.goto (-98), 3) := dk_167 255 158 (dk_at dksX3_looksForHolders_6 9 rfl rfl)
theorem dX3_looksForHolders_149 : decode cX3_looksForHolders 149 = .ok (.iconst 0, 1) := dk_3 (dk_at dksX3_looksForHolders_6 12 rfl rfl)
theorem dX3_looksForHolders_150 : decode cX3_looksForHolders 150 = .ok (.istore_n 3, 1) := dk_62 (dk_at dksX3_looksForHolders_6 13 rfl rfl)
theorem dX3_looksForHolders_151 : decode cX3_looksForHolders 151 = .ok (.iload_n 3, 1) := dk_29 (dk_at dksX3_looksForHolders_6 14 rfl rfl)
theorem dX3_looksForHolders_152 : decode cX3_looksForHolders 152 = .ok (.bipush 96, 2) := dk_16 96 (dk_at dksX3_looksForHolders_6 15 rfl rfl)
theorem dX3_looksForHolders_154 : decode cX3_looksForHolders 154 = .ok (.if_icmp .ge 44, 3) := dk_162 0 44 (dk_at dksX3_looksForHolders_6 17 rfl rfl)
theorem dX3_looksForHolders_157 : decode cX3_looksForHolders 157 = .ok (.aload_n 0, 1) := dk_42 (dk_at dksX3_looksForHolders_6 20 rfl rfl)
theorem dX3_looksForHolders_158 : decode cX3_looksForHolders 158 = .ok (.getfield 25, 3) := dk_180 0 25 (dk_at dksX3_looksForHolders_6 21 rfl rfl)
theorem dX3_looksForHolders_161 : decode cX3_looksForHolders 161 = .ok (.iload_n 3, 1) := dk_29 (dk_at dksX3_looksForHolders_7 0 rfl rfl)
theorem dX3_looksForHolders_162 : decode cX3_looksForHolders 162 = .ok (.aload_n 0, 1) := dk_42 (dk_at dksX3_looksForHolders_7 1 rfl rfl)
theorem dX3_looksForHolders_163 : decode cX3_looksForHolders 163 = .ok (.aload_n 0, 1) := dk_42 (dk_at dksX3_looksForHolders_7 2 rfl rfl)
theorem dX3_looksForHolders_164 : decode cX3_looksForHolders 164 = .ok (.getfield 25, 3) := dk_180 0 25 (dk_at dksX3_looksForHolders_7 3 rfl rfl)
theorem dX3_looksForHolders_167 : decode cX3_looksForHolders 167 = .ok (.iload_n 3, 1) := dk_29 (dk_at dksX3_looksForHolders_7 6 rfl rfl)
theorem dX3_looksForHolders_168 : decode cX3_looksForHolders 168 = .ok (.iaload, 1) := dk_46 (dk_at dksX3_looksForHolders_7 7 rfl rfl)
theorem dX3_looksForHolders_169 : decode cX3_looksForHolders 169 = .ok (.invokevirtual 145, 3) := dk_182 0 145 (dk_at dksX3_looksForHolders_7 8 rfl rfl)
theorem dX3_looksForHolders_172 : decode cX3_looksForHolders 172 = .ok (.aload_n 0, 1) := dk_42 (dk_at dksX3_looksForHolders_7 11 rfl rfl)
theorem dX3_looksForHolders_173 : decode cX3_looksForHolders 173 = .ok (.getfield 19, 3) := dk_180 0 19 (dk_at dksX3_looksForHolders_7 12 rfl rfl)
theorem dX3_looksForHolders_176 : decode cX3_looksForHolders 176 = .ok (.iload_n 3, 1) := dk_29 (dk_at dksX3_looksForHolders_7 15 rfl rfl)
theorem dX3_looksForHolders_177 : decode cX3_looksForHolders 177 = .ok (.iaload, 1) := dk_46 (dk_at dksX3_looksForHolders_7 16 rfl rfl)
theorem dX3_looksForHolders_178 : decode cX3_looksForHolders 178 = .ok (.if_icmp .ne 12, 3) := dk_160 0 12 (dk_at dksX3_looksForHolders_7 17 rfl rfl)
theorem dX3_looksForHolders_181 : decode cX3_looksForHolders 181 = .ok (.aload_n 0, 1) := dk_42 (dk_at dksX3_looksForHolders_7 20 rfl rfl)
theorem dX3_looksForHolders_182 : decode cX3_looksForHolders 182 = .ok (.getfield 25, 3) := dk_180 0 25 (dk_at dksX3_looksForHolders_7 21 rfl rfl)
theorem dX3_looksForHolders_185 : decode cX3_looksForHolders 185 = .ok (.iload_n 3, 1) := dk_29 (dk_at dksX3_looksForHolders_8 0 rfl rfl)
theorem dX3_looksForHolders_186 : decode cX3_looksForHolders 186 = .ok (.iaload, 1) := dk_46 (dk_at dksX3_looksForHolders_8 1 rfl rfl)
theorem dX3_looksForHolders_187 : decode cX3_looksForHolders 187 = .ok (.goto 4, 3) := dk_167 0 4 (dk_at dksX3_looksForHolders_8 2 rfl rfl)
theorem dX3_looksForHolders_190 : decode cX3_looksForHolders 190 = .ok (.iconst 0, 1) := dk_3 (dk_at dksX3_looksForHolders_8 5 rfl rfl)
theorem dX3_looksForHolders_191 : decode cX3_looksForHolders 191 = .ok (.iastore, 1) := dk_79 (dk_at dksX3_looksForHolders_8 6 rfl rfl)
theorem dX3_looksForHolders_192 : decode cX3_looksForHolders 192 = .ok (.iinc 3 1, 3) := dk_132 3 1 (dk_at dksX3_looksForHolders_8 7 rfl rfl)
theorem dX3_looksForHolders_195 : decode cX3_looksForHolders 195 = .ok (.goto (-44), 3) := dk_167 255 212 (dk_at dksX3_looksForHolders_8 10 rfl rfl)
theorem dX3_looksForHolders_198 : decode cX3_looksForHolders 198 = .ok (.iload_n 2, 1) := dk_28 (dk_at dksX3_looksForHolders_8 13 rfl rfl)
theorem dX3_looksForHolders_199 : decode cX3_looksForHolders 199 = .ok (.ireturn, 1) := dk_172 (dk_at dksX3_looksForHolders_8 14 rfl rfl)
abbrev cX3_isLoose : ByteArray := prog_11_method_32_code
def yX3_isLoose : MethodName := ⟨RX3, "isLoose", "(I)Z"⟩
def dkwX3_isLoose_1 : List UInt8 := [167, 0, 4, 3, 172]
abbrev dktX3_isLoose_1 : List UInt8 := dkwX3_isLoose_1 ++ []
def dkwX3_isLoose_0 : List UInt8 := [42, 180, 0, 7, 16, 102, 27, 96, 46, 154, 0, 16, 42, 27, 182, 0, 106, 4, 160, 0, 7, 4]
abbrev dktX3_isLoose_0 : List UInt8 := dkwX3_isLoose_0 ++ dktX3_isLoose_1
theorem dksX3_isLoose_0 : cX3_isLoose.data.toList.drop 0 = dktX3_isLoose_0 := by decide +kernel
theorem dksX3_isLoose_1 : cX3_isLoose.data.toList.drop 22 = dktX3_isLoose_1 := dk_seg dksX3_isLoose_0 22 rfl rfl
theorem dX3_isLoose_0 : decode cX3_isLoose 0 = .ok (.aload_n 0, 1) := dk_42 (dk_at dksX3_isLoose_0 0 rfl rfl)
theorem dX3_isLoose_1 : decode cX3_isLoose 1 = .ok (.getfield 7, 3) := dk_180 0 7 (dk_at dksX3_isLoose_0 1 rfl rfl)
theorem dX3_isLoose_4 : decode cX3_isLoose 4 = .ok (.bipush 102, 2) := dk_16 102 (dk_at dksX3_isLoose_0 4 rfl rfl)
theorem dX3_isLoose_6 : decode cX3_isLoose 6 = .ok (.iload_n 1, 1) := dk_27 (dk_at dksX3_isLoose_0 6 rfl rfl)
theorem dX3_isLoose_7 : decode cX3_isLoose 7 = .ok (.iadd, 1) := dk_96 (dk_at dksX3_isLoose_0 7 rfl rfl)
theorem dX3_isLoose_8 : decode cX3_isLoose 8 = .ok (.iaload, 1) := dk_46 (dk_at dksX3_isLoose_0 8 rfl rfl)
theorem dX3_isLoose_9 : decode cX3_isLoose 9 = .ok (.ifCond .ne 16, 3) := dk_154 0 16 (dk_at dksX3_isLoose_0 9 rfl rfl)
theorem dX3_isLoose_12 : decode cX3_isLoose 12 = .ok (.aload_n 0, 1) := dk_42 (dk_at dksX3_isLoose_0 12 rfl rfl)
theorem dX3_isLoose_13 : decode cX3_isLoose 13 = .ok (.iload_n 1, 1) := dk_27 (dk_at dksX3_isLoose_0 13 rfl rfl)
theorem dX3_isLoose_14 : decode cX3_isLoose 14 = .ok (.invokevirtual 106, 3) := dk_182 0 106 (dk_at dksX3_isLoose_0 14 rfl rfl)
theorem dX3_isLoose_17 : decode cX3_isLoose 17 = .ok (.iconst 1, 1) := dk_4 (dk_at dksX3_isLoose_0 17 rfl rfl)
theorem dX3_isLoose_18 : decode cX3_isLoose 18 = .ok (.if_icmp .ne 7, 3) := dk_160 0 7 (dk_at dksX3_isLoose_0 18 rfl rfl)
theorem dX3_isLoose_21 : decode cX3_isLoose 21 = .ok (.iconst 1, 1) := dk_4 (dk_at dksX3_isLoose_0 21 rfl rfl)
theorem dX3_isLoose_22 : decode cX3_isLoose 22 = .ok (.goto 4, 3) := dk_167 0 4 (dk_at dksX3_isLoose_1 0 rfl rfl)
theorem dX3_isLoose_25 : decode cX3_isLoose 25 = .ok (.iconst 0, 1) := dk_3 (dk_at dksX3_isLoose_1 3 rfl rfl)
theorem dX3_isLoose_26 : decode cX3_isLoose 26 = .ok (.ireturn, 1) := dk_172 (dk_at dksX3_isLoose_1 4 rfl rfl)
abbrev cX3_countOf : ByteArray := prog_11_method_56_code
def yX3_countOf : MethodName := ⟨RX3, "countOf", "(I)I"⟩
def dkwX3_countOf_1 : List UInt8 := [28, 172]
abbrev dktX3_countOf_1 : List UInt8 := dkwX3_countOf_1 ++ []
def dkwX3_countOf_0 : List UInt8 := [3, 61, 3, 62, 29, 16, 8, 162, 0, 17, 28, 27, 29, 122, 4, 126, 96, 61, 132, 3, 1, 167, 255, 239]
abbrev dktX3_countOf_0 : List UInt8 := dkwX3_countOf_0 ++ dktX3_countOf_1
theorem dksX3_countOf_0 : cX3_countOf.data.toList.drop 0 = dktX3_countOf_0 := by decide +kernel
theorem dksX3_countOf_1 : cX3_countOf.data.toList.drop 24 = dktX3_countOf_1 := dk_seg dksX3_countOf_0 24 rfl rfl
theorem dX3_countOf_0 : decode cX3_countOf 0 = .ok (.iconst 0, 1) := dk_3 (dk_at dksX3_countOf_0 0 rfl rfl)
theorem dX3_countOf_1 : decode cX3_countOf 1 = .ok (.istore_n 2, 1) := dk_61 (dk_at dksX3_countOf_0 1 rfl rfl)
theorem dX3_countOf_2 : decode cX3_countOf 2 = .ok (.iconst 0, 1) := dk_3 (dk_at dksX3_countOf_0 2 rfl rfl)
theorem dX3_countOf_3 : decode cX3_countOf 3 = .ok (.istore_n 3, 1) := dk_62 (dk_at dksX3_countOf_0 3 rfl rfl)
theorem dX3_countOf_4 : decode cX3_countOf 4 = .ok (.iload_n 3, 1) := dk_29 (dk_at dksX3_countOf_0 4 rfl rfl)
theorem dX3_countOf_5 : decode cX3_countOf 5 = .ok (.bipush 8, 2) := dk_16 8 (dk_at dksX3_countOf_0 5 rfl rfl)
theorem dX3_countOf_7 : decode cX3_countOf 7 = .ok (.if_icmp .ge 17, 3) := dk_162 0 17 (dk_at dksX3_countOf_0 7 rfl rfl)
theorem dX3_countOf_10 : decode cX3_countOf 10 = .ok (.iload_n 2, 1) := dk_28 (dk_at dksX3_countOf_0 10 rfl rfl)
theorem dX3_countOf_11 : decode cX3_countOf 11 = .ok (.iload_n 1, 1) := dk_27 (dk_at dksX3_countOf_0 11 rfl rfl)
theorem dX3_countOf_12 : decode cX3_countOf 12 = .ok (.iload_n 3, 1) := dk_29 (dk_at dksX3_countOf_0 12 rfl rfl)
theorem dX3_countOf_13 : decode cX3_countOf 13 = .ok (.ishr, 1) := dk_122 (dk_at dksX3_countOf_0 13 rfl rfl)
theorem dX3_countOf_14 : decode cX3_countOf 14 = .ok (.iconst 1, 1) := dk_4 (dk_at dksX3_countOf_0 14 rfl rfl)
theorem dX3_countOf_15 : decode cX3_countOf 15 = .ok (.iand, 1) := dk_126 (dk_at dksX3_countOf_0 15 rfl rfl)
theorem dX3_countOf_16 : decode cX3_countOf 16 = .ok (.iadd, 1) := dk_96 (dk_at dksX3_countOf_0 16 rfl rfl)
theorem dX3_countOf_17 : decode cX3_countOf 17 = .ok (.istore_n 2, 1) := dk_61 (dk_at dksX3_countOf_0 17 rfl rfl)
theorem dX3_countOf_18 : decode cX3_countOf 18 = .ok (.iinc 3 1, 3) := dk_132 3 1 (dk_at dksX3_countOf_0 18 rfl rfl)
theorem dX3_countOf_21 : decode cX3_countOf 21 = .ok (.goto (-17), 3) := dk_167 255 239 (dk_at dksX3_countOf_0 21 rfl rfl)
theorem dX3_countOf_24 : decode cX3_countOf 24 = .ok (.iload_n 2, 1) := dk_28 (dk_at dksX3_countOf_1 0 rfl rfl)
theorem dX3_countOf_25 : decode cX3_countOf 25 = .ok (.ireturn, 1) := dk_172 (dk_at dksX3_countOf_1 1 rfl rfl)
abbrev cX3_freedBy : ByteArray := prog_11_method_58_code
def yX3_freedBy : MethodName := ⟨RX3, "freedBy", "(I)J"⟩
def dkwX3_freedBy_2 : List UInt8 := [133, 167, 0, 4, 9, 97, 65, 132, 4, 1, 167, 255, 203, 32, 173]
abbrev dktX3_freedBy_2 : List UInt8 := dkwX3_freedBy_2 ++ []
def dkwX3_freedBy_1 : List UInt8 := [180, 0, 25, 21, 4, 46, 27, 2, 130, 126, 154, 0, 18, 42, 180, 0, 7, 17, 1, 106, 21, 4, 96, 46]
abbrev dktX3_freedBy_1 : List UInt8 := dkwX3_freedBy_1 ++ dktX3_freedBy_2
def dkwX3_freedBy_0 : List UInt8 := [9, 65, 3, 54, 4, 21, 4, 16, 96, 162, 0, 52, 32, 42, 180, 0, 25, 21, 4, 46, 153, 0, 32, 42]
abbrev dktX3_freedBy_0 : List UInt8 := dkwX3_freedBy_0 ++ dktX3_freedBy_1
theorem dksX3_freedBy_0 : cX3_freedBy.data.toList.drop 0 = dktX3_freedBy_0 := by decide +kernel
theorem dksX3_freedBy_1 : cX3_freedBy.data.toList.drop 24 = dktX3_freedBy_1 := dk_seg dksX3_freedBy_0 24 rfl rfl
theorem dksX3_freedBy_2 : cX3_freedBy.data.toList.drop 48 = dktX3_freedBy_2 := dk_seg dksX3_freedBy_1 24 rfl rfl
theorem dX3_freedBy_0 : decode cX3_freedBy 0 = .ok (.lconst 0, 1) := dk_9 (dk_at dksX3_freedBy_0 0 rfl rfl)
theorem dX3_freedBy_1 : decode cX3_freedBy 1 = .ok (.lstore_n 2, 1) := dk_65 (dk_at dksX3_freedBy_0 1 rfl rfl)
theorem dX3_freedBy_2 : decode cX3_freedBy 2 = .ok (.iconst 0, 1) := dk_3 (dk_at dksX3_freedBy_0 2 rfl rfl)
theorem dX3_freedBy_3 : decode cX3_freedBy 3 = .ok (.istore 4, 2) := dk_54 4 (dk_at dksX3_freedBy_0 3 rfl rfl)
theorem dX3_freedBy_5 : decode cX3_freedBy 5 = .ok (.iload 4, 2) := dk_21 4 (dk_at dksX3_freedBy_0 5 rfl rfl)
theorem dX3_freedBy_7 : decode cX3_freedBy 7 = .ok (.bipush 96, 2) := dk_16 96 (dk_at dksX3_freedBy_0 7 rfl rfl)
theorem dX3_freedBy_9 : decode cX3_freedBy 9 = .ok (.if_icmp .ge 52, 3) := dk_162 0 52 (dk_at dksX3_freedBy_0 9 rfl rfl)
theorem dX3_freedBy_12 : decode cX3_freedBy 12 = .ok (.lload_n 2, 1) := dk_32 (dk_at dksX3_freedBy_0 12 rfl rfl)
theorem dX3_freedBy_13 : decode cX3_freedBy 13 = .ok (.aload_n 0, 1) := dk_42 (dk_at dksX3_freedBy_0 13 rfl rfl)
theorem dX3_freedBy_14 : decode cX3_freedBy 14 = .ok (.getfield 25, 3) := dk_180 0 25 (dk_at dksX3_freedBy_0 14 rfl rfl)
theorem dX3_freedBy_17 : decode cX3_freedBy 17 = .ok (.iload 4, 2) := dk_21 4 (dk_at dksX3_freedBy_0 17 rfl rfl)
theorem dX3_freedBy_19 : decode cX3_freedBy 19 = .ok (.iaload, 1) := dk_46 (dk_at dksX3_freedBy_0 19 rfl rfl)
theorem dX3_freedBy_20 : decode cX3_freedBy 20 = .ok (.ifCond .eq 32, 3) := dk_153 0 32 (dk_at dksX3_freedBy_0 20 rfl rfl)
theorem dX3_freedBy_23 : decode cX3_freedBy 23 = .ok (.aload_n 0, 1) := dk_42 (dk_at dksX3_freedBy_0 23 rfl rfl)
theorem dX3_freedBy_24 : decode cX3_freedBy 24 = .ok (.getfield 25, 3) := dk_180 0 25 (dk_at dksX3_freedBy_1 0 rfl rfl)
theorem dX3_freedBy_27 : decode cX3_freedBy 27 = .ok (.iload 4, 2) := dk_21 4 (dk_at dksX3_freedBy_1 3 rfl rfl)
theorem dX3_freedBy_29 : decode cX3_freedBy 29 = .ok (.iaload, 1) := dk_46 (dk_at dksX3_freedBy_1 5 rfl rfl)
theorem dX3_freedBy_30 : decode cX3_freedBy 30 = .ok (.iload_n 1, 1) := dk_27 (dk_at dksX3_freedBy_1 6 rfl rfl)
theorem dX3_freedBy_31 : decode cX3_freedBy 31 = .ok (.iconst (-1), 1) := dk_2 (dk_at dksX3_freedBy_1 7 rfl rfl)
theorem dX3_freedBy_32 : decode cX3_freedBy 32 = .ok (.ixor, 1) := dk_130 (dk_at dksX3_freedBy_1 8 rfl rfl)
theorem dX3_freedBy_33 : decode cX3_freedBy 33 = .ok (.iand, 1) := dk_126 (dk_at dksX3_freedBy_1 9 rfl rfl)
theorem dX3_freedBy_34 : decode cX3_freedBy 34 = .ok (.ifCond .ne 18, 3) := dk_154 0 18 (dk_at dksX3_freedBy_1 10 rfl rfl)
theorem dX3_freedBy_37 : decode cX3_freedBy 37 = .ok (.aload_n 0, 1) := dk_42 (dk_at dksX3_freedBy_1 13 rfl rfl)
theorem dX3_freedBy_38 : decode cX3_freedBy 38 = .ok (.getfield 7, 3) := dk_180 0 7 (dk_at dksX3_freedBy_1 14 rfl rfl)
theorem dX3_freedBy_41 : decode cX3_freedBy 41 = .ok (.sipush 362, 3) := dk_17 1 106 (dk_at dksX3_freedBy_1 17 rfl rfl)
theorem dX3_freedBy_44 : decode cX3_freedBy 44 = .ok (.iload 4, 2) := dk_21 4 (dk_at dksX3_freedBy_1 20 rfl rfl)
theorem dX3_freedBy_46 : decode cX3_freedBy 46 = .ok (.iadd, 1) := dk_96 (dk_at dksX3_freedBy_1 22 rfl rfl)
theorem dX3_freedBy_47 : decode cX3_freedBy 47 = .ok (.iaload, 1) := dk_46 (dk_at dksX3_freedBy_1 23 rfl rfl)
theorem dX3_freedBy_48 : decode cX3_freedBy 48 = .ok (.i2l, 1) := dk_133 (dk_at dksX3_freedBy_2 0 rfl rfl)
theorem dX3_freedBy_49 : decode cX3_freedBy 49 = .ok (.goto 4, 3) := dk_167 0 4 (dk_at dksX3_freedBy_2 1 rfl rfl)
theorem dX3_freedBy_52 : decode cX3_freedBy 52 = .ok (.lconst 0, 1) := dk_9 (dk_at dksX3_freedBy_2 4 rfl rfl)
theorem dX3_freedBy_53 : decode cX3_freedBy 53 = .ok (.ladd, 1) := dk_97 (dk_at dksX3_freedBy_2 5 rfl rfl)
theorem dX3_freedBy_54 : decode cX3_freedBy 54 = .ok (.lstore_n 2, 1) := dk_65 (dk_at dksX3_freedBy_2 6 rfl rfl)
theorem dX3_freedBy_55 : decode cX3_freedBy 55 = .ok (.iinc 4 1, 3) := dk_132 4 1 (dk_at dksX3_freedBy_2 7 rfl rfl)
theorem dX3_freedBy_58 : decode cX3_freedBy 58 = .ok (.goto (-53), 3) := dk_167 255 203 (dk_at dksX3_freedBy_2 10 rfl rfl)
theorem dX3_freedBy_61 : decode cX3_freedBy 61 = .ok (.lload_n 2, 1) := dk_32 (dk_at dksX3_freedBy_2 13 rfl rfl)
theorem dX3_freedBy_62 : decode cX3_freedBy 62 = .ok (.lreturn, 1) := dk_173 (dk_at dksX3_freedBy_2 14 rfl rfl)
abbrev cX3_fewest : ByteArray := prog_11_method_60_code
def yX3_fewest : MethodName := ⟨RX3, "fewest", "(IJ)I"⟩
def dkwX3_fewest_5 : List UInt8 := [21, 6, 172]
abbrev dktX3_fewest_5 : List UInt8 := dkwX3_fewest_5 ++ []
def dkwX3_fewest_4 : List UInt8 := [32, 148, 155, 0, 12, 42, 21, 7, 182, 0, 145, 167, 0, 5, 21, 6, 54, 6, 132, 7, 1, 167, 255, 182]
abbrev dktX3_fewest_4 : List UInt8 := dkwX3_fewest_4 ++ dktX3_fewest_5
def dkwX3_fewest_3 : List UInt8 := [3, 54, 8, 21, 7, 21, 5, 2, 130, 126, 154, 0, 28, 21, 8, 153, 0, 23, 42, 21, 7, 182, 0, 155]
abbrev dktX3_fewest_3 : List UInt8 := dkwX3_fewest_3 ++ dktX3_fewest_4
def dkwX3_fewest_2 : List UInt8 := [162, 0, 72, 21, 6, 2, 159, 0, 14, 42, 21, 7, 182, 0, 145, 21, 6, 162, 0, 7, 4, 167, 0, 4]
abbrev dktX3_fewest_2 : List UInt8 := dkwX3_fewest_2 ++ dktX3_fewest_3
def dkwX3_fewest_1 : List UInt8 := [42, 27, 182, 0, 148, 42, 182, 0, 152, 54, 5, 2, 54, 6, 3, 54, 7, 21, 7, 17, 1, 0]
abbrev dktX3_fewest_1 : List UInt8 := dkwX3_fewest_1 ++ dktX3_fewest_2
def dkwX3_fewest_0 : List UInt8 := [42, 27, 3, 182, 0, 92, 54, 4, 21, 4, 153, 0, 6, 21, 4, 172, 32, 9, 148, 157, 0, 5, 3, 172]
abbrev dktX3_fewest_0 : List UInt8 := dkwX3_fewest_0 ++ dktX3_fewest_1
theorem dksX3_fewest_0 : cX3_fewest.data.toList.drop 0 = dktX3_fewest_0 := by decide +kernel
theorem dksX3_fewest_1 : cX3_fewest.data.toList.drop 24 = dktX3_fewest_1 := dk_seg dksX3_fewest_0 24 rfl rfl
theorem dksX3_fewest_2 : cX3_fewest.data.toList.drop 46 = dktX3_fewest_2 := dk_seg dksX3_fewest_1 22 rfl rfl
theorem dksX3_fewest_3 : cX3_fewest.data.toList.drop 70 = dktX3_fewest_3 := dk_seg dksX3_fewest_2 24 rfl rfl
theorem dksX3_fewest_4 : cX3_fewest.data.toList.drop 94 = dktX3_fewest_4 := dk_seg dksX3_fewest_3 24 rfl rfl
theorem dksX3_fewest_5 : cX3_fewest.data.toList.drop 118 = dktX3_fewest_5 := dk_seg dksX3_fewest_4 24 rfl rfl
theorem dX3_fewest_0 : decode cX3_fewest 0 = .ok (.aload_n 0, 1) := dk_42 (dk_at dksX3_fewest_0 0 rfl rfl)
theorem dX3_fewest_1 : decode cX3_fewest 1 = .ok (.iload_n 1, 1) := dk_27 (dk_at dksX3_fewest_0 1 rfl rfl)
theorem dX3_fewest_2 : decode cX3_fewest 2 = .ok (.iconst 0, 1) := dk_3 (dk_at dksX3_fewest_0 2 rfl rfl)
theorem dX3_fewest_3 : decode cX3_fewest 3 = .ok (.invokevirtual 92, 3) := dk_182 0 92 (dk_at dksX3_fewest_0 3 rfl rfl)
theorem dX3_fewest_6 : decode cX3_fewest 6 = .ok (.istore 4, 2) := dk_54 4 (dk_at dksX3_fewest_0 6 rfl rfl)
theorem dX3_fewest_8 : decode cX3_fewest 8 = .ok (.iload 4, 2) := dk_21 4 (dk_at dksX3_fewest_0 8 rfl rfl)
theorem dX3_fewest_10 : decode cX3_fewest 10 = .ok (.ifCond .eq 6, 3) := dk_153 0 6 (dk_at dksX3_fewest_0 10 rfl rfl)
theorem dX3_fewest_13 : decode cX3_fewest 13 = .ok (.iload 4, 2) := dk_21 4 (dk_at dksX3_fewest_0 13 rfl rfl)
theorem dX3_fewest_15 : decode cX3_fewest 15 = .ok (.ireturn, 1) := dk_172 (dk_at dksX3_fewest_0 15 rfl rfl)
theorem dX3_fewest_16 : decode cX3_fewest 16 = .ok (.lload_n 2, 1) := dk_32 (dk_at dksX3_fewest_0 16 rfl rfl)
theorem dX3_fewest_17 : decode cX3_fewest 17 = .ok (.lconst 0, 1) := dk_9 (dk_at dksX3_fewest_0 17 rfl rfl)
theorem dX3_fewest_18 : decode cX3_fewest 18 = .ok (.lcmp, 1) := dk_148 (dk_at dksX3_fewest_0 18 rfl rfl)
theorem dX3_fewest_19 : decode cX3_fewest 19 = .ok (.ifCond .gt 5, 3) := dk_157 0 5 (dk_at dksX3_fewest_0 19 rfl rfl)
theorem dX3_fewest_22 : decode cX3_fewest 22 = .ok (.iconst 0, 1) := dk_3 (dk_at dksX3_fewest_0 22 rfl rfl)
theorem dX3_fewest_23 : decode cX3_fewest 23 = .ok (.ireturn, 1) := dk_172 (dk_at dksX3_fewest_0 23 rfl rfl)
theorem dX3_fewest_24 : decode cX3_fewest 24 = .ok (.aload_n 0, 1) := dk_42 (dk_at dksX3_fewest_1 0 rfl rfl)
theorem dX3_fewest_25 : decode cX3_fewest 25 = .ok (.iload_n 1, 1) := dk_27 (dk_at dksX3_fewest_1 1 rfl rfl)
theorem dX3_fewest_26 : decode cX3_fewest 26 = .ok (.invokevirtual 148, 3) := dk_182 0 148 (dk_at dksX3_fewest_1 2 rfl rfl)
theorem dX3_fewest_29 : decode cX3_fewest 29 = .ok (.aload_n 0, 1) := dk_42 (dk_at dksX3_fewest_1 5 rfl rfl)
theorem dX3_fewest_30 : decode cX3_fewest 30 = .ok (.invokevirtual 152, 3) := dk_182 0 152 (dk_at dksX3_fewest_1 6 rfl rfl)
theorem dX3_fewest_33 : decode cX3_fewest 33 = .ok (.istore 5, 2) := dk_54 5 (dk_at dksX3_fewest_1 9 rfl rfl)
theorem dX3_fewest_35 : decode cX3_fewest 35 = .ok (.iconst (-1), 1) := dk_2 (dk_at dksX3_fewest_1 11 rfl rfl)
theorem dX3_fewest_36 : decode cX3_fewest 36 = .ok (.istore 6, 2) := dk_54 6 (dk_at dksX3_fewest_1 12 rfl rfl)
theorem dX3_fewest_38 : decode cX3_fewest 38 = .ok (.iconst 0, 1) := dk_3 (dk_at dksX3_fewest_1 14 rfl rfl)
theorem dX3_fewest_39 : decode cX3_fewest 39 = .ok (.istore 7, 2) := dk_54 7 (dk_at dksX3_fewest_1 15 rfl rfl)
theorem dX3_fewest_41 : decode cX3_fewest 41 = .ok (.iload 7, 2) := dk_21 7 (dk_at dksX3_fewest_1 17 rfl rfl)
theorem dX3_fewest_43 : decode cX3_fewest 43 = .ok (.sipush 256, 3) := dk_17 1 0 (dk_at dksX3_fewest_1 19 rfl rfl)
theorem dX3_fewest_46 : decode cX3_fewest 46 = .ok (.if_icmp .ge 72, 3) := dk_162 0 72 (dk_at dksX3_fewest_2 0 rfl rfl)
theorem dX3_fewest_49 : decode cX3_fewest 49 = .ok (.iload 6, 2) := dk_21 6 (dk_at dksX3_fewest_2 3 rfl rfl)
theorem dX3_fewest_51 : decode cX3_fewest 51 = .ok (.iconst (-1), 1) := dk_2 (dk_at dksX3_fewest_2 5 rfl rfl)
theorem dX3_fewest_52 : decode cX3_fewest 52 = .ok (.if_icmp .eq 14, 3) := dk_159 0 14 (dk_at dksX3_fewest_2 6 rfl rfl)
theorem dX3_fewest_55 : decode cX3_fewest 55 = .ok (.aload_n 0, 1) := dk_42 (dk_at dksX3_fewest_2 9 rfl rfl)
theorem dX3_fewest_56 : decode cX3_fewest 56 = .ok (.iload 7, 2) := dk_21 7 (dk_at dksX3_fewest_2 10 rfl rfl)
theorem dX3_fewest_58 : decode cX3_fewest 58 = .ok (.invokevirtual 145, 3) := dk_182 0 145 (dk_at dksX3_fewest_2 12 rfl rfl)
theorem dX3_fewest_61 : decode cX3_fewest 61 = .ok (.iload 6, 2) := dk_21 6 (dk_at dksX3_fewest_2 15 rfl rfl)
theorem dX3_fewest_63 : decode cX3_fewest 63 = .ok (.if_icmp .ge 7, 3) := dk_162 0 7 (dk_at dksX3_fewest_2 17 rfl rfl)
theorem dX3_fewest_66 : decode cX3_fewest 66 = .ok (.iconst 1, 1) := dk_4 (dk_at dksX3_fewest_2 20 rfl rfl)
theorem dX3_fewest_67 : decode cX3_fewest 67 = .ok (.goto 4, 3) := dk_167 0 4 (dk_at dksX3_fewest_2 21 rfl rfl)
theorem dX3_fewest_70 : decode cX3_fewest 70 = .ok (.iconst 0, 1) := dk_3 (dk_at dksX3_fewest_3 0 rfl rfl)
theorem dX3_fewest_71 : decode cX3_fewest 71 = .ok (.istore 8, 2) := dk_54 8 (dk_at dksX3_fewest_3 1 rfl rfl)
theorem dX3_fewest_73 : decode cX3_fewest 73 = .ok (.iload 7, 2) := dk_21 7 (dk_at dksX3_fewest_3 3 rfl rfl)
theorem dX3_fewest_75 : decode cX3_fewest 75 = .ok (.iload 5, 2) := dk_21 5 (dk_at dksX3_fewest_3 5 rfl rfl)
theorem dX3_fewest_77 : decode cX3_fewest 77 = .ok (.iconst (-1), 1) := dk_2 (dk_at dksX3_fewest_3 7 rfl rfl)
theorem dX3_fewest_78 : decode cX3_fewest 78 = .ok (.ixor, 1) := dk_130 (dk_at dksX3_fewest_3 8 rfl rfl)
theorem dX3_fewest_79 : decode cX3_fewest 79 = .ok (.iand, 1) := dk_126 (dk_at dksX3_fewest_3 9 rfl rfl)
theorem dX3_fewest_80 : decode cX3_fewest 80 = .ok (.ifCond .ne 28, 3) := dk_154 0 28 (dk_at dksX3_fewest_3 10 rfl rfl)
theorem dX3_fewest_83 : decode cX3_fewest 83 = .ok (.iload 8, 2) := dk_21 8 (dk_at dksX3_fewest_3 13 rfl rfl)
theorem dX3_fewest_85 : decode cX3_fewest 85 = .ok (.ifCond .eq 23, 3) := dk_153 0 23 (dk_at dksX3_fewest_3 15 rfl rfl)
theorem dX3_fewest_88 : decode cX3_fewest 88 = .ok (.aload_n 0, 1) := dk_42 (dk_at dksX3_fewest_3 18 rfl rfl)
theorem dX3_fewest_89 : decode cX3_fewest 89 = .ok (.iload 7, 2) := dk_21 7 (dk_at dksX3_fewest_3 19 rfl rfl)
theorem dX3_fewest_91 : decode cX3_fewest 91 = .ok (.invokevirtual 155, 3) := dk_182 0 155 (dk_at dksX3_fewest_3 21 rfl rfl)
theorem dX3_fewest_94 : decode cX3_fewest 94 = .ok (.lload_n 2, 1) := dk_32 (dk_at dksX3_fewest_4 0 rfl rfl)
theorem dX3_fewest_95 : decode cX3_fewest 95 = .ok (.lcmp, 1) := dk_148 (dk_at dksX3_fewest_4 1 rfl rfl)
theorem dX3_fewest_96 : decode cX3_fewest 96 = .ok (.ifCond .lt 12, 3) := dk_155 0 12 (dk_at dksX3_fewest_4 2 rfl rfl)
theorem dX3_fewest_99 : decode cX3_fewest 99 = .ok (.aload_n 0, 1) := dk_42 (dk_at dksX3_fewest_4 5 rfl rfl)
theorem dX3_fewest_100 : decode cX3_fewest 100 = .ok (.iload 7, 2) := dk_21 7 (dk_at dksX3_fewest_4 6 rfl rfl)
theorem dX3_fewest_102 : decode cX3_fewest 102 = .ok (.invokevirtual 145, 3) := dk_182 0 145 (dk_at dksX3_fewest_4 8 rfl rfl)
theorem dX3_fewest_105 : decode cX3_fewest 105 = .ok (.goto 5, 3) := dk_167 0 5 (dk_at dksX3_fewest_4 11 rfl rfl)
theorem dX3_fewest_108 : decode cX3_fewest 108 = .ok (.iload 6, 2) := dk_21 6 (dk_at dksX3_fewest_4 14 rfl rfl)
theorem dX3_fewest_110 : decode cX3_fewest 110 = .ok (.istore 6, 2) := dk_54 6 (dk_at dksX3_fewest_4 16 rfl rfl)
theorem dX3_fewest_112 : decode cX3_fewest 112 = .ok (.iinc 7 1, 3) := dk_132 7 1 (dk_at dksX3_fewest_4 18 rfl rfl)
theorem dX3_fewest_115 : decode cX3_fewest 115 = .ok (.goto (-74), 3) := dk_167 255 182 (dk_at dksX3_fewest_4 21 rfl rfl)
theorem dX3_fewest_118 : decode cX3_fewest 118 = .ok (.iload 6, 2) := dk_21 6 (dk_at dksX3_fewest_5 0 rfl rfl)
theorem dX3_fewest_120 : decode cX3_fewest 120 = .ok (.ireturn, 1) := dk_172 (dk_at dksX3_fewest_5 2 rfl rfl)
abbrev cX3_expire : ByteArray := prog_11_method_61_code
def yX3_expire : MethodName := ⟨RX3, "expire", "(III)I"⟩
def dkwX3_expire_4 : List UInt8 := [21, 7, 182, 0, 112, 87, 132, 5, 1, 132, 6, 255, 167, 255, 204, 21, 5, 172]
abbrev dktX3_expire_4 : List UInt8 := dkwX3_expire_4 ++ []
def dkwX3_expire_3 : List UInt8 := [180, 0, 7, 16, 22, 21, 7, 96, 46, 29, 112, 153, 0, 22, 42, 21, 7, 182, 0, 142, 153, 0, 13, 42]
abbrev dktX3_expire_3 : List UInt8 := dkwX3_expire_3 ++ dktX3_expire_4
def dkwX3_expire_2 : List UInt8 := [180, 0, 139, 4, 100, 54, 6, 21, 6, 28, 161, 0, 52, 42, 180, 0, 22, 21, 6, 46, 54, 7, 42]
abbrev dktX3_expire_2 : List UInt8 := dkwX3_expire_2 ++ dktX3_expire_3
def dkwX3_expire_1 : List UInt8 := [27, 3, 182, 0, 92, 54, 4, 21, 4, 153, 0, 6, 21, 4, 172, 42, 27, 182, 0, 148, 3, 54, 5, 42]
abbrev dktX3_expire_1 : List UInt8 := dkwX3_expire_1 ++ dktX3_expire_2
def dkwX3_expire_0 : List UInt8 := [28, 3, 16, 20, 184, 0, 42, 153, 0, 13, 29, 4, 16, 100, 184, 0, 42, 154, 0, 6, 16, 254, 172, 42]
abbrev dktX3_expire_0 : List UInt8 := dkwX3_expire_0 ++ dktX3_expire_1
theorem dksX3_expire_0 : cX3_expire.data.toList.drop 0 = dktX3_expire_0 := by decide +kernel
theorem dksX3_expire_1 : cX3_expire.data.toList.drop 24 = dktX3_expire_1 := dk_seg dksX3_expire_0 24 rfl rfl
theorem dksX3_expire_2 : cX3_expire.data.toList.drop 48 = dktX3_expire_2 := dk_seg dksX3_expire_1 24 rfl rfl
theorem dksX3_expire_3 : cX3_expire.data.toList.drop 71 = dktX3_expire_3 := dk_seg dksX3_expire_2 23 rfl rfl
theorem dksX3_expire_4 : cX3_expire.data.toList.drop 95 = dktX3_expire_4 := dk_seg dksX3_expire_3 24 rfl rfl
theorem dX3_expire_0 : decode cX3_expire 0 = .ok (.iload_n 2, 1) := dk_28 (dk_at dksX3_expire_0 0 rfl rfl)
theorem dX3_expire_1 : decode cX3_expire 1 = .ok (.iconst 0, 1) := dk_3 (dk_at dksX3_expire_0 1 rfl rfl)
theorem dX3_expire_2 : decode cX3_expire 2 = .ok (.bipush 20, 2) := dk_16 20 (dk_at dksX3_expire_0 2 rfl rfl)
theorem dX3_expire_4 : decode cX3_expire 4 = .ok (.invokestatic 42, 3) := dk_184 0 42 (dk_at dksX3_expire_0 4 rfl rfl)
theorem dX3_expire_7 : decode cX3_expire 7 = .ok (.ifCond .eq 13, 3) := dk_153 0 13 (dk_at dksX3_expire_0 7 rfl rfl)
theorem dX3_expire_10 : decode cX3_expire 10 = .ok (.iload_n 3, 1) := dk_29 (dk_at dksX3_expire_0 10 rfl rfl)
theorem dX3_expire_11 : decode cX3_expire 11 = .ok (.iconst 1, 1) := dk_4 (dk_at dksX3_expire_0 11 rfl rfl)
theorem dX3_expire_12 : decode cX3_expire 12 = .ok (.bipush 100, 2) := dk_16 100 (dk_at dksX3_expire_0 12 rfl rfl)
theorem dX3_expire_14 : decode cX3_expire 14 = .ok (.invokestatic 42, 3) := dk_184 0 42 (dk_at dksX3_expire_0 14 rfl rfl)
theorem dX3_expire_17 : decode cX3_expire 17 = .ok (.ifCond .ne 6, 3) := dk_154 0 6 (dk_at dksX3_expire_0 17 rfl rfl)
theorem dX3_expire_20 : decode cX3_expire 20 = .ok (.bipush (-2), 2) := dk_16 254 (dk_at dksX3_expire_0 20 rfl rfl)
theorem dX3_expire_22 : decode cX3_expire 22 = .ok (.ireturn, 1) := dk_172 (dk_at dksX3_expire_0 22 rfl rfl)
theorem dX3_expire_23 : decode cX3_expire 23 = .ok (.aload_n 0, 1) := dk_42 (dk_at dksX3_expire_0 23 rfl rfl)
theorem dX3_expire_24 : decode cX3_expire 24 = .ok (.iload_n 1, 1) := dk_27 (dk_at dksX3_expire_1 0 rfl rfl)
theorem dX3_expire_25 : decode cX3_expire 25 = .ok (.iconst 0, 1) := dk_3 (dk_at dksX3_expire_1 1 rfl rfl)
theorem dX3_expire_26 : decode cX3_expire 26 = .ok (.invokevirtual 92, 3) := dk_182 0 92 (dk_at dksX3_expire_1 2 rfl rfl)
theorem dX3_expire_29 : decode cX3_expire 29 = .ok (.istore 4, 2) := dk_54 4 (dk_at dksX3_expire_1 5 rfl rfl)
theorem dX3_expire_31 : decode cX3_expire 31 = .ok (.iload 4, 2) := dk_21 4 (dk_at dksX3_expire_1 7 rfl rfl)
theorem dX3_expire_33 : decode cX3_expire 33 = .ok (.ifCond .eq 6, 3) := dk_153 0 6 (dk_at dksX3_expire_1 9 rfl rfl)
theorem dX3_expire_36 : decode cX3_expire 36 = .ok (.iload 4, 2) := dk_21 4 (dk_at dksX3_expire_1 12 rfl rfl)
theorem dX3_expire_38 : decode cX3_expire 38 = .ok (.ireturn, 1) := dk_172 (dk_at dksX3_expire_1 14 rfl rfl)
theorem dX3_expire_39 : decode cX3_expire 39 = .ok (.aload_n 0, 1) := dk_42 (dk_at dksX3_expire_1 15 rfl rfl)
theorem dX3_expire_40 : decode cX3_expire 40 = .ok (.iload_n 1, 1) := dk_27 (dk_at dksX3_expire_1 16 rfl rfl)
theorem dX3_expire_41 : decode cX3_expire 41 = .ok (.invokevirtual 148, 3) := dk_182 0 148 (dk_at dksX3_expire_1 17 rfl rfl)
theorem dX3_expire_44 : decode cX3_expire 44 = .ok (.iconst 0, 1) := dk_3 (dk_at dksX3_expire_1 20 rfl rfl)
theorem dX3_expire_45 : decode cX3_expire 45 = .ok (.istore 5, 2) := dk_54 5 (dk_at dksX3_expire_1 21 rfl rfl)
theorem dX3_expire_47 : decode cX3_expire 47 = .ok (.aload_n 0, 1) := dk_42 (dk_at dksX3_expire_1 23 rfl rfl)
theorem dX3_expire_48 : decode cX3_expire 48 = .ok (.getfield 139, 3) := dk_180 0 139 (dk_at dksX3_expire_2 0 rfl rfl)
theorem dX3_expire_51 : decode cX3_expire 51 = .ok (.iconst 1, 1) := dk_4 (dk_at dksX3_expire_2 3 rfl rfl)
theorem dX3_expire_52 : decode cX3_expire 52 = .ok (.isub, 1) := dk_100 (dk_at dksX3_expire_2 4 rfl rfl)
theorem dX3_expire_53 : decode cX3_expire 53 = .ok (.istore 6, 2) := dk_54 6 (dk_at dksX3_expire_2 5 rfl rfl)
theorem dX3_expire_55 : decode cX3_expire 55 = .ok (.iload 6, 2) := dk_21 6 (dk_at dksX3_expire_2 7 rfl rfl)
theorem dX3_expire_57 : decode cX3_expire 57 = .ok (.iload_n 2, 1) := dk_28 (dk_at dksX3_expire_2 9 rfl rfl)
theorem dX3_expire_58 : decode cX3_expire 58 = .ok (.if_icmp .lt 52, 3) := dk_161 0 52 (dk_at dksX3_expire_2 10 rfl rfl)
theorem dX3_expire_61 : decode cX3_expire 61 = .ok (.aload_n 0, 1) := dk_42 (dk_at dksX3_expire_2 13 rfl rfl)
theorem dX3_expire_62 : decode cX3_expire 62 = .ok (.getfield 22, 3) := dk_180 0 22 (dk_at dksX3_expire_2 14 rfl rfl)
theorem dX3_expire_65 : decode cX3_expire 65 = .ok (.iload 6, 2) := dk_21 6 (dk_at dksX3_expire_2 17 rfl rfl)
theorem dX3_expire_67 : decode cX3_expire 67 = .ok (.iaload, 1) := dk_46 (dk_at dksX3_expire_2 19 rfl rfl)
theorem dX3_expire_68 : decode cX3_expire 68 = .ok (.istore 7, 2) := dk_54 7 (dk_at dksX3_expire_2 20 rfl rfl)
theorem dX3_expire_70 : decode cX3_expire 70 = .ok (.aload_n 0, 1) := dk_42 (dk_at dksX3_expire_2 22 rfl rfl)
theorem dX3_expire_71 : decode cX3_expire 71 = .ok (.getfield 7, 3) := dk_180 0 7 (dk_at dksX3_expire_3 0 rfl rfl)
theorem dX3_expire_74 : decode cX3_expire 74 = .ok (.bipush 22, 2) := dk_16 22 (dk_at dksX3_expire_3 3 rfl rfl)
theorem dX3_expire_76 : decode cX3_expire 76 = .ok (.iload 7, 2) := dk_21 7 (dk_at dksX3_expire_3 5 rfl rfl)
theorem dX3_expire_78 : decode cX3_expire 78 = .ok (.iadd, 1) := dk_96 (dk_at dksX3_expire_3 7 rfl rfl)
theorem dX3_expire_79 : decode cX3_expire 79 = .ok (.iaload, 1) := dk_46 (dk_at dksX3_expire_3 8 rfl rfl)
theorem dX3_expire_80 : decode cX3_expire 80 = .ok (.iload_n 3, 1) := dk_29 (dk_at dksX3_expire_3 9 rfl rfl)
theorem dX3_expire_81 : decode cX3_expire 81 = .ok (.irem, 1) := dk_112 (dk_at dksX3_expire_3 10 rfl rfl)
theorem dX3_expire_82 : decode cX3_expire 82 = .ok (.ifCond .eq 22, 3) := dk_153 0 22 (dk_at dksX3_expire_3 11 rfl rfl)
theorem dX3_expire_85 : decode cX3_expire 85 = .ok (.aload_n 0, 1) := dk_42 (dk_at dksX3_expire_3 14 rfl rfl)
theorem dX3_expire_86 : decode cX3_expire 86 = .ok (.iload 7, 2) := dk_21 7 (dk_at dksX3_expire_3 15 rfl rfl)
theorem dX3_expire_88 : decode cX3_expire 88 = .ok (.invokevirtual 142, 3) := dk_182 0 142 (dk_at dksX3_expire_3 17 rfl rfl)
theorem dX3_expire_91 : decode cX3_expire 91 = .ok (.ifCond .eq 13, 3) := dk_153 0 13 (dk_at dksX3_expire_3 20 rfl rfl)
theorem dX3_expire_94 : decode cX3_expire 94 = .ok (.aload_n 0, 1) := dk_42 (dk_at dksX3_expire_3 23 rfl rfl)
theorem dX3_expire_95 : decode cX3_expire 95 = .ok (.iload 7, 2) := dk_21 7 (dk_at dksX3_expire_4 0 rfl rfl)
theorem dX3_expire_97 : decode cX3_expire 97 = .ok (.invokevirtual 112, 3) := dk_182 0 112 (dk_at dksX3_expire_4 2 rfl rfl)
theorem dX3_expire_100 : decode cX3_expire 100 = .ok (.pop, 1) := dk_87 (dk_at dksX3_expire_4 5 rfl rfl)
theorem dX3_expire_101 : decode cX3_expire 101 = .ok (.iinc 5 1, 3) := dk_132 5 1 (dk_at dksX3_expire_4 6 rfl rfl)
theorem dX3_expire_104 : decode cX3_expire 104 = .ok (.iinc 6 (-1), 3) := dk_132 6 255 (dk_at dksX3_expire_4 9 rfl rfl)
theorem dX3_expire_107 : decode cX3_expire 107 = .ok (.goto (-52), 3) := dk_167 255 204 (dk_at dksX3_expire_4 12 rfl rfl)
theorem dX3_expire_110 : decode cX3_expire 110 = .ok (.iload 5, 2) := dk_21 5 (dk_at dksX3_expire_4 15 rfl rfl)
theorem dX3_expire_112 : decode cX3_expire 112 = .ok (.ireturn, 1) := dk_172 (dk_at dksX3_expire_4 17 rfl rfl)
abbrev cX3_sheet : ByteArray := prog_11_method_64_code
def yX3_sheet : MethodName := ⟨RX3, "sheet", "(III)I"⟩
def dkwX3_sheet_2 : List UInt8 := [160, 0, 7, 3, 167, 0, 4, 29, 182, 0, 161, 4, 172]
abbrev dktX3_sheet_2 : List UInt8 := dkwX3_sheet_2 ++ []
def dkwX3_sheet_1 : List UInt8 := [164, 0, 6, 16, 254, 172, 28, 2, 159, 0, 10, 29, 156, 0, 6, 16, 242, 172, 42, 27, 28, 28, 2]
abbrev dktX3_sheet_1 : List UInt8 := dkwX3_sheet_1 ++ dktX3_sheet_2
def dkwX3_sheet_0 : List UInt8 := [27, 184, 0, 158, 153, 0, 23, 28, 2, 4, 184, 0, 42, 153, 0, 14, 28, 2, 159, 0, 12, 29, 16, 40]
abbrev dktX3_sheet_0 : List UInt8 := dkwX3_sheet_0 ++ dktX3_sheet_1
theorem dksX3_sheet_0 : cX3_sheet.data.toList.drop 0 = dktX3_sheet_0 := by decide +kernel
theorem dksX3_sheet_1 : cX3_sheet.data.toList.drop 24 = dktX3_sheet_1 := dk_seg dksX3_sheet_0 24 rfl rfl
theorem dksX3_sheet_2 : cX3_sheet.data.toList.drop 47 = dktX3_sheet_2 := dk_seg dksX3_sheet_1 23 rfl rfl
theorem dX3_sheet_0 : decode cX3_sheet 0 = .ok (.iload_n 1, 1) := dk_27 (dk_at dksX3_sheet_0 0 rfl rfl)
theorem dX3_sheet_1 : decode cX3_sheet 1 = .ok (.invokestatic 158, 3) := dk_184 0 158 (dk_at dksX3_sheet_0 1 rfl rfl)
theorem dX3_sheet_4 : decode cX3_sheet 4 = .ok (.ifCond .eq 23, 3) := dk_153 0 23 (dk_at dksX3_sheet_0 4 rfl rfl)
theorem dX3_sheet_7 : decode cX3_sheet 7 = .ok (.iload_n 2, 1) := dk_28 (dk_at dksX3_sheet_0 7 rfl rfl)
theorem dX3_sheet_8 : decode cX3_sheet 8 = .ok (.iconst (-1), 1) := dk_2 (dk_at dksX3_sheet_0 8 rfl rfl)
theorem dX3_sheet_9 : decode cX3_sheet 9 = .ok (.iconst 1, 1) := dk_4 (dk_at dksX3_sheet_0 9 rfl rfl)
theorem dX3_sheet_10 : decode cX3_sheet 10 = .ok (.invokestatic 42, 3) := dk_184 0 42 (dk_at dksX3_sheet_0 10 rfl rfl)
theorem dX3_sheet_13 : decode cX3_sheet 13 = .ok (.ifCond .eq 14, 3) := dk_153 0 14 (dk_at dksX3_sheet_0 13 rfl rfl)
theorem dX3_sheet_16 : decode cX3_sheet 16 = .ok (.iload_n 2, 1) := dk_28 (dk_at dksX3_sheet_0 16 rfl rfl)
theorem dX3_sheet_17 : decode cX3_sheet 17 = .ok (.iconst (-1), 1) := dk_2 (dk_at dksX3_sheet_0 17 rfl rfl)
theorem dX3_sheet_18 : decode cX3_sheet 18 = .ok (.if_icmp .eq 12, 3) := dk_159 0 12 (dk_at dksX3_sheet_0 18 rfl rfl)
theorem dX3_sheet_21 : decode cX3_sheet 21 = .ok (.iload_n 3, 1) := dk_29 (dk_at dksX3_sheet_0 21 rfl rfl)
theorem dX3_sheet_22 : decode cX3_sheet 22 = .ok (.bipush 40, 2) := dk_16 40 (dk_at dksX3_sheet_0 22 rfl rfl)
theorem dX3_sheet_24 : decode cX3_sheet 24 = .ok (.if_icmp .le 6, 3) := dk_164 0 6 (dk_at dksX3_sheet_1 0 rfl rfl)
theorem dX3_sheet_27 : decode cX3_sheet 27 = .ok (.bipush (-2), 2) := dk_16 254 (dk_at dksX3_sheet_1 3 rfl rfl)
theorem dX3_sheet_29 : decode cX3_sheet 29 = .ok (.ireturn, 1) := dk_172 (dk_at dksX3_sheet_1 5 rfl rfl)
theorem dX3_sheet_30 : decode cX3_sheet 30 = .ok (.iload_n 2, 1) := dk_28 (dk_at dksX3_sheet_1 6 rfl rfl)
theorem dX3_sheet_31 : decode cX3_sheet 31 = .ok (.iconst (-1), 1) := dk_2 (dk_at dksX3_sheet_1 7 rfl rfl)
theorem dX3_sheet_32 : decode cX3_sheet 32 = .ok (.if_icmp .eq 10, 3) := dk_159 0 10 (dk_at dksX3_sheet_1 8 rfl rfl)
theorem dX3_sheet_35 : decode cX3_sheet 35 = .ok (.iload_n 3, 1) := dk_29 (dk_at dksX3_sheet_1 11 rfl rfl)
theorem dX3_sheet_36 : decode cX3_sheet 36 = .ok (.ifCond .ge 6, 3) := dk_156 0 6 (dk_at dksX3_sheet_1 12 rfl rfl)
theorem dX3_sheet_39 : decode cX3_sheet 39 = .ok (.bipush (-14), 2) := dk_16 242 (dk_at dksX3_sheet_1 15 rfl rfl)
theorem dX3_sheet_41 : decode cX3_sheet 41 = .ok (.ireturn, 1) := dk_172 (dk_at dksX3_sheet_1 17 rfl rfl)
theorem dX3_sheet_42 : decode cX3_sheet 42 = .ok (.aload_n 0, 1) := dk_42 (dk_at dksX3_sheet_1 18 rfl rfl)
theorem dX3_sheet_43 : decode cX3_sheet 43 = .ok (.iload_n 1, 1) := dk_27 (dk_at dksX3_sheet_1 19 rfl rfl)
theorem dX3_sheet_44 : decode cX3_sheet 44 = .ok (.iload_n 2, 1) := dk_28 (dk_at dksX3_sheet_1 20 rfl rfl)
theorem dX3_sheet_45 : decode cX3_sheet 45 = .ok (.iload_n 2, 1) := dk_28 (dk_at dksX3_sheet_1 21 rfl rfl)
theorem dX3_sheet_46 : decode cX3_sheet 46 = .ok (.iconst (-1), 1) := dk_2 (dk_at dksX3_sheet_1 22 rfl rfl)
theorem dX3_sheet_47 : decode cX3_sheet 47 = .ok (.if_icmp .ne 7, 3) := dk_160 0 7 (dk_at dksX3_sheet_2 0 rfl rfl)
theorem dX3_sheet_50 : decode cX3_sheet 50 = .ok (.iconst 0, 1) := dk_3 (dk_at dksX3_sheet_2 3 rfl rfl)
theorem dX3_sheet_51 : decode cX3_sheet 51 = .ok (.goto 4, 3) := dk_167 0 4 (dk_at dksX3_sheet_2 4 rfl rfl)
theorem dX3_sheet_54 : decode cX3_sheet 54 = .ok (.iload_n 3, 1) := dk_29 (dk_at dksX3_sheet_2 7 rfl rfl)
theorem dX3_sheet_55 : decode cX3_sheet 55 = .ok (.invokevirtual 161, 3) := dk_182 0 161 (dk_at dksX3_sheet_2 8 rfl rfl)
theorem dX3_sheet_58 : decode cX3_sheet 58 = .ok (.iconst 1, 1) := dk_4 (dk_at dksX3_sheet_2 11 rfl rfl)
theorem dX3_sheet_59 : decode cX3_sheet 59 = .ok (.ireturn, 1) := dk_172 (dk_at dksX3_sheet_2 12 rfl rfl)
abbrev cX3_isSheet : ByteArray := prog_11_method_62_code
def yX3_isSheet : MethodName := ⟨RX3, "isSheet", "(I)Z"⟩
def dkwX3_isSheet_0 : List UInt8 := [26, 3, 6, 184, 0, 42, 172]
abbrev dktX3_isSheet_0 : List UInt8 := dkwX3_isSheet_0 ++ []
theorem dksX3_isSheet_0 : cX3_isSheet.data.toList.drop 0 = dktX3_isSheet_0 := by decide +kernel
theorem dX3_isSheet_0 : decode cX3_isSheet 0 = .ok (.iload_n 0, 1) := dk_26 (dk_at dksX3_isSheet_0 0 rfl rfl)
theorem dX3_isSheet_1 : decode cX3_isSheet 1 = .ok (.iconst 0, 1) := dk_3 (dk_at dksX3_isSheet_0 1 rfl rfl)
theorem dX3_isSheet_2 : decode cX3_isSheet 2 = .ok (.iconst 3, 1) := dk_6 (dk_at dksX3_isSheet_0 2 rfl rfl)
theorem dX3_isSheet_3 : decode cX3_isSheet 3 = .ok (.invokestatic 42, 3) := dk_184 0 42 (dk_at dksX3_isSheet_0 3 rfl rfl)
theorem dX3_isSheet_6 : decode cX3_isSheet 6 = .ok (.ireturn, 1) := dk_172 (dk_at dksX3_isSheet_0 6 rfl rfl)
abbrev cX3_makes : ByteArray := prog_11_method_63_code
def yX3_makes : MethodName := ⟨RX3, "makes", "(III)V"⟩
def dkwX3_makes_1 : List UInt8 := [42, 180, 0, 34, 16, 40, 27, 104, 21, 4, 96, 9, 80, 132, 4, 1, 167, 255, 233, 177]
abbrev dktX3_makes_1 : List UInt8 := dkwX3_makes_1 ++ []
def dkwX3_makes_0 : List UInt8 := [42, 180, 0, 28, 27, 28, 79, 42, 180, 0, 31, 27, 29, 79, 3, 54, 4, 21, 4, 16, 40, 162, 0, 22]
abbrev dktX3_makes_0 : List UInt8 := dkwX3_makes_0 ++ dktX3_makes_1
theorem dksX3_makes_0 : cX3_makes.data.toList.drop 0 = dktX3_makes_0 := by decide +kernel
theorem dksX3_makes_1 : cX3_makes.data.toList.drop 24 = dktX3_makes_1 := dk_seg dksX3_makes_0 24 rfl rfl
theorem dX3_makes_0 : decode cX3_makes 0 = .ok (.aload_n 0, 1) := dk_42 (dk_at dksX3_makes_0 0 rfl rfl)
theorem dX3_makes_1 : decode cX3_makes 1 = .ok (.getfield 28, 3) := dk_180 0 28 (dk_at dksX3_makes_0 1 rfl rfl)
theorem dX3_makes_4 : decode cX3_makes 4 = .ok (.iload_n 1, 1) := dk_27 (dk_at dksX3_makes_0 4 rfl rfl)
theorem dX3_makes_5 : decode cX3_makes 5 = .ok (.iload_n 2, 1) := dk_28 (dk_at dksX3_makes_0 5 rfl rfl)
theorem dX3_makes_6 : decode cX3_makes 6 = .ok (.iastore, 1) := dk_79 (dk_at dksX3_makes_0 6 rfl rfl)
theorem dX3_makes_7 : decode cX3_makes 7 = .ok (.aload_n 0, 1) := dk_42 (dk_at dksX3_makes_0 7 rfl rfl)
theorem dX3_makes_8 : decode cX3_makes 8 = .ok (.getfield 31, 3) := dk_180 0 31 (dk_at dksX3_makes_0 8 rfl rfl)
theorem dX3_makes_11 : decode cX3_makes 11 = .ok (.iload_n 1, 1) := dk_27 (dk_at dksX3_makes_0 11 rfl rfl)
theorem dX3_makes_12 : decode cX3_makes 12 = .ok (.iload_n 3, 1) := dk_29 (dk_at dksX3_makes_0 12 rfl rfl)
theorem dX3_makes_13 : decode cX3_makes 13 = .ok (.iastore, 1) := dk_79 (dk_at dksX3_makes_0 13 rfl rfl)
theorem dX3_makes_14 : decode cX3_makes 14 = .ok (.iconst 0, 1) := dk_3 (dk_at dksX3_makes_0 14 rfl rfl)
theorem dX3_makes_15 : decode cX3_makes 15 = .ok (.istore 4, 2) := dk_54 4 (dk_at dksX3_makes_0 15 rfl rfl)
theorem dX3_makes_17 : decode cX3_makes 17 = .ok (.iload 4, 2) := dk_21 4 (dk_at dksX3_makes_0 17 rfl rfl)
theorem dX3_makes_19 : decode cX3_makes 19 = .ok (.bipush 40, 2) := dk_16 40 (dk_at dksX3_makes_0 19 rfl rfl)
theorem dX3_makes_21 : decode cX3_makes 21 = .ok (.if_icmp .ge 22, 3) := dk_162 0 22 (dk_at dksX3_makes_0 21 rfl rfl)
theorem dX3_makes_24 : decode cX3_makes 24 = .ok (.aload_n 0, 1) := dk_42 (dk_at dksX3_makes_1 0 rfl rfl)
theorem dX3_makes_25 : decode cX3_makes 25 = .ok (.getfield 34, 3) := dk_180 0 34 (dk_at dksX3_makes_1 1 rfl rfl)
theorem dX3_makes_28 : decode cX3_makes 28 = .ok (.bipush 40, 2) := dk_16 40 (dk_at dksX3_makes_1 4 rfl rfl)
theorem dX3_makes_30 : decode cX3_makes 30 = .ok (.iload_n 1, 1) := dk_27 (dk_at dksX3_makes_1 6 rfl rfl)
theorem dX3_makes_31 : decode cX3_makes 31 = .ok (.imul, 1) := dk_104 (dk_at dksX3_makes_1 7 rfl rfl)
theorem dX3_makes_32 : decode cX3_makes 32 = .ok (.iload 4, 2) := dk_21 4 (dk_at dksX3_makes_1 8 rfl rfl)
theorem dX3_makes_34 : decode cX3_makes 34 = .ok (.iadd, 1) := dk_96 (dk_at dksX3_makes_1 10 rfl rfl)
theorem dX3_makes_35 : decode cX3_makes 35 = .ok (.lconst 0, 1) := dk_9 (dk_at dksX3_makes_1 11 rfl rfl)
theorem dX3_makes_36 : decode cX3_makes 36 = .ok (.lastore, 1) := dk_80 (dk_at dksX3_makes_1 12 rfl rfl)
theorem dX3_makes_37 : decode cX3_makes 37 = .ok (.iinc 4 1, 3) := dk_132 4 1 (dk_at dksX3_makes_1 13 rfl rfl)
theorem dX3_makes_40 : decode cX3_makes 40 = .ok (.goto (-23), 3) := dk_167 255 233 (dk_at dksX3_makes_1 16 rfl rfl)
theorem dX3_makes_43 : decode cX3_makes 43 = .ok (.return_, 1) := dk_177 (dk_at dksX3_makes_1 19 rfl rfl)
abbrev cX3_cell : ByteArray := prog_11_method_65_code
def yX3_cell : MethodName := ⟨RX3, "cell", "(IIJ)I"⟩
def dkwX3_cell_2 : List UInt8 := [27, 104, 28, 96, 42, 180, 0, 28, 27, 46, 154, 0, 9, 33, 136, 133, 167, 0, 4, 33, 80, 4, 172]
abbrev dktX3_cell_2 : List UInt8 := dkwX3_cell_2 ++ []
def dkwX3_cell_1 : List UInt8 := [3, 42, 180, 0, 31, 27, 46, 4, 100, 184, 0, 42, 154, 0, 6, 16, 244, 172, 42, 180, 0, 34, 16, 40]
abbrev dktX3_cell_1 : List UInt8 := dkwX3_cell_1 ++ dktX3_cell_2
def dkwX3_cell_0 : List UInt8 := [27, 184, 0, 158, 154, 0, 6, 16, 254, 172, 42, 180, 0, 28, 27, 46, 2, 160, 0, 6, 16, 245, 172, 28]
abbrev dktX3_cell_0 : List UInt8 := dkwX3_cell_0 ++ dktX3_cell_1
theorem dksX3_cell_0 : cX3_cell.data.toList.drop 0 = dktX3_cell_0 := by decide +kernel
theorem dksX3_cell_1 : cX3_cell.data.toList.drop 24 = dktX3_cell_1 := dk_seg dksX3_cell_0 24 rfl rfl
theorem dksX3_cell_2 : cX3_cell.data.toList.drop 48 = dktX3_cell_2 := dk_seg dksX3_cell_1 24 rfl rfl
theorem dX3_cell_0 : decode cX3_cell 0 = .ok (.iload_n 1, 1) := dk_27 (dk_at dksX3_cell_0 0 rfl rfl)
theorem dX3_cell_1 : decode cX3_cell 1 = .ok (.invokestatic 158, 3) := dk_184 0 158 (dk_at dksX3_cell_0 1 rfl rfl)
theorem dX3_cell_4 : decode cX3_cell 4 = .ok (.ifCond .ne 6, 3) := dk_154 0 6 (dk_at dksX3_cell_0 4 rfl rfl)
theorem dX3_cell_7 : decode cX3_cell 7 = .ok (.bipush (-2), 2) := dk_16 254 (dk_at dksX3_cell_0 7 rfl rfl)
theorem dX3_cell_9 : decode cX3_cell 9 = .ok (.ireturn, 1) := dk_172 (dk_at dksX3_cell_0 9 rfl rfl)
theorem dX3_cell_10 : decode cX3_cell 10 = .ok (.aload_n 0, 1) := dk_42 (dk_at dksX3_cell_0 10 rfl rfl)
theorem dX3_cell_11 : decode cX3_cell 11 = .ok (.getfield 28, 3) := dk_180 0 28 (dk_at dksX3_cell_0 11 rfl rfl)
theorem dX3_cell_14 : decode cX3_cell 14 = .ok (.iload_n 1, 1) := dk_27 (dk_at dksX3_cell_0 14 rfl rfl)
theorem dX3_cell_15 : decode cX3_cell 15 = .ok (.iaload, 1) := dk_46 (dk_at dksX3_cell_0 15 rfl rfl)
theorem dX3_cell_16 : decode cX3_cell 16 = .ok (.iconst (-1), 1) := dk_2 (dk_at dksX3_cell_0 16 rfl rfl)
theorem dX3_cell_17 : decode cX3_cell 17 = .ok (.if_icmp .ne 6, 3) := dk_160 0 6 (dk_at dksX3_cell_0 17 rfl rfl)
theorem dX3_cell_20 : decode cX3_cell 20 = .ok (.bipush (-11), 2) := dk_16 245 (dk_at dksX3_cell_0 20 rfl rfl)
theorem dX3_cell_22 : decode cX3_cell 22 = .ok (.ireturn, 1) := dk_172 (dk_at dksX3_cell_0 22 rfl rfl)
theorem dX3_cell_23 : decode cX3_cell 23 = .ok (.iload_n 2, 1) := dk_28 (dk_at dksX3_cell_0 23 rfl rfl)
theorem dX3_cell_24 : decode cX3_cell 24 = .ok (.iconst 0, 1) := dk_3 (dk_at dksX3_cell_1 0 rfl rfl)
theorem dX3_cell_25 : decode cX3_cell 25 = .ok (.aload_n 0, 1) := dk_42 (dk_at dksX3_cell_1 1 rfl rfl)
theorem dX3_cell_26 : decode cX3_cell 26 = .ok (.getfield 31, 3) := dk_180 0 31 (dk_at dksX3_cell_1 2 rfl rfl)
theorem dX3_cell_29 : decode cX3_cell 29 = .ok (.iload_n 1, 1) := dk_27 (dk_at dksX3_cell_1 5 rfl rfl)
theorem dX3_cell_30 : decode cX3_cell 30 = .ok (.iaload, 1) := dk_46 (dk_at dksX3_cell_1 6 rfl rfl)
theorem dX3_cell_31 : decode cX3_cell 31 = .ok (.iconst 1, 1) := dk_4 (dk_at dksX3_cell_1 7 rfl rfl)
theorem dX3_cell_32 : decode cX3_cell 32 = .ok (.isub, 1) := dk_100 (dk_at dksX3_cell_1 8 rfl rfl)
theorem dX3_cell_33 : decode cX3_cell 33 = .ok (.invokestatic 42, 3) := dk_184 0 42 (dk_at dksX3_cell_1 9 rfl rfl)
theorem dX3_cell_36 : decode cX3_cell 36 = .ok (.ifCond .ne 6, 3) := dk_154 0 6 (dk_at dksX3_cell_1 12 rfl rfl)
theorem dX3_cell_39 : decode cX3_cell 39 = .ok (.bipush (-12), 2) := dk_16 244 (dk_at dksX3_cell_1 15 rfl rfl)
theorem dX3_cell_41 : decode cX3_cell 41 = .ok (.ireturn, 1) := dk_172 (dk_at dksX3_cell_1 17 rfl rfl)
theorem dX3_cell_42 : decode cX3_cell 42 = .ok (.aload_n 0, 1) := dk_42 (dk_at dksX3_cell_1 18 rfl rfl)
theorem dX3_cell_43 : decode cX3_cell 43 = .ok (.getfield 34, 3) := dk_180 0 34 (dk_at dksX3_cell_1 19 rfl rfl)
theorem dX3_cell_46 : decode cX3_cell 46 = .ok (.bipush 40, 2) := dk_16 40 (dk_at dksX3_cell_1 22 rfl rfl)
theorem dX3_cell_48 : decode cX3_cell 48 = .ok (.iload_n 1, 1) := dk_27 (dk_at dksX3_cell_2 0 rfl rfl)
theorem dX3_cell_49 : decode cX3_cell 49 = .ok (.imul, 1) := dk_104 (dk_at dksX3_cell_2 1 rfl rfl)
theorem dX3_cell_50 : decode cX3_cell 50 = .ok (.iload_n 2, 1) := dk_28 (dk_at dksX3_cell_2 2 rfl rfl)
theorem dX3_cell_51 : decode cX3_cell 51 = .ok (.iadd, 1) := dk_96 (dk_at dksX3_cell_2 3 rfl rfl)
theorem dX3_cell_52 : decode cX3_cell 52 = .ok (.aload_n 0, 1) := dk_42 (dk_at dksX3_cell_2 4 rfl rfl)
theorem dX3_cell_53 : decode cX3_cell 53 = .ok (.getfield 28, 3) := dk_180 0 28 (dk_at dksX3_cell_2 5 rfl rfl)
theorem dX3_cell_56 : decode cX3_cell 56 = .ok (.iload_n 1, 1) := dk_27 (dk_at dksX3_cell_2 8 rfl rfl)
theorem dX3_cell_57 : decode cX3_cell 57 = .ok (.iaload, 1) := dk_46 (dk_at dksX3_cell_2 9 rfl rfl)
theorem dX3_cell_58 : decode cX3_cell 58 = .ok (.ifCond .ne 9, 3) := dk_154 0 9 (dk_at dksX3_cell_2 10 rfl rfl)
theorem dX3_cell_61 : decode cX3_cell 61 = .ok (.lload_n 3, 1) := dk_33 (dk_at dksX3_cell_2 13 rfl rfl)
theorem dX3_cell_62 : decode cX3_cell 62 = .ok (.l2i, 1) := dk_136 (dk_at dksX3_cell_2 14 rfl rfl)
theorem dX3_cell_63 : decode cX3_cell 63 = .ok (.i2l, 1) := dk_133 (dk_at dksX3_cell_2 15 rfl rfl)
theorem dX3_cell_64 : decode cX3_cell 64 = .ok (.goto 4, 3) := dk_167 0 4 (dk_at dksX3_cell_2 16 rfl rfl)
theorem dX3_cell_67 : decode cX3_cell 67 = .ok (.lload_n 3, 1) := dk_33 (dk_at dksX3_cell_2 19 rfl rfl)
theorem dX3_cell_68 : decode cX3_cell 68 = .ok (.lastore, 1) := dk_80 (dk_at dksX3_cell_2 20 rfl rfl)
theorem dX3_cell_69 : decode cX3_cell 69 = .ok (.iconst 1, 1) := dk_4 (dk_at dksX3_cell_2 21 rfl rfl)
theorem dX3_cell_70 : decode cX3_cell 70 = .ok (.ireturn, 1) := dk_172 (dk_at dksX3_cell_2 22 rfl rfl)
abbrev cX3_item : ByteArray := prog_11_method_66_code
def yX3_item : MethodName := ⟨RX3, "item", "(II)J"⟩
def dkwX3_item_2 : List UInt8 := [20, 0, 134, 173]
abbrev dktX3_item_2 : List UInt8 := dkwX3_item_2 ++ []
def dkwX3_item_1 : List UInt8 := [46, 4, 100, 184, 0, 42, 153, 0, 17, 42, 180, 0, 34, 16, 40, 27, 104, 28, 96, 47, 167, 0, 6]
abbrev dktX3_item_1 : List UInt8 := dkwX3_item_1 ++ dktX3_item_2
def dkwX3_item_0 : List UInt8 := [27, 184, 0, 158, 153, 0, 43, 42, 180, 0, 28, 27, 46, 2, 159, 0, 33, 28, 3, 42, 180, 0, 31, 27]
abbrev dktX3_item_0 : List UInt8 := dkwX3_item_0 ++ dktX3_item_1
theorem dksX3_item_0 : cX3_item.data.toList.drop 0 = dktX3_item_0 := by decide +kernel
theorem dksX3_item_1 : cX3_item.data.toList.drop 24 = dktX3_item_1 := dk_seg dksX3_item_0 24 rfl rfl
theorem dksX3_item_2 : cX3_item.data.toList.drop 47 = dktX3_item_2 := dk_seg dksX3_item_1 23 rfl rfl
theorem dX3_item_0 : decode cX3_item 0 = .ok (.iload_n 1, 1) := dk_27 (dk_at dksX3_item_0 0 rfl rfl)
theorem dX3_item_1 : decode cX3_item 1 = .ok (.invokestatic 158, 3) := dk_184 0 158 (dk_at dksX3_item_0 1 rfl rfl)
theorem dX3_item_4 : decode cX3_item 4 = .ok (.ifCond .eq 43, 3) := dk_153 0 43 (dk_at dksX3_item_0 4 rfl rfl)
theorem dX3_item_7 : decode cX3_item 7 = .ok (.aload_n 0, 1) := dk_42 (dk_at dksX3_item_0 7 rfl rfl)
theorem dX3_item_8 : decode cX3_item 8 = .ok (.getfield 28, 3) := dk_180 0 28 (dk_at dksX3_item_0 8 rfl rfl)
theorem dX3_item_11 : decode cX3_item 11 = .ok (.iload_n 1, 1) := dk_27 (dk_at dksX3_item_0 11 rfl rfl)
theorem dX3_item_12 : decode cX3_item 12 = .ok (.iaload, 1) := dk_46 (dk_at dksX3_item_0 12 rfl rfl)
theorem dX3_item_13 : decode cX3_item 13 = .ok (.iconst (-1), 1) := dk_2 (dk_at dksX3_item_0 13 rfl rfl)
theorem dX3_item_14 : decode cX3_item 14 = .ok (.if_icmp .eq 33, 3) := dk_159 0 33 (dk_at dksX3_item_0 14 rfl rfl)
theorem dX3_item_17 : decode cX3_item 17 = .ok (.iload_n 2, 1) := dk_28 (dk_at dksX3_item_0 17 rfl rfl)
theorem dX3_item_18 : decode cX3_item 18 = .ok (.iconst 0, 1) := dk_3 (dk_at dksX3_item_0 18 rfl rfl)
theorem dX3_item_19 : decode cX3_item 19 = .ok (.aload_n 0, 1) := dk_42 (dk_at dksX3_item_0 19 rfl rfl)
theorem dX3_item_20 : decode cX3_item 20 = .ok (.getfield 31, 3) := dk_180 0 31 (dk_at dksX3_item_0 20 rfl rfl)
theorem dX3_item_23 : decode cX3_item 23 = .ok (.iload_n 1, 1) := dk_27 (dk_at dksX3_item_0 23 rfl rfl)
theorem dX3_item_24 : decode cX3_item 24 = .ok (.iaload, 1) := dk_46 (dk_at dksX3_item_1 0 rfl rfl)
theorem dX3_item_25 : decode cX3_item 25 = .ok (.iconst 1, 1) := dk_4 (dk_at dksX3_item_1 1 rfl rfl)
theorem dX3_item_26 : decode cX3_item 26 = .ok (.isub, 1) := dk_100 (dk_at dksX3_item_1 2 rfl rfl)
theorem dX3_item_27 : decode cX3_item 27 = .ok (.invokestatic 42, 3) := dk_184 0 42 (dk_at dksX3_item_1 3 rfl rfl)
theorem dX3_item_30 : decode cX3_item 30 = .ok (.ifCond .eq 17, 3) := dk_153 0 17 (dk_at dksX3_item_1 6 rfl rfl)
theorem dX3_item_33 : decode cX3_item 33 = .ok (.aload_n 0, 1) := dk_42 (dk_at dksX3_item_1 9 rfl rfl)
theorem dX3_item_34 : decode cX3_item 34 = .ok (.getfield 34, 3) := dk_180 0 34 (dk_at dksX3_item_1 10 rfl rfl)
theorem dX3_item_37 : decode cX3_item 37 = .ok (.bipush 40, 2) := dk_16 40 (dk_at dksX3_item_1 13 rfl rfl)
theorem dX3_item_39 : decode cX3_item 39 = .ok (.iload_n 1, 1) := dk_27 (dk_at dksX3_item_1 15 rfl rfl)
theorem dX3_item_40 : decode cX3_item 40 = .ok (.imul, 1) := dk_104 (dk_at dksX3_item_1 16 rfl rfl)
theorem dX3_item_41 : decode cX3_item 41 = .ok (.iload_n 2, 1) := dk_28 (dk_at dksX3_item_1 17 rfl rfl)
theorem dX3_item_42 : decode cX3_item 42 = .ok (.iadd, 1) := dk_96 (dk_at dksX3_item_1 18 rfl rfl)
theorem dX3_item_43 : decode cX3_item 43 = .ok (.laload, 1) := dk_47 (dk_at dksX3_item_1 19 rfl rfl)
theorem dX3_item_44 : decode cX3_item 44 = .ok (.goto 6, 3) := dk_167 0 6 (dk_at dksX3_item_1 20 rfl rfl)
theorem dX3_item_47 : decode cX3_item 47 = .ok (.ldc2_w 134, 3) := dk_20 0 134 (dk_at dksX3_item_2 0 rfl rfl)
theorem dX3_item_50 : decode cX3_item 50 = .ok (.lreturn, 1) := dk_173 (dk_at dksX3_item_2 3 rfl rfl)
abbrev cX3_differ : ByteArray := prog_11_method_67_code
def yX3_differ : MethodName := ⟨RX3, "differ", "(III)I"⟩
def dkwX3_differ_6 : List UInt8 := [167, 255, 173, 42, 180, 0, 31, 27, 21, 5, 79, 21, 5, 172]
abbrev dktX3_differ_6 : List UInt8 := dkwX3_differ_6 ++ []
def dkwX3_differ_5 : List UInt8 := [27, 104, 21, 5, 96, 4, 96, 42, 29, 21, 6, 182, 0, 86, 133, 80, 132, 5, 2, 132, 6, 1]
abbrev dktX3_differ_5 : List UInt8 := dkwX3_differ_5 ++ dktX3_differ_6
def dkwX3_differ_4 : List UInt8 := [159, 0, 43, 42, 180, 0, 34, 16, 40, 27, 104, 21, 5, 96, 21, 6, 133, 80, 42, 180, 0, 34, 16, 40]
abbrev dktX3_differ_4 : List UInt8 := dkwX3_differ_4 ++ dktX3_differ_5
def dkwX3_differ_3 : List UInt8 := [28, 104, 96, 21, 6, 96, 46, 42, 180, 0, 7, 16, 122, 16, 12, 29, 104, 96, 21, 6, 96, 46]
abbrev dktX3_differ_3 : List UInt8 := dkwX3_differ_3 ++ dktX3_differ_4
def dkwX3_differ_2 : List UInt8 := [182, 0, 161, 3, 54, 5, 3, 54, 6, 21, 6, 16, 12, 162, 0, 82, 42, 180, 0, 7, 16, 122, 16, 12]
abbrev dktX3_differ_2 : List UInt8 := dkwX3_differ_2 ++ dktX3_differ_3
def dkwX3_differ_1 : List UInt8 := [167, 0, 8, 42, 29, 182, 0, 122, 54, 4, 21, 4, 153, 0, 6, 21, 4, 172, 42, 27, 4, 3]
abbrev dktX3_differ_1 : List UInt8 := dkwX3_differ_1 ++ dktX3_differ_2
def dkwX3_differ_0 : List UInt8 := [27, 184, 0, 158, 154, 0, 6, 16, 254, 172, 42, 28, 182, 0, 122, 54, 4, 21, 4, 153, 0, 8, 21, 4]
abbrev dktX3_differ_0 : List UInt8 := dkwX3_differ_0 ++ dktX3_differ_1
theorem dksX3_differ_0 : cX3_differ.data.toList.drop 0 = dktX3_differ_0 := by decide +kernel
theorem dksX3_differ_1 : cX3_differ.data.toList.drop 24 = dktX3_differ_1 := dk_seg dksX3_differ_0 24 rfl rfl
theorem dksX3_differ_2 : cX3_differ.data.toList.drop 46 = dktX3_differ_2 := dk_seg dksX3_differ_1 22 rfl rfl
theorem dksX3_differ_3 : cX3_differ.data.toList.drop 70 = dktX3_differ_3 := dk_seg dksX3_differ_2 24 rfl rfl
theorem dksX3_differ_4 : cX3_differ.data.toList.drop 92 = dktX3_differ_4 := dk_seg dksX3_differ_3 22 rfl rfl
theorem dksX3_differ_5 : cX3_differ.data.toList.drop 116 = dktX3_differ_5 := dk_seg dksX3_differ_4 24 rfl rfl
theorem dksX3_differ_6 : cX3_differ.data.toList.drop 138 = dktX3_differ_6 := dk_seg dksX3_differ_5 22 rfl rfl
theorem dX3_differ_0 : decode cX3_differ 0 = .ok (.iload_n 1, 1) := dk_27 (dk_at dksX3_differ_0 0 rfl rfl)
theorem dX3_differ_1 : decode cX3_differ 1 = .ok (.invokestatic 158, 3) := dk_184 0 158 (dk_at dksX3_differ_0 1 rfl rfl)
theorem dX3_differ_4 : decode cX3_differ 4 = .ok (.ifCond .ne 6, 3) := dk_154 0 6 (dk_at dksX3_differ_0 4 rfl rfl)
theorem dX3_differ_7 : decode cX3_differ 7 = .ok (.bipush (-2), 2) := dk_16 254 (dk_at dksX3_differ_0 7 rfl rfl)
theorem dX3_differ_9 : decode cX3_differ 9 = .ok (.ireturn, 1) := dk_172 (dk_at dksX3_differ_0 9 rfl rfl)
theorem dX3_differ_10 : decode cX3_differ 10 = .ok (.aload_n 0, 1) := dk_42 (dk_at dksX3_differ_0 10 rfl rfl)
theorem dX3_differ_11 : decode cX3_differ 11 = .ok (.iload_n 2, 1) := dk_28 (dk_at dksX3_differ_0 11 rfl rfl)
theorem dX3_differ_12 : decode cX3_differ 12 = .ok (.invokevirtual 122, 3) := dk_182 0 122 (dk_at dksX3_differ_0 12 rfl rfl)
theorem dX3_differ_15 : decode cX3_differ 15 = .ok (.istore 4, 2) := dk_54 4 (dk_at dksX3_differ_0 15 rfl rfl)
theorem dX3_differ_17 : decode cX3_differ 17 = .ok (.iload 4, 2) := dk_21 4 (dk_at dksX3_differ_0 17 rfl rfl)
theorem dX3_differ_19 : decode cX3_differ 19 = .ok (.ifCond .eq 8, 3) := dk_153 0 8 (dk_at dksX3_differ_0 19 rfl rfl)
theorem dX3_differ_22 : decode cX3_differ 22 = .ok (.iload 4, 2) := dk_21 4 (dk_at dksX3_differ_0 22 rfl rfl)
theorem dX3_differ_24 : decode cX3_differ 24 = .ok (.goto 8, 3) := dk_167 0 8 (dk_at dksX3_differ_1 0 rfl rfl)
theorem dX3_differ_27 : decode cX3_differ 27 = .ok (.aload_n 0, 1) := dk_42 (dk_at dksX3_differ_1 3 rfl rfl)
theorem dX3_differ_28 : decode cX3_differ 28 = .ok (.iload_n 3, 1) := dk_29 (dk_at dksX3_differ_1 4 rfl rfl)
theorem dX3_differ_29 : decode cX3_differ 29 = .ok (.invokevirtual 122, 3) := dk_182 0 122 (dk_at dksX3_differ_1 5 rfl rfl)
theorem dX3_differ_32 : decode cX3_differ 32 = .ok (.istore 4, 2) := dk_54 4 (dk_at dksX3_differ_1 8 rfl rfl)
theorem dX3_differ_34 : decode cX3_differ 34 = .ok (.iload 4, 2) := dk_21 4 (dk_at dksX3_differ_1 10 rfl rfl)
theorem dX3_differ_36 : decode cX3_differ 36 = .ok (.ifCond .eq 6, 3) := dk_153 0 6 (dk_at dksX3_differ_1 12 rfl rfl)
theorem dX3_differ_39 : decode cX3_differ 39 = .ok (.iload 4, 2) := dk_21 4 (dk_at dksX3_differ_1 15 rfl rfl)
theorem dX3_differ_41 : decode cX3_differ 41 = .ok (.ireturn, 1) := dk_172 (dk_at dksX3_differ_1 17 rfl rfl)
theorem dX3_differ_42 : decode cX3_differ 42 = .ok (.aload_n 0, 1) := dk_42 (dk_at dksX3_differ_1 18 rfl rfl)
theorem dX3_differ_43 : decode cX3_differ 43 = .ok (.iload_n 1, 1) := dk_27 (dk_at dksX3_differ_1 19 rfl rfl)
theorem dX3_differ_44 : decode cX3_differ 44 = .ok (.iconst 1, 1) := dk_4 (dk_at dksX3_differ_1 20 rfl rfl)
theorem dX3_differ_45 : decode cX3_differ 45 = .ok (.iconst 0, 1) := dk_3 (dk_at dksX3_differ_1 21 rfl rfl)
theorem dX3_differ_46 : decode cX3_differ 46 = .ok (.invokevirtual 161, 3) := dk_182 0 161 (dk_at dksX3_differ_2 0 rfl rfl)
theorem dX3_differ_49 : decode cX3_differ 49 = .ok (.iconst 0, 1) := dk_3 (dk_at dksX3_differ_2 3 rfl rfl)
theorem dX3_differ_50 : decode cX3_differ 50 = .ok (.istore 5, 2) := dk_54 5 (dk_at dksX3_differ_2 4 rfl rfl)
theorem dX3_differ_52 : decode cX3_differ 52 = .ok (.iconst 0, 1) := dk_3 (dk_at dksX3_differ_2 6 rfl rfl)
theorem dX3_differ_53 : decode cX3_differ 53 = .ok (.istore 6, 2) := dk_54 6 (dk_at dksX3_differ_2 7 rfl rfl)
theorem dX3_differ_55 : decode cX3_differ 55 = .ok (.iload 6, 2) := dk_21 6 (dk_at dksX3_differ_2 9 rfl rfl)
theorem dX3_differ_57 : decode cX3_differ 57 = .ok (.bipush 12, 2) := dk_16 12 (dk_at dksX3_differ_2 11 rfl rfl)
theorem dX3_differ_59 : decode cX3_differ 59 = .ok (.if_icmp .ge 82, 3) := dk_162 0 82 (dk_at dksX3_differ_2 13 rfl rfl)
theorem dX3_differ_62 : decode cX3_differ 62 = .ok (.aload_n 0, 1) := dk_42 (dk_at dksX3_differ_2 16 rfl rfl)
theorem dX3_differ_63 : decode cX3_differ 63 = .ok (.getfield 7, 3) := dk_180 0 7 (dk_at dksX3_differ_2 17 rfl rfl)
theorem dX3_differ_66 : decode cX3_differ 66 = .ok (.bipush 122, 2) := dk_16 122 (dk_at dksX3_differ_2 20 rfl rfl)
theorem dX3_differ_68 : decode cX3_differ 68 = .ok (.bipush 12, 2) := dk_16 12 (dk_at dksX3_differ_2 22 rfl rfl)
theorem dX3_differ_70 : decode cX3_differ 70 = .ok (.iload_n 2, 1) := dk_28 (dk_at dksX3_differ_3 0 rfl rfl)
theorem dX3_differ_71 : decode cX3_differ 71 = .ok (.imul, 1) := dk_104 (dk_at dksX3_differ_3 1 rfl rfl)
theorem dX3_differ_72 : decode cX3_differ 72 = .ok (.iadd, 1) := dk_96 (dk_at dksX3_differ_3 2 rfl rfl)
theorem dX3_differ_73 : decode cX3_differ 73 = .ok (.iload 6, 2) := dk_21 6 (dk_at dksX3_differ_3 3 rfl rfl)
theorem dX3_differ_75 : decode cX3_differ 75 = .ok (.iadd, 1) := dk_96 (dk_at dksX3_differ_3 5 rfl rfl)
theorem dX3_differ_76 : decode cX3_differ 76 = .ok (.iaload, 1) := dk_46 (dk_at dksX3_differ_3 6 rfl rfl)
theorem dX3_differ_77 : decode cX3_differ 77 = .ok (.aload_n 0, 1) := dk_42 (dk_at dksX3_differ_3 7 rfl rfl)
theorem dX3_differ_78 : decode cX3_differ 78 = .ok (.getfield 7, 3) := dk_180 0 7 (dk_at dksX3_differ_3 8 rfl rfl)
theorem dX3_differ_81 : decode cX3_differ 81 = .ok (.bipush 122, 2) := dk_16 122 (dk_at dksX3_differ_3 11 rfl rfl)
theorem dX3_differ_83 : decode cX3_differ 83 = .ok (.bipush 12, 2) := dk_16 12 (dk_at dksX3_differ_3 13 rfl rfl)
theorem dX3_differ_85 : decode cX3_differ 85 = .ok (.iload_n 3, 1) := dk_29 (dk_at dksX3_differ_3 15 rfl rfl)
theorem dX3_differ_86 : decode cX3_differ 86 = .ok (.imul, 1) := dk_104 (dk_at dksX3_differ_3 16 rfl rfl)
theorem dX3_differ_87 : decode cX3_differ 87 = .ok (.iadd, 1) := dk_96 (dk_at dksX3_differ_3 17 rfl rfl)
theorem dX3_differ_88 : decode cX3_differ 88 = .ok (.iload 6, 2) := dk_21 6 (dk_at dksX3_differ_3 18 rfl rfl)
theorem dX3_differ_90 : decode cX3_differ 90 = .ok (.iadd, 1) := dk_96 (dk_at dksX3_differ_3 20 rfl rfl)
theorem dX3_differ_91 : decode cX3_differ 91 = .ok (.iaload, 1) := dk_46 (dk_at dksX3_differ_3 21 rfl rfl)
theorem dX3_differ_92 : decode cX3_differ 92 = .ok (.if_icmp .eq 43, 3) := dk_159 0 43 (dk_at dksX3_differ_4 0 rfl rfl)
theorem dX3_differ_95 : decode cX3_differ 95 = .ok (.aload_n 0, 1) := dk_42 (dk_at dksX3_differ_4 3 rfl rfl)
theorem dX3_differ_96 : decode cX3_differ 96 = .ok (.getfield 34, 3) := dk_180 0 34 (dk_at dksX3_differ_4 4 rfl rfl)
theorem dX3_differ_99 : decode cX3_differ 99 = .ok (.bipush 40, 2) := dk_16 40 (dk_at dksX3_differ_4 7 rfl rfl)
theorem dX3_differ_101 : decode cX3_differ 101 = .ok (.iload_n 1, 1) := dk_27 (dk_at dksX3_differ_4 9 rfl rfl)
theorem dX3_differ_102 : decode cX3_differ 102 = .ok (.imul, 1) := dk_104 (dk_at dksX3_differ_4 10 rfl rfl)
theorem dX3_differ_103 : decode cX3_differ 103 = .ok (.iload 5, 2) := dk_21 5 (dk_at dksX3_differ_4 11 rfl rfl)
theorem dX3_differ_105 : decode cX3_differ 105 = .ok (.iadd, 1) := dk_96 (dk_at dksX3_differ_4 13 rfl rfl)
theorem dX3_differ_106 : decode cX3_differ 106 = .ok (.iload 6, 2) := dk_21 6 (dk_at dksX3_differ_4 14 rfl rfl)
theorem dX3_differ_108 : decode cX3_differ 108 = .ok (.i2l, 1) := dk_133 (dk_at dksX3_differ_4 16 rfl rfl)
theorem dX3_differ_109 : decode cX3_differ 109 = .ok (.lastore, 1) := dk_80 (dk_at dksX3_differ_4 17 rfl rfl)
theorem dX3_differ_110 : decode cX3_differ 110 = .ok (.aload_n 0, 1) := dk_42 (dk_at dksX3_differ_4 18 rfl rfl)
theorem dX3_differ_111 : decode cX3_differ 111 = .ok (.getfield 34, 3) := dk_180 0 34 (dk_at dksX3_differ_4 19 rfl rfl)
theorem dX3_differ_114 : decode cX3_differ 114 = .ok (.bipush 40, 2) := dk_16 40 (dk_at dksX3_differ_4 22 rfl rfl)
theorem dX3_differ_116 : decode cX3_differ 116 = .ok (.iload_n 1, 1) := dk_27 (dk_at dksX3_differ_5 0 rfl rfl)
theorem dX3_differ_117 : decode cX3_differ 117 = .ok (.imul, 1) := dk_104 (dk_at dksX3_differ_5 1 rfl rfl)
theorem dX3_differ_118 : decode cX3_differ 118 = .ok (.iload 5, 2) := dk_21 5 (dk_at dksX3_differ_5 2 rfl rfl)
theorem dX3_differ_120 : decode cX3_differ 120 = .ok (.iadd, 1) := dk_96 (dk_at dksX3_differ_5 4 rfl rfl)
theorem dX3_differ_121 : decode cX3_differ 121 = .ok (.iconst 1, 1) := dk_4 (dk_at dksX3_differ_5 5 rfl rfl)
theorem dX3_differ_122 : decode cX3_differ 122 = .ok (.iadd, 1) := dk_96 (dk_at dksX3_differ_5 6 rfl rfl)
theorem dX3_differ_123 : decode cX3_differ 123 = .ok (.aload_n 0, 1) := dk_42 (dk_at dksX3_differ_5 7 rfl rfl)
theorem dX3_differ_124 : decode cX3_differ 124 = .ok (.iload_n 3, 1) := dk_29 (dk_at dksX3_differ_5 8 rfl rfl)
theorem dX3_differ_125 : decode cX3_differ 125 = .ok (.iload 6, 2) := dk_21 6 (dk_at dksX3_differ_5 9 rfl rfl)
theorem dX3_differ_127 : decode cX3_differ 127 = .ok (.invokevirtual 86, 3) := dk_182 0 86 (dk_at dksX3_differ_5 11 rfl rfl)
theorem dX3_differ_130 : decode cX3_differ 130 = .ok (.i2l, 1) := dk_133 (dk_at dksX3_differ_5 14 rfl rfl)
theorem dX3_differ_131 : decode cX3_differ 131 = .ok (.lastore, 1) := dk_80 (dk_at dksX3_differ_5 15 rfl rfl)
theorem dX3_differ_132 : decode cX3_differ 132 = .ok (.iinc 5 2, 3) := dk_132 5 2 (dk_at dksX3_differ_5 16 rfl rfl)
theorem dX3_differ_135 : decode cX3_differ 135 = .ok (.iinc 6 1, 3) := dk_132 6 1 (dk_at dksX3_differ_5 19 rfl rfl)
theorem dX3_differ_138 : decode cX3_differ 138 = .ok (.goto (-83), 3) := dk_167 255 173 (dk_at dksX3_differ_6 0 rfl rfl)
theorem dX3_differ_141 : decode cX3_differ 141 = .ok (.aload_n 0, 1) := dk_42 (dk_at dksX3_differ_6 3 rfl rfl)
theorem dX3_differ_142 : decode cX3_differ 142 = .ok (.getfield 31, 3) := dk_180 0 31 (dk_at dksX3_differ_6 4 rfl rfl)
theorem dX3_differ_145 : decode cX3_differ 145 = .ok (.iload_n 1, 1) := dk_27 (dk_at dksX3_differ_6 7 rfl rfl)
theorem dX3_differ_146 : decode cX3_differ 146 = .ok (.iload 5, 2) := dk_21 5 (dk_at dksX3_differ_6 8 rfl rfl)
theorem dX3_differ_148 : decode cX3_differ 148 = .ok (.iastore, 1) := dk_79 (dk_at dksX3_differ_6 10 rfl rfl)
theorem dX3_differ_149 : decode cX3_differ 149 = .ok (.iload 5, 2) := dk_21 5 (dk_at dksX3_differ_6 11 rfl rfl)
theorem dX3_differ_151 : decode cX3_differ 151 = .ok (.ireturn, 1) := dk_172 (dk_at dksX3_differ_6 13 rfl rfl)
abbrev cX3_apply : ByteArray := prog_11_method_69_code
def yX3_apply : MethodName := ⟨RX3, "apply", "(III)I"⟩
def dkwX3_apply_6 : List UInt8 := [180, 0, 31, 28, 46, 5, 112, 4, 160, 0, 8, 16, 244, 167, 0, 5, 21, 5, 172]
abbrev dktX3_apply_6 : List UInt8 := dkwX3_apply_6 ++ []
def dkwX3_apply_5 : List UInt8 := [96, 47, 182, 0, 169, 153, 0, 7, 4, 167, 0, 4, 3, 96, 54, 5, 132, 6, 2, 167, 255, 196, 42]
abbrev dktX3_apply_5 : List UInt8 := dkwX3_apply_5 ++ dktX3_apply_6
def dkwX3_apply_4 : List UInt8 := [42, 180, 0, 34, 16, 40, 28, 104, 21, 6, 96, 47, 42, 180, 0, 34, 16, 40, 28, 104, 21, 6, 96, 4]
abbrev dktX3_apply_4 : List UInt8 := dkwX3_apply_4 ++ dktX3_apply_5
def dkwX3_apply_3 : List UInt8 := [172, 3, 54, 5, 3, 54, 6, 21, 6, 4, 96, 42, 180, 0, 31, 28, 46, 162, 0, 53, 21, 5, 42, 27]
abbrev dktX3_apply_3 : List UInt8 := dkwX3_apply_3 ++ dktX3_apply_4
def dkwX3_apply_2 : List UInt8 := [180, 0, 28, 28, 46, 29, 159, 0, 6, 16, 243, 172, 42, 180, 0, 28, 28, 46, 2, 160, 0, 6, 16, 245]
abbrev dktX3_apply_2 : List UInt8 := dkwX3_apply_2 ++ dktX3_apply_3
def dkwX3_apply_1 : List UInt8 := [182, 0, 92, 54, 4, 21, 4, 153, 0, 6, 21, 4, 172, 42, 180, 0, 28, 28, 46, 2, 159, 0, 16, 42]
abbrev dktX3_apply_1 : List UInt8 := dkwX3_apply_1 ++ dktX3_apply_2
def dkwX3_apply_0 : List UInt8 := [28, 184, 0, 158, 153, 0, 12, 29, 3, 4, 184, 0, 42, 154, 0, 6, 16, 254, 172, 42, 27, 3]
abbrev dktX3_apply_0 : List UInt8 := dkwX3_apply_0 ++ dktX3_apply_1
theorem dksX3_apply_0 : cX3_apply.data.toList.drop 0 = dktX3_apply_0 := by decide +kernel
theorem dksX3_apply_1 : cX3_apply.data.toList.drop 22 = dktX3_apply_1 := dk_seg dksX3_apply_0 22 rfl rfl
theorem dksX3_apply_2 : cX3_apply.data.toList.drop 46 = dktX3_apply_2 := dk_seg dksX3_apply_1 24 rfl rfl
theorem dksX3_apply_3 : cX3_apply.data.toList.drop 70 = dktX3_apply_3 := dk_seg dksX3_apply_2 24 rfl rfl
theorem dksX3_apply_4 : cX3_apply.data.toList.drop 94 = dktX3_apply_4 := dk_seg dksX3_apply_3 24 rfl rfl
theorem dksX3_apply_5 : cX3_apply.data.toList.drop 118 = dktX3_apply_5 := dk_seg dksX3_apply_4 24 rfl rfl
theorem dksX3_apply_6 : cX3_apply.data.toList.drop 141 = dktX3_apply_6 := dk_seg dksX3_apply_5 23 rfl rfl
theorem dX3_apply_0 : decode cX3_apply 0 = .ok (.iload_n 2, 1) := dk_28 (dk_at dksX3_apply_0 0 rfl rfl)
theorem dX3_apply_1 : decode cX3_apply 1 = .ok (.invokestatic 158, 3) := dk_184 0 158 (dk_at dksX3_apply_0 1 rfl rfl)
theorem dX3_apply_4 : decode cX3_apply 4 = .ok (.ifCond .eq 12, 3) := dk_153 0 12 (dk_at dksX3_apply_0 4 rfl rfl)
theorem dX3_apply_7 : decode cX3_apply 7 = .ok (.iload_n 3, 1) := dk_29 (dk_at dksX3_apply_0 7 rfl rfl)
theorem dX3_apply_8 : decode cX3_apply 8 = .ok (.iconst 0, 1) := dk_3 (dk_at dksX3_apply_0 8 rfl rfl)
theorem dX3_apply_9 : decode cX3_apply 9 = .ok (.iconst 1, 1) := dk_4 (dk_at dksX3_apply_0 9 rfl rfl)
theorem dX3_apply_10 : decode cX3_apply 10 = .ok (.invokestatic 42, 3) := dk_184 0 42 (dk_at dksX3_apply_0 10 rfl rfl)
theorem dX3_apply_13 : decode cX3_apply 13 = .ok (.ifCond .ne 6, 3) := dk_154 0 6 (dk_at dksX3_apply_0 13 rfl rfl)
theorem dX3_apply_16 : decode cX3_apply 16 = .ok (.bipush (-2), 2) := dk_16 254 (dk_at dksX3_apply_0 16 rfl rfl)
theorem dX3_apply_18 : decode cX3_apply 18 = .ok (.ireturn, 1) := dk_172 (dk_at dksX3_apply_0 18 rfl rfl)
theorem dX3_apply_19 : decode cX3_apply 19 = .ok (.aload_n 0, 1) := dk_42 (dk_at dksX3_apply_0 19 rfl rfl)
theorem dX3_apply_20 : decode cX3_apply 20 = .ok (.iload_n 1, 1) := dk_27 (dk_at dksX3_apply_0 20 rfl rfl)
theorem dX3_apply_21 : decode cX3_apply 21 = .ok (.iconst 0, 1) := dk_3 (dk_at dksX3_apply_0 21 rfl rfl)
theorem dX3_apply_22 : decode cX3_apply 22 = .ok (.invokevirtual 92, 3) := dk_182 0 92 (dk_at dksX3_apply_1 0 rfl rfl)
theorem dX3_apply_25 : decode cX3_apply 25 = .ok (.istore 4, 2) := dk_54 4 (dk_at dksX3_apply_1 3 rfl rfl)
theorem dX3_apply_27 : decode cX3_apply 27 = .ok (.iload 4, 2) := dk_21 4 (dk_at dksX3_apply_1 5 rfl rfl)
theorem dX3_apply_29 : decode cX3_apply 29 = .ok (.ifCond .eq 6, 3) := dk_153 0 6 (dk_at dksX3_apply_1 7 rfl rfl)
theorem dX3_apply_32 : decode cX3_apply 32 = .ok (.iload 4, 2) := dk_21 4 (dk_at dksX3_apply_1 10 rfl rfl)
theorem dX3_apply_34 : decode cX3_apply 34 = .ok (.ireturn, 1) := dk_172 (dk_at dksX3_apply_1 12 rfl rfl)
theorem dX3_apply_35 : decode cX3_apply 35 = .ok (.aload_n 0, 1) := dk_42 (dk_at dksX3_apply_1 13 rfl rfl)
theorem dX3_apply_36 : decode cX3_apply 36 = .ok (.getfield 28, 3) := dk_180 0 28 (dk_at dksX3_apply_1 14 rfl rfl)
theorem dX3_apply_39 : decode cX3_apply 39 = .ok (.iload_n 2, 1) := dk_28 (dk_at dksX3_apply_1 17 rfl rfl)
theorem dX3_apply_40 : decode cX3_apply 40 = .ok (.iaload, 1) := dk_46 (dk_at dksX3_apply_1 18 rfl rfl)
theorem dX3_apply_41 : decode cX3_apply 41 = .ok (.iconst (-1), 1) := dk_2 (dk_at dksX3_apply_1 19 rfl rfl)
theorem dX3_apply_42 : decode cX3_apply 42 = .ok (.if_icmp .eq 16, 3) := dk_159 0 16 (dk_at dksX3_apply_1 20 rfl rfl)
theorem dX3_apply_45 : decode cX3_apply 45 = .ok (.aload_n 0, 1) := dk_42 (dk_at dksX3_apply_1 23 rfl rfl)
theorem dX3_apply_46 : decode cX3_apply 46 = .ok (.getfield 28, 3) := dk_180 0 28 (dk_at dksX3_apply_2 0 rfl rfl)
theorem dX3_apply_49 : decode cX3_apply 49 = .ok (.iload_n 2, 1) := dk_28 (dk_at dksX3_apply_2 3 rfl rfl)
theorem dX3_apply_50 : decode cX3_apply 50 = .ok (.iaload, 1) := dk_46 (dk_at dksX3_apply_2 4 rfl rfl)
theorem dX3_apply_51 : decode cX3_apply 51 = .ok (.iload_n 3, 1) := dk_29 (dk_at dksX3_apply_2 5 rfl rfl)
theorem dX3_apply_52 : decode cX3_apply 52 = .ok (.if_icmp .eq 6, 3) := dk_159 0 6 (dk_at dksX3_apply_2 6 rfl rfl)
theorem dX3_apply_55 : decode cX3_apply 55 = .ok (.bipush (-13), 2) := dk_16 243 (dk_at dksX3_apply_2 9 rfl rfl)
theorem dX3_apply_57 : decode cX3_apply 57 = .ok (.ireturn, 1) := dk_172 (dk_at dksX3_apply_2 11 rfl rfl)
theorem dX3_apply_58 : decode cX3_apply 58 = .ok (.aload_n 0, 1) := dk_42 (dk_at dksX3_apply_2 12 rfl rfl)
theorem dX3_apply_59 : decode cX3_apply 59 = .ok (.getfield 28, 3) := dk_180 0 28 (dk_at dksX3_apply_2 13 rfl rfl)
theorem dX3_apply_62 : decode cX3_apply 62 = .ok (.iload_n 2, 1) := dk_28 (dk_at dksX3_apply_2 16 rfl rfl)
theorem dX3_apply_63 : decode cX3_apply 63 = .ok (.iaload, 1) := dk_46 (dk_at dksX3_apply_2 17 rfl rfl)
theorem dX3_apply_64 : decode cX3_apply 64 = .ok (.iconst (-1), 1) := dk_2 (dk_at dksX3_apply_2 18 rfl rfl)
theorem dX3_apply_65 : decode cX3_apply 65 = .ok (.if_icmp .ne 6, 3) := dk_160 0 6 (dk_at dksX3_apply_2 19 rfl rfl)
theorem dX3_apply_68 : decode cX3_apply 68 = .ok (.bipush (-11), 2) := dk_16 245 (dk_at dksX3_apply_2 22 rfl rfl)
theorem dX3_apply_70 : decode cX3_apply 70 = .ok (.ireturn, 1) := dk_172 (dk_at dksX3_apply_3 0 rfl rfl)
theorem dX3_apply_71 : decode cX3_apply 71 = .ok (.iconst 0, 1) := dk_3 (dk_at dksX3_apply_3 1 rfl rfl)
theorem dX3_apply_72 : decode cX3_apply 72 = .ok (.istore 5, 2) := dk_54 5 (dk_at dksX3_apply_3 2 rfl rfl)
theorem dX3_apply_74 : decode cX3_apply 74 = .ok (.iconst 0, 1) := dk_3 (dk_at dksX3_apply_3 4 rfl rfl)
theorem dX3_apply_75 : decode cX3_apply 75 = .ok (.istore 6, 2) := dk_54 6 (dk_at dksX3_apply_3 5 rfl rfl)
theorem dX3_apply_77 : decode cX3_apply 77 = .ok (.iload 6, 2) := dk_21 6 (dk_at dksX3_apply_3 7 rfl rfl)
theorem dX3_apply_79 : decode cX3_apply 79 = .ok (.iconst 1, 1) := dk_4 (dk_at dksX3_apply_3 9 rfl rfl)
theorem dX3_apply_80 : decode cX3_apply 80 = .ok (.iadd, 1) := dk_96 (dk_at dksX3_apply_3 10 rfl rfl)
theorem dX3_apply_81 : decode cX3_apply 81 = .ok (.aload_n 0, 1) := dk_42 (dk_at dksX3_apply_3 11 rfl rfl)
theorem dX3_apply_82 : decode cX3_apply 82 = .ok (.getfield 31, 3) := dk_180 0 31 (dk_at dksX3_apply_3 12 rfl rfl)
theorem dX3_apply_85 : decode cX3_apply 85 = .ok (.iload_n 2, 1) := dk_28 (dk_at dksX3_apply_3 15 rfl rfl)
theorem dX3_apply_86 : decode cX3_apply 86 = .ok (.iaload, 1) := dk_46 (dk_at dksX3_apply_3 16 rfl rfl)
theorem dX3_apply_87 : decode cX3_apply 87 = .ok (.if_icmp .ge 53, 3) := dk_162 0 53 (dk_at dksX3_apply_3 17 rfl rfl)
theorem dX3_apply_90 : decode cX3_apply 90 = .ok (.iload 5, 2) := dk_21 5 (dk_at dksX3_apply_3 20 rfl rfl)
theorem dX3_apply_92 : decode cX3_apply 92 = .ok (.aload_n 0, 1) := dk_42 (dk_at dksX3_apply_3 22 rfl rfl)
theorem dX3_apply_93 : decode cX3_apply 93 = .ok (.iload_n 1, 1) := dk_27 (dk_at dksX3_apply_3 23 rfl rfl)
theorem dX3_apply_94 : decode cX3_apply 94 = .ok (.aload_n 0, 1) := dk_42 (dk_at dksX3_apply_4 0 rfl rfl)
theorem dX3_apply_95 : decode cX3_apply 95 = .ok (.getfield 34, 3) := dk_180 0 34 (dk_at dksX3_apply_4 1 rfl rfl)
theorem dX3_apply_98 : decode cX3_apply 98 = .ok (.bipush 40, 2) := dk_16 40 (dk_at dksX3_apply_4 4 rfl rfl)
theorem dX3_apply_100 : decode cX3_apply 100 = .ok (.iload_n 2, 1) := dk_28 (dk_at dksX3_apply_4 6 rfl rfl)
theorem dX3_apply_101 : decode cX3_apply 101 = .ok (.imul, 1) := dk_104 (dk_at dksX3_apply_4 7 rfl rfl)
theorem dX3_apply_102 : decode cX3_apply 102 = .ok (.iload 6, 2) := dk_21 6 (dk_at dksX3_apply_4 8 rfl rfl)
theorem dX3_apply_104 : decode cX3_apply 104 = .ok (.iadd, 1) := dk_96 (dk_at dksX3_apply_4 10 rfl rfl)
theorem dX3_apply_105 : decode cX3_apply 105 = .ok (.laload, 1) := dk_47 (dk_at dksX3_apply_4 11 rfl rfl)
theorem dX3_apply_106 : decode cX3_apply 106 = .ok (.aload_n 0, 1) := dk_42 (dk_at dksX3_apply_4 12 rfl rfl)
theorem dX3_apply_107 : decode cX3_apply 107 = .ok (.getfield 34, 3) := dk_180 0 34 (dk_at dksX3_apply_4 13 rfl rfl)
theorem dX3_apply_110 : decode cX3_apply 110 = .ok (.bipush 40, 2) := dk_16 40 (dk_at dksX3_apply_4 16 rfl rfl)
theorem dX3_apply_112 : decode cX3_apply 112 = .ok (.iload_n 2, 1) := dk_28 (dk_at dksX3_apply_4 18 rfl rfl)
theorem dX3_apply_113 : decode cX3_apply 113 = .ok (.imul, 1) := dk_104 (dk_at dksX3_apply_4 19 rfl rfl)
theorem dX3_apply_114 : decode cX3_apply 114 = .ok (.iload 6, 2) := dk_21 6 (dk_at dksX3_apply_4 20 rfl rfl)
theorem dX3_apply_116 : decode cX3_apply 116 = .ok (.iadd, 1) := dk_96 (dk_at dksX3_apply_4 22 rfl rfl)
theorem dX3_apply_117 : decode cX3_apply 117 = .ok (.iconst 1, 1) := dk_4 (dk_at dksX3_apply_4 23 rfl rfl)
theorem dX3_apply_118 : decode cX3_apply 118 = .ok (.iadd, 1) := dk_96 (dk_at dksX3_apply_5 0 rfl rfl)
theorem dX3_apply_119 : decode cX3_apply 119 = .ok (.laload, 1) := dk_47 (dk_at dksX3_apply_5 1 rfl rfl)
theorem dX3_apply_120 : decode cX3_apply 120 = .ok (.invokevirtual 169, 3) := dk_182 0 169 (dk_at dksX3_apply_5 2 rfl rfl)
theorem dX3_apply_123 : decode cX3_apply 123 = .ok (.ifCond .eq 7, 3) := dk_153 0 7 (dk_at dksX3_apply_5 5 rfl rfl)
theorem dX3_apply_126 : decode cX3_apply 126 = .ok (.iconst 1, 1) := dk_4 (dk_at dksX3_apply_5 8 rfl rfl)
theorem dX3_apply_127 : decode cX3_apply 127 = .ok (.goto 4, 3) := dk_167 0 4 (dk_at dksX3_apply_5 9 rfl rfl)
theorem dX3_apply_130 : decode cX3_apply 130 = .ok (.iconst 0, 1) := dk_3 (dk_at dksX3_apply_5 12 rfl rfl)
theorem dX3_apply_131 : decode cX3_apply 131 = .ok (.iadd, 1) := dk_96 (dk_at dksX3_apply_5 13 rfl rfl)
theorem dX3_apply_132 : decode cX3_apply 132 = .ok (.istore 5, 2) := dk_54 5 (dk_at dksX3_apply_5 14 rfl rfl)
theorem dX3_apply_134 : decode cX3_apply 134 = .ok (.iinc 6 2, 3) := dk_132 6 2 (dk_at dksX3_apply_5 16 rfl rfl)
theorem dX3_apply_137 : decode cX3_apply 137 = .ok (.goto (-60), 3) := dk_167 255 196 (dk_at dksX3_apply_5 19 rfl rfl)
theorem dX3_apply_140 : decode cX3_apply 140 = .ok (.aload_n 0, 1) := dk_42 (dk_at dksX3_apply_5 22 rfl rfl)
theorem dX3_apply_141 : decode cX3_apply 141 = .ok (.getfield 31, 3) := dk_180 0 31 (dk_at dksX3_apply_6 0 rfl rfl)
theorem dX3_apply_144 : decode cX3_apply 144 = .ok (.iload_n 2, 1) := dk_28 (dk_at dksX3_apply_6 3 rfl rfl)
theorem dX3_apply_145 : decode cX3_apply 145 = .ok (.iaload, 1) := dk_46 (dk_at dksX3_apply_6 4 rfl rfl)
theorem dX3_apply_146 : decode cX3_apply 146 = .ok (.iconst 2, 1) := dk_5 (dk_at dksX3_apply_6 5 rfl rfl)
theorem dX3_apply_147 : decode cX3_apply 147 = .ok (.irem, 1) := dk_112 (dk_at dksX3_apply_6 6 rfl rfl)
theorem dX3_apply_148 : decode cX3_apply 148 = .ok (.iconst 1, 1) := dk_4 (dk_at dksX3_apply_6 7 rfl rfl)
theorem dX3_apply_149 : decode cX3_apply 149 = .ok (.if_icmp .ne 8, 3) := dk_160 0 8 (dk_at dksX3_apply_6 8 rfl rfl)
theorem dX3_apply_152 : decode cX3_apply 152 = .ok (.bipush (-12), 2) := dk_16 244 (dk_at dksX3_apply_6 11 rfl rfl)
theorem dX3_apply_154 : decode cX3_apply 154 = .ok (.goto 5, 3) := dk_167 0 5 (dk_at dksX3_apply_6 13 rfl rfl)
theorem dX3_apply_157 : decode cX3_apply 157 = .ok (.iload 5, 2) := dk_21 5 (dk_at dksX3_apply_6 16 rfl rfl)
theorem dX3_apply_159 : decode cX3_apply 159 = .ok (.ireturn, 1) := dk_172 (dk_at dksX3_apply_6 18 rfl rfl)
abbrev cX3_isApplied : ByteArray := prog_11_method_68_code
def yX3_isApplied : MethodName := ⟨RX3, "isApplied", "(IJJ)Z"⟩
def dkwX3_isApplied_2 : List UInt8 := [4, 172, 42, 27, 32, 136, 22, 4, 136, 182, 0, 95, 155, 0, 7, 4, 167, 0, 4, 3, 172]
abbrev dktX3_isApplied_2 : List UInt8 := dkwX3_isApplied_2 ++ []
def dkwX3_isApplied_1 : List UInt8 := [20, 0, 167, 148, 158, 0, 5, 3, 172, 22, 4, 9, 148, 154, 0, 13, 42, 27, 32, 136, 182, 0, 99, 87]
abbrev dktX3_isApplied_1 : List UInt8 := dkwX3_isApplied_1 ++ dktX3_isApplied_2
def dkwX3_isApplied_0 : List UInt8 := [32, 9, 148, 155, 0, 27, 32, 20, 0, 165, 148, 157, 0, 19, 22, 4, 9, 148, 155, 0, 12, 22, 4]
abbrev dktX3_isApplied_0 : List UInt8 := dkwX3_isApplied_0 ++ dktX3_isApplied_1
theorem dksX3_isApplied_0 : cX3_isApplied.data.toList.drop 0 = dktX3_isApplied_0 := by decide +kernel
theorem dksX3_isApplied_1 : cX3_isApplied.data.toList.drop 23 = dktX3_isApplied_1 := dk_seg dksX3_isApplied_0 23 rfl rfl
theorem dksX3_isApplied_2 : cX3_isApplied.data.toList.drop 47 = dktX3_isApplied_2 := dk_seg dksX3_isApplied_1 24 rfl rfl
theorem dX3_isApplied_0 : decode cX3_isApplied 0 = .ok (.lload_n 2, 1) := dk_32 (dk_at dksX3_isApplied_0 0 rfl rfl)
theorem dX3_isApplied_1 : decode cX3_isApplied 1 = .ok (.lconst 0, 1) := dk_9 (dk_at dksX3_isApplied_0 1 rfl rfl)
theorem dX3_isApplied_2 : decode cX3_isApplied 2 = .ok (.lcmp, 1) := dk_148 (dk_at dksX3_isApplied_0 2 rfl rfl)
theorem dX3_isApplied_3 : decode cX3_isApplied 3 = .ok (.ifCond .lt 27, 3) := dk_155 0 27 (dk_at dksX3_isApplied_0 3 rfl rfl)
theorem dX3_isApplied_6 : decode cX3_isApplied 6 = .ok (.lload_n 2, 1) := dk_32 (dk_at dksX3_isApplied_0 6 rfl rfl)
theorem dX3_isApplied_7 : decode cX3_isApplied 7 = .ok (.ldc2_w 165, 3) := dk_20 0 165 (dk_at dksX3_isApplied_0 7 rfl rfl)
theorem dX3_isApplied_10 : decode cX3_isApplied 10 = .ok (.lcmp, 1) := dk_148 (dk_at dksX3_isApplied_0 10 rfl rfl)
theorem dX3_isApplied_11 : decode cX3_isApplied 11 = .ok (.ifCond .gt 19, 3) := dk_157 0 19 (dk_at dksX3_isApplied_0 11 rfl rfl)
theorem dX3_isApplied_14 : decode cX3_isApplied 14 = .ok (.lload 4, 2) := dk_22 4 (dk_at dksX3_isApplied_0 14 rfl rfl)
theorem dX3_isApplied_16 : decode cX3_isApplied 16 = .ok (.lconst 0, 1) := dk_9 (dk_at dksX3_isApplied_0 16 rfl rfl)
theorem dX3_isApplied_17 : decode cX3_isApplied 17 = .ok (.lcmp, 1) := dk_148 (dk_at dksX3_isApplied_0 17 rfl rfl)
theorem dX3_isApplied_18 : decode cX3_isApplied 18 = .ok (.ifCond .lt 12, 3) := dk_155 0 12 (dk_at dksX3_isApplied_0 18 rfl rfl)
theorem dX3_isApplied_21 : decode cX3_isApplied 21 = .ok (.lload 4, 2) := dk_22 4 (dk_at dksX3_isApplied_0 21 rfl rfl)
theorem dX3_isApplied_23 : decode cX3_isApplied 23 = .ok (.ldc2_w 167, 3) := dk_20 0 167 (dk_at dksX3_isApplied_1 0 rfl rfl)
theorem dX3_isApplied_26 : decode cX3_isApplied 26 = .ok (.lcmp, 1) := dk_148 (dk_at dksX3_isApplied_1 3 rfl rfl)
theorem dX3_isApplied_27 : decode cX3_isApplied 27 = .ok (.ifCond .le 5, 3) := dk_158 0 5 (dk_at dksX3_isApplied_1 4 rfl rfl)
theorem dX3_isApplied_30 : decode cX3_isApplied 30 = .ok (.iconst 0, 1) := dk_3 (dk_at dksX3_isApplied_1 7 rfl rfl)
theorem dX3_isApplied_31 : decode cX3_isApplied 31 = .ok (.ireturn, 1) := dk_172 (dk_at dksX3_isApplied_1 8 rfl rfl)
theorem dX3_isApplied_32 : decode cX3_isApplied 32 = .ok (.lload 4, 2) := dk_22 4 (dk_at dksX3_isApplied_1 9 rfl rfl)
theorem dX3_isApplied_34 : decode cX3_isApplied 34 = .ok (.lconst 0, 1) := dk_9 (dk_at dksX3_isApplied_1 11 rfl rfl)
theorem dX3_isApplied_35 : decode cX3_isApplied 35 = .ok (.lcmp, 1) := dk_148 (dk_at dksX3_isApplied_1 12 rfl rfl)
theorem dX3_isApplied_36 : decode cX3_isApplied 36 = .ok (.ifCond .ne 13, 3) := dk_154 0 13 (dk_at dksX3_isApplied_1 13 rfl rfl)
theorem dX3_isApplied_39 : decode cX3_isApplied 39 = .ok (.aload_n 0, 1) := dk_42 (dk_at dksX3_isApplied_1 16 rfl rfl)
theorem dX3_isApplied_40 : decode cX3_isApplied 40 = .ok (.iload_n 1, 1) := dk_27 (dk_at dksX3_isApplied_1 17 rfl rfl)
theorem dX3_isApplied_41 : decode cX3_isApplied 41 = .ok (.lload_n 2, 1) := dk_32 (dk_at dksX3_isApplied_1 18 rfl rfl)
theorem dX3_isApplied_42 : decode cX3_isApplied 42 = .ok (.l2i, 1) := dk_136 (dk_at dksX3_isApplied_1 19 rfl rfl)
theorem dX3_isApplied_43 : decode cX3_isApplied 43 = .ok (.invokevirtual 99, 3) := dk_182 0 99 (dk_at dksX3_isApplied_1 20 rfl rfl)
theorem dX3_isApplied_46 : decode cX3_isApplied 46 = .ok (.pop, 1) := dk_87 (dk_at dksX3_isApplied_1 23 rfl rfl)
theorem dX3_isApplied_47 : decode cX3_isApplied 47 = .ok (.iconst 1, 1) := dk_4 (dk_at dksX3_isApplied_2 0 rfl rfl)
theorem dX3_isApplied_48 : decode cX3_isApplied 48 = .ok (.ireturn, 1) := dk_172 (dk_at dksX3_isApplied_2 1 rfl rfl)
theorem dX3_isApplied_49 : decode cX3_isApplied 49 = .ok (.aload_n 0, 1) := dk_42 (dk_at dksX3_isApplied_2 2 rfl rfl)
theorem dX3_isApplied_50 : decode cX3_isApplied 50 = .ok (.iload_n 1, 1) := dk_27 (dk_at dksX3_isApplied_2 3 rfl rfl)
theorem dX3_isApplied_51 : decode cX3_isApplied 51 = .ok (.lload_n 2, 1) := dk_32 (dk_at dksX3_isApplied_2 4 rfl rfl)
theorem dX3_isApplied_52 : decode cX3_isApplied 52 = .ok (.l2i, 1) := dk_136 (dk_at dksX3_isApplied_2 5 rfl rfl)
theorem dX3_isApplied_53 : decode cX3_isApplied 53 = .ok (.lload 4, 2) := dk_22 4 (dk_at dksX3_isApplied_2 6 rfl rfl)
theorem dX3_isApplied_55 : decode cX3_isApplied 55 = .ok (.l2i, 1) := dk_136 (dk_at dksX3_isApplied_2 8 rfl rfl)
theorem dX3_isApplied_56 : decode cX3_isApplied 56 = .ok (.invokevirtual 95, 3) := dk_182 0 95 (dk_at dksX3_isApplied_2 9 rfl rfl)
theorem dX3_isApplied_59 : decode cX3_isApplied 59 = .ok (.ifCond .lt 7, 3) := dk_155 0 7 (dk_at dksX3_isApplied_2 12 rfl rfl)
theorem dX3_isApplied_62 : decode cX3_isApplied 62 = .ok (.iconst 1, 1) := dk_4 (dk_at dksX3_isApplied_2 15 rfl rfl)
theorem dX3_isApplied_63 : decode cX3_isApplied 63 = .ok (.goto 4, 3) := dk_167 0 4 (dk_at dksX3_isApplied_2 16 rfl rfl)
theorem dX3_isApplied_66 : decode cX3_isApplied 66 = .ok (.iconst 0, 1) := dk_3 (dk_at dksX3_isApplied_2 19 rfl rfl)
theorem dX3_isApplied_67 : decode cX3_isApplied 67 = .ok (.ireturn, 1) := dk_172 (dk_at dksX3_isApplied_2 20 rfl rfl)
abbrev cX3_drawn : ByteArray := prog_11_method_73_code
def yX3_drawn : MethodName := ⟨RX3, "drawn", "(III)J"⟩
def dkwX3_drawn_9 : List UInt8 := [79, 132, 8, 1, 167, 255, 231, 22, 6, 173]
abbrev dktX3_drawn_9 : List UInt8 := dkwX3_drawn_9 ++ []
def dkwX3_drawn_8 : List UInt8 := [3, 54, 8, 21, 8, 17, 2, 42, 162, 0, 23, 42, 180, 0, 7, 21, 8, 42, 180, 0, 16, 21, 8, 46]
abbrev dktX3_drawn_8 : List UInt8 := dkwX3_drawn_8 ++ dktX3_drawn_9
def dkwX3_drawn_7 : List UInt8 := [160, 0, 20, 42, 180, 0, 7, 4, 46, 42, 180, 0, 16, 4, 46, 100, 133, 167, 0, 5, 22, 4, 55, 6]
abbrev dktX3_drawn_7 : List UInt8 := dkwX3_drawn_7 ++ dktX3_drawn_8
def dkwX3_drawn_6 : List UInt8 := [42, 182, 0, 207, 133, 167, 0, 40, 29, 4, 160, 0, 11, 42, 182, 0, 210, 133, 167, 0, 27, 29, 5]
abbrev dktX3_drawn_6 : List UInt8 := dkwX3_drawn_6 ++ dktX3_drawn_7
def dkwX3_drawn_5 : List UInt8 := [180, 0, 7, 17, 1, 106, 21, 6, 96, 46, 133, 97, 55, 4, 132, 6, 1, 167, 255, 229, 29, 154, 0, 11]
abbrev dktX3_drawn_5 : List UInt8 := dkwX3_drawn_5 ++ dktX3_drawn_6
def dkwX3_drawn_4 : List UInt8 := [132, 4, 1, 167, 255, 219, 9, 55, 4, 3, 54, 6, 21, 6, 16, 96, 162, 0, 26, 22, 4, 42]
abbrev dktX3_drawn_4 : List UInt8 := dkwX3_drawn_4 ++ dktX3_drawn_5
def dkwX3_drawn_3 : List UInt8 := [54, 5, 42, 182, 0, 201, 54, 6, 42, 182, 0, 201, 54, 7, 42, 21, 5, 21, 6, 21, 7, 182, 0, 204]
abbrev dktX3_drawn_3 : List UInt8 := dkwX3_drawn_3 ++ dktX3_drawn_4
def dkwX3_drawn_2 : List UInt8 := [132, 4, 1, 167, 255, 231, 42, 27, 181, 0, 173, 3, 54, 4, 21, 4, 28, 162, 0, 37, 42, 182, 0, 201]
abbrev dktX3_drawn_2 : List UInt8 := dkwX3_drawn_2 ++ dktX3_drawn_3
def dkwX3_drawn_1 : List UInt8 := [54, 4, 21, 4, 17, 2, 42, 162, 0, 23, 42, 180, 0, 16, 21, 4, 42, 180, 0, 7, 21, 4, 46, 79]
abbrev dktX3_drawn_1 : List UInt8 := dkwX3_drawn_1 ++ dktX3_drawn_2
def dkwX3_drawn_0 : List UInt8 := [28, 3, 16, 60, 184, 0, 42, 153, 0, 12, 29, 3, 6, 184, 0, 42, 154, 0, 7, 20, 0, 134, 173, 3]
abbrev dktX3_drawn_0 : List UInt8 := dkwX3_drawn_0 ++ dktX3_drawn_1
theorem dksX3_drawn_0 : cX3_drawn.data.toList.drop 0 = dktX3_drawn_0 := by decide +kernel
theorem dksX3_drawn_1 : cX3_drawn.data.toList.drop 24 = dktX3_drawn_1 := dk_seg dksX3_drawn_0 24 rfl rfl
theorem dksX3_drawn_2 : cX3_drawn.data.toList.drop 48 = dktX3_drawn_2 := dk_seg dksX3_drawn_1 24 rfl rfl
theorem dksX3_drawn_3 : cX3_drawn.data.toList.drop 72 = dktX3_drawn_3 := dk_seg dksX3_drawn_2 24 rfl rfl
theorem dksX3_drawn_4 : cX3_drawn.data.toList.drop 96 = dktX3_drawn_4 := dk_seg dksX3_drawn_3 24 rfl rfl
theorem dksX3_drawn_5 : cX3_drawn.data.toList.drop 118 = dktX3_drawn_5 := dk_seg dksX3_drawn_4 22 rfl rfl
theorem dksX3_drawn_6 : cX3_drawn.data.toList.drop 142 = dktX3_drawn_6 := dk_seg dksX3_drawn_5 24 rfl rfl
theorem dksX3_drawn_7 : cX3_drawn.data.toList.drop 165 = dktX3_drawn_7 := dk_seg dksX3_drawn_6 23 rfl rfl
theorem dksX3_drawn_8 : cX3_drawn.data.toList.drop 189 = dktX3_drawn_8 := dk_seg dksX3_drawn_7 24 rfl rfl
theorem dksX3_drawn_9 : cX3_drawn.data.toList.drop 213 = dktX3_drawn_9 := dk_seg dksX3_drawn_8 24 rfl rfl
theorem dX3_drawn_0 : decode cX3_drawn 0 = .ok (.iload_n 2, 1) := dk_28 (dk_at dksX3_drawn_0 0 rfl rfl)
theorem dX3_drawn_1 : decode cX3_drawn 1 = .ok (.iconst 0, 1) := dk_3 (dk_at dksX3_drawn_0 1 rfl rfl)
theorem dX3_drawn_2 : decode cX3_drawn 2 = .ok (.bipush 60, 2) := dk_16 60 (dk_at dksX3_drawn_0 2 rfl rfl)
theorem dX3_drawn_4 : decode cX3_drawn 4 = .ok (.invokestatic 42, 3) := dk_184 0 42 (dk_at dksX3_drawn_0 4 rfl rfl)
theorem dX3_drawn_7 : decode cX3_drawn 7 = .ok (.ifCond .eq 12, 3) := dk_153 0 12 (dk_at dksX3_drawn_0 7 rfl rfl)
theorem dX3_drawn_10 : decode cX3_drawn 10 = .ok (.iload_n 3, 1) := dk_29 (dk_at dksX3_drawn_0 10 rfl rfl)
theorem dX3_drawn_11 : decode cX3_drawn 11 = .ok (.iconst 0, 1) := dk_3 (dk_at dksX3_drawn_0 11 rfl rfl)
theorem dX3_drawn_12 : decode cX3_drawn 12 = .ok (.iconst 3, 1) := dk_6 (dk_at dksX3_drawn_0 12 rfl rfl)
theorem dX3_drawn_13 : decode cX3_drawn 13 = .ok (.invokestatic 42, 3) := dk_184 0 42 (dk_at dksX3_drawn_0 13 rfl rfl)
theorem dX3_drawn_16 : decode cX3_drawn 16 = .ok (.ifCond .ne 7, 3) := dk_154 0 7 (dk_at dksX3_drawn_0 16 rfl rfl)
theorem dX3_drawn_19 : decode cX3_drawn 19 = .ok (.ldc2_w 134, 3) := dk_20 0 134 (dk_at dksX3_drawn_0 19 rfl rfl)
theorem dX3_drawn_22 : decode cX3_drawn 22 = .ok (.lreturn, 1) := dk_173 (dk_at dksX3_drawn_0 22 rfl rfl)
theorem dX3_drawn_23 : decode cX3_drawn 23 = .ok (.iconst 0, 1) := dk_3 (dk_at dksX3_drawn_0 23 rfl rfl)
theorem dX3_drawn_24 : decode cX3_drawn 24 = .ok (.istore 4, 2) := dk_54 4 (dk_at dksX3_drawn_1 0 rfl rfl)
theorem dX3_drawn_26 : decode cX3_drawn 26 = .ok (.iload 4, 2) := dk_21 4 (dk_at dksX3_drawn_1 2 rfl rfl)
theorem dX3_drawn_28 : decode cX3_drawn 28 = .ok (.sipush 554, 3) := dk_17 2 42 (dk_at dksX3_drawn_1 4 rfl rfl)
theorem dX3_drawn_31 : decode cX3_drawn 31 = .ok (.if_icmp .ge 23, 3) := dk_162 0 23 (dk_at dksX3_drawn_1 7 rfl rfl)
theorem dX3_drawn_34 : decode cX3_drawn 34 = .ok (.aload_n 0, 1) := dk_42 (dk_at dksX3_drawn_1 10 rfl rfl)
theorem dX3_drawn_35 : decode cX3_drawn 35 = .ok (.getfield 16, 3) := dk_180 0 16 (dk_at dksX3_drawn_1 11 rfl rfl)
theorem dX3_drawn_38 : decode cX3_drawn 38 = .ok (.iload 4, 2) := dk_21 4 (dk_at dksX3_drawn_1 14 rfl rfl)
theorem dX3_drawn_40 : decode cX3_drawn 40 = .ok (.aload_n 0, 1) := dk_42 (dk_at dksX3_drawn_1 16 rfl rfl)
theorem dX3_drawn_41 : decode cX3_drawn 41 = .ok (.getfield 7, 3) := dk_180 0 7 (dk_at dksX3_drawn_1 17 rfl rfl)
theorem dX3_drawn_44 : decode cX3_drawn 44 = .ok (.iload 4, 2) := dk_21 4 (dk_at dksX3_drawn_1 20 rfl rfl)
theorem dX3_drawn_46 : decode cX3_drawn 46 = .ok (.iaload, 1) := dk_46 (dk_at dksX3_drawn_1 22 rfl rfl)
theorem dX3_drawn_47 : decode cX3_drawn 47 = .ok (.iastore, 1) := dk_79 (dk_at dksX3_drawn_1 23 rfl rfl)
theorem dX3_drawn_48 : decode cX3_drawn 48 = .ok (.iinc 4 1, 3) := dk_132 4 1 (dk_at dksX3_drawn_2 0 rfl rfl)
theorem dX3_drawn_51 : decode cX3_drawn 51 = .ok (.goto (-25), 3) := dk_167 255 231 (dk_at dksX3_drawn_2 3 rfl rfl)
theorem dX3_drawn_54 : decode cX3_drawn 54 = .ok (.aload_n 0, 1) := dk_42 (dk_at dksX3_drawn_2 6 rfl rfl)
theorem dX3_drawn_55 : decode cX3_drawn 55 = .ok (.iload_n 1, 1) := dk_27 (dk_at dksX3_drawn_2 7 rfl rfl)
theorem dX3_drawn_56 : decode cX3_drawn 56 = .ok (.putfield 173, 3) := dk_181 0 173 (dk_at dksX3_drawn_2 8 rfl rfl)
theorem dX3_drawn_59 : decode cX3_drawn 59 = .ok (.iconst 0, 1) := dk_3 (dk_at dksX3_drawn_2 11 rfl rfl)
theorem dX3_drawn_60 : decode cX3_drawn 60 = .ok (.istore 4, 2) := dk_54 4 (dk_at dksX3_drawn_2 12 rfl rfl)
theorem dX3_drawn_62 : decode cX3_drawn 62 = .ok (.iload 4, 2) := dk_21 4 (dk_at dksX3_drawn_2 14 rfl rfl)
theorem dX3_drawn_64 : decode cX3_drawn 64 = .ok (.iload_n 2, 1) := dk_28 (dk_at dksX3_drawn_2 16 rfl rfl)
theorem dX3_drawn_65 : decode cX3_drawn 65 = .ok (.if_icmp .ge 37, 3) := dk_162 0 37 (dk_at dksX3_drawn_2 17 rfl rfl)
theorem dX3_drawn_68 : decode cX3_drawn 68 = .ok (.aload_n 0, 1) := dk_42 (dk_at dksX3_drawn_2 20 rfl rfl)
theorem dX3_drawn_69 : decode cX3_drawn 69 = .ok (.invokevirtual 201, 3) := dk_182 0 201 (dk_at dksX3_drawn_2 21 rfl rfl)
theorem dX3_drawn_72 : decode cX3_drawn 72 = .ok (.istore 5, 2) := dk_54 5 (dk_at dksX3_drawn_3 0 rfl rfl)
theorem dX3_drawn_74 : decode cX3_drawn 74 = .ok (.aload_n 0, 1) := dk_42 (dk_at dksX3_drawn_3 2 rfl rfl)
theorem dX3_drawn_75 : decode cX3_drawn 75 = .ok (.invokevirtual 201, 3) := dk_182 0 201 (dk_at dksX3_drawn_3 3 rfl rfl)
theorem dX3_drawn_78 : decode cX3_drawn 78 = .ok (.istore 6, 2) := dk_54 6 (dk_at dksX3_drawn_3 6 rfl rfl)
theorem dX3_drawn_80 : decode cX3_drawn 80 = .ok (.aload_n 0, 1) := dk_42 (dk_at dksX3_drawn_3 8 rfl rfl)
theorem dX3_drawn_81 : decode cX3_drawn 81 = .ok (.invokevirtual 201, 3) := dk_182 0 201 (dk_at dksX3_drawn_3 9 rfl rfl)
theorem dX3_drawn_84 : decode cX3_drawn 84 = .ok (.istore 7, 2) := dk_54 7 (dk_at dksX3_drawn_3 12 rfl rfl)
theorem dX3_drawn_86 : decode cX3_drawn 86 = .ok (.aload_n 0, 1) := dk_42 (dk_at dksX3_drawn_3 14 rfl rfl)
theorem dX3_drawn_87 : decode cX3_drawn 87 = .ok (.iload 5, 2) := dk_21 5 (dk_at dksX3_drawn_3 15 rfl rfl)
theorem dX3_drawn_89 : decode cX3_drawn 89 = .ok (.iload 6, 2) := dk_21 6 (dk_at dksX3_drawn_3 17 rfl rfl)
theorem dX3_drawn_91 : decode cX3_drawn 91 = .ok (.iload 7, 2) := dk_21 7 (dk_at dksX3_drawn_3 19 rfl rfl)
theorem dX3_drawn_93 : decode cX3_drawn 93 = .ok (.invokevirtual 204, 3) := dk_182 0 204 (dk_at dksX3_drawn_3 21 rfl rfl)
theorem dX3_drawn_96 : decode cX3_drawn 96 = .ok (.iinc 4 1, 3) := dk_132 4 1 (dk_at dksX3_drawn_4 0 rfl rfl)
theorem dX3_drawn_99 : decode cX3_drawn 99 = .ok (.goto (-37), 3) := dk_167 255 219 (dk_at dksX3_drawn_4 3 rfl rfl)
theorem dX3_drawn_102 : decode cX3_drawn 102 = .ok (.lconst 0, 1) := dk_9 (dk_at dksX3_drawn_4 6 rfl rfl)
theorem dX3_drawn_103 : decode cX3_drawn 103 = .ok (.lstore 4, 2) := dk_55 4 (dk_at dksX3_drawn_4 7 rfl rfl)
theorem dX3_drawn_105 : decode cX3_drawn 105 = .ok (.iconst 0, 1) := dk_3 (dk_at dksX3_drawn_4 9 rfl rfl)
theorem dX3_drawn_106 : decode cX3_drawn 106 = .ok (.istore 6, 2) := dk_54 6 (dk_at dksX3_drawn_4 10 rfl rfl)
theorem dX3_drawn_108 : decode cX3_drawn 108 = .ok (.iload 6, 2) := dk_21 6 (dk_at dksX3_drawn_4 12 rfl rfl)
theorem dX3_drawn_110 : decode cX3_drawn 110 = .ok (.bipush 96, 2) := dk_16 96 (dk_at dksX3_drawn_4 14 rfl rfl)
theorem dX3_drawn_112 : decode cX3_drawn 112 = .ok (.if_icmp .ge 26, 3) := dk_162 0 26 (dk_at dksX3_drawn_4 16 rfl rfl)
theorem dX3_drawn_115 : decode cX3_drawn 115 = .ok (.lload 4, 2) := dk_22 4 (dk_at dksX3_drawn_4 19 rfl rfl)
theorem dX3_drawn_117 : decode cX3_drawn 117 = .ok (.aload_n 0, 1) := dk_42 (dk_at dksX3_drawn_4 21 rfl rfl)
theorem dX3_drawn_118 : decode cX3_drawn 118 = .ok (.getfield 7, 3) := dk_180 0 7 (dk_at dksX3_drawn_5 0 rfl rfl)
theorem dX3_drawn_121 : decode cX3_drawn 121 = .ok (.sipush 362, 3) := dk_17 1 106 (dk_at dksX3_drawn_5 3 rfl rfl)
theorem dX3_drawn_124 : decode cX3_drawn 124 = .ok (.iload 6, 2) := dk_21 6 (dk_at dksX3_drawn_5 6 rfl rfl)
theorem dX3_drawn_126 : decode cX3_drawn 126 = .ok (.iadd, 1) := dk_96 (dk_at dksX3_drawn_5 8 rfl rfl)
theorem dX3_drawn_127 : decode cX3_drawn 127 = .ok (.iaload, 1) := dk_46 (dk_at dksX3_drawn_5 9 rfl rfl)
theorem dX3_drawn_128 : decode cX3_drawn 128 = .ok (.i2l, 1) := dk_133 (dk_at dksX3_drawn_5 10 rfl rfl)
theorem dX3_drawn_129 : decode cX3_drawn 129 = .ok (.ladd, 1) := dk_97 (dk_at dksX3_drawn_5 11 rfl rfl)
theorem dX3_drawn_130 : decode cX3_drawn 130 = .ok (.lstore 4, 2) := dk_55 4 (dk_at dksX3_drawn_5 12 rfl rfl)
theorem dX3_drawn_132 : decode cX3_drawn 132 = .ok (.iinc 6 1, 3) := dk_132 6 1 (dk_at dksX3_drawn_5 14 rfl rfl)
theorem dX3_drawn_135 : decode cX3_drawn 135 = .ok (.goto (-27), 3) := dk_167 255 229 (dk_at dksX3_drawn_5 17 rfl rfl)
theorem dX3_drawn_138 : decode cX3_drawn 138 = .ok (.iload_n 3, 1) := dk_29 (dk_at dksX3_drawn_5 20 rfl rfl)
theorem dX3_drawn_139 : decode cX3_drawn 139 = .ok (.ifCond .ne 11, 3) := dk_154 0 11 (dk_at dksX3_drawn_5 21 rfl rfl)
theorem dX3_drawn_142 : decode cX3_drawn 142 = .ok (.aload_n 0, 1) := dk_42 (dk_at dksX3_drawn_6 0 rfl rfl)
theorem dX3_drawn_143 : decode cX3_drawn 143 = .ok (.invokevirtual 207, 3) := dk_182 0 207 (dk_at dksX3_drawn_6 1 rfl rfl)
theorem dX3_drawn_146 : decode cX3_drawn 146 = .ok (.i2l, 1) := dk_133 (dk_at dksX3_drawn_6 4 rfl rfl)
theorem dX3_drawn_147 : decode cX3_drawn 147 = .ok (.goto 40, 3) := dk_167 0 40 (dk_at dksX3_drawn_6 5 rfl rfl)
theorem dX3_drawn_150 : decode cX3_drawn 150 = .ok (.iload_n 3, 1) := dk_29 (dk_at dksX3_drawn_6 8 rfl rfl)
theorem dX3_drawn_151 : decode cX3_drawn 151 = .ok (.iconst 1, 1) := dk_4 (dk_at dksX3_drawn_6 9 rfl rfl)
theorem dX3_drawn_152 : decode cX3_drawn 152 = .ok (.if_icmp .ne 11, 3) := dk_160 0 11 (dk_at dksX3_drawn_6 10 rfl rfl)
theorem dX3_drawn_155 : decode cX3_drawn 155 = .ok (.aload_n 0, 1) := dk_42 (dk_at dksX3_drawn_6 13 rfl rfl)
theorem dX3_drawn_156 : decode cX3_drawn 156 = .ok (.invokevirtual 210, 3) := dk_182 0 210 (dk_at dksX3_drawn_6 14 rfl rfl)
theorem dX3_drawn_159 : decode cX3_drawn 159 = .ok (.i2l, 1) := dk_133 (dk_at dksX3_drawn_6 17 rfl rfl)
theorem dX3_drawn_160 : decode cX3_drawn 160 = .ok (.goto 27, 3) := dk_167 0 27 (dk_at dksX3_drawn_6 18 rfl rfl)
theorem dX3_drawn_163 : decode cX3_drawn 163 = .ok (.iload_n 3, 1) := dk_29 (dk_at dksX3_drawn_6 21 rfl rfl)
theorem dX3_drawn_164 : decode cX3_drawn 164 = .ok (.iconst 2, 1) := dk_5 (dk_at dksX3_drawn_6 22 rfl rfl)
theorem dX3_drawn_165 : decode cX3_drawn 165 = .ok (.if_icmp .ne 20, 3) := dk_160 0 20 (dk_at dksX3_drawn_7 0 rfl rfl)
theorem dX3_drawn_168 : decode cX3_drawn 168 = .ok (.aload_n 0, 1) := dk_42 (dk_at dksX3_drawn_7 3 rfl rfl)
theorem dX3_drawn_169 : decode cX3_drawn 169 = .ok (.getfield 7, 3) := dk_180 0 7 (dk_at dksX3_drawn_7 4 rfl rfl)
theorem dX3_drawn_172 : decode cX3_drawn 172 = .ok (.iconst 1, 1) := dk_4 (dk_at dksX3_drawn_7 7 rfl rfl)
theorem dX3_drawn_173 : decode cX3_drawn 173 = .ok (.iaload, 1) := dk_46 (dk_at dksX3_drawn_7 8 rfl rfl)
theorem dX3_drawn_174 : decode cX3_drawn 174 = .ok (.aload_n 0, 1) := dk_42 (dk_at dksX3_drawn_7 9 rfl rfl)
theorem dX3_drawn_175 : decode cX3_drawn 175 = .ok (.getfield 16, 3) := dk_180 0 16 (dk_at dksX3_drawn_7 10 rfl rfl)
theorem dX3_drawn_178 : decode cX3_drawn 178 = .ok (.iconst 1, 1) := dk_4 (dk_at dksX3_drawn_7 13 rfl rfl)
theorem dX3_drawn_179 : decode cX3_drawn 179 = .ok (.iaload, 1) := dk_46 (dk_at dksX3_drawn_7 14 rfl rfl)
theorem dX3_drawn_180 : decode cX3_drawn 180 = .ok (.isub, 1) := dk_100 (dk_at dksX3_drawn_7 15 rfl rfl)
theorem dX3_drawn_181 : decode cX3_drawn 181 = .ok (.i2l, 1) := dk_133 (dk_at dksX3_drawn_7 16 rfl rfl)
theorem dX3_drawn_182 : decode cX3_drawn 182 = .ok (.goto 5, 3) := dk_167 0 5 (dk_at dksX3_drawn_7 17 rfl rfl)
theorem dX3_drawn_185 : decode cX3_drawn 185 = .ok (.lload 4, 2) := dk_22 4 (dk_at dksX3_drawn_7 20 rfl rfl)
theorem dX3_drawn_187 : decode cX3_drawn 187 = .ok (.lstore 6, 2) := dk_55 6 (dk_at dksX3_drawn_7 22 rfl rfl)
theorem dX3_drawn_189 : decode cX3_drawn 189 = .ok (.iconst 0, 1) := dk_3 (dk_at dksX3_drawn_8 0 rfl rfl)
theorem dX3_drawn_190 : decode cX3_drawn 190 = .ok (.istore 8, 2) := dk_54 8 (dk_at dksX3_drawn_8 1 rfl rfl)
theorem dX3_drawn_192 : decode cX3_drawn 192 = .ok (.iload 8, 2) := dk_21 8 (dk_at dksX3_drawn_8 3 rfl rfl)
theorem dX3_drawn_194 : decode cX3_drawn 194 = .ok (.sipush 554, 3) := dk_17 2 42 (dk_at dksX3_drawn_8 5 rfl rfl)
theorem dX3_drawn_197 : decode cX3_drawn 197 = .ok (.if_icmp .ge 23, 3) := dk_162 0 23 (dk_at dksX3_drawn_8 8 rfl rfl)
theorem dX3_drawn_200 : decode cX3_drawn 200 = .ok (.aload_n 0, 1) := dk_42 (dk_at dksX3_drawn_8 11 rfl rfl)
theorem dX3_drawn_201 : decode cX3_drawn 201 = .ok (.getfield 7, 3) := dk_180 0 7 (dk_at dksX3_drawn_8 12 rfl rfl)
theorem dX3_drawn_204 : decode cX3_drawn 204 = .ok (.iload 8, 2) := dk_21 8 (dk_at dksX3_drawn_8 15 rfl rfl)
theorem dX3_drawn_206 : decode cX3_drawn 206 = .ok (.aload_n 0, 1) := dk_42 (dk_at dksX3_drawn_8 17 rfl rfl)
theorem dX3_drawn_207 : decode cX3_drawn 207 = .ok (.getfield 16, 3) := dk_180 0 16 (dk_at dksX3_drawn_8 18 rfl rfl)
theorem dX3_drawn_210 : decode cX3_drawn 210 = .ok (.iload 8, 2) := dk_21 8 (dk_at dksX3_drawn_8 21 rfl rfl)
theorem dX3_drawn_212 : decode cX3_drawn 212 = .ok (.iaload, 1) := dk_46 (dk_at dksX3_drawn_8 23 rfl rfl)
theorem dX3_drawn_213 : decode cX3_drawn 213 = .ok (.iastore, 1) := dk_79 (dk_at dksX3_drawn_9 0 rfl rfl)
theorem dX3_drawn_214 : decode cX3_drawn 214 = .ok (.iinc 8 1, 3) := dk_132 8 1 (dk_at dksX3_drawn_9 1 rfl rfl)
theorem dX3_drawn_217 : decode cX3_drawn 217 = .ok (.goto (-25), 3) := dk_167 255 231 (dk_at dksX3_drawn_9 4 rfl rfl)
theorem dX3_drawn_220 : decode cX3_drawn 220 = .ok (.lload 6, 2) := dk_22 6 (dk_at dksX3_drawn_9 7 rfl rfl)
theorem dX3_drawn_222 : decode cX3_drawn 222 = .ok (.lreturn, 1) := dk_173 (dk_at dksX3_drawn_9 9 rfl rfl)
abbrev cX3_lots : ByteArray := prog_11_method_70_code
def yX3_lots : MethodName := ⟨RX3, "lots", "()I"⟩
def dkwX3_lots_1 : List UInt8 := [112, 172]
abbrev dktX3_lots_1 : List UInt8 := dkwX3_lots_1 ++ []
def dkwX3_lots_0 : List UInt8 := [42, 42, 180, 0, 173, 18, 176, 104, 17, 48, 57, 96, 181, 0, 173, 42, 180, 0, 173, 16, 9, 124, 16, 24]
abbrev dktX3_lots_0 : List UInt8 := dkwX3_lots_0 ++ dktX3_lots_1
theorem dksX3_lots_0 : cX3_lots.data.toList.drop 0 = dktX3_lots_0 := by decide +kernel
theorem dksX3_lots_1 : cX3_lots.data.toList.drop 24 = dktX3_lots_1 := dk_seg dksX3_lots_0 24 rfl rfl
theorem dX3_lots_0 : decode cX3_lots 0 = .ok (.aload_n 0, 1) := dk_42 (dk_at dksX3_lots_0 0 rfl rfl)
theorem dX3_lots_1 : decode cX3_lots 1 = .ok (.aload_n 0, 1) := dk_42 (dk_at dksX3_lots_0 1 rfl rfl)
theorem dX3_lots_2 : decode cX3_lots 2 = .ok (.getfield 173, 3) := dk_180 0 173 (dk_at dksX3_lots_0 2 rfl rfl)
theorem dX3_lots_5 : decode cX3_lots 5 = .ok (.ldc 176, 2) := dk_18 176 (dk_at dksX3_lots_0 5 rfl rfl)
theorem dX3_lots_7 : decode cX3_lots 7 = .ok (.imul, 1) := dk_104 (dk_at dksX3_lots_0 7 rfl rfl)
theorem dX3_lots_8 : decode cX3_lots 8 = .ok (.sipush 12345, 3) := dk_17 48 57 (dk_at dksX3_lots_0 8 rfl rfl)
theorem dX3_lots_11 : decode cX3_lots 11 = .ok (.iadd, 1) := dk_96 (dk_at dksX3_lots_0 11 rfl rfl)
theorem dX3_lots_12 : decode cX3_lots 12 = .ok (.putfield 173, 3) := dk_181 0 173 (dk_at dksX3_lots_0 12 rfl rfl)
theorem dX3_lots_15 : decode cX3_lots 15 = .ok (.aload_n 0, 1) := dk_42 (dk_at dksX3_lots_0 15 rfl rfl)
theorem dX3_lots_16 : decode cX3_lots 16 = .ok (.getfield 173, 3) := dk_180 0 173 (dk_at dksX3_lots_0 16 rfl rfl)
theorem dX3_lots_19 : decode cX3_lots 19 = .ok (.bipush 9, 2) := dk_16 9 (dk_at dksX3_lots_0 19 rfl rfl)
theorem dX3_lots_21 : decode cX3_lots 21 = .ok (.iushr, 1) := dk_124 (dk_at dksX3_lots_0 21 rfl rfl)
theorem dX3_lots_22 : decode cX3_lots 22 = .ok (.bipush 24, 2) := dk_16 24 (dk_at dksX3_lots_0 22 rfl rfl)
theorem dX3_lots_24 : decode cX3_lots 24 = .ok (.irem, 1) := dk_112 (dk_at dksX3_lots_1 0 rfl rfl)
theorem dX3_lots_25 : decode cX3_lots 25 = .ok (.ireturn, 1) := dk_172 (dk_at dksX3_lots_1 1 rfl rfl)
abbrev cX3_draws : ByteArray := prog_11_method_71_code
def yX3_draws : MethodName := ⟨RX3, "draws", "(III)V"⟩
def dkwX3_draws_5 : List UInt8 := [16, 22, 160, 0, 13, 42, 21, 4, 182, 0, 195, 87, 167, 0, 9, 42, 2, 182, 0, 198, 87, 177]
abbrev dktX3_draws_5 : List UInt8 := dkwX3_draws_5 ++ []
def dkwX3_draws_4 : List UInt8 := [182, 0, 189, 87, 167, 0, 41, 27, 16, 21, 160, 0, 13, 42, 21, 4, 182, 0, 192, 87, 167, 0, 25, 27]
abbrev dktX3_draws_4 : List UInt8 := dkwX3_draws_4 ++ dktX3_draws_5
def dkwX3_draws_3 : List UInt8 := [16, 19, 162, 0, 13, 42, 21, 4, 182, 0, 186, 87, 167, 0, 57, 27, 16, 21, 162, 0, 13, 42, 21, 4]
abbrev dktX3_draws_3 : List UInt8 := dkwX3_draws_3 ++ dktX3_draws_4
def dkwX3_draws_2 : List UInt8 := [167, 0, 93, 27, 16, 15, 162, 0, 17, 42, 21, 4, 29, 16, 20, 108, 182, 0, 183, 87, 167, 0, 73, 27]
abbrev dktX3_draws_2 : List UInt8 := dkwX3_draws_2 ++ dktX3_draws_3
def dkwX3_draws_1 : List UInt8 := [182, 0, 177, 87, 167, 0, 113, 27, 16, 11, 162, 0, 17, 42, 21, 4, 29, 16, 12, 112, 182, 0, 180, 87]
abbrev dktX3_draws_1 : List UInt8 := dkwX3_draws_1 ++ dktX3_draws_2
def dkwX3_draws_0 : List UInt8 := [28, 16, 20, 112, 54, 4, 27, 16, 8, 162, 0, 20, 42, 21, 4, 29, 16, 12, 112, 4, 28, 96]
abbrev dktX3_draws_0 : List UInt8 := dkwX3_draws_0 ++ dktX3_draws_1
theorem dksX3_draws_0 : cX3_draws.data.toList.drop 0 = dktX3_draws_0 := by decide +kernel
theorem dksX3_draws_1 : cX3_draws.data.toList.drop 22 = dktX3_draws_1 := dk_seg dksX3_draws_0 22 rfl rfl
theorem dksX3_draws_2 : cX3_draws.data.toList.drop 46 = dktX3_draws_2 := dk_seg dksX3_draws_1 24 rfl rfl
theorem dksX3_draws_3 : cX3_draws.data.toList.drop 70 = dktX3_draws_3 := dk_seg dksX3_draws_2 24 rfl rfl
theorem dksX3_draws_4 : cX3_draws.data.toList.drop 94 = dktX3_draws_4 := dk_seg dksX3_draws_3 24 rfl rfl
theorem dksX3_draws_5 : cX3_draws.data.toList.drop 118 = dktX3_draws_5 := dk_seg dksX3_draws_4 24 rfl rfl
theorem dX3_draws_0 : decode cX3_draws 0 = .ok (.iload_n 2, 1) := dk_28 (dk_at dksX3_draws_0 0 rfl rfl)
theorem dX3_draws_1 : decode cX3_draws 1 = .ok (.bipush 20, 2) := dk_16 20 (dk_at dksX3_draws_0 1 rfl rfl)
theorem dX3_draws_3 : decode cX3_draws 3 = .ok (.irem, 1) := dk_112 (dk_at dksX3_draws_0 3 rfl rfl)
theorem dX3_draws_4 : decode cX3_draws 4 = .ok (.istore 4, 2) := dk_54 4 (dk_at dksX3_draws_0 4 rfl rfl)
theorem dX3_draws_6 : decode cX3_draws 6 = .ok (.iload_n 1, 1) := dk_27 (dk_at dksX3_draws_0 6 rfl rfl)
theorem dX3_draws_7 : decode cX3_draws 7 = .ok (.bipush 8, 2) := dk_16 8 (dk_at dksX3_draws_0 7 rfl rfl)
theorem dX3_draws_9 : decode cX3_draws 9 = .ok (.if_icmp .ge 20, 3) := dk_162 0 20 (dk_at dksX3_draws_0 9 rfl rfl)
theorem dX3_draws_12 : decode cX3_draws 12 = .ok (.aload_n 0, 1) := dk_42 (dk_at dksX3_draws_0 12 rfl rfl)
theorem dX3_draws_13 : decode cX3_draws 13 = .ok (.iload 4, 2) := dk_21 4 (dk_at dksX3_draws_0 13 rfl rfl)
theorem dX3_draws_15 : decode cX3_draws 15 = .ok (.iload_n 3, 1) := dk_29 (dk_at dksX3_draws_0 15 rfl rfl)
theorem dX3_draws_16 : decode cX3_draws 16 = .ok (.bipush 12, 2) := dk_16 12 (dk_at dksX3_draws_0 16 rfl rfl)
theorem dX3_draws_18 : decode cX3_draws 18 = .ok (.irem, 1) := dk_112 (dk_at dksX3_draws_0 18 rfl rfl)
theorem dX3_draws_19 : decode cX3_draws 19 = .ok (.iconst 1, 1) := dk_4 (dk_at dksX3_draws_0 19 rfl rfl)
theorem dX3_draws_20 : decode cX3_draws 20 = .ok (.iload_n 2, 1) := dk_28 (dk_at dksX3_draws_0 20 rfl rfl)
theorem dX3_draws_21 : decode cX3_draws 21 = .ok (.iadd, 1) := dk_96 (dk_at dksX3_draws_0 21 rfl rfl)
theorem dX3_draws_22 : decode cX3_draws 22 = .ok (.invokevirtual 177, 3) := dk_182 0 177 (dk_at dksX3_draws_1 0 rfl rfl)
theorem dX3_draws_25 : decode cX3_draws 25 = .ok (.pop, 1) := dk_87 (dk_at dksX3_draws_1 3 rfl rfl)
theorem dX3_draws_26 : decode cX3_draws 26 = .ok (.goto 113, 3) := dk_167 0 113 (dk_at dksX3_draws_1 4 rfl rfl)
theorem dX3_draws_29 : decode cX3_draws 29 = .ok (.iload_n 1, 1) := dk_27 (dk_at dksX3_draws_1 7 rfl rfl)
theorem dX3_draws_30 : decode cX3_draws 30 = .ok (.bipush 11, 2) := dk_16 11 (dk_at dksX3_draws_1 8 rfl rfl)
theorem dX3_draws_32 : decode cX3_draws 32 = .ok (.if_icmp .ge 17, 3) := dk_162 0 17 (dk_at dksX3_draws_1 10 rfl rfl)
theorem dX3_draws_35 : decode cX3_draws 35 = .ok (.aload_n 0, 1) := dk_42 (dk_at dksX3_draws_1 13 rfl rfl)
theorem dX3_draws_36 : decode cX3_draws 36 = .ok (.iload 4, 2) := dk_21 4 (dk_at dksX3_draws_1 14 rfl rfl)
theorem dX3_draws_38 : decode cX3_draws 38 = .ok (.iload_n 3, 1) := dk_29 (dk_at dksX3_draws_1 16 rfl rfl)
theorem dX3_draws_39 : decode cX3_draws 39 = .ok (.bipush 12, 2) := dk_16 12 (dk_at dksX3_draws_1 17 rfl rfl)
theorem dX3_draws_41 : decode cX3_draws 41 = .ok (.irem, 1) := dk_112 (dk_at dksX3_draws_1 19 rfl rfl)
theorem dX3_draws_42 : decode cX3_draws 42 = .ok (.invokevirtual 180, 3) := dk_182 0 180 (dk_at dksX3_draws_1 20 rfl rfl)
theorem dX3_draws_45 : decode cX3_draws 45 = .ok (.pop, 1) := dk_87 (dk_at dksX3_draws_1 23 rfl rfl)
theorem dX3_draws_46 : decode cX3_draws 46 = .ok (.goto 93, 3) := dk_167 0 93 (dk_at dksX3_draws_2 0 rfl rfl)
theorem dX3_draws_49 : decode cX3_draws 49 = .ok (.iload_n 1, 1) := dk_27 (dk_at dksX3_draws_2 3 rfl rfl)
theorem dX3_draws_50 : decode cX3_draws 50 = .ok (.bipush 15, 2) := dk_16 15 (dk_at dksX3_draws_2 4 rfl rfl)
theorem dX3_draws_52 : decode cX3_draws 52 = .ok (.if_icmp .ge 17, 3) := dk_162 0 17 (dk_at dksX3_draws_2 6 rfl rfl)
theorem dX3_draws_55 : decode cX3_draws 55 = .ok (.aload_n 0, 1) := dk_42 (dk_at dksX3_draws_2 9 rfl rfl)
theorem dX3_draws_56 : decode cX3_draws 56 = .ok (.iload 4, 2) := dk_21 4 (dk_at dksX3_draws_2 10 rfl rfl)
theorem dX3_draws_58 : decode cX3_draws 58 = .ok (.iload_n 3, 1) := dk_29 (dk_at dksX3_draws_2 12 rfl rfl)
theorem dX3_draws_59 : decode cX3_draws 59 = .ok (.bipush 20, 2) := dk_16 20 (dk_at dksX3_draws_2 13 rfl rfl)
theorem dX3_draws_61 : decode cX3_draws 61 = .ok (.idiv, 1) := dk_108 (dk_at dksX3_draws_2 15 rfl rfl)
theorem dX3_draws_62 : decode cX3_draws 62 = .ok (.invokevirtual 183, 3) := dk_182 0 183 (dk_at dksX3_draws_2 16 rfl rfl)
theorem dX3_draws_65 : decode cX3_draws 65 = .ok (.pop, 1) := dk_87 (dk_at dksX3_draws_2 19 rfl rfl)
theorem dX3_draws_66 : decode cX3_draws 66 = .ok (.goto 73, 3) := dk_167 0 73 (dk_at dksX3_draws_2 20 rfl rfl)
theorem dX3_draws_69 : decode cX3_draws 69 = .ok (.iload_n 1, 1) := dk_27 (dk_at dksX3_draws_2 23 rfl rfl)
theorem dX3_draws_70 : decode cX3_draws 70 = .ok (.bipush 19, 2) := dk_16 19 (dk_at dksX3_draws_3 0 rfl rfl)
theorem dX3_draws_72 : decode cX3_draws 72 = .ok (.if_icmp .ge 13, 3) := dk_162 0 13 (dk_at dksX3_draws_3 2 rfl rfl)
theorem dX3_draws_75 : decode cX3_draws 75 = .ok (.aload_n 0, 1) := dk_42 (dk_at dksX3_draws_3 5 rfl rfl)
theorem dX3_draws_76 : decode cX3_draws 76 = .ok (.iload 4, 2) := dk_21 4 (dk_at dksX3_draws_3 6 rfl rfl)
theorem dX3_draws_78 : decode cX3_draws 78 = .ok (.invokevirtual 186, 3) := dk_182 0 186 (dk_at dksX3_draws_3 8 rfl rfl)
theorem dX3_draws_81 : decode cX3_draws 81 = .ok (.pop, 1) := dk_87 (dk_at dksX3_draws_3 11 rfl rfl)
theorem dX3_draws_82 : decode cX3_draws 82 = .ok (.goto 57, 3) := dk_167 0 57 (dk_at dksX3_draws_3 12 rfl rfl)
theorem dX3_draws_85 : decode cX3_draws 85 = .ok (.iload_n 1, 1) := dk_27 (dk_at dksX3_draws_3 15 rfl rfl)
theorem dX3_draws_86 : decode cX3_draws 86 = .ok (.bipush 21, 2) := dk_16 21 (dk_at dksX3_draws_3 16 rfl rfl)
theorem dX3_draws_88 : decode cX3_draws 88 = .ok (.if_icmp .ge 13, 3) := dk_162 0 13 (dk_at dksX3_draws_3 18 rfl rfl)
theorem dX3_draws_91 : decode cX3_draws 91 = .ok (.aload_n 0, 1) := dk_42 (dk_at dksX3_draws_3 21 rfl rfl)
theorem dX3_draws_92 : decode cX3_draws 92 = .ok (.iload 4, 2) := dk_21 4 (dk_at dksX3_draws_3 22 rfl rfl)
theorem dX3_draws_94 : decode cX3_draws 94 = .ok (.invokevirtual 189, 3) := dk_182 0 189 (dk_at dksX3_draws_4 0 rfl rfl)
theorem dX3_draws_97 : decode cX3_draws 97 = .ok (.pop, 1) := dk_87 (dk_at dksX3_draws_4 3 rfl rfl)
theorem dX3_draws_98 : decode cX3_draws 98 = .ok (.goto 41, 3) := dk_167 0 41 (dk_at dksX3_draws_4 4 rfl rfl)
theorem dX3_draws_101 : decode cX3_draws 101 = .ok (.iload_n 1, 1) := dk_27 (dk_at dksX3_draws_4 7 rfl rfl)
theorem dX3_draws_102 : decode cX3_draws 102 = .ok (.bipush 21, 2) := dk_16 21 (dk_at dksX3_draws_4 8 rfl rfl)
theorem dX3_draws_104 : decode cX3_draws 104 = .ok (.if_icmp .ne 13, 3) := dk_160 0 13 (dk_at dksX3_draws_4 10 rfl rfl)
theorem dX3_draws_107 : decode cX3_draws 107 = .ok (.aload_n 0, 1) := dk_42 (dk_at dksX3_draws_4 13 rfl rfl)
theorem dX3_draws_108 : decode cX3_draws 108 = .ok (.iload 4, 2) := dk_21 4 (dk_at dksX3_draws_4 14 rfl rfl)
theorem dX3_draws_110 : decode cX3_draws 110 = .ok (.invokevirtual 192, 3) := dk_182 0 192 (dk_at dksX3_draws_4 16 rfl rfl)
theorem dX3_draws_113 : decode cX3_draws 113 = .ok (.pop, 1) := dk_87 (dk_at dksX3_draws_4 19 rfl rfl)
theorem dX3_draws_114 : decode cX3_draws 114 = .ok (.goto 25, 3) := dk_167 0 25 (dk_at dksX3_draws_4 20 rfl rfl)
theorem dX3_draws_117 : decode cX3_draws 117 = .ok (.iload_n 1, 1) := dk_27 (dk_at dksX3_draws_4 23 rfl rfl)
theorem dX3_draws_118 : decode cX3_draws 118 = .ok (.bipush 22, 2) := dk_16 22 (dk_at dksX3_draws_5 0 rfl rfl)
theorem dX3_draws_120 : decode cX3_draws 120 = .ok (.if_icmp .ne 13, 3) := dk_160 0 13 (dk_at dksX3_draws_5 2 rfl rfl)
theorem dX3_draws_123 : decode cX3_draws 123 = .ok (.aload_n 0, 1) := dk_42 (dk_at dksX3_draws_5 5 rfl rfl)
theorem dX3_draws_124 : decode cX3_draws 124 = .ok (.iload 4, 2) := dk_21 4 (dk_at dksX3_draws_5 6 rfl rfl)
theorem dX3_draws_126 : decode cX3_draws 126 = .ok (.invokevirtual 195, 3) := dk_182 0 195 (dk_at dksX3_draws_5 8 rfl rfl)
theorem dX3_draws_129 : decode cX3_draws 129 = .ok (.pop, 1) := dk_87 (dk_at dksX3_draws_5 11 rfl rfl)
theorem dX3_draws_130 : decode cX3_draws 130 = .ok (.goto 9, 3) := dk_167 0 9 (dk_at dksX3_draws_5 12 rfl rfl)
theorem dX3_draws_133 : decode cX3_draws 133 = .ok (.aload_n 0, 1) := dk_42 (dk_at dksX3_draws_5 15 rfl rfl)
theorem dX3_draws_134 : decode cX3_draws 134 = .ok (.iconst (-1), 1) := dk_2 (dk_at dksX3_draws_5 16 rfl rfl)
theorem dX3_draws_135 : decode cX3_draws 135 = .ok (.invokevirtual 198, 3) := dk_182 0 198 (dk_at dksX3_draws_5 17 rfl rfl)
theorem dX3_draws_138 : decode cX3_draws 138 = .ok (.pop, 1) := dk_87 (dk_at dksX3_draws_5 20 rfl rfl)
theorem dX3_draws_139 : decode cX3_draws 139 = .ok (.return_, 1) := dk_177 (dk_at dksX3_draws_5 21 rfl rfl)
abbrev cX3_things : ByteArray := prog_11_method_72_code
def yX3_things : MethodName := ⟨RX3, "things", "()I"⟩
def dkwX3_things_1 : List UInt8 := [96, 60, 132, 2, 1, 167, 255, 231, 27, 172]
abbrev dktX3_things_1 : List UInt8 := dkwX3_things_1 ++ []
def dkwX3_things_0 : List UInt8 := [3, 60, 3, 61, 28, 16, 20, 162, 0, 25, 27, 42, 28, 182, 0, 46, 153, 0, 7, 4, 167, 0, 4, 3]
abbrev dktX3_things_0 : List UInt8 := dkwX3_things_0 ++ dktX3_things_1
theorem dksX3_things_0 : cX3_things.data.toList.drop 0 = dktX3_things_0 := by decide +kernel
theorem dksX3_things_1 : cX3_things.data.toList.drop 24 = dktX3_things_1 := dk_seg dksX3_things_0 24 rfl rfl
theorem dX3_things_0 : decode cX3_things 0 = .ok (.iconst 0, 1) := dk_3 (dk_at dksX3_things_0 0 rfl rfl)
theorem dX3_things_1 : decode cX3_things 1 = .ok (.istore_n 1, 1) := dk_60 (dk_at dksX3_things_0 1 rfl rfl)
theorem dX3_things_2 : decode cX3_things 2 = .ok (.iconst 0, 1) := dk_3 (dk_at dksX3_things_0 2 rfl rfl)
theorem dX3_things_3 : decode cX3_things 3 = .ok (.istore_n 2, 1) := dk_61 (dk_at dksX3_things_0 3 rfl rfl)
theorem dX3_things_4 : decode cX3_things 4 = .ok (.iload_n 2, 1) := dk_28 (dk_at dksX3_things_0 4 rfl rfl)
theorem dX3_things_5 : decode cX3_things 5 = .ok (.bipush 20, 2) := dk_16 20 (dk_at dksX3_things_0 5 rfl rfl)
theorem dX3_things_7 : decode cX3_things 7 = .ok (.if_icmp .ge 25, 3) := dk_162 0 25 (dk_at dksX3_things_0 7 rfl rfl)
theorem dX3_things_10 : decode cX3_things 10 = .ok (.iload_n 1, 1) := dk_27 (dk_at dksX3_things_0 10 rfl rfl)
theorem dX3_things_11 : decode cX3_things 11 = .ok (.aload_n 0, 1) := dk_42 (dk_at dksX3_things_0 11 rfl rfl)
theorem dX3_things_12 : decode cX3_things 12 = .ok (.iload_n 2, 1) := dk_28 (dk_at dksX3_things_0 12 rfl rfl)
theorem dX3_things_13 : decode cX3_things 13 = .ok (.invokevirtual 46, 3) := dk_182 0 46 (dk_at dksX3_things_0 13 rfl rfl)
theorem dX3_things_16 : decode cX3_things 16 = .ok (.ifCond .eq 7, 3) := dk_153 0 7 (dk_at dksX3_things_0 16 rfl rfl)
theorem dX3_things_19 : decode cX3_things 19 = .ok (.iconst 1, 1) := dk_4 (dk_at dksX3_things_0 19 rfl rfl)
theorem dX3_things_20 : decode cX3_things 20 = .ok (.goto 4, 3) := dk_167 0 4 (dk_at dksX3_things_0 20 rfl rfl)
theorem dX3_things_23 : decode cX3_things 23 = .ok (.iconst 0, 1) := dk_3 (dk_at dksX3_things_0 23 rfl rfl)
theorem dX3_things_24 : decode cX3_things 24 = .ok (.iadd, 1) := dk_96 (dk_at dksX3_things_1 0 rfl rfl)
theorem dX3_things_25 : decode cX3_things 25 = .ok (.istore_n 1, 1) := dk_60 (dk_at dksX3_things_1 1 rfl rfl)
theorem dX3_things_26 : decode cX3_things 26 = .ok (.iinc 2 1, 3) := dk_132 2 1 (dk_at dksX3_things_1 2 rfl rfl)
theorem dX3_things_29 : decode cX3_things 29 = .ok (.goto (-25), 3) := dk_167 255 231 (dk_at dksX3_things_1 5 rfl rfl)
theorem dX3_things_32 : decode cX3_things 32 = .ok (.iload_n 1, 1) := dk_27 (dk_at dksX3_things_1 8 rfl rfl)
theorem dX3_things_33 : decode cX3_things 33 = .ok (.ireturn, 1) := dk_172 (dk_at dksX3_things_1 9 rfl rfl)
abbrev cX3_blocks : ByteArray := prog_11_method_16_code
def yX3_blocks : MethodName := ⟨RX3, "blocks", "()I"⟩
def dkwX3_blocks_1 : List UInt8 := [4, 167, 0, 4, 3, 96, 60, 132, 2, 1, 167, 255, 226, 27, 172]
abbrev dktX3_blocks_1 : List UInt8 := dkwX3_blocks_1 ++ []
def dkwX3_blocks_0 : List UInt8 := [3, 60, 3, 61, 28, 16, 96, 162, 0, 30, 27, 42, 180, 0, 7, 17, 1, 106, 28, 96, 46, 158, 0, 7]
abbrev dktX3_blocks_0 : List UInt8 := dkwX3_blocks_0 ++ dktX3_blocks_1
theorem dksX3_blocks_0 : cX3_blocks.data.toList.drop 0 = dktX3_blocks_0 := by decide +kernel
theorem dksX3_blocks_1 : cX3_blocks.data.toList.drop 24 = dktX3_blocks_1 := dk_seg dksX3_blocks_0 24 rfl rfl
theorem dX3_blocks_0 : decode cX3_blocks 0 = .ok (.iconst 0, 1) := dk_3 (dk_at dksX3_blocks_0 0 rfl rfl)
theorem dX3_blocks_1 : decode cX3_blocks 1 = .ok (.istore_n 1, 1) := dk_60 (dk_at dksX3_blocks_0 1 rfl rfl)
theorem dX3_blocks_2 : decode cX3_blocks 2 = .ok (.iconst 0, 1) := dk_3 (dk_at dksX3_blocks_0 2 rfl rfl)
theorem dX3_blocks_3 : decode cX3_blocks 3 = .ok (.istore_n 2, 1) := dk_61 (dk_at dksX3_blocks_0 3 rfl rfl)
theorem dX3_blocks_4 : decode cX3_blocks 4 = .ok (.iload_n 2, 1) := dk_28 (dk_at dksX3_blocks_0 4 rfl rfl)
theorem dX3_blocks_5 : decode cX3_blocks 5 = .ok (.bipush 96, 2) := dk_16 96 (dk_at dksX3_blocks_0 5 rfl rfl)
theorem dX3_blocks_7 : decode cX3_blocks 7 = .ok (.if_icmp .ge 30, 3) := dk_162 0 30 (dk_at dksX3_blocks_0 7 rfl rfl)
theorem dX3_blocks_10 : decode cX3_blocks 10 = .ok (.iload_n 1, 1) := dk_27 (dk_at dksX3_blocks_0 10 rfl rfl)
theorem dX3_blocks_11 : decode cX3_blocks 11 = .ok (.aload_n 0, 1) := dk_42 (dk_at dksX3_blocks_0 11 rfl rfl)
theorem dX3_blocks_12 : decode cX3_blocks 12 = .ok (.getfield 7, 3) := dk_180 0 7 (dk_at dksX3_blocks_0 12 rfl rfl)
theorem dX3_blocks_15 : decode cX3_blocks 15 = .ok (.sipush 362, 3) := dk_17 1 106 (dk_at dksX3_blocks_0 15 rfl rfl)
theorem dX3_blocks_18 : decode cX3_blocks 18 = .ok (.iload_n 2, 1) := dk_28 (dk_at dksX3_blocks_0 18 rfl rfl)
theorem dX3_blocks_19 : decode cX3_blocks 19 = .ok (.iadd, 1) := dk_96 (dk_at dksX3_blocks_0 19 rfl rfl)
theorem dX3_blocks_20 : decode cX3_blocks 20 = .ok (.iaload, 1) := dk_46 (dk_at dksX3_blocks_0 20 rfl rfl)
theorem dX3_blocks_21 : decode cX3_blocks 21 = .ok (.ifCond .le 7, 3) := dk_158 0 7 (dk_at dksX3_blocks_0 21 rfl rfl)
theorem dX3_blocks_24 : decode cX3_blocks 24 = .ok (.iconst 1, 1) := dk_4 (dk_at dksX3_blocks_1 0 rfl rfl)
theorem dX3_blocks_25 : decode cX3_blocks 25 = .ok (.goto 4, 3) := dk_167 0 4 (dk_at dksX3_blocks_1 1 rfl rfl)
theorem dX3_blocks_28 : decode cX3_blocks 28 = .ok (.iconst 0, 1) := dk_3 (dk_at dksX3_blocks_1 4 rfl rfl)
theorem dX3_blocks_29 : decode cX3_blocks 29 = .ok (.iadd, 1) := dk_96 (dk_at dksX3_blocks_1 5 rfl rfl)
theorem dX3_blocks_30 : decode cX3_blocks 30 = .ok (.istore_n 1, 1) := dk_60 (dk_at dksX3_blocks_1 6 rfl rfl)
theorem dX3_blocks_31 : decode cX3_blocks 31 = .ok (.iinc 2 1, 3) := dk_132 2 1 (dk_at dksX3_blocks_1 7 rfl rfl)
theorem dX3_blocks_34 : decode cX3_blocks 34 = .ok (.goto (-30), 3) := dk_167 255 226 (dk_at dksX3_blocks_1 10 rfl rfl)
theorem dX3_blocks_37 : decode cX3_blocks 37 = .ok (.iload_n 1, 1) := dk_27 (dk_at dksX3_blocks_1 13 rfl rfl)
theorem dX3_blocks_38 : decode cX3_blocks 38 = .ok (.ireturn, 1) := dk_172 (dk_at dksX3_blocks_1 14 rfl rfl)
abbrev cX3_image : ByteArray := prog_11_method_74_code
def yX3_image : MethodName := ⟨RX3, "image", "()I"⟩
def dkwX3_image_1 : List UInt8 := [167, 255, 234, 42, 4, 181, 0, 213, 42, 182, 0, 207, 172]
abbrev dktX3_image_1 : List UInt8 := dkwX3_image_1 ++ []
def dkwX3_image_0 : List UInt8 := [3, 60, 27, 17, 2, 42, 162, 0, 21, 42, 180, 0, 13, 27, 42, 180, 0, 7, 27, 46, 79, 132, 1, 1]
abbrev dktX3_image_0 : List UInt8 := dkwX3_image_0 ++ dktX3_image_1
theorem dksX3_image_0 : cX3_image.data.toList.drop 0 = dktX3_image_0 := by decide +kernel
theorem dksX3_image_1 : cX3_image.data.toList.drop 24 = dktX3_image_1 := dk_seg dksX3_image_0 24 rfl rfl
theorem dX3_image_0 : decode cX3_image 0 = .ok (.iconst 0, 1) := dk_3 (dk_at dksX3_image_0 0 rfl rfl)
theorem dX3_image_1 : decode cX3_image 1 = .ok (.istore_n 1, 1) := dk_60 (dk_at dksX3_image_0 1 rfl rfl)
theorem dX3_image_2 : decode cX3_image 2 = .ok (.iload_n 1, 1) := dk_27 (dk_at dksX3_image_0 2 rfl rfl)
theorem dX3_image_3 : decode cX3_image 3 = .ok (.sipush 554, 3) := dk_17 2 42 (dk_at dksX3_image_0 3 rfl rfl)
theorem dX3_image_6 : decode cX3_image 6 = .ok (.if_icmp .ge 21, 3) := dk_162 0 21 (dk_at dksX3_image_0 6 rfl rfl)
theorem dX3_image_9 : decode cX3_image 9 = .ok (.aload_n 0, 1) := dk_42 (dk_at dksX3_image_0 9 rfl rfl)
theorem dX3_image_10 : decode cX3_image 10 = .ok (.getfield 13, 3) := dk_180 0 13 (dk_at dksX3_image_0 10 rfl rfl)
theorem dX3_image_13 : decode cX3_image 13 = .ok (.iload_n 1, 1) := dk_27 (dk_at dksX3_image_0 13 rfl rfl)
theorem dX3_image_14 : decode cX3_image 14 = .ok (.aload_n 0, 1) := dk_42 (dk_at dksX3_image_0 14 rfl rfl)
theorem dX3_image_15 : decode cX3_image 15 = .ok (.getfield 7, 3) := dk_180 0 7 (dk_at dksX3_image_0 15 rfl rfl)
theorem dX3_image_18 : decode cX3_image 18 = .ok (.iload_n 1, 1) := dk_27 (dk_at dksX3_image_0 18 rfl rfl)
theorem dX3_image_19 : decode cX3_image 19 = .ok (.iaload, 1) := dk_46 (dk_at dksX3_image_0 19 rfl rfl)
theorem dX3_image_20 : decode cX3_image 20 = .ok (.iastore, 1) := dk_79 (dk_at dksX3_image_0 20 rfl rfl)
theorem dX3_image_21 : decode cX3_image 21 = .ok (.iinc 1 1, 3) := dk_132 1 1 (dk_at dksX3_image_0 21 rfl rfl)
theorem dX3_image_24 : decode cX3_image 24 = .ok (.goto (-22), 3) := dk_167 255 234 (dk_at dksX3_image_1 0 rfl rfl)
theorem dX3_image_27 : decode cX3_image 27 = .ok (.aload_n 0, 1) := dk_42 (dk_at dksX3_image_1 3 rfl rfl)
theorem dX3_image_28 : decode cX3_image 28 = .ok (.iconst 1, 1) := dk_4 (dk_at dksX3_image_1 4 rfl rfl)
theorem dX3_image_29 : decode cX3_image 29 = .ok (.putfield 213, 3) := dk_181 0 213 (dk_at dksX3_image_1 5 rfl rfl)
theorem dX3_image_32 : decode cX3_image 32 = .ok (.aload_n 0, 1) := dk_42 (dk_at dksX3_image_1 8 rfl rfl)
theorem dX3_image_33 : decode cX3_image 33 = .ok (.invokevirtual 207, 3) := dk_182 0 207 (dk_at dksX3_image_1 9 rfl rfl)
theorem dX3_image_36 : decode cX3_image 36 = .ok (.ireturn, 1) := dk_172 (dk_at dksX3_image_1 12 rfl rfl)
abbrev cX3_back : ByteArray := prog_11_method_75_code
def yX3_back : MethodName := ⟨RX3, "back", "()I"⟩
def dkwX3_back_1 : List UInt8 := [42, 180, 0, 13, 27, 46, 79, 132, 1, 1, 167, 255, 234, 42, 182, 0, 207, 172]
abbrev dktX3_back_1 : List UInt8 := dkwX3_back_1 ++ []
def dkwX3_back_0 : List UInt8 := [42, 180, 0, 213, 154, 0, 6, 16, 253, 172, 3, 60, 27, 17, 2, 42, 162, 0, 21, 42, 180, 0, 7, 27]
abbrev dktX3_back_0 : List UInt8 := dkwX3_back_0 ++ dktX3_back_1
theorem dksX3_back_0 : cX3_back.data.toList.drop 0 = dktX3_back_0 := by decide +kernel
theorem dksX3_back_1 : cX3_back.data.toList.drop 24 = dktX3_back_1 := dk_seg dksX3_back_0 24 rfl rfl
theorem dX3_back_0 : decode cX3_back 0 = .ok (.aload_n 0, 1) := dk_42 (dk_at dksX3_back_0 0 rfl rfl)
theorem dX3_back_1 : decode cX3_back 1 = .ok (.getfield 213, 3) := dk_180 0 213 (dk_at dksX3_back_0 1 rfl rfl)
theorem dX3_back_4 : decode cX3_back 4 = .ok (.ifCond .ne 6, 3) := dk_154 0 6 (dk_at dksX3_back_0 4 rfl rfl)
theorem dX3_back_7 : decode cX3_back 7 = .ok (.bipush (-3), 2) := dk_16 253 (dk_at dksX3_back_0 7 rfl rfl)
theorem dX3_back_9 : decode cX3_back 9 = .ok (.ireturn, 1) := dk_172 (dk_at dksX3_back_0 9 rfl rfl)
theorem dX3_back_10 : decode cX3_back 10 = .ok (.iconst 0, 1) := dk_3 (dk_at dksX3_back_0 10 rfl rfl)
theorem dX3_back_11 : decode cX3_back 11 = .ok (.istore_n 1, 1) := dk_60 (dk_at dksX3_back_0 11 rfl rfl)
theorem dX3_back_12 : decode cX3_back 12 = .ok (.iload_n 1, 1) := dk_27 (dk_at dksX3_back_0 12 rfl rfl)
theorem dX3_back_13 : decode cX3_back 13 = .ok (.sipush 554, 3) := dk_17 2 42 (dk_at dksX3_back_0 13 rfl rfl)
theorem dX3_back_16 : decode cX3_back 16 = .ok (.if_icmp .ge 21, 3) := dk_162 0 21 (dk_at dksX3_back_0 16 rfl rfl)
theorem dX3_back_19 : decode cX3_back 19 = .ok (.aload_n 0, 1) := dk_42 (dk_at dksX3_back_0 19 rfl rfl)
theorem dX3_back_20 : decode cX3_back 20 = .ok (.getfield 7, 3) := dk_180 0 7 (dk_at dksX3_back_0 20 rfl rfl)
theorem dX3_back_23 : decode cX3_back 23 = .ok (.iload_n 1, 1) := dk_27 (dk_at dksX3_back_0 23 rfl rfl)
theorem dX3_back_24 : decode cX3_back 24 = .ok (.aload_n 0, 1) := dk_42 (dk_at dksX3_back_1 0 rfl rfl)
theorem dX3_back_25 : decode cX3_back 25 = .ok (.getfield 13, 3) := dk_180 0 13 (dk_at dksX3_back_1 1 rfl rfl)
theorem dX3_back_28 : decode cX3_back 28 = .ok (.iload_n 1, 1) := dk_27 (dk_at dksX3_back_1 4 rfl rfl)
theorem dX3_back_29 : decode cX3_back 29 = .ok (.iaload, 1) := dk_46 (dk_at dksX3_back_1 5 rfl rfl)
theorem dX3_back_30 : decode cX3_back 30 = .ok (.iastore, 1) := dk_79 (dk_at dksX3_back_1 6 rfl rfl)
theorem dX3_back_31 : decode cX3_back 31 = .ok (.iinc 1 1, 3) := dk_132 1 1 (dk_at dksX3_back_1 7 rfl rfl)
theorem dX3_back_34 : decode cX3_back 34 = .ok (.goto (-22), 3) := dk_167 255 234 (dk_at dksX3_back_1 10 rfl rfl)
theorem dX3_back_37 : decode cX3_back 37 = .ok (.aload_n 0, 1) := dk_42 (dk_at dksX3_back_1 13 rfl rfl)
theorem dX3_back_38 : decode cX3_back 38 = .ok (.invokevirtual 207, 3) := dk_182 0 207 (dk_at dksX3_back_1 14 rfl rfl)
theorem dX3_back_41 : decode cX3_back 41 = .ok (.ireturn, 1) := dk_172 (dk_at dksX3_back_1 17 rfl rfl)
abbrev cX3_count : ByteArray := prog_11_method_76_code
def yX3_count : MethodName := ⟨RX3, "count", "(I)I"⟩
def dkwX3_count_3 : List UInt8 := [16, 254, 172]
abbrev dktX3_count_3 : List UInt8 := dkwX3_count_3 ++ []
def dkwX3_count_2 : List UInt8 := [42, 182, 0, 207, 172, 42, 182, 0, 210, 172, 42, 180, 0, 7, 3, 46, 172, 42, 180, 0, 7, 4, 46, 172]
abbrev dktX3_count_2 : List UInt8 := dkwX3_count_2 ++ dktX3_count_3
def dkwX3_count_1 : List UInt8 := [170, 0, 0, 0, 0, 0, 55, 0, 0, 0, 0, 0, 0, 0, 3, 0, 0, 0, 31, 0, 0, 0, 36, 0, 0, 0, 41, 0, 0, 0, 48]
abbrev dktX3_count_1 : List UInt8 := dkwX3_count_1 ++ dktX3_count_2
def dkwX3_count_0 : List UInt8 := [27]
abbrev dktX3_count_0 : List UInt8 := dkwX3_count_0 ++ dktX3_count_1
theorem dksX3_count_0 : cX3_count.data.toList.drop 0 = dktX3_count_0 := by decide +kernel
theorem dksX3_count_1 : cX3_count.data.toList.drop 1 = dktX3_count_1 := dk_seg dksX3_count_0 1 rfl rfl
theorem dksX3_count_2 : cX3_count.data.toList.drop 32 = dktX3_count_2 := dk_seg dksX3_count_1 31 rfl rfl
theorem dksX3_count_3 : cX3_count.data.toList.drop 56 = dktX3_count_3 := dk_seg dksX3_count_2 24 rfl rfl
theorem dX3_count_0 : decode cX3_count 0 = .ok (.iload_n 1, 1) := dk_27 (dk_at dksX3_count_0 0 rfl rfl)
theorem dX3_count_1 : decode cX3_count 1 = .ok (.tableswitch 55 0 3 #[31, 36, 41, 48], 31) := by decide +kernel
theorem dX3_count_32 : decode cX3_count 32 = .ok (.aload_n 0, 1) := dk_42 (dk_at dksX3_count_2 0 rfl rfl)
theorem dX3_count_33 : decode cX3_count 33 = .ok (.invokevirtual 207, 3) := dk_182 0 207 (dk_at dksX3_count_2 1 rfl rfl)
theorem dX3_count_36 : decode cX3_count 36 = .ok (.ireturn, 1) := dk_172 (dk_at dksX3_count_2 4 rfl rfl)
theorem dX3_count_37 : decode cX3_count 37 = .ok (.aload_n 0, 1) := dk_42 (dk_at dksX3_count_2 5 rfl rfl)
theorem dX3_count_38 : decode cX3_count 38 = .ok (.invokevirtual 210, 3) := dk_182 0 210 (dk_at dksX3_count_2 6 rfl rfl)
theorem dX3_count_41 : decode cX3_count 41 = .ok (.ireturn, 1) := dk_172 (dk_at dksX3_count_2 9 rfl rfl)
theorem dX3_count_42 : decode cX3_count 42 = .ok (.aload_n 0, 1) := dk_42 (dk_at dksX3_count_2 10 rfl rfl)
theorem dX3_count_43 : decode cX3_count 43 = .ok (.getfield 7, 3) := dk_180 0 7 (dk_at dksX3_count_2 11 rfl rfl)
theorem dX3_count_46 : decode cX3_count 46 = .ok (.iconst 0, 1) := dk_3 (dk_at dksX3_count_2 14 rfl rfl)
theorem dX3_count_47 : decode cX3_count 47 = .ok (.iaload, 1) := dk_46 (dk_at dksX3_count_2 15 rfl rfl)
theorem dX3_count_48 : decode cX3_count 48 = .ok (.ireturn, 1) := dk_172 (dk_at dksX3_count_2 16 rfl rfl)
theorem dX3_count_49 : decode cX3_count 49 = .ok (.aload_n 0, 1) := dk_42 (dk_at dksX3_count_2 17 rfl rfl)
theorem dX3_count_50 : decode cX3_count 50 = .ok (.getfield 7, 3) := dk_180 0 7 (dk_at dksX3_count_2 18 rfl rfl)
theorem dX3_count_53 : decode cX3_count 53 = .ok (.iconst 1, 1) := dk_4 (dk_at dksX3_count_2 21 rfl rfl)
theorem dX3_count_54 : decode cX3_count 54 = .ok (.iaload, 1) := dk_46 (dk_at dksX3_count_2 22 rfl rfl)
theorem dX3_count_55 : decode cX3_count 55 = .ok (.ireturn, 1) := dk_172 (dk_at dksX3_count_2 23 rfl rfl)
theorem dX3_count_56 : decode cX3_count 56 = .ok (.bipush (-2), 2) := dk_16 254 (dk_at dksX3_count_3 0 rfl rfl)
theorem dX3_count_58 : decode cX3_count 58 = .ok (.ireturn, 1) := dk_172 (dk_at dksX3_count_3 2 rfl rfl)
theorem q92 : (Jvm.Cond.initialized "DeadListPoolModel") ∈ lw_all := lw_g (lw_at lw_m1 4 rfl) rfl
theorem q1028 : (Jvm.Cond.instantiable "DeadListPoolModel" (13 : Nat)) ∈ lw_all := lw_g (lw_at lw_m4 220 rfl) rfl
theorem q1030 : (Jvm.Cond.instanceMethod ({ cls := "DeadListPoolModel", name := "<init>", desc := "()V" } : Jvm.MethodName)) ∈ lw_all := lw_g (lw_at lw_m4 222 rfl) rfl
theorem q1031 : (Jvm.Cond.code ({ cls := "DeadListPoolModel", name := "<init>", desc := "()V" } : Jvm.MethodName) prog_11_method_1_code (2 : Nat) (Option.none : Option Jvm.ClassFile.FieldType)) ∈ lw_all := lw_g (lw_at lw_m4 223 rfl) rfl
theorem q1032 : (Jvm.Cond.methodLink "DeadListPoolModel" (1 : Nat) ({ cls := "java/lang/Object", name := "<init>", desc := "()V" } : Jvm.MethodName)) ∈ lw_all := lw_g (lw_at lw_m4 224 rfl) rfl
theorem q1033 : (Jvm.Cond.fieldLink "DeadListPoolModel" (7 : Nat) "DeadListPoolModel" "s" "[I") ∈ lw_all := lw_g (lw_at lw_m4 225 rfl) rfl
theorem q1034 : (Jvm.Cond.fieldLink "DeadListPoolModel" (13 : Nat) "DeadListPoolModel" "image" "[I") ∈ lw_all := lw_g (lw_at lw_m4 226 rfl) rfl
theorem q1035 : (Jvm.Cond.fieldLink "DeadListPoolModel" (16 : Nat) "DeadListPoolModel" "frame" "[I") ∈ lw_all := lw_g (lw_at lw_m4 227 rfl) rfl
theorem q1036 : (Jvm.Cond.fieldLink "DeadListPoolModel" (213 : Nat) "DeadListPoolModel" "hasImage" "Z") ∈ lw_all := lw_g (lw_at lw_m4 228 rfl) rfl
theorem q1037 : (Jvm.Cond.fieldLink "DeadListPoolModel" (19 : Nat) "DeadListPoolModel" "holds" "[I") ∈ lw_all := lw_g (lw_at lw_m4 229 rfl) rfl
theorem q1038 : (Jvm.Cond.fieldLink "DeadListPoolModel" (22 : Nat) "DeadListPoolModel" "newest" "[I") ∈ lw_all := lw_g (lw_at lw_m4 230 rfl) rfl
theorem q1039 : (Jvm.Cond.fieldLink "DeadListPoolModel" (139 : Nat) "DeadListPoolModel" "owns" "I") ∈ lw_all := lw_g (lw_at lw_m4 231 rfl) rfl
theorem q1040 : (Jvm.Cond.fieldLink "DeadListPoolModel" (25 : Nat) "DeadListPoolModel" "holders" "[I") ∈ lw_all := lw_g (lw_at lw_m4 232 rfl) rfl
theorem q1041 : (Jvm.Cond.fieldLink "DeadListPoolModel" (28 : Nat) "DeadListPoolModel" "sorts" "[I") ∈ lw_all := lw_g (lw_at lw_m4 233 rfl) rfl
theorem q1042 : (Jvm.Cond.fieldLink "DeadListPoolModel" (31 : Nat) "DeadListPoolModel" "sizes" "[I") ∈ lw_all := lw_g (lw_at lw_m4 234 rfl) rfl
theorem q1043 : (Jvm.Cond.fieldLink "DeadListPoolModel" (34 : Nat) "DeadListPoolModel" "items" "[J") ∈ lw_all := lw_g (lw_at lw_m4 235 rfl) rfl
theorem q1044 : (Jvm.Cond.fieldLink "DeadListPoolModel" (173 : Nat) "DeadListPoolModel" "lot" "I") ∈ lw_all := lw_g (lw_at lw_m4 236 rfl) rfl
theorem q1045 : (Jvm.Cond.lays "DeadListPoolModel" "DeadListPoolModel" "thrown" "I") ∈ lw_all := lw_g (lw_at lw_m4 237 rfl) rfl
theorem q1046 : (Jvm.Cond.soleField "DeadListPoolModel" "thrown") ∈ lw_all := lw_g (lw_at lw_m4 238 rfl) rfl
theorem q1047 : (Jvm.Cond.laysFinal "DeadListPoolModel" "DeadListPoolModel" "s" "[I") ∈ lw_all := lw_g (lw_at lw_m4 239 rfl) rfl
theorem q1048 : (Jvm.Cond.soleField "DeadListPoolModel" "s") ∈ lw_all := lw_g (lw_at lw_m5 0 rfl) rfl
theorem q1049 : (Jvm.Cond.laysFinal "DeadListPoolModel" "DeadListPoolModel" "image" "[I") ∈ lw_all := lw_g (lw_at lw_m5 1 rfl) rfl
theorem q1050 : (Jvm.Cond.soleField "DeadListPoolModel" "image") ∈ lw_all := lw_g (lw_at lw_m5 2 rfl) rfl
theorem q1051 : (Jvm.Cond.laysFinal "DeadListPoolModel" "DeadListPoolModel" "frame" "[I") ∈ lw_all := lw_g (lw_at lw_m5 3 rfl) rfl
theorem q1052 : (Jvm.Cond.soleField "DeadListPoolModel" "frame") ∈ lw_all := lw_g (lw_at lw_m5 4 rfl) rfl
theorem q1053 : (Jvm.Cond.lays "DeadListPoolModel" "DeadListPoolModel" "hasImage" "Z") ∈ lw_all := lw_g (lw_at lw_m5 5 rfl) rfl
theorem q1054 : (Jvm.Cond.soleField "DeadListPoolModel" "hasImage") ∈ lw_all := lw_g (lw_at lw_m5 6 rfl) rfl
theorem q1055 : (Jvm.Cond.laysFinal "DeadListPoolModel" "DeadListPoolModel" "holds" "[I") ∈ lw_all := lw_g (lw_at lw_m5 7 rfl) rfl
theorem q1056 : (Jvm.Cond.soleField "DeadListPoolModel" "holds") ∈ lw_all := lw_g (lw_at lw_m5 8 rfl) rfl
theorem q1057 : (Jvm.Cond.laysFinal "DeadListPoolModel" "DeadListPoolModel" "newest" "[I") ∈ lw_all := lw_g (lw_at lw_m5 9 rfl) rfl
theorem q1058 : (Jvm.Cond.soleField "DeadListPoolModel" "newest") ∈ lw_all := lw_g (lw_at lw_m5 10 rfl) rfl
theorem q1059 : (Jvm.Cond.lays "DeadListPoolModel" "DeadListPoolModel" "owns" "I") ∈ lw_all := lw_g (lw_at lw_m5 11 rfl) rfl
theorem q1060 : (Jvm.Cond.soleField "DeadListPoolModel" "owns") ∈ lw_all := lw_g (lw_at lw_m5 12 rfl) rfl
theorem q1061 : (Jvm.Cond.laysFinal "DeadListPoolModel" "DeadListPoolModel" "holders" "[I") ∈ lw_all := lw_g (lw_at lw_m5 13 rfl) rfl
theorem q1062 : (Jvm.Cond.soleField "DeadListPoolModel" "holders") ∈ lw_all := lw_g (lw_at lw_m5 14 rfl) rfl
theorem q1063 : (Jvm.Cond.laysFinal "DeadListPoolModel" "DeadListPoolModel" "sorts" "[I") ∈ lw_all := lw_g (lw_at lw_m5 15 rfl) rfl
theorem q1064 : (Jvm.Cond.soleField "DeadListPoolModel" "sorts") ∈ lw_all := lw_g (lw_at lw_m5 16 rfl) rfl
theorem q1065 : (Jvm.Cond.laysFinal "DeadListPoolModel" "DeadListPoolModel" "sizes" "[I") ∈ lw_all := lw_g (lw_at lw_m5 17 rfl) rfl
theorem q1066 : (Jvm.Cond.soleField "DeadListPoolModel" "sizes") ∈ lw_all := lw_g (lw_at lw_m5 18 rfl) rfl
theorem q1067 : (Jvm.Cond.laysFinal "DeadListPoolModel" "DeadListPoolModel" "items" "[J") ∈ lw_all := lw_g (lw_at lw_m5 19 rfl) rfl
theorem q1068 : (Jvm.Cond.soleField "DeadListPoolModel" "items") ∈ lw_all := lw_g (lw_at lw_m5 20 rfl) rfl
theorem q1069 : (Jvm.Cond.lays "DeadListPoolModel" "DeadListPoolModel" "lot" "I") ∈ lw_all := lw_g (lw_at lw_m5 21 rfl) rfl
theorem q1070 : (Jvm.Cond.soleField "DeadListPoolModel" "lot") ∈ lw_all := lw_g (lw_at lw_m5 22 rfl) rfl
theorem q1071 : (Jvm.Cond.superclass "DeadListPoolModel" "java/lang/Object") ∈ lw_all := lw_g (lw_at lw_m5 23 rfl) rfl
theorem q1073 : (Jvm.Cond.instanceMethod ({ cls := "DeadListPoolModel", name := "files", desc := "(I)I" } : Jvm.MethodName)) ∈ lw_all := lw_g (lw_at lw_m5 25 rfl) rfl
theorem q1074 : (Jvm.Cond.selects "DeadListPoolModel" ({ cls := "DeadListPoolModel", name := "files", desc := "(I)I" } : Jvm.MethodName) ({ cls := "DeadListPoolModel", name := "files", desc := "(I)I" } : Jvm.MethodName)) ∈ lw_all := lw_g (lw_at lw_m5 26 rfl) rfl
theorem q1075 : (Jvm.Cond.code ({ cls := "DeadListPoolModel", name := "files", desc := "(I)I" } : Jvm.MethodName) prog_11_method_20_code (3 : Nat) (Option.some Jvm.ClassFile.FieldType.int)) ∈ lw_all := lw_g (lw_at lw_m5 27 rfl) rfl
theorem q1076 : (Jvm.Cond.constant "DeadListPoolModel" (74 : Nat) (1000000000 : Int32)) ∈ lw_all := lw_g (lw_at lw_m5 28 rfl) rfl
theorem q1077 : (Jvm.Cond.methodLink "DeadListPoolModel" (42 : Nat) ({ cls := "DeadListPoolModel", name := "in", desc := "(III)Z" } : Jvm.MethodName)) ∈ lw_all := lw_g (lw_at lw_m5 29 rfl) rfl
theorem q1078 : (Jvm.Cond.static ({ cls := "DeadListPoolModel", name := "in", desc := "(III)Z" } : Jvm.MethodName)) ∈ lw_all := lw_g (lw_at lw_m5 30 rfl) rfl
theorem q1079 : (Jvm.Cond.code ({ cls := "DeadListPoolModel", name := "in", desc := "(III)Z" } : Jvm.MethodName) prog_11_method_3_code (3 : Nat) (Option.some Jvm.ClassFile.FieldType.boolean)) ∈ lw_all := lw_g (lw_at lw_m5 31 rfl) rfl
theorem q1080 : (Jvm.Cond.methodLink "DeadListPoolModel" (70 : Nat) ({ cls := "DeadListPoolModel", name := "newThing", desc := "()I" } : Jvm.MethodName)) ∈ lw_all := lw_g (lw_at lw_m5 32 rfl) rfl
theorem q1081 : (Jvm.Cond.privateMethod ({ cls := "DeadListPoolModel", name := "newThing", desc := "()I" } : Jvm.MethodName)) ∈ lw_tbl := lw_at lw_m5 33 rfl
theorem q1082 : (Jvm.Cond.instanceMethod ({ cls := "DeadListPoolModel", name := "newThing", desc := "()I" } : Jvm.MethodName)) ∈ lw_all := lw_g (lw_at lw_m5 34 rfl) rfl
theorem q1083 : (Jvm.Cond.code ({ cls := "DeadListPoolModel", name := "newThing", desc := "()I" } : Jvm.MethodName) prog_11_method_17_code (2 : Nat) (Option.some Jvm.ClassFile.FieldType.int)) ∈ lw_all := lw_g (lw_at lw_m5 35 rfl) rfl
theorem q1084 : (Jvm.Cond.methodLink "DeadListPoolModel" (75 : Nat) ({ cls := "DeadListPoolModel", name := "comes", desc := "(II)I" } : Jvm.MethodName)) ∈ lw_all := lw_g (lw_at lw_m5 36 rfl) rfl
theorem q1085 : (Jvm.Cond.privateMethod ({ cls := "DeadListPoolModel", name := "comes", desc := "(II)I" } : Jvm.MethodName)) ∈ lw_tbl := lw_at lw_m5 37 rfl
theorem q1086 : (Jvm.Cond.instanceMethod ({ cls := "DeadListPoolModel", name := "comes", desc := "(II)I" } : Jvm.MethodName)) ∈ lw_all := lw_g (lw_at lw_m5 38 rfl) rfl
theorem q1087 : (Jvm.Cond.code ({ cls := "DeadListPoolModel", name := "comes", desc := "(II)I" } : Jvm.MethodName) prog_11_method_18_code (5 : Nat) (Option.some Jvm.ClassFile.FieldType.int)) ∈ lw_all := lw_g (lw_at lw_m5 39 rfl) rfl
theorem q1089 : (Jvm.Cond.instanceMethod ({ cls := "DeadListPoolModel", name := "write", desc := "(III)I" } : Jvm.MethodName)) ∈ lw_all := lw_g (lw_at lw_m5 41 rfl) rfl
theorem q1090 : (Jvm.Cond.selects "DeadListPoolModel" ({ cls := "DeadListPoolModel", name := "write", desc := "(III)I" } : Jvm.MethodName) ({ cls := "DeadListPoolModel", name := "write", desc := "(III)I" } : Jvm.MethodName)) ∈ lw_all := lw_g (lw_at lw_m5 42 rfl) rfl
theorem q1091 : (Jvm.Cond.code ({ cls := "DeadListPoolModel", name := "write", desc := "(III)I" } : Jvm.MethodName) prog_11_method_25_code (5 : Nat) (Option.some Jvm.ClassFile.FieldType.int)) ∈ lw_all := lw_g (lw_at lw_m5 43 rfl) rfl
theorem q1092 : (Jvm.Cond.methodLink "DeadListPoolModel" (92 : Nat) ({ cls := "DeadListPoolModel", name := "asked", desc := "(II)I" } : Jvm.MethodName)) ∈ lw_all := lw_g (lw_at lw_m5 44 rfl) rfl
theorem q1093 : (Jvm.Cond.privateMethod ({ cls := "DeadListPoolModel", name := "asked", desc := "(II)I" } : Jvm.MethodName)) ∈ lw_tbl := lw_at lw_m5 45 rfl
theorem q1094 : (Jvm.Cond.instanceMethod ({ cls := "DeadListPoolModel", name := "asked", desc := "(II)I" } : Jvm.MethodName)) ∈ lw_all := lw_g (lw_at lw_m5 46 rfl) rfl
theorem q1095 : (Jvm.Cond.code ({ cls := "DeadListPoolModel", name := "asked", desc := "(II)I" } : Jvm.MethodName) prog_11_method_10_code (4 : Nat) (Option.some Jvm.ClassFile.FieldType.int)) ∈ lw_all := lw_g (lw_at lw_m5 47 rfl) rfl
theorem q1096 : (Jvm.Cond.methodLink "DeadListPoolModel" (60 : Nat) ({ cls := "DeadListPoolModel", name := "there", desc := "(I)I" } : Jvm.MethodName)) ∈ lw_all := lw_g (lw_at lw_m5 48 rfl) rfl
theorem q1097 : (Jvm.Cond.privateMethod ({ cls := "DeadListPoolModel", name := "there", desc := "(I)I" } : Jvm.MethodName)) ∈ lw_tbl := lw_at lw_m5 49 rfl
theorem q1098 : (Jvm.Cond.instanceMethod ({ cls := "DeadListPoolModel", name := "there", desc := "(I)I" } : Jvm.MethodName)) ∈ lw_all := lw_g (lw_at lw_m5 50 rfl) rfl
theorem q1099 : (Jvm.Cond.code ({ cls := "DeadListPoolModel", name := "there", desc := "(I)I" } : Jvm.MethodName) prog_11_method_9_code (2 : Nat) (Option.some Jvm.ClassFile.FieldType.int)) ∈ lw_all := lw_g (lw_at lw_m5 51 rfl) rfl
theorem q1100 : (Jvm.Cond.methodLink "DeadListPoolModel" (46 : Nat) ({ cls := "DeadListPoolModel", name := "isThing", desc := "(I)Z" } : Jvm.MethodName)) ∈ lw_all := lw_g (lw_at lw_m5 52 rfl) rfl
theorem q1101 : (Jvm.Cond.privateMethod ({ cls := "DeadListPoolModel", name := "isThing", desc := "(I)Z" } : Jvm.MethodName)) ∈ lw_tbl := lw_at lw_m5 53 rfl
theorem q1102 : (Jvm.Cond.instanceMethod ({ cls := "DeadListPoolModel", name := "isThing", desc := "(I)Z" } : Jvm.MethodName)) ∈ lw_all := lw_g (lw_at lw_m5 54 rfl) rfl
theorem q1103 : (Jvm.Cond.code ({ cls := "DeadListPoolModel", name := "isThing", desc := "(I)Z" } : Jvm.MethodName) prog_11_method_4_code (2 : Nat) (Option.some Jvm.ClassFile.FieldType.boolean)) ∈ lw_all := lw_g (lw_at lw_m5 55 rfl) rfl
theorem q1104 : (Jvm.Cond.methodLink "DeadListPoolModel" (50 : Nat) ({ cls := "DeadListPoolModel", name := "isUnder", desc := "(II)Z" } : Jvm.MethodName)) ∈ lw_all := lw_g (lw_at lw_m5 56 rfl) rfl
theorem q1105 : (Jvm.Cond.static ({ cls := "DeadListPoolModel", name := "isUnder", desc := "(II)Z" } : Jvm.MethodName)) ∈ lw_all := lw_g (lw_at lw_m5 57 rfl) rfl
theorem q1106 : (Jvm.Cond.code ({ cls := "DeadListPoolModel", name := "isUnder", desc := "(II)Z" } : Jvm.MethodName) prog_11_method_5_code (2 : Nat) (Option.some Jvm.ClassFile.FieldType.boolean)) ∈ lw_all := lw_g (lw_at lw_m5 58 rfl) rfl
theorem q1107 : (Jvm.Cond.methodLink "DeadListPoolModel" (95 : Nat) ({ cls := "DeadListPoolModel", name := "written", desc := "(III)I" } : Jvm.MethodName)) ∈ lw_all := lw_g (lw_at lw_m5 59 rfl) rfl
theorem q1108 : (Jvm.Cond.privateMethod ({ cls := "DeadListPoolModel", name := "written", desc := "(III)I" } : Jvm.MethodName)) ∈ lw_tbl := lw_at lw_m5 60 rfl
theorem q1109 : (Jvm.Cond.instanceMethod ({ cls := "DeadListPoolModel", name := "written", desc := "(III)I" } : Jvm.MethodName)) ∈ lw_all := lw_g (lw_at lw_m5 61 rfl) rfl
theorem q1110 : (Jvm.Cond.code ({ cls := "DeadListPoolModel", name := "written", desc := "(III)I" } : Jvm.MethodName) prog_11_method_23_code (6 : Nat) (Option.some Jvm.ClassFile.FieldType.int)) ∈ lw_all := lw_g (lw_at lw_m5 62 rfl) rfl
theorem q1111 : (Jvm.Cond.methodLink "DeadListPoolModel" (79 : Nat) ({ cls := "DeadListPoolModel", name := "newBlock", desc := "()I" } : Jvm.MethodName)) ∈ lw_all := lw_g (lw_at lw_m5 63 rfl) rfl
theorem q1112 : (Jvm.Cond.privateMethod ({ cls := "DeadListPoolModel", name := "newBlock", desc := "()I" } : Jvm.MethodName)) ∈ lw_tbl := lw_at lw_m5 64 rfl
theorem q1113 : (Jvm.Cond.instanceMethod ({ cls := "DeadListPoolModel", name := "newBlock", desc := "()I" } : Jvm.MethodName)) ∈ lw_all := lw_g (lw_at lw_m5 65 rfl) rfl
theorem q1114 : (Jvm.Cond.code ({ cls := "DeadListPoolModel", name := "newBlock", desc := "()I" } : Jvm.MethodName) prog_11_method_15_code (2 : Nat) (Option.some Jvm.ClassFile.FieldType.int)) ∈ lw_all := lw_g (lw_at lw_m5 66 rfl) rfl
theorem q1115 : (Jvm.Cond.methodLink "DeadListPoolModel" (82 : Nat) ({ cls := "DeadListPoolModel", name := "spaceOf", desc := "(I)J" } : Jvm.MethodName)) ∈ lw_all := lw_g (lw_at lw_m5 67 rfl) rfl
theorem q1116 : (Jvm.Cond.privateMethod ({ cls := "DeadListPoolModel", name := "spaceOf", desc := "(I)J" } : Jvm.MethodName)) ∈ lw_tbl := lw_at lw_m5 68 rfl
theorem q1117 : (Jvm.Cond.instanceMethod ({ cls := "DeadListPoolModel", name := "spaceOf", desc := "(I)J" } : Jvm.MethodName)) ∈ lw_all := lw_g (lw_at lw_m5 69 rfl) rfl
theorem q1118 : (Jvm.Cond.code ({ cls := "DeadListPoolModel", name := "spaceOf", desc := "(I)J" } : Jvm.MethodName) prog_11_method_21_code (6 : Nat) (Option.some Jvm.ClassFile.FieldType.long)) ∈ lw_all := lw_g (lw_at lw_m5 70 rfl) rfl
theorem q1119 : (Jvm.Cond.methodLink "DeadListPoolModel" (86 : Nat) ({ cls := "DeadListPoolModel", name := "sizeIn", desc := "(II)I" } : Jvm.MethodName)) ∈ lw_all := lw_g (lw_at lw_m5 71 rfl) rfl
theorem q1120 : (Jvm.Cond.privateMethod ({ cls := "DeadListPoolModel", name := "sizeIn", desc := "(II)I" } : Jvm.MethodName)) ∈ lw_tbl := lw_at lw_m5 72 rfl
theorem q1121 : (Jvm.Cond.instanceMethod ({ cls := "DeadListPoolModel", name := "sizeIn", desc := "(II)I" } : Jvm.MethodName)) ∈ lw_all := lw_g (lw_at lw_m5 73 rfl) rfl
theorem q1122 : (Jvm.Cond.code ({ cls := "DeadListPoolModel", name := "sizeIn", desc := "(II)I" } : Jvm.MethodName) prog_11_method_22_code (4 : Nat) (Option.some Jvm.ClassFile.FieldType.int)) ∈ lw_all := lw_g (lw_at lw_m5 74 rfl) rfl
theorem q1123 : (Jvm.Cond.methodLink "DeadListPoolModel" (89 : Nat) ({ cls := "DeadListPoolModel", name := "frees", desc := "()I" } : Jvm.MethodName)) ∈ lw_all := lw_g (lw_at lw_m5 75 rfl) rfl
theorem q1124 : (Jvm.Cond.privateMethod ({ cls := "DeadListPoolModel", name := "frees", desc := "()I" } : Jvm.MethodName)) ∈ lw_tbl := lw_at lw_m5 76 rfl
theorem q1125 : (Jvm.Cond.instanceMethod ({ cls := "DeadListPoolModel", name := "frees", desc := "()I" } : Jvm.MethodName)) ∈ lw_all := lw_g (lw_at lw_m5 77 rfl) rfl
theorem q1126 : (Jvm.Cond.code ({ cls := "DeadListPoolModel", name := "frees", desc := "()I" } : Jvm.MethodName) prog_11_method_14_code (3 : Nat) (Option.some Jvm.ClassFile.FieldType.int)) ∈ lw_all := lw_g (lw_at lw_m5 78 rfl) rfl
theorem q1127 : (Jvm.Cond.methodLink "DeadListPoolModel" (67 : Nat) ({ cls := "DeadListPoolModel", name := "counts", desc := "()V" } : Jvm.MethodName)) ∈ lw_all := lw_g (lw_at lw_m5 79 rfl) rfl
theorem q1128 : (Jvm.Cond.privateMethod ({ cls := "DeadListPoolModel", name := "counts", desc := "()V" } : Jvm.MethodName)) ∈ lw_tbl := lw_at lw_m5 80 rfl
theorem q1129 : (Jvm.Cond.instanceMethod ({ cls := "DeadListPoolModel", name := "counts", desc := "()V" } : Jvm.MethodName)) ∈ lw_all := lw_g (lw_at lw_m5 81 rfl) rfl
theorem q1130 : (Jvm.Cond.code ({ cls := "DeadListPoolModel", name := "counts", desc := "()V" } : Jvm.MethodName) prog_11_method_12_code (4 : Nat) (Option.none : Option Jvm.ClassFile.FieldType)) ∈ lw_all := lw_g (lw_at lw_m5 82 rfl) rfl
theorem q1131 : (Jvm.Cond.methodLink "DeadListPoolModel" (64 : Nat) ({ cls := "DeadListPoolModel", name := "hasSlots", desc := "(I)Z" } : Jvm.MethodName)) ∈ lw_all := lw_g (lw_at lw_m5 83 rfl) rfl
theorem q1132 : (Jvm.Cond.privateMethod ({ cls := "DeadListPoolModel", name := "hasSlots", desc := "(I)Z" } : Jvm.MethodName)) ∈ lw_tbl := lw_at lw_m5 84 rfl
theorem q1133 : (Jvm.Cond.instanceMethod ({ cls := "DeadListPoolModel", name := "hasSlots", desc := "(I)Z" } : Jvm.MethodName)) ∈ lw_all := lw_g (lw_at lw_m5 85 rfl) rfl
theorem q1134 : (Jvm.Cond.code ({ cls := "DeadListPoolModel", name := "hasSlots", desc := "(I)Z" } : Jvm.MethodName) prog_11_method_8_code (2 : Nat) (Option.some Jvm.ClassFile.FieldType.boolean)) ∈ lw_all := lw_g (lw_at lw_m5 86 rfl) rfl
theorem q1135 : (Jvm.Cond.methodLink "DeadListPoolModel" (54 : Nat) ({ cls := "DeadListPoolModel", name := "isFiles", desc := "(I)Z" } : Jvm.MethodName)) ∈ lw_all := lw_g (lw_at lw_m5 87 rfl) rfl
theorem q1136 : (Jvm.Cond.privateMethod ({ cls := "DeadListPoolModel", name := "isFiles", desc := "(I)Z" } : Jvm.MethodName)) ∈ lw_tbl := lw_at lw_m5 88 rfl
theorem q1137 : (Jvm.Cond.instanceMethod ({ cls := "DeadListPoolModel", name := "isFiles", desc := "(I)Z" } : Jvm.MethodName)) ∈ lw_all := lw_g (lw_at lw_m5 89 rfl) rfl
theorem q1138 : (Jvm.Cond.code ({ cls := "DeadListPoolModel", name := "isFiles", desc := "(I)Z" } : Jvm.MethodName) prog_11_method_6_code (2 : Nat) (Option.some Jvm.ClassFile.FieldType.boolean)) ∈ lw_all := lw_g (lw_at lw_m5 90 rfl) rfl
theorem q1139 : (Jvm.Cond.methodLink "DeadListPoolModel" (57 : Nat) ({ cls := "DeadListPoolModel", name := "isSnapshot", desc := "(I)Z" } : Jvm.MethodName)) ∈ lw_all := lw_g (lw_at lw_m5 91 rfl) rfl
theorem q1140 : (Jvm.Cond.privateMethod ({ cls := "DeadListPoolModel", name := "isSnapshot", desc := "(I)Z" } : Jvm.MethodName)) ∈ lw_tbl := lw_at lw_m5 92 rfl
theorem q1141 : (Jvm.Cond.instanceMethod ({ cls := "DeadListPoolModel", name := "isSnapshot", desc := "(I)Z" } : Jvm.MethodName)) ∈ lw_all := lw_g (lw_at lw_m5 93 rfl) rfl
theorem q1142 : (Jvm.Cond.code ({ cls := "DeadListPoolModel", name := "isSnapshot", desc := "(I)Z" } : Jvm.MethodName) prog_11_method_7_code (2 : Nat) (Option.some Jvm.ClassFile.FieldType.boolean)) ∈ lw_all := lw_g (lw_at lw_m5 94 rfl) rfl
theorem q1144 : (Jvm.Cond.instanceMethod ({ cls := "DeadListPoolModel", name := "erase", desc := "(II)I" } : Jvm.MethodName)) ∈ lw_all := lw_g (lw_at lw_m5 96 rfl) rfl
theorem q1145 : (Jvm.Cond.selects "DeadListPoolModel" ({ cls := "DeadListPoolModel", name := "erase", desc := "(II)I" } : Jvm.MethodName) ({ cls := "DeadListPoolModel", name := "erase", desc := "(II)I" } : Jvm.MethodName)) ∈ lw_all := lw_g (lw_at lw_m5 97 rfl) rfl
theorem q1146 : (Jvm.Cond.code ({ cls := "DeadListPoolModel", name := "erase", desc := "(II)I" } : Jvm.MethodName) prog_11_method_26_code (4 : Nat) (Option.some Jvm.ClassFile.FieldType.int)) ∈ lw_all := lw_g (lw_at lw_m5 98 rfl) rfl
theorem q1147 : (Jvm.Cond.methodLink "DeadListPoolModel" (99 : Nat) ({ cls := "DeadListPoolModel", name := "erased", desc := "(II)I" } : Jvm.MethodName)) ∈ lw_all := lw_g (lw_at lw_m5 99 rfl) rfl
theorem q1148 : (Jvm.Cond.privateMethod ({ cls := "DeadListPoolModel", name := "erased", desc := "(II)I" } : Jvm.MethodName)) ∈ lw_tbl := lw_at lw_m5 100 rfl
theorem q1149 : (Jvm.Cond.instanceMethod ({ cls := "DeadListPoolModel", name := "erased", desc := "(II)I" } : Jvm.MethodName)) ∈ lw_all := lw_g (lw_at lw_m5 101 rfl) rfl
theorem q1150 : (Jvm.Cond.code ({ cls := "DeadListPoolModel", name := "erased", desc := "(II)I" } : Jvm.MethodName) prog_11_method_24_code (4 : Nat) (Option.some Jvm.ClassFile.FieldType.int)) ∈ lw_all := lw_g (lw_at lw_m5 102 rfl) rfl
theorem q1152 : (Jvm.Cond.instanceMethod ({ cls := "DeadListPoolModel", name := "snap", desc := "(II)I" } : Jvm.MethodName)) ∈ lw_all := lw_g (lw_at lw_m5 104 rfl) rfl
theorem q1153 : (Jvm.Cond.selects "DeadListPoolModel" ({ cls := "DeadListPoolModel", name := "snap", desc := "(II)I" } : Jvm.MethodName) ({ cls := "DeadListPoolModel", name := "snap", desc := "(II)I" } : Jvm.MethodName)) ∈ lw_all := lw_g (lw_at lw_m5 105 rfl) rfl
theorem q1154 : (Jvm.Cond.code ({ cls := "DeadListPoolModel", name := "snap", desc := "(II)I" } : Jvm.MethodName) prog_11_method_27_code (5 : Nat) (Option.some Jvm.ClassFile.FieldType.int)) ∈ lw_all := lw_g (lw_at lw_m5 106 rfl) rfl
theorem q1155 : (Jvm.Cond.methodLink "DeadListPoolModel" (102 : Nat) ({ cls := "DeadListPoolModel", name := "takesSlots", desc := "(II)V" } : Jvm.MethodName)) ∈ lw_all := lw_g (lw_at lw_m5 107 rfl) rfl
theorem q1156 : (Jvm.Cond.privateMethod ({ cls := "DeadListPoolModel", name := "takesSlots", desc := "(II)V" } : Jvm.MethodName)) ∈ lw_tbl := lw_at lw_m5 108 rfl
theorem q1157 : (Jvm.Cond.instanceMethod ({ cls := "DeadListPoolModel", name := "takesSlots", desc := "(II)V" } : Jvm.MethodName)) ∈ lw_all := lw_g (lw_at lw_m5 109 rfl) rfl
theorem q1158 : (Jvm.Cond.code ({ cls := "DeadListPoolModel", name := "takesSlots", desc := "(II)V" } : Jvm.MethodName) prog_11_method_19_code (4 : Nat) (Option.none : Option Jvm.ClassFile.FieldType)) ∈ lw_all := lw_g (lw_at lw_m5 110 rfl) rfl
theorem q1160 : (Jvm.Cond.instanceMethod ({ cls := "DeadListPoolModel", name := "tag", desc := "(II)I" } : Jvm.MethodName)) ∈ lw_all := lw_g (lw_at lw_m5 112 rfl) rfl
theorem q1161 : (Jvm.Cond.selects "DeadListPoolModel" ({ cls := "DeadListPoolModel", name := "tag", desc := "(II)I" } : Jvm.MethodName) ({ cls := "DeadListPoolModel", name := "tag", desc := "(II)I" } : Jvm.MethodName)) ∈ lw_all := lw_g (lw_at lw_m5 113 rfl) rfl
theorem q1162 : (Jvm.Cond.code ({ cls := "DeadListPoolModel", name := "tag", desc := "(II)I" } : Jvm.MethodName) prog_11_method_28_code (5 : Nat) (Option.some Jvm.ClassFile.FieldType.int)) ∈ lw_all := lw_g (lw_at lw_m5 114 rfl) rfl
theorem q1164 : (Jvm.Cond.instanceMethod ({ cls := "DeadListPoolModel", name := "mark", desc := "(I)I" } : Jvm.MethodName)) ∈ lw_all := lw_g (lw_at lw_m5 116 rfl) rfl
theorem q1165 : (Jvm.Cond.selects "DeadListPoolModel" ({ cls := "DeadListPoolModel", name := "mark", desc := "(I)I" } : Jvm.MethodName) ({ cls := "DeadListPoolModel", name := "mark", desc := "(I)I" } : Jvm.MethodName)) ∈ lw_all := lw_g (lw_at lw_m5 117 rfl) rfl
theorem q1166 : (Jvm.Cond.code ({ cls := "DeadListPoolModel", name := "mark", desc := "(I)I" } : Jvm.MethodName) prog_11_method_29_code (3 : Nat) (Option.some Jvm.ClassFile.FieldType.int)) ∈ lw_all := lw_g (lw_at lw_m5 118 rfl) rfl
theorem q1168 : (Jvm.Cond.instanceMethod ({ cls := "DeadListPoolModel", name := "remove", desc := "(I)I" } : Jvm.MethodName)) ∈ lw_all := lw_g (lw_at lw_m5 120 rfl) rfl
theorem q1169 : (Jvm.Cond.selects "DeadListPoolModel" ({ cls := "DeadListPoolModel", name := "remove", desc := "(I)I" } : Jvm.MethodName) ({ cls := "DeadListPoolModel", name := "remove", desc := "(I)I" } : Jvm.MethodName)) ∈ lw_all := lw_g (lw_at lw_m5 121 rfl) rfl
theorem q1170 : (Jvm.Cond.code ({ cls := "DeadListPoolModel", name := "remove", desc := "(I)I" } : Jvm.MethodName) prog_11_method_34_code (3 : Nat) (Option.some Jvm.ClassFile.FieldType.int)) ∈ lw_all := lw_g (lw_at lw_m5 122 rfl) rfl
theorem q1171 : (Jvm.Cond.methodLink "DeadListPoolModel" (106 : Nat) ({ cls := "DeadListPoolModel", name := "nexts", desc := "(I)I" } : Jvm.MethodName)) ∈ lw_all := lw_g (lw_at lw_m5 123 rfl) rfl
theorem q1172 : (Jvm.Cond.privateMethod ({ cls := "DeadListPoolModel", name := "nexts", desc := "(I)I" } : Jvm.MethodName)) ∈ lw_tbl := lw_at lw_m5 124 rfl
theorem q1173 : (Jvm.Cond.instanceMethod ({ cls := "DeadListPoolModel", name := "nexts", desc := "(I)I" } : Jvm.MethodName)) ∈ lw_all := lw_g (lw_at lw_m5 125 rfl) rfl
theorem q1174 : (Jvm.Cond.code ({ cls := "DeadListPoolModel", name := "nexts", desc := "(I)I" } : Jvm.MethodName) prog_11_method_30_code (4 : Nat) (Option.some Jvm.ClassFile.FieldType.int)) ∈ lw_all := lw_g (lw_at lw_m5 126 rfl) rfl
theorem q1175 : (Jvm.Cond.methodLink "DeadListPoolModel" (109 : Nat) ({ cls := "DeadListPoolModel", name := "owned", desc := "(I)I" } : Jvm.MethodName)) ∈ lw_all := lw_g (lw_at lw_m5 127 rfl) rfl
theorem q1176 : (Jvm.Cond.privateMethod ({ cls := "DeadListPoolModel", name := "owned", desc := "(I)I" } : Jvm.MethodName)) ∈ lw_tbl := lw_at lw_m5 128 rfl
theorem q1177 : (Jvm.Cond.instanceMethod ({ cls := "DeadListPoolModel", name := "owned", desc := "(I)I" } : Jvm.MethodName)) ∈ lw_all := lw_g (lw_at lw_m5 129 rfl) rfl
theorem q1178 : (Jvm.Cond.code ({ cls := "DeadListPoolModel", name := "owned", desc := "(I)I" } : Jvm.MethodName) prog_11_method_31_code (4 : Nat) (Option.some Jvm.ClassFile.FieldType.int)) ∈ lw_all := lw_g (lw_at lw_m5 130 rfl) rfl
theorem q1179 : (Jvm.Cond.methodLink "DeadListPoolModel" (112 : Nat) ({ cls := "DeadListPoolModel", name := "removed", desc := "(I)I" } : Jvm.MethodName)) ∈ lw_all := lw_g (lw_at lw_m5 131 rfl) rfl
theorem q1180 : (Jvm.Cond.privateMethod ({ cls := "DeadListPoolModel", name := "removed", desc := "(I)I" } : Jvm.MethodName)) ∈ lw_tbl := lw_at lw_m5 132 rfl
theorem q1181 : (Jvm.Cond.instanceMethod ({ cls := "DeadListPoolModel", name := "removed", desc := "(I)I" } : Jvm.MethodName)) ∈ lw_all := lw_g (lw_at lw_m5 133 rfl) rfl
theorem q1182 : (Jvm.Cond.code ({ cls := "DeadListPoolModel", name := "removed", desc := "(I)I" } : Jvm.MethodName) prog_11_method_33_code (3 : Nat) (Option.some Jvm.ClassFile.FieldType.int)) ∈ lw_all := lw_g (lw_at lw_m5 134 rfl) rfl
theorem q1184 : (Jvm.Cond.instanceMethod ({ cls := "DeadListPoolModel", name := "fork", desc := "(I)I" } : Jvm.MethodName)) ∈ lw_all := lw_g (lw_at lw_m5 136 rfl) rfl
theorem q1185 : (Jvm.Cond.selects "DeadListPoolModel" ({ cls := "DeadListPoolModel", name := "fork", desc := "(I)I" } : Jvm.MethodName) ({ cls := "DeadListPoolModel", name := "fork", desc := "(I)I" } : Jvm.MethodName)) ∈ lw_all := lw_g (lw_at lw_m5 137 rfl) rfl
theorem q1186 : (Jvm.Cond.code ({ cls := "DeadListPoolModel", name := "fork", desc := "(I)I" } : Jvm.MethodName) prog_11_method_35_code (4 : Nat) (Option.some Jvm.ClassFile.FieldType.int)) ∈ lw_all := lw_g (lw_at lw_m5 138 rfl) rfl
theorem q1188 : (Jvm.Cond.instanceMethod ({ cls := "DeadListPoolModel", name := "promote", desc := "(I)I" } : Jvm.MethodName)) ∈ lw_all := lw_g (lw_at lw_m5 140 rfl) rfl
theorem q1189 : (Jvm.Cond.selects "DeadListPoolModel" ({ cls := "DeadListPoolModel", name := "promote", desc := "(I)I" } : Jvm.MethodName) ({ cls := "DeadListPoolModel", name := "promote", desc := "(I)I" } : Jvm.MethodName)) ∈ lw_all := lw_g (lw_at lw_m5 141 rfl) rfl
theorem q1190 : (Jvm.Cond.code ({ cls := "DeadListPoolModel", name := "promote", desc := "(I)I" } : Jvm.MethodName) prog_11_method_37_code (7 : Nat) (Option.some Jvm.ClassFile.FieldType.int)) ∈ lw_all := lw_g (lw_at lw_m5 142 rfl) rfl
theorem q1191 : (Jvm.Cond.methodLink "DeadListPoolModel" (115 : Nat) ({ cls := "DeadListPoolModel", name := "originOf", desc := "(I)I" } : Jvm.MethodName)) ∈ lw_all := lw_g (lw_at lw_m5 143 rfl) rfl
theorem q1192 : (Jvm.Cond.privateMethod ({ cls := "DeadListPoolModel", name := "originOf", desc := "(I)I" } : Jvm.MethodName)) ∈ lw_tbl := lw_at lw_m5 144 rfl
theorem q1193 : (Jvm.Cond.instanceMethod ({ cls := "DeadListPoolModel", name := "originOf", desc := "(I)I" } : Jvm.MethodName)) ∈ lw_all := lw_g (lw_at lw_m5 145 rfl) rfl
theorem q1194 : (Jvm.Cond.code ({ cls := "DeadListPoolModel", name := "originOf", desc := "(I)I" } : Jvm.MethodName) prog_11_method_36_code (3 : Nat) (Option.some Jvm.ClassFile.FieldType.int)) ∈ lw_all := lw_g (lw_at lw_m5 146 rfl) rfl
theorem q1196 : (Jvm.Cond.instanceMethod ({ cls := "DeadListPoolModel", name := "rollback", desc := "(I)I" } : Jvm.MethodName)) ∈ lw_all := lw_g (lw_at lw_m5 148 rfl) rfl
theorem q1197 : (Jvm.Cond.selects "DeadListPoolModel" ({ cls := "DeadListPoolModel", name := "rollback", desc := "(I)I" } : Jvm.MethodName) ({ cls := "DeadListPoolModel", name := "rollback", desc := "(I)I" } : Jvm.MethodName)) ∈ lw_all := lw_g (lw_at lw_m5 149 rfl) rfl
theorem q1198 : (Jvm.Cond.code ({ cls := "DeadListPoolModel", name := "rollback", desc := "(I)I" } : Jvm.MethodName) prog_11_method_38_code (3 : Nat) (Option.some Jvm.ClassFile.FieldType.int)) ∈ lw_all := lw_g (lw_at lw_m5 150 rfl) rfl
theorem q1200 : (Jvm.Cond.instanceMethod ({ cls := "DeadListPoolModel", name := "tick", desc := "()I" } : Jvm.MethodName)) ∈ lw_all := lw_g (lw_at lw_m5 152 rfl) rfl
theorem q1201 : (Jvm.Cond.selects "DeadListPoolModel" ({ cls := "DeadListPoolModel", name := "tick", desc := "()I" } : Jvm.MethodName) ({ cls := "DeadListPoolModel", name := "tick", desc := "()I" } : Jvm.MethodName)) ∈ lw_all := lw_g (lw_at lw_m5 153 rfl) rfl
theorem q1202 : (Jvm.Cond.code ({ cls := "DeadListPoolModel", name := "tick", desc := "()I" } : Jvm.MethodName) prog_11_method_39_code (1 : Nat) (Option.some Jvm.ClassFile.FieldType.int)) ∈ lw_all := lw_g (lw_at lw_m5 154 rfl) rfl
theorem q1203 : (Jvm.Cond.constant "DeadListPoolModel" (118 : Nat) (100000 : Int32)) ∈ lw_all := lw_g (lw_at lw_m5 155 rfl) rfl
theorem q1205 : (Jvm.Cond.instanceMethod ({ cls := "DeadListPoolModel", name := "told", desc := "(II)I" } : Jvm.MethodName)) ∈ lw_all := lw_g (lw_at lw_m5 157 rfl) rfl
theorem q1206 : (Jvm.Cond.selects "DeadListPoolModel" ({ cls := "DeadListPoolModel", name := "told", desc := "(II)I" } : Jvm.MethodName) ({ cls := "DeadListPoolModel", name := "told", desc := "(II)I" } : Jvm.MethodName)) ∈ lw_all := lw_g (lw_at lw_m5 158 rfl) rfl
theorem q1207 : (Jvm.Cond.code ({ cls := "DeadListPoolModel", name := "told", desc := "(II)I" } : Jvm.MethodName) prog_11_method_41_code (4 : Nat) (Option.some Jvm.ClassFile.FieldType.int)) ∈ lw_all := lw_g (lw_at lw_m5 159 rfl) rfl
theorem q1208 : (Jvm.Cond.methodLink "DeadListPoolModel" (119 : Nat) ({ cls := "DeadListPoolModel", name := "heldMany", desc := "(I)I" } : Jvm.MethodName)) ∈ lw_all := lw_g (lw_at lw_m5 160 rfl) rfl
theorem q1209 : (Jvm.Cond.privateMethod ({ cls := "DeadListPoolModel", name := "heldMany", desc := "(I)I" } : Jvm.MethodName)) ∈ lw_tbl := lw_at lw_m5 161 rfl
theorem q1210 : (Jvm.Cond.instanceMethod ({ cls := "DeadListPoolModel", name := "heldMany", desc := "(I)I" } : Jvm.MethodName)) ∈ lw_all := lw_g (lw_at lw_m5 162 rfl) rfl
theorem q1211 : (Jvm.Cond.code ({ cls := "DeadListPoolModel", name := "heldMany", desc := "(I)I" } : Jvm.MethodName) prog_11_method_40_code (4 : Nat) (Option.some Jvm.ClassFile.FieldType.int)) ∈ lw_all := lw_g (lw_at lw_m5 163 rfl) rfl
theorem q1213 : (Jvm.Cond.instanceMethod ({ cls := "DeadListPoolModel", name := "slot", desc := "(II)I" } : Jvm.MethodName)) ∈ lw_all := lw_g (lw_at lw_m5 165 rfl) rfl
theorem q1214 : (Jvm.Cond.selects "DeadListPoolModel" ({ cls := "DeadListPoolModel", name := "slot", desc := "(II)I" } : Jvm.MethodName) ({ cls := "DeadListPoolModel", name := "slot", desc := "(II)I" } : Jvm.MethodName)) ∈ lw_all := lw_g (lw_at lw_m5 166 rfl) rfl
theorem q1215 : (Jvm.Cond.code ({ cls := "DeadListPoolModel", name := "slot", desc := "(II)I" } : Jvm.MethodName) prog_11_method_42_code (4 : Nat) (Option.some Jvm.ClassFile.FieldType.int)) ∈ lw_all := lw_g (lw_at lw_m5 167 rfl) rfl
theorem q1216 : (Jvm.Cond.methodLink "DeadListPoolModel" (122 : Nat) ({ cls := "DeadListPoolModel", name := "askedSlots", desc := "(I)I" } : Jvm.MethodName)) ∈ lw_all := lw_g (lw_at lw_m5 168 rfl) rfl
theorem q1217 : (Jvm.Cond.privateMethod ({ cls := "DeadListPoolModel", name := "askedSlots", desc := "(I)I" } : Jvm.MethodName)) ∈ lw_tbl := lw_at lw_m5 169 rfl
theorem q1218 : (Jvm.Cond.instanceMethod ({ cls := "DeadListPoolModel", name := "askedSlots", desc := "(I)I" } : Jvm.MethodName)) ∈ lw_all := lw_g (lw_at lw_m5 170 rfl) rfl
theorem q1219 : (Jvm.Cond.code ({ cls := "DeadListPoolModel", name := "askedSlots", desc := "(I)I" } : Jvm.MethodName) prog_11_method_11_code (3 : Nat) (Option.some Jvm.ClassFile.FieldType.int)) ∈ lw_all := lw_g (lw_at lw_m5 171 rfl) rfl
theorem q1221 : (Jvm.Cond.instanceMethod ({ cls := "DeadListPoolModel", name := "block", desc := "(II)I" } : Jvm.MethodName)) ∈ lw_all := lw_g (lw_at lw_m5 173 rfl) rfl
theorem q1222 : (Jvm.Cond.selects "DeadListPoolModel" ({ cls := "DeadListPoolModel", name := "block", desc := "(II)I" } : Jvm.MethodName) ({ cls := "DeadListPoolModel", name := "block", desc := "(II)I" } : Jvm.MethodName)) ∈ lw_all := lw_g (lw_at lw_m5 174 rfl) rfl
theorem q1223 : (Jvm.Cond.code ({ cls := "DeadListPoolModel", name := "block", desc := "(II)I" } : Jvm.MethodName) prog_11_method_43_code (3 : Nat) (Option.some Jvm.ClassFile.FieldType.int)) ∈ lw_all := lw_g (lw_at lw_m5 175 rfl) rfl
theorem q1225 : (Jvm.Cond.instanceMethod ({ cls := "DeadListPoolModel", name := "taken", desc := "(II)I" } : Jvm.MethodName)) ∈ lw_all := lw_g (lw_at lw_m5 177 rfl) rfl
theorem q1226 : (Jvm.Cond.selects "DeadListPoolModel" ({ cls := "DeadListPoolModel", name := "taken", desc := "(II)I" } : Jvm.MethodName) ({ cls := "DeadListPoolModel", name := "taken", desc := "(II)I" } : Jvm.MethodName)) ∈ lw_all := lw_g (lw_at lw_m5 178 rfl) rfl
theorem q1227 : (Jvm.Cond.code ({ cls := "DeadListPoolModel", name := "taken", desc := "(II)I" } : Jvm.MethodName) prog_11_method_44_code (4 : Nat) (Option.some Jvm.ClassFile.FieldType.int)) ∈ lw_all := lw_g (lw_at lw_m5 179 rfl) rfl
theorem q1229 : (Jvm.Cond.instanceMethod ({ cls := "DeadListPoolModel", name := "dead", desc := "(II)I" } : Jvm.MethodName)) ∈ lw_all := lw_g (lw_at lw_m5 181 rfl) rfl
theorem q1230 : (Jvm.Cond.selects "DeadListPoolModel" ({ cls := "DeadListPoolModel", name := "dead", desc := "(II)I" } : Jvm.MethodName) ({ cls := "DeadListPoolModel", name := "dead", desc := "(II)I" } : Jvm.MethodName)) ∈ lw_all := lw_g (lw_at lw_m5 182 rfl) rfl
theorem q1231 : (Jvm.Cond.code ({ cls := "DeadListPoolModel", name := "dead", desc := "(II)I" } : Jvm.MethodName) prog_11_method_46_code (8 : Nat) (Option.some Jvm.ClassFile.FieldType.int)) ∈ lw_all := lw_g (lw_at lw_m5 183 rfl) rfl
theorem q1232 : (Jvm.Cond.methodLink "DeadListPoolModel" (128 : Nat) ({ cls := "DeadListPoolModel", name := "isDead", desc := "(II)Z" } : Jvm.MethodName)) ∈ lw_all := lw_g (lw_at lw_m5 184 rfl) rfl
theorem q1233 : (Jvm.Cond.privateMethod ({ cls := "DeadListPoolModel", name := "isDead", desc := "(II)Z" } : Jvm.MethodName)) ∈ lw_tbl := lw_at lw_m5 185 rfl
theorem q1234 : (Jvm.Cond.instanceMethod ({ cls := "DeadListPoolModel", name := "isDead", desc := "(II)Z" } : Jvm.MethodName)) ∈ lw_all := lw_g (lw_at lw_m5 186 rfl) rfl
theorem q1235 : (Jvm.Cond.code ({ cls := "DeadListPoolModel", name := "isDead", desc := "(II)Z" } : Jvm.MethodName) prog_11_method_45_code (3 : Nat) (Option.some Jvm.ClassFile.FieldType.boolean)) ∈ lw_all := lw_g (lw_at lw_m5 187 rfl) rfl
theorem q1236 : (Jvm.Cond.methodLink "DeadListPoolModel" (125 : Nat) ({ cls := "DeadListPoolModel", name := "isHeld", desc := "(II)Z" } : Jvm.MethodName)) ∈ lw_all := lw_g (lw_at lw_m5 188 rfl) rfl
theorem q1237 : (Jvm.Cond.privateMethod ({ cls := "DeadListPoolModel", name := "isHeld", desc := "(II)Z" } : Jvm.MethodName)) ∈ lw_tbl := lw_at lw_m5 189 rfl
theorem q1238 : (Jvm.Cond.instanceMethod ({ cls := "DeadListPoolModel", name := "isHeld", desc := "(II)Z" } : Jvm.MethodName)) ∈ lw_all := lw_g (lw_at lw_m5 190 rfl) rfl
theorem q1239 : (Jvm.Cond.code ({ cls := "DeadListPoolModel", name := "isHeld", desc := "(II)Z" } : Jvm.MethodName) prog_11_method_13_code (5 : Nat) (Option.some Jvm.ClassFile.FieldType.boolean)) ∈ lw_all := lw_g (lw_at lw_m5 191 rfl) rfl
theorem q1241 : (Jvm.Cond.instanceMethod ({ cls := "DeadListPoolModel", name := "deadList", desc := "(II)J" } : Jvm.MethodName)) ∈ lw_all := lw_g (lw_at lw_m5 193 rfl) rfl
theorem q1242 : (Jvm.Cond.selects "DeadListPoolModel" ({ cls := "DeadListPoolModel", name := "deadList", desc := "(II)J" } : Jvm.MethodName) ({ cls := "DeadListPoolModel", name := "deadList", desc := "(II)J" } : Jvm.MethodName)) ∈ lw_all := lw_g (lw_at lw_m5 194 rfl) rfl
theorem q1243 : (Jvm.Cond.code ({ cls := "DeadListPoolModel", name := "deadList", desc := "(II)J" } : Jvm.MethodName) prog_11_method_48_code (9 : Nat) (Option.some Jvm.ClassFile.FieldType.long)) ∈ lw_all := lw_g (lw_at lw_m5 195 rfl) rfl
theorem q1244 : (Jvm.Cond.methodLink "DeadListPoolModel" (131 : Nat) ({ cls := "DeadListPoolModel", name := "chained", desc := "(II)I" } : Jvm.MethodName)) ∈ lw_all := lw_g (lw_at lw_m5 196 rfl) rfl
theorem q1245 : (Jvm.Cond.privateMethod ({ cls := "DeadListPoolModel", name := "chained", desc := "(II)I" } : Jvm.MethodName)) ∈ lw_tbl := lw_at lw_m5 197 rfl
theorem q1246 : (Jvm.Cond.instanceMethod ({ cls := "DeadListPoolModel", name := "chained", desc := "(II)I" } : Jvm.MethodName)) ∈ lw_all := lw_g (lw_at lw_m5 198 rfl) rfl
theorem q1247 : (Jvm.Cond.code ({ cls := "DeadListPoolModel", name := "chained", desc := "(II)I" } : Jvm.MethodName) prog_11_method_47_code (5 : Nat) (Option.some Jvm.ClassFile.FieldType.int)) ∈ lw_all := lw_g (lw_at lw_m5 199 rfl) rfl
theorem q1248 : (Jvm.Cond.constantLong "DeadListPoolModel" (134 : Nat) (-4611686018427387904 : Int64)) ∈ lw_all := lw_g (lw_at lw_m5 200 rfl) rfl
theorem q1250 : (Jvm.Cond.instanceMethod ({ cls := "DeadListPoolModel", name := "space", desc := "(I)J" } : Jvm.MethodName)) ∈ lw_all := lw_g (lw_at lw_m5 202 rfl) rfl
theorem q1251 : (Jvm.Cond.selects "DeadListPoolModel" ({ cls := "DeadListPoolModel", name := "space", desc := "(I)J" } : Jvm.MethodName) ({ cls := "DeadListPoolModel", name := "space", desc := "(I)J" } : Jvm.MethodName)) ∈ lw_all := lw_g (lw_at lw_m5 203 rfl) rfl
theorem q1252 : (Jvm.Cond.code ({ cls := "DeadListPoolModel", name := "space", desc := "(I)J" } : Jvm.MethodName) prog_11_method_49_code (2 : Nat) (Option.some Jvm.ClassFile.FieldType.long)) ∈ lw_all := lw_g (lw_at lw_m5 204 rfl) rfl
theorem q1254 : (Jvm.Cond.instanceMethod ({ cls := "DeadListPoolModel", name := "alone", desc := "(I)J" } : Jvm.MethodName)) ∈ lw_all := lw_g (lw_at lw_m5 206 rfl) rfl
theorem q1255 : (Jvm.Cond.selects "DeadListPoolModel" ({ cls := "DeadListPoolModel", name := "alone", desc := "(I)J" } : Jvm.MethodName) ({ cls := "DeadListPoolModel", name := "alone", desc := "(I)J" } : Jvm.MethodName)) ∈ lw_all := lw_g (lw_at lw_m5 207 rfl) rfl
theorem q1256 : (Jvm.Cond.code ({ cls := "DeadListPoolModel", name := "alone", desc := "(I)J" } : Jvm.MethodName) prog_11_method_51_code (2 : Nat) (Option.some Jvm.ClassFile.FieldType.long)) ∈ lw_all := lw_g (lw_at lw_m5 208 rfl) rfl
theorem q1257 : (Jvm.Cond.methodLink "DeadListPoolModel" (136 : Nat) ({ cls := "DeadListPoolModel", name := "aloneIn", desc := "(I)J" } : Jvm.MethodName)) ∈ lw_all := lw_g (lw_at lw_m5 209 rfl) rfl
theorem q1258 : (Jvm.Cond.privateMethod ({ cls := "DeadListPoolModel", name := "aloneIn", desc := "(I)J" } : Jvm.MethodName)) ∈ lw_tbl := lw_at lw_m5 210 rfl
theorem q1259 : (Jvm.Cond.instanceMethod ({ cls := "DeadListPoolModel", name := "aloneIn", desc := "(I)J" } : Jvm.MethodName)) ∈ lw_all := lw_g (lw_at lw_m5 211 rfl) rfl
theorem q1260 : (Jvm.Cond.code ({ cls := "DeadListPoolModel", name := "aloneIn", desc := "(I)J" } : Jvm.MethodName) prog_11_method_50_code (7 : Nat) (Option.some Jvm.ClassFile.FieldType.long)) ∈ lw_all := lw_g (lw_at lw_m5 212 rfl) rfl
theorem q1262 : (Jvm.Cond.instanceMethod ({ cls := "DeadListPoolModel", name := "range", desc := "(II)J" } : Jvm.MethodName)) ∈ lw_all := lw_g (lw_at lw_m5 214 rfl) rfl
theorem q1263 : (Jvm.Cond.selects "DeadListPoolModel" ({ cls := "DeadListPoolModel", name := "range", desc := "(II)J" } : Jvm.MethodName) ({ cls := "DeadListPoolModel", name := "range", desc := "(II)J" } : Jvm.MethodName)) ∈ lw_all := lw_g (lw_at lw_m5 215 rfl) rfl
theorem q1264 : (Jvm.Cond.code ({ cls := "DeadListPoolModel", name := "range", desc := "(II)J" } : Jvm.MethodName) prog_11_method_52_code (5 : Nat) (Option.some Jvm.ClassFile.FieldType.long)) ∈ lw_all := lw_g (lw_at lw_m5 216 rfl) rfl
theorem q1266 : (Jvm.Cond.instanceMethod ({ cls := "DeadListPoolModel", name := "since", desc := "(II)J" } : Jvm.MethodName)) ∈ lw_all := lw_g (lw_at lw_m5 218 rfl) rfl
theorem q1267 : (Jvm.Cond.selects "DeadListPoolModel" ({ cls := "DeadListPoolModel", name := "since", desc := "(II)J" } : Jvm.MethodName) ({ cls := "DeadListPoolModel", name := "since", desc := "(II)J" } : Jvm.MethodName)) ∈ lw_all := lw_g (lw_at lw_m5 219 rfl) rfl
theorem q1268 : (Jvm.Cond.code ({ cls := "DeadListPoolModel", name := "since", desc := "(II)J" } : Jvm.MethodName) prog_11_method_53_code (7 : Nat) (Option.some Jvm.ClassFile.FieldType.long)) ∈ lw_all := lw_g (lw_at lw_m5 220 rfl) rfl
theorem q1270 : (Jvm.Cond.instanceMethod ({ cls := "DeadListPoolModel", name := "common", desc := "(II)J" } : Jvm.MethodName)) ∈ lw_all := lw_g (lw_at lw_m5 222 rfl) rfl
theorem q1271 : (Jvm.Cond.selects "DeadListPoolModel" ({ cls := "DeadListPoolModel", name := "common", desc := "(II)J" } : Jvm.MethodName) ({ cls := "DeadListPoolModel", name := "common", desc := "(II)J" } : Jvm.MethodName)) ∈ lw_all := lw_g (lw_at lw_m5 223 rfl) rfl
theorem q1272 : (Jvm.Cond.code ({ cls := "DeadListPoolModel", name := "common", desc := "(II)J" } : Jvm.MethodName) prog_11_method_54_code (6 : Nat) (Option.some Jvm.ClassFile.FieldType.long)) ∈ lw_all := lw_g (lw_at lw_m5 224 rfl) rfl
theorem q1274 : (Jvm.Cond.instanceMethod ({ cls := "DeadListPoolModel", name := "most", desc := "(II)J" } : Jvm.MethodName)) ∈ lw_all := lw_g (lw_at lw_m5 226 rfl) rfl
theorem q1275 : (Jvm.Cond.selects "DeadListPoolModel" ({ cls := "DeadListPoolModel", name := "most", desc := "(II)J" } : Jvm.MethodName) ({ cls := "DeadListPoolModel", name := "most", desc := "(II)J" } : Jvm.MethodName)) ∈ lw_all := lw_g (lw_at lw_m5 227 rfl) rfl
theorem q1276 : (Jvm.Cond.code ({ cls := "DeadListPoolModel", name := "most", desc := "(II)J" } : Jvm.MethodName) prog_11_method_59_code (9 : Nat) (Option.some Jvm.ClassFile.FieldType.long)) ∈ lw_all := lw_g (lw_at lw_m5 228 rfl) rfl
theorem q1277 : (Jvm.Cond.methodLink "DeadListPoolModel" (148 : Nat) ({ cls := "DeadListPoolModel", name := "looksForOwned", desc := "(I)V" } : Jvm.MethodName)) ∈ lw_all := lw_g (lw_at lw_m5 229 rfl) rfl
theorem q1278 : (Jvm.Cond.privateMethod ({ cls := "DeadListPoolModel", name := "looksForOwned", desc := "(I)V" } : Jvm.MethodName)) ∈ lw_tbl := lw_at lw_m5 230 rfl
theorem q1279 : (Jvm.Cond.instanceMethod ({ cls := "DeadListPoolModel", name := "looksForOwned", desc := "(I)V" } : Jvm.MethodName)) ∈ lw_all := lw_g (lw_at lw_m5 231 rfl) rfl
theorem q1280 : (Jvm.Cond.code ({ cls := "DeadListPoolModel", name := "looksForOwned", desc := "(I)V" } : Jvm.MethodName) prog_11_method_55_code (4 : Nat) (Option.none : Option Jvm.ClassFile.FieldType)) ∈ lw_all := lw_g (lw_at lw_m5 232 rfl) rfl
theorem q1281 : (Jvm.Cond.methodLink "DeadListPoolModel" (152 : Nat) ({ cls := "DeadListPoolModel", name := "looksForHolders", desc := "()I" } : Jvm.MethodName)) ∈ lw_all := lw_g (lw_at lw_m5 233 rfl) rfl
theorem q1282 : (Jvm.Cond.privateMethod ({ cls := "DeadListPoolModel", name := "looksForHolders", desc := "()I" } : Jvm.MethodName)) ∈ lw_tbl := lw_at lw_m5 234 rfl
theorem q1283 : (Jvm.Cond.instanceMethod ({ cls := "DeadListPoolModel", name := "looksForHolders", desc := "()I" } : Jvm.MethodName)) ∈ lw_all := lw_g (lw_at lw_m5 235 rfl) rfl
theorem q1284 : (Jvm.Cond.code ({ cls := "DeadListPoolModel", name := "looksForHolders", desc := "()I" } : Jvm.MethodName) prog_11_method_57_code (6 : Nat) (Option.some Jvm.ClassFile.FieldType.int)) ∈ lw_all := lw_g (lw_at lw_m5 236 rfl) rfl
theorem q1285 : (Jvm.Cond.methodLink "DeadListPoolModel" (142 : Nat) ({ cls := "DeadListPoolModel", name := "isLoose", desc := "(I)Z" } : Jvm.MethodName)) ∈ lw_all := lw_g (lw_at lw_m5 237 rfl) rfl
theorem q1286 : (Jvm.Cond.privateMethod ({ cls := "DeadListPoolModel", name := "isLoose", desc := "(I)Z" } : Jvm.MethodName)) ∈ lw_tbl := lw_at lw_m5 238 rfl
theorem q1287 : (Jvm.Cond.instanceMethod ({ cls := "DeadListPoolModel", name := "isLoose", desc := "(I)Z" } : Jvm.MethodName)) ∈ lw_all := lw_g (lw_at lw_m5 239 rfl) rfl
theorem q1288 : (Jvm.Cond.code ({ cls := "DeadListPoolModel", name := "isLoose", desc := "(I)Z" } : Jvm.MethodName) prog_11_method_32_code (2 : Nat) (Option.some Jvm.ClassFile.FieldType.boolean)) ∈ lw_all := lw_g (lw_at lw_m6 0 rfl) rfl
theorem q1289 : (Jvm.Cond.methodLink "DeadListPoolModel" (145 : Nat) ({ cls := "DeadListPoolModel", name := "countOf", desc := "(I)I" } : Jvm.MethodName)) ∈ lw_all := lw_g (lw_at lw_m6 1 rfl) rfl
theorem q1290 : (Jvm.Cond.privateMethod ({ cls := "DeadListPoolModel", name := "countOf", desc := "(I)I" } : Jvm.MethodName)) ∈ lw_tbl := lw_at lw_m6 2 rfl
theorem q1291 : (Jvm.Cond.instanceMethod ({ cls := "DeadListPoolModel", name := "countOf", desc := "(I)I" } : Jvm.MethodName)) ∈ lw_all := lw_g (lw_at lw_m6 3 rfl) rfl
theorem q1292 : (Jvm.Cond.code ({ cls := "DeadListPoolModel", name := "countOf", desc := "(I)I" } : Jvm.MethodName) prog_11_method_56_code (4 : Nat) (Option.some Jvm.ClassFile.FieldType.int)) ∈ lw_all := lw_g (lw_at lw_m6 4 rfl) rfl
theorem q1293 : (Jvm.Cond.methodLink "DeadListPoolModel" (155 : Nat) ({ cls := "DeadListPoolModel", name := "freedBy", desc := "(I)J" } : Jvm.MethodName)) ∈ lw_all := lw_g (lw_at lw_m6 5 rfl) rfl
theorem q1294 : (Jvm.Cond.privateMethod ({ cls := "DeadListPoolModel", name := "freedBy", desc := "(I)J" } : Jvm.MethodName)) ∈ lw_tbl := lw_at lw_m6 6 rfl
theorem q1295 : (Jvm.Cond.instanceMethod ({ cls := "DeadListPoolModel", name := "freedBy", desc := "(I)J" } : Jvm.MethodName)) ∈ lw_all := lw_g (lw_at lw_m6 7 rfl) rfl
theorem q1296 : (Jvm.Cond.code ({ cls := "DeadListPoolModel", name := "freedBy", desc := "(I)J" } : Jvm.MethodName) prog_11_method_58_code (5 : Nat) (Option.some Jvm.ClassFile.FieldType.long)) ∈ lw_all := lw_g (lw_at lw_m6 8 rfl) rfl
theorem q1298 : (Jvm.Cond.instanceMethod ({ cls := "DeadListPoolModel", name := "fewest", desc := "(IJ)I" } : Jvm.MethodName)) ∈ lw_all := lw_g (lw_at lw_m6 10 rfl) rfl
theorem q1299 : (Jvm.Cond.selects "DeadListPoolModel" ({ cls := "DeadListPoolModel", name := "fewest", desc := "(IJ)I" } : Jvm.MethodName) ({ cls := "DeadListPoolModel", name := "fewest", desc := "(IJ)I" } : Jvm.MethodName)) ∈ lw_all := lw_g (lw_at lw_m6 11 rfl) rfl
theorem q1300 : (Jvm.Cond.code ({ cls := "DeadListPoolModel", name := "fewest", desc := "(IJ)I" } : Jvm.MethodName) prog_11_method_60_code (9 : Nat) (Option.some Jvm.ClassFile.FieldType.int)) ∈ lw_all := lw_g (lw_at lw_m6 12 rfl) rfl
theorem q1302 : (Jvm.Cond.instanceMethod ({ cls := "DeadListPoolModel", name := "expire", desc := "(III)I" } : Jvm.MethodName)) ∈ lw_all := lw_g (lw_at lw_m6 14 rfl) rfl
theorem q1303 : (Jvm.Cond.selects "DeadListPoolModel" ({ cls := "DeadListPoolModel", name := "expire", desc := "(III)I" } : Jvm.MethodName) ({ cls := "DeadListPoolModel", name := "expire", desc := "(III)I" } : Jvm.MethodName)) ∈ lw_all := lw_g (lw_at lw_m6 15 rfl) rfl
theorem q1304 : (Jvm.Cond.code ({ cls := "DeadListPoolModel", name := "expire", desc := "(III)I" } : Jvm.MethodName) prog_11_method_61_code (8 : Nat) (Option.some Jvm.ClassFile.FieldType.int)) ∈ lw_all := lw_g (lw_at lw_m6 16 rfl) rfl
theorem q1306 : (Jvm.Cond.instanceMethod ({ cls := "DeadListPoolModel", name := "sheet", desc := "(III)I" } : Jvm.MethodName)) ∈ lw_all := lw_g (lw_at lw_m6 18 rfl) rfl
theorem q1307 : (Jvm.Cond.selects "DeadListPoolModel" ({ cls := "DeadListPoolModel", name := "sheet", desc := "(III)I" } : Jvm.MethodName) ({ cls := "DeadListPoolModel", name := "sheet", desc := "(III)I" } : Jvm.MethodName)) ∈ lw_all := lw_g (lw_at lw_m6 19 rfl) rfl
theorem q1308 : (Jvm.Cond.code ({ cls := "DeadListPoolModel", name := "sheet", desc := "(III)I" } : Jvm.MethodName) prog_11_method_64_code (4 : Nat) (Option.some Jvm.ClassFile.FieldType.int)) ∈ lw_all := lw_g (lw_at lw_m6 20 rfl) rfl
theorem q1309 : (Jvm.Cond.methodLink "DeadListPoolModel" (158 : Nat) ({ cls := "DeadListPoolModel", name := "isSheet", desc := "(I)Z" } : Jvm.MethodName)) ∈ lw_all := lw_g (lw_at lw_m6 21 rfl) rfl
theorem q1310 : (Jvm.Cond.static ({ cls := "DeadListPoolModel", name := "isSheet", desc := "(I)Z" } : Jvm.MethodName)) ∈ lw_all := lw_g (lw_at lw_m6 22 rfl) rfl
theorem q1311 : (Jvm.Cond.code ({ cls := "DeadListPoolModel", name := "isSheet", desc := "(I)Z" } : Jvm.MethodName) prog_11_method_62_code (1 : Nat) (Option.some Jvm.ClassFile.FieldType.boolean)) ∈ lw_all := lw_g (lw_at lw_m6 23 rfl) rfl
theorem q1312 : (Jvm.Cond.methodLink "DeadListPoolModel" (161 : Nat) ({ cls := "DeadListPoolModel", name := "makes", desc := "(III)V" } : Jvm.MethodName)) ∈ lw_all := lw_g (lw_at lw_m6 24 rfl) rfl
theorem q1313 : (Jvm.Cond.privateMethod ({ cls := "DeadListPoolModel", name := "makes", desc := "(III)V" } : Jvm.MethodName)) ∈ lw_tbl := lw_at lw_m6 25 rfl
theorem q1314 : (Jvm.Cond.instanceMethod ({ cls := "DeadListPoolModel", name := "makes", desc := "(III)V" } : Jvm.MethodName)) ∈ lw_all := lw_g (lw_at lw_m6 26 rfl) rfl
theorem q1315 : (Jvm.Cond.code ({ cls := "DeadListPoolModel", name := "makes", desc := "(III)V" } : Jvm.MethodName) prog_11_method_63_code (5 : Nat) (Option.none : Option Jvm.ClassFile.FieldType)) ∈ lw_all := lw_g (lw_at lw_m6 27 rfl) rfl
theorem q1317 : (Jvm.Cond.instanceMethod ({ cls := "DeadListPoolModel", name := "cell", desc := "(IIJ)I" } : Jvm.MethodName)) ∈ lw_all := lw_g (lw_at lw_m6 29 rfl) rfl
theorem q1318 : (Jvm.Cond.selects "DeadListPoolModel" ({ cls := "DeadListPoolModel", name := "cell", desc := "(IIJ)I" } : Jvm.MethodName) ({ cls := "DeadListPoolModel", name := "cell", desc := "(IIJ)I" } : Jvm.MethodName)) ∈ lw_all := lw_g (lw_at lw_m6 30 rfl) rfl
theorem q1319 : (Jvm.Cond.code ({ cls := "DeadListPoolModel", name := "cell", desc := "(IIJ)I" } : Jvm.MethodName) prog_11_method_65_code (5 : Nat) (Option.some Jvm.ClassFile.FieldType.int)) ∈ lw_all := lw_g (lw_at lw_m6 31 rfl) rfl
theorem q1321 : (Jvm.Cond.instanceMethod ({ cls := "DeadListPoolModel", name := "item", desc := "(II)J" } : Jvm.MethodName)) ∈ lw_all := lw_g (lw_at lw_m6 33 rfl) rfl
theorem q1322 : (Jvm.Cond.selects "DeadListPoolModel" ({ cls := "DeadListPoolModel", name := "item", desc := "(II)J" } : Jvm.MethodName) ({ cls := "DeadListPoolModel", name := "item", desc := "(II)J" } : Jvm.MethodName)) ∈ lw_all := lw_g (lw_at lw_m6 34 rfl) rfl
theorem q1323 : (Jvm.Cond.code ({ cls := "DeadListPoolModel", name := "item", desc := "(II)J" } : Jvm.MethodName) prog_11_method_66_code (3 : Nat) (Option.some Jvm.ClassFile.FieldType.long)) ∈ lw_all := lw_g (lw_at lw_m6 35 rfl) rfl
theorem q1325 : (Jvm.Cond.instanceMethod ({ cls := "DeadListPoolModel", name := "differ", desc := "(III)I" } : Jvm.MethodName)) ∈ lw_all := lw_g (lw_at lw_m6 37 rfl) rfl
theorem q1326 : (Jvm.Cond.selects "DeadListPoolModel" ({ cls := "DeadListPoolModel", name := "differ", desc := "(III)I" } : Jvm.MethodName) ({ cls := "DeadListPoolModel", name := "differ", desc := "(III)I" } : Jvm.MethodName)) ∈ lw_all := lw_g (lw_at lw_m6 38 rfl) rfl
theorem q1327 : (Jvm.Cond.code ({ cls := "DeadListPoolModel", name := "differ", desc := "(III)I" } : Jvm.MethodName) prog_11_method_67_code (7 : Nat) (Option.some Jvm.ClassFile.FieldType.int)) ∈ lw_all := lw_g (lw_at lw_m6 39 rfl) rfl
theorem q1329 : (Jvm.Cond.instanceMethod ({ cls := "DeadListPoolModel", name := "apply", desc := "(III)I" } : Jvm.MethodName)) ∈ lw_all := lw_g (lw_at lw_m6 41 rfl) rfl
theorem q1330 : (Jvm.Cond.selects "DeadListPoolModel" ({ cls := "DeadListPoolModel", name := "apply", desc := "(III)I" } : Jvm.MethodName) ({ cls := "DeadListPoolModel", name := "apply", desc := "(III)I" } : Jvm.MethodName)) ∈ lw_all := lw_g (lw_at lw_m6 42 rfl) rfl
theorem q1331 : (Jvm.Cond.code ({ cls := "DeadListPoolModel", name := "apply", desc := "(III)I" } : Jvm.MethodName) prog_11_method_69_code (7 : Nat) (Option.some Jvm.ClassFile.FieldType.int)) ∈ lw_all := lw_g (lw_at lw_m6 43 rfl) rfl
theorem q1332 : (Jvm.Cond.methodLink "DeadListPoolModel" (169 : Nat) ({ cls := "DeadListPoolModel", name := "isApplied", desc := "(IJJ)Z" } : Jvm.MethodName)) ∈ lw_all := lw_g (lw_at lw_m6 44 rfl) rfl
theorem q1333 : (Jvm.Cond.privateMethod ({ cls := "DeadListPoolModel", name := "isApplied", desc := "(IJJ)Z" } : Jvm.MethodName)) ∈ lw_tbl := lw_at lw_m6 45 rfl
theorem q1334 : (Jvm.Cond.instanceMethod ({ cls := "DeadListPoolModel", name := "isApplied", desc := "(IJJ)Z" } : Jvm.MethodName)) ∈ lw_all := lw_g (lw_at lw_m6 46 rfl) rfl
theorem q1335 : (Jvm.Cond.code ({ cls := "DeadListPoolModel", name := "isApplied", desc := "(IJJ)Z" } : Jvm.MethodName) prog_11_method_68_code (6 : Nat) (Option.some Jvm.ClassFile.FieldType.boolean)) ∈ lw_all := lw_g (lw_at lw_m6 47 rfl) rfl
theorem q1336 : (Jvm.Cond.constantLong "DeadListPoolModel" (165 : Nat) (11 : Int64)) ∈ lw_all := lw_g (lw_at lw_m6 48 rfl) rfl
theorem q1337 : (Jvm.Cond.constantLong "DeadListPoolModel" (167 : Nat) (1000000000 : Int64)) ∈ lw_all := lw_g (lw_at lw_m6 49 rfl) rfl
theorem q1339 : (Jvm.Cond.instanceMethod ({ cls := "DeadListPoolModel", name := "drawn", desc := "(III)J" } : Jvm.MethodName)) ∈ lw_all := lw_g (lw_at lw_m6 51 rfl) rfl
theorem q1340 : (Jvm.Cond.selects "DeadListPoolModel" ({ cls := "DeadListPoolModel", name := "drawn", desc := "(III)J" } : Jvm.MethodName) ({ cls := "DeadListPoolModel", name := "drawn", desc := "(III)J" } : Jvm.MethodName)) ∈ lw_all := lw_g (lw_at lw_m6 52 rfl) rfl
theorem q1341 : (Jvm.Cond.code ({ cls := "DeadListPoolModel", name := "drawn", desc := "(III)J" } : Jvm.MethodName) prog_11_method_73_code (9 : Nat) (Option.some Jvm.ClassFile.FieldType.long)) ∈ lw_all := lw_g (lw_at lw_m6 53 rfl) rfl
theorem q1342 : (Jvm.Cond.methodLink "DeadListPoolModel" (201 : Nat) ({ cls := "DeadListPoolModel", name := "lots", desc := "()I" } : Jvm.MethodName)) ∈ lw_all := lw_g (lw_at lw_m6 54 rfl) rfl
theorem q1343 : (Jvm.Cond.privateMethod ({ cls := "DeadListPoolModel", name := "lots", desc := "()I" } : Jvm.MethodName)) ∈ lw_tbl := lw_at lw_m6 55 rfl
theorem q1344 : (Jvm.Cond.instanceMethod ({ cls := "DeadListPoolModel", name := "lots", desc := "()I" } : Jvm.MethodName)) ∈ lw_all := lw_g (lw_at lw_m6 56 rfl) rfl
theorem q1345 : (Jvm.Cond.code ({ cls := "DeadListPoolModel", name := "lots", desc := "()I" } : Jvm.MethodName) prog_11_method_70_code (1 : Nat) (Option.some Jvm.ClassFile.FieldType.int)) ∈ lw_all := lw_g (lw_at lw_m6 57 rfl) rfl
theorem q1346 : (Jvm.Cond.constant "DeadListPoolModel" (176 : Nat) (1103515245 : Int32)) ∈ lw_all := lw_g (lw_at lw_m6 58 rfl) rfl
theorem q1347 : (Jvm.Cond.methodLink "DeadListPoolModel" (204 : Nat) ({ cls := "DeadListPoolModel", name := "draws", desc := "(III)V" } : Jvm.MethodName)) ∈ lw_all := lw_g (lw_at lw_m6 59 rfl) rfl
theorem q1348 : (Jvm.Cond.privateMethod ({ cls := "DeadListPoolModel", name := "draws", desc := "(III)V" } : Jvm.MethodName)) ∈ lw_tbl := lw_at lw_m6 60 rfl
theorem q1349 : (Jvm.Cond.instanceMethod ({ cls := "DeadListPoolModel", name := "draws", desc := "(III)V" } : Jvm.MethodName)) ∈ lw_all := lw_g (lw_at lw_m6 61 rfl) rfl
theorem q1350 : (Jvm.Cond.code ({ cls := "DeadListPoolModel", name := "draws", desc := "(III)V" } : Jvm.MethodName) prog_11_method_71_code (5 : Nat) (Option.none : Option Jvm.ClassFile.FieldType)) ∈ lw_all := lw_g (lw_at lw_m6 62 rfl) rfl
theorem q1351 : (Jvm.Cond.methodLink "DeadListPoolModel" (177 : Nat) ({ cls := "DeadListPoolModel", name := "write", desc := "(III)I" } : Jvm.MethodName)) ∈ lw_all := lw_g (lw_at lw_m6 63 rfl) rfl
theorem q1352 : (Jvm.Cond.methodLink "DeadListPoolModel" (180 : Nat) ({ cls := "DeadListPoolModel", name := "erase", desc := "(II)I" } : Jvm.MethodName)) ∈ lw_all := lw_g (lw_at lw_m6 64 rfl) rfl
theorem q1353 : (Jvm.Cond.methodLink "DeadListPoolModel" (183 : Nat) ({ cls := "DeadListPoolModel", name := "snap", desc := "(II)I" } : Jvm.MethodName)) ∈ lw_all := lw_g (lw_at lw_m6 65 rfl) rfl
theorem q1354 : (Jvm.Cond.methodLink "DeadListPoolModel" (186 : Nat) ({ cls := "DeadListPoolModel", name := "remove", desc := "(I)I" } : Jvm.MethodName)) ∈ lw_all := lw_g (lw_at lw_m6 66 rfl) rfl
theorem q1355 : (Jvm.Cond.methodLink "DeadListPoolModel" (189 : Nat) ({ cls := "DeadListPoolModel", name := "fork", desc := "(I)I" } : Jvm.MethodName)) ∈ lw_all := lw_g (lw_at lw_m6 67 rfl) rfl
theorem q1356 : (Jvm.Cond.methodLink "DeadListPoolModel" (192 : Nat) ({ cls := "DeadListPoolModel", name := "promote", desc := "(I)I" } : Jvm.MethodName)) ∈ lw_all := lw_g (lw_at lw_m6 68 rfl) rfl
theorem q1357 : (Jvm.Cond.methodLink "DeadListPoolModel" (195 : Nat) ({ cls := "DeadListPoolModel", name := "rollback", desc := "(I)I" } : Jvm.MethodName)) ∈ lw_all := lw_g (lw_at lw_m6 69 rfl) rfl
theorem q1358 : (Jvm.Cond.methodLink "DeadListPoolModel" (198 : Nat) ({ cls := "DeadListPoolModel", name := "files", desc := "(I)I" } : Jvm.MethodName)) ∈ lw_all := lw_g (lw_at lw_m6 70 rfl) rfl
theorem q1359 : (Jvm.Cond.methodLink "DeadListPoolModel" (207 : Nat) ({ cls := "DeadListPoolModel", name := "things", desc := "()I" } : Jvm.MethodName)) ∈ lw_all := lw_g (lw_at lw_m6 71 rfl) rfl
theorem q1360 : (Jvm.Cond.privateMethod ({ cls := "DeadListPoolModel", name := "things", desc := "()I" } : Jvm.MethodName)) ∈ lw_tbl := lw_at lw_m6 72 rfl
theorem q1361 : (Jvm.Cond.instanceMethod ({ cls := "DeadListPoolModel", name := "things", desc := "()I" } : Jvm.MethodName)) ∈ lw_all := lw_g (lw_at lw_m6 73 rfl) rfl
theorem q1362 : (Jvm.Cond.code ({ cls := "DeadListPoolModel", name := "things", desc := "()I" } : Jvm.MethodName) prog_11_method_72_code (3 : Nat) (Option.some Jvm.ClassFile.FieldType.int)) ∈ lw_all := lw_g (lw_at lw_m6 74 rfl) rfl
theorem q1363 : (Jvm.Cond.methodLink "DeadListPoolModel" (210 : Nat) ({ cls := "DeadListPoolModel", name := "blocks", desc := "()I" } : Jvm.MethodName)) ∈ lw_all := lw_g (lw_at lw_m6 75 rfl) rfl
theorem q1364 : (Jvm.Cond.privateMethod ({ cls := "DeadListPoolModel", name := "blocks", desc := "()I" } : Jvm.MethodName)) ∈ lw_tbl := lw_at lw_m6 76 rfl
theorem q1365 : (Jvm.Cond.instanceMethod ({ cls := "DeadListPoolModel", name := "blocks", desc := "()I" } : Jvm.MethodName)) ∈ lw_all := lw_g (lw_at lw_m6 77 rfl) rfl
theorem q1366 : (Jvm.Cond.code ({ cls := "DeadListPoolModel", name := "blocks", desc := "()I" } : Jvm.MethodName) prog_11_method_16_code (3 : Nat) (Option.some Jvm.ClassFile.FieldType.int)) ∈ lw_all := lw_g (lw_at lw_m6 78 rfl) rfl
theorem q1368 : (Jvm.Cond.instanceMethod ({ cls := "DeadListPoolModel", name := "image", desc := "()I" } : Jvm.MethodName)) ∈ lw_all := lw_g (lw_at lw_m6 80 rfl) rfl
theorem q1369 : (Jvm.Cond.selects "DeadListPoolModel" ({ cls := "DeadListPoolModel", name := "image", desc := "()I" } : Jvm.MethodName) ({ cls := "DeadListPoolModel", name := "image", desc := "()I" } : Jvm.MethodName)) ∈ lw_all := lw_g (lw_at lw_m6 81 rfl) rfl
theorem q1370 : (Jvm.Cond.code ({ cls := "DeadListPoolModel", name := "image", desc := "()I" } : Jvm.MethodName) prog_11_method_74_code (2 : Nat) (Option.some Jvm.ClassFile.FieldType.int)) ∈ lw_all := lw_g (lw_at lw_m6 82 rfl) rfl
theorem q1372 : (Jvm.Cond.instanceMethod ({ cls := "DeadListPoolModel", name := "back", desc := "()I" } : Jvm.MethodName)) ∈ lw_all := lw_g (lw_at lw_m6 84 rfl) rfl
theorem q1373 : (Jvm.Cond.selects "DeadListPoolModel" ({ cls := "DeadListPoolModel", name := "back", desc := "()I" } : Jvm.MethodName) ({ cls := "DeadListPoolModel", name := "back", desc := "()I" } : Jvm.MethodName)) ∈ lw_all := lw_g (lw_at lw_m6 85 rfl) rfl
theorem q1374 : (Jvm.Cond.code ({ cls := "DeadListPoolModel", name := "back", desc := "()I" } : Jvm.MethodName) prog_11_method_75_code (2 : Nat) (Option.some Jvm.ClassFile.FieldType.int)) ∈ lw_all := lw_g (lw_at lw_m6 86 rfl) rfl
theorem q1376 : (Jvm.Cond.instanceMethod ({ cls := "DeadListPoolModel", name := "count", desc := "(I)I" } : Jvm.MethodName)) ∈ lw_all := lw_g (lw_at lw_m6 88 rfl) rfl
theorem q1377 : (Jvm.Cond.selects "DeadListPoolModel" ({ cls := "DeadListPoolModel", name := "count", desc := "(I)I" } : Jvm.MethodName) ({ cls := "DeadListPoolModel", name := "count", desc := "(I)I" } : Jvm.MethodName)) ∈ lw_all := lw_g (lw_at lw_m6 89 rfl) rfl
theorem q1378 : (Jvm.Cond.code ({ cls := "DeadListPoolModel", name := "count", desc := "(I)I" } : Jvm.MethodName) prog_11_method_76_code (2 : Nat) (Option.some Jvm.ClassFile.FieldType.int)) ∈ lw_all := lw_g (lw_at lw_m6 90 rfl) rfl
theorem q1398 : (Jvm.Cond.castable "DeadListPoolModel" "java/lang/Object") ∈ lw_tbl := lw_at lw_m6 110 rfl
theorem in_X3 : ∀ w ∈ wsX30, w ∈ lw_all := lw_in wsX30 [1045, 1047, 1049, 1051, 1053, 1055, 1057, 1059, 1061, 1063, 1065, 1067, 1069] (by decide +kernel) (by decide +kernel)

