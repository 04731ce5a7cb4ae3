/-! PayMatchModel -/
set_option maxRecDepth 100000
def RX3 : String := "PayMatchModel"
def TX3 : u_T := fun k => match k with
  | 0 => ("PayMatchModel", "thrown", "I", false)
  | 1 => ("PayMatchModel", "now", "[J", true)
  | 2 => ("PayMatchModel", "put", "[J", true)
  | 3 => ("PayMatchModel", "kept", "[J", true)
  | 4 => ("PayMatchModel", "isKept", "Z", false)
  | 5 => ("PayMatchModel", "was", "[J", true)
  | 6 => ("PayMatchModel", "acts", "I", false)
  | 7 => ("PayMatchModel", "text", "[I", true)
  | 8 => ("PayMatchModel", "typed", "I", false)
  | 9 => ("PayMatchModel", "place", "I", false)
  | 10 => ("PayMatchModel", "isWrong", "Z", false)
  | _ => ("PayMatchModel", "told", "[I", true)
def tyX3 : Nat → FieldType := fun k => match k with
  | 0 => .int
  | 1 => .array .long
  | 2 => .array .long
  | 3 => .array .long
  | 4 => .boolean
  | 5 => .array .long
  | 6 => .int
  | 7 => .array .int
  | 8 => .int
  | 9 => .int
  | 10 => .boolean
  | _ => .array .int
abbrev wsX30 : List Cond := u_ws RX3 TX3 12
theorem nmX3 : ∀ a, a < 12 → ∀ b, b < 12 → a ≠ b → (TX3 a).2.1 ≠ (TX3 b).2.1 := by decide +kernel
theorem tyX3_ok : ∀ k, k < 12 → parseFieldDescriptor (TX3 k).2.2.1 = some (tyX3 k) := by decide +kernel
abbrev cX3_init : ByteArray := prog_14_method_3_code
def yX3_init : MethodName := ⟨RX3, "<init>", "()V"⟩
def dkwX3_init_3 : List UInt8 := [180, 0, 13, 8, 20, 0, 41, 80, 42, 180, 0, 13, 16, 6, 20, 0, 43, 80, 177]
abbrev dktX3_init_3 : List UInt8 := dkwX3_init_3 ++ []
def dkwX3_init_2 : List UInt8 := [181, 0, 26, 42, 16, 36, 188, 10, 181, 0, 30, 42, 180, 0, 13, 7, 20, 0, 33, 184, 0, 35, 80, 42]
abbrev dktX3_init_2 : List UInt8 := dkwX3_init_2 ++ dktX3_init_3
def dkwX3_init_1 : List UInt8 := [17, 5, 131, 188, 11, 181, 0, 20, 42, 17, 22, 12, 188, 11, 181, 0, 23, 42, 16, 60, 188, 10]
abbrev dktX3_init_1 : List UInt8 := dkwX3_init_1 ++ dktX3_init_2
def dkwX3_init_0 : List UInt8 := [42, 183, 0, 7, 42, 17, 5, 131, 188, 11, 181, 0, 13, 42, 17, 5, 131, 188, 11, 181, 0, 17, 42]
abbrev dktX3_init_0 : List UInt8 := dkwX3_init_0 ++ dktX3_init_1
theorem dksX3_init_0 : cX3_init.data.toList.drop 0 = dktX3_init_0 := by decide +kernel
theorem dksX3_init_1 : cX3_init.data.toList.drop 23 = dktX3_init_1 := dk_seg dksX3_init_0 23 rfl rfl
theorem dksX3_init_2 : cX3_init.data.toList.drop 45 = dktX3_init_2 := dk_seg dksX3_init_1 22 rfl rfl
theorem dksX3_init_3 : cX3_init.data.toList.drop 69 = dktX3_init_3 := dk_seg dksX3_init_2 24 rfl rfl
theorem dX3_init_0 : decode cX3_init 0 = .ok (.aload_n 0, 1) := dk_42 (dk_at dksX3_init_0 0 rfl rfl)
theorem dX3_init_1 : decode cX3_init 1 = .ok (.invokespecial 7, 3) := dk_183 0 7 (dk_at dksX3_init_0 1 rfl rfl)
theorem dX3_init_4 : decode cX3_init 4 = .ok (.aload_n 0, 1) := dk_42 (dk_at dksX3_init_0 4 rfl rfl)
theorem dX3_init_5 : decode cX3_init 5 = .ok (.sipush 1411, 3) := dk_17 5 131 (dk_at dksX3_init_0 5 rfl rfl)
theorem dX3_init_8 : decode cX3_init 8 = .ok (.newarray .long, 2) := dk_188_11 (dk_at dksX3_init_0 8 rfl rfl)
theorem dX3_init_10 : decode cX3_init 10 = .ok (.putfield 13, 3) := dk_181 0 13 (dk_at dksX3_init_0 10 rfl rfl)
theorem dX3_init_13 : decode cX3_init 13 = .ok (.aload_n 0, 1) := dk_42 (dk_at dksX3_init_0 13 rfl rfl)
theorem dX3_init_14 : decode cX3_init 14 = .ok (.sipush 1411, 3) := dk_17 5 131 (dk_at dksX3_init_0 14 rfl rfl)
theorem dX3_init_17 : decode cX3_init 17 = .ok (.newarray .long, 2) := dk_188_11 (dk_at dksX3_init_0 17 rfl rfl)
theorem dX3_init_19 : decode cX3_init 19 = .ok (.putfield 17, 3) := dk_181 0 17 (dk_at dksX3_init_0 19 rfl rfl)
theorem dX3_init_22 : decode cX3_init 22 = .ok (.aload_n 0, 1) := dk_42 (dk_at dksX3_init_0 22 rfl rfl)
theorem dX3_init_23 : decode cX3_init 23 = .ok (.sipush 1411, 3) := dk_17 5 131 (dk_at dksX3_init_1 0 rfl rfl)
theorem dX3_init_26 : decode cX3_init 26 = .ok (.newarray .long, 2) := dk_188_11 (dk_at dksX3_init_1 3 rfl rfl)
theorem dX3_init_28 : decode cX3_init 28 = .ok (.putfield 20, 3) := dk_181 0 20 (dk_at dksX3_init_1 5 rfl rfl)
theorem dX3_init_31 : decode cX3_init 31 = .ok (.aload_n 0, 1) := dk_42 (dk_at dksX3_init_1 8 rfl rfl)
theorem dX3_init_32 : decode cX3_init 32 = .ok (.sipush 5644, 3) := dk_17 22 12 (dk_at dksX3_init_1 9 rfl rfl)
theorem dX3_init_35 : decode cX3_init 35 = .ok (.newarray .long, 2) := dk_188_11 (dk_at dksX3_init_1 12 rfl rfl)
theorem dX3_init_37 : decode cX3_init 37 = .ok (.putfield 23, 3) := dk_181 0 23 (dk_at dksX3_init_1 14 rfl rfl)
theorem dX3_init_40 : decode cX3_init 40 = .ok (.aload_n 0, 1) := dk_42 (dk_at dksX3_init_1 17 rfl rfl)
theorem dX3_init_41 : decode cX3_init 41 = .ok (.bipush 60, 2) := dk_16 60 (dk_at dksX3_init_1 18 rfl rfl)
theorem dX3_init_43 : decode cX3_init 43 = .ok (.newarray .int, 2) := dk_188_10 (dk_at dksX3_init_1 20 rfl rfl)
theorem dX3_init_45 : decode cX3_init 45 = .ok (.putfield 26, 3) := dk_181 0 26 (dk_at dksX3_init_2 0 rfl rfl)
theorem dX3_init_48 : decode cX3_init 48 = .ok (.aload_n 0, 1) := dk_42 (dk_at dksX3_init_2 3 rfl rfl)
theorem dX3_init_49 : decode cX3_init 49 = .ok (.bipush 36, 2) := dk_16 36 (dk_at dksX3_init_2 4 rfl rfl)
theorem dX3_init_51 : decode cX3_init 51 = .ok (.newarray .int, 2) := dk_188_10 (dk_at dksX3_init_2 6 rfl rfl)
theorem dX3_init_53 : decode cX3_init 53 = .ok (.putfield 30, 3) := dk_181 0 30 (dk_at dksX3_init_2 8 rfl rfl)
theorem dX3_init_56 : decode cX3_init 56 = .ok (.aload_n 0, 1) := dk_42 (dk_at dksX3_init_2 11 rfl rfl)
theorem dX3_init_57 : decode cX3_init 57 = .ok (.getfield 13, 3) := dk_180 0 13 (dk_at dksX3_init_2 12 rfl rfl)
theorem dX3_init_60 : decode cX3_init 60 = .ok (.iconst 4, 1) := dk_7 (dk_at dksX3_init_2 15 rfl rfl)
theorem dX3_init_61 : decode cX3_init 61 = .ok (.ldc2_w 33, 3) := dk_20 0 33 (dk_at dksX3_init_2 16 rfl rfl)
theorem dX3_init_64 : decode cX3_init 64 = .ok (.invokestatic 35, 3) := dk_184 0 35 (dk_at dksX3_init_2 19 rfl rfl)
theorem dX3_init_67 : decode cX3_init 67 = .ok (.lastore, 1) := dk_80 (dk_at dksX3_init_2 22 rfl rfl)
theorem dX3_init_68 : decode cX3_init 68 = .ok (.aload_n 0, 1) := dk_42 (dk_at dksX3_init_2 23 rfl rfl)
theorem dX3_init_69 : decode cX3_init 69 = .ok (.getfield 13, 3) := dk_180 0 13 (dk_at dksX3_init_3 0 rfl rfl)
theorem dX3_init_72 : decode cX3_init 72 = .ok (.iconst 5, 1) := dk_8 (dk_at dksX3_init_3 3 rfl rfl)
theorem dX3_init_73 : decode cX3_init 73 = .ok (.ldc2_w 41, 3) := dk_20 0 41 (dk_at dksX3_init_3 4 rfl rfl)
theorem dX3_init_76 : decode cX3_init 76 = .ok (.lastore, 1) := dk_80 (dk_at dksX3_init_3 7 rfl rfl)
theorem dX3_init_77 : decode cX3_init 77 = .ok (.aload_n 0, 1) := dk_42 (dk_at dksX3_init_3 8 rfl rfl)
theorem dX3_init_78 : decode cX3_init 78 = .ok (.getfield 13, 3) := dk_180 0 13 (dk_at dksX3_init_3 9 rfl rfl)
theorem dX3_init_81 : decode cX3_init 81 = .ok (.bipush 6, 2) := dk_16 6 (dk_at dksX3_init_3 12 rfl rfl)
theorem dX3_init_83 : decode cX3_init 83 = .ok (.ldc2_w 43, 3) := dk_20 0 43 (dk_at dksX3_init_3 14 rfl rfl)
theorem dX3_init_86 : decode cX3_init 86 = .ok (.lastore, 1) := dk_80 (dk_at dksX3_init_3 17 rfl rfl)
theorem dX3_init_87 : decode cX3_init 87 = .ok (.return_, 1) := dk_177 (dk_at dksX3_init_3 18 rfl rfl)
abbrev cX3_addSupplier : ByteArray := prog_14_method_20_code
def yX3_addSupplier : MethodName := ⟨RX3, "addSupplier", "()I"⟩
def dkwX3_addSupplier_2 : List UInt8 := [20, 0, 82, 80, 42, 180, 0, 13, 4, 92, 47, 10, 97, 80, 42, 27, 182, 0, 84, 172]
abbrev dktX3_addSupplier_2 : List UInt8 := dkwX3_addSupplier_2 ++ []
def dkwX3_addSupplier_1 : List UInt8 := [180, 0, 13, 27, 3, 184, 0, 77, 20, 0, 80, 184, 0, 35, 80, 42, 180, 0, 13, 27, 5, 184, 0, 77]
abbrev dktX3_addSupplier_1 : List UInt8 := dkwX3_addSupplier_1 ++ dktX3_addSupplier_2
def dkwX3_addSupplier_0 : List UInt8 := [42, 182, 0, 74, 42, 4, 182, 0, 49, 8, 160, 0, 6, 16, 253, 172, 42, 4, 182, 0, 49, 60, 42]
abbrev dktX3_addSupplier_0 : List UInt8 := dkwX3_addSupplier_0 ++ dktX3_addSupplier_1
theorem dksX3_addSupplier_0 : cX3_addSupplier.data.toList.drop 0 = dktX3_addSupplier_0 := by decide +kernel
theorem dksX3_addSupplier_1 : cX3_addSupplier.data.toList.drop 23 = dktX3_addSupplier_1 := dk_seg dksX3_addSupplier_0 23 rfl rfl
theorem dksX3_addSupplier_2 : cX3_addSupplier.data.toList.drop 47 = dktX3_addSupplier_2 := dk_seg dksX3_addSupplier_1 24 rfl rfl
theorem dX3_addSupplier_0 : decode cX3_addSupplier 0 = .ok (.aload_n 0, 1) := dk_42 (dk_at dksX3_addSupplier_0 0 rfl rfl)
theorem dX3_addSupplier_1 : decode cX3_addSupplier 1 = .ok (.invokevirtual 74, 3) := dk_182 0 74 (dk_at dksX3_addSupplier_0 1 rfl rfl)
theorem dX3_addSupplier_4 : decode cX3_addSupplier 4 = .ok (.aload_n 0, 1) := dk_42 (dk_at dksX3_addSupplier_0 4 rfl rfl)
theorem dX3_addSupplier_5 : decode cX3_addSupplier 5 = .ok (.iconst 1, 1) := dk_4 (dk_at dksX3_addSupplier_0 5 rfl rfl)
theorem dX3_addSupplier_6 : decode cX3_addSupplier 6 = .ok (.invokevirtual 49, 3) := dk_182 0 49 (dk_at dksX3_addSupplier_0 6 rfl rfl)
theorem dX3_addSupplier_9 : decode cX3_addSupplier 9 = .ok (.iconst 5, 1) := dk_8 (dk_at dksX3_addSupplier_0 9 rfl rfl)
theorem dX3_addSupplier_10 : decode cX3_addSupplier 10 = .ok (.if_icmp .ne 6, 3) := dk_160 0 6 (dk_at dksX3_addSupplier_0 10 rfl rfl)
theorem dX3_addSupplier_13 : decode cX3_addSupplier 13 = .ok (.bipush (-3), 2) := dk_16 253 (dk_at dksX3_addSupplier_0 13 rfl rfl)
theorem dX3_addSupplier_15 : decode cX3_addSupplier 15 = .ok (.ireturn, 1) := dk_172 (dk_at dksX3_addSupplier_0 15 rfl rfl)
theorem dX3_addSupplier_16 : decode cX3_addSupplier 16 = .ok (.aload_n 0, 1) := dk_42 (dk_at dksX3_addSupplier_0 16 rfl rfl)
theorem dX3_addSupplier_17 : decode cX3_addSupplier 17 = .ok (.iconst 1, 1) := dk_4 (dk_at dksX3_addSupplier_0 17 rfl rfl)
theorem dX3_addSupplier_18 : decode cX3_addSupplier 18 = .ok (.invokevirtual 49, 3) := dk_182 0 49 (dk_at dksX3_addSupplier_0 18 rfl rfl)
theorem dX3_addSupplier_21 : decode cX3_addSupplier 21 = .ok (.istore_n 1, 1) := dk_60 (dk_at dksX3_addSupplier_0 21 rfl rfl)
theorem dX3_addSupplier_22 : decode cX3_addSupplier 22 = .ok (.aload_n 0, 1) := dk_42 (dk_at dksX3_addSupplier_0 22 rfl rfl)
theorem dX3_addSupplier_23 : decode cX3_addSupplier 23 = .ok (.getfield 13, 3) := dk_180 0 13 (dk_at dksX3_addSupplier_1 0 rfl rfl)
theorem dX3_addSupplier_26 : decode cX3_addSupplier 26 = .ok (.iload_n 1, 1) := dk_27 (dk_at dksX3_addSupplier_1 3 rfl rfl)
theorem dX3_addSupplier_27 : decode cX3_addSupplier 27 = .ok (.iconst 0, 1) := dk_3 (dk_at dksX3_addSupplier_1 4 rfl rfl)
theorem dX3_addSupplier_28 : decode cX3_addSupplier 28 = .ok (.invokestatic 77, 3) := dk_184 0 77 (dk_at dksX3_addSupplier_1 5 rfl rfl)
theorem dX3_addSupplier_31 : decode cX3_addSupplier 31 = .ok (.ldc2_w 80, 3) := dk_20 0 80 (dk_at dksX3_addSupplier_1 8 rfl rfl)
theorem dX3_addSupplier_34 : decode cX3_addSupplier 34 = .ok (.invokestatic 35, 3) := dk_184 0 35 (dk_at dksX3_addSupplier_1 11 rfl rfl)
theorem dX3_addSupplier_37 : decode cX3_addSupplier 37 = .ok (.lastore, 1) := dk_80 (dk_at dksX3_addSupplier_1 14 rfl rfl)
theorem dX3_addSupplier_38 : decode cX3_addSupplier 38 = .ok (.aload_n 0, 1) := dk_42 (dk_at dksX3_addSupplier_1 15 rfl rfl)
theorem dX3_addSupplier_39 : decode cX3_addSupplier 39 = .ok (.getfield 13, 3) := dk_180 0 13 (dk_at dksX3_addSupplier_1 16 rfl rfl)
theorem dX3_addSupplier_42 : decode cX3_addSupplier 42 = .ok (.iload_n 1, 1) := dk_27 (dk_at dksX3_addSupplier_1 19 rfl rfl)
theorem dX3_addSupplier_43 : decode cX3_addSupplier 43 = .ok (.iconst 2, 1) := dk_5 (dk_at dksX3_addSupplier_1 20 rfl rfl)
theorem dX3_addSupplier_44 : decode cX3_addSupplier 44 = .ok (.invokestatic 77, 3) := dk_184 0 77 (dk_at dksX3_addSupplier_1 21 rfl rfl)
theorem dX3_addSupplier_47 : decode cX3_addSupplier 47 = .ok (.ldc2_w 82, 3) := dk_20 0 82 (dk_at dksX3_addSupplier_2 0 rfl rfl)
theorem dX3_addSupplier_50 : decode cX3_addSupplier 50 = .ok (.lastore, 1) := dk_80 (dk_at dksX3_addSupplier_2 3 rfl rfl)
theorem dX3_addSupplier_51 : decode cX3_addSupplier 51 = .ok (.aload_n 0, 1) := dk_42 (dk_at dksX3_addSupplier_2 4 rfl rfl)
theorem dX3_addSupplier_52 : decode cX3_addSupplier 52 = .ok (.getfield 13, 3) := dk_180 0 13 (dk_at dksX3_addSupplier_2 5 rfl rfl)
theorem dX3_addSupplier_55 : decode cX3_addSupplier 55 = .ok (.iconst 1, 1) := dk_4 (dk_at dksX3_addSupplier_2 8 rfl rfl)
theorem dX3_addSupplier_56 : decode cX3_addSupplier 56 = .ok (.dup2, 1) := dk_92 (dk_at dksX3_addSupplier_2 9 rfl rfl)
theorem dX3_addSupplier_57 : decode cX3_addSupplier 57 = .ok (.laload, 1) := dk_47 (dk_at dksX3_addSupplier_2 10 rfl rfl)
theorem dX3_addSupplier_58 : decode cX3_addSupplier 58 = .ok (.lconst 1, 1) := dk_10 (dk_at dksX3_addSupplier_2 11 rfl rfl)
theorem dX3_addSupplier_59 : decode cX3_addSupplier 59 = .ok (.ladd, 1) := dk_97 (dk_at dksX3_addSupplier_2 12 rfl rfl)
theorem dX3_addSupplier_60 : decode cX3_addSupplier 60 = .ok (.lastore, 1) := dk_80 (dk_at dksX3_addSupplier_2 13 rfl rfl)
theorem dX3_addSupplier_61 : decode cX3_addSupplier 61 = .ok (.aload_n 0, 1) := dk_42 (dk_at dksX3_addSupplier_2 14 rfl rfl)
theorem dX3_addSupplier_62 : decode cX3_addSupplier 62 = .ok (.iload_n 1, 1) := dk_27 (dk_at dksX3_addSupplier_2 15 rfl rfl)
theorem dX3_addSupplier_63 : decode cX3_addSupplier 63 = .ok (.invokevirtual 84, 3) := dk_182 0 84 (dk_at dksX3_addSupplier_2 16 rfl rfl)
theorem dX3_addSupplier_66 : decode cX3_addSupplier 66 = .ok (.ireturn, 1) := dk_172 (dk_at dksX3_addSupplier_2 19 rfl rfl)
abbrev cX3_aside : ByteArray := prog_14_method_17_code
def yX3_aside : MethodName := ⟨RX3, "aside", "()V"⟩
def dkwX3_aside_1 : List UInt8 := [47, 80, 132, 1, 1, 167, 255, 234, 177]
abbrev dktX3_aside_1 : List UInt8 := dkwX3_aside_1 ++ []
def dkwX3_aside_0 : List UInt8 := [42, 3, 181, 0, 1, 3, 60, 27, 17, 5, 131, 162, 0, 21, 42, 180, 0, 17, 27, 42, 180, 0, 13, 27]
abbrev dktX3_aside_0 : List UInt8 := dkwX3_aside_0 ++ dktX3_aside_1
theorem dksX3_aside_0 : cX3_aside.data.toList.drop 0 = dktX3_aside_0 := by decide +kernel
theorem dksX3_aside_1 : cX3_aside.data.toList.drop 24 = dktX3_aside_1 := dk_seg dksX3_aside_0 24 rfl rfl
theorem dX3_aside_0 : decode cX3_aside 0 = .ok (.aload_n 0, 1) := dk_42 (dk_at dksX3_aside_0 0 rfl rfl)
theorem dX3_aside_1 : decode cX3_aside 1 = .ok (.iconst 0, 1) := dk_3 (dk_at dksX3_aside_0 1 rfl rfl)
theorem dX3_aside_2 : decode cX3_aside 2 = .ok (.putfield 1, 3) := dk_181 0 1 (dk_at dksX3_aside_0 2 rfl rfl)
theorem dX3_aside_5 : decode cX3_aside 5 = .ok (.iconst 0, 1) := dk_3 (dk_at dksX3_aside_0 5 rfl rfl)
theorem dX3_aside_6 : decode cX3_aside 6 = .ok (.istore_n 1, 1) := dk_60 (dk_at dksX3_aside_0 6 rfl rfl)
theorem dX3_aside_7 : decode cX3_aside 7 = .ok (.iload_n 1, 1) := dk_27 (dk_at dksX3_aside_0 7 rfl rfl)
theorem dX3_aside_8 : decode cX3_aside 8 = .ok (.sipush 1411, 3) := dk_17 5 131 (dk_at dksX3_aside_0 8 rfl rfl)
theorem dX3_aside_11 : decode cX3_aside 11 = .ok (.if_icmp .ge 21, 3) := dk_162 0 21 (dk_at dksX3_aside_0 11 rfl rfl)
theorem dX3_aside_14 : decode cX3_aside 14 = .ok (.aload_n 0, 1) := dk_42 (dk_at dksX3_aside_0 14 rfl rfl)
theorem dX3_aside_15 : decode cX3_aside 15 = .ok (.getfield 17, 3) := dk_180 0 17 (dk_at dksX3_aside_0 15 rfl rfl)
theorem dX3_aside_18 : decode cX3_aside 18 = .ok (.iload_n 1, 1) := dk_27 (dk_at dksX3_aside_0 18 rfl rfl)
theorem dX3_aside_19 : decode cX3_aside 19 = .ok (.aload_n 0, 1) := dk_42 (dk_at dksX3_aside_0 19 rfl rfl)
theorem dX3_aside_20 : decode cX3_aside 20 = .ok (.getfield 13, 3) := dk_180 0 13 (dk_at dksX3_aside_0 20 rfl rfl)
theorem dX3_aside_23 : decode cX3_aside 23 = .ok (.iload_n 1, 1) := dk_27 (dk_at dksX3_aside_0 23 rfl rfl)
theorem dX3_aside_24 : decode cX3_aside 24 = .ok (.laload, 1) := dk_47 (dk_at dksX3_aside_1 0 rfl rfl)
theorem dX3_aside_25 : decode cX3_aside 25 = .ok (.lastore, 1) := dk_80 (dk_at dksX3_aside_1 1 rfl rfl)
theorem dX3_aside_26 : decode cX3_aside 26 = .ok (.iinc 1 1, 3) := dk_132 1 1 (dk_at dksX3_aside_1 2 rfl rfl)
theorem dX3_aside_29 : decode cX3_aside 29 = .ok (.goto (-22), 3) := dk_167 255 234 (dk_at dksX3_aside_1 5 rfl rfl)
theorem dX3_aside_32 : decode cX3_aside 32 = .ok (.return_, 1) := dk_177 (dk_at dksX3_aside_1 8 rfl rfl)
abbrev cX3_at : ByteArray := prog_14_method_4_code
def yX3_at : MethodName := ⟨RX3, "at", "(I)I"⟩
def dkwX3_at_0 : List UInt8 := [42, 180, 0, 13, 27, 47, 136, 172]
abbrev dktX3_at_0 : List UInt8 := dkwX3_at_0 ++ []
theorem dksX3_at_0 : cX3_at.data.toList.drop 0 = dktX3_at_0 := by decide +kernel
theorem dX3_at_0 : decode cX3_at 0 = .ok (.aload_n 0, 1) := dk_42 (dk_at dksX3_at_0 0 rfl rfl)
theorem dX3_at_1 : decode cX3_at 1 = .ok (.getfield 13, 3) := dk_180 0 13 (dk_at dksX3_at_0 1 rfl rfl)
theorem dX3_at_4 : decode cX3_at 4 = .ok (.iload_n 1, 1) := dk_27 (dk_at dksX3_at_0 4 rfl rfl)
theorem dX3_at_5 : decode cX3_at 5 = .ok (.laload, 1) := dk_47 (dk_at dksX3_at_0 5 rfl rfl)
theorem dX3_at_6 : decode cX3_at 6 = .ok (.l2i, 1) := dk_136 (dk_at dksX3_at_0 6 rfl rfl)
theorem dX3_at_7 : decode cX3_at 7 = .ok (.ireturn, 1) := dk_172 (dk_at dksX3_at_0 7 rfl rfl)
abbrev cX3_ofSupplier : ByteArray := prog_14_method_5_code
def yX3_ofSupplier : MethodName := ⟨RX3, "ofSupplier", "(II)I"⟩
def dkwX3_ofSupplier_0 : List UInt8 := [16, 11, 16, 8, 26, 104, 96, 27, 96, 172]
abbrev dktX3_ofSupplier_0 : List UInt8 := dkwX3_ofSupplier_0 ++ []
theorem dksX3_ofSupplier_0 : cX3_ofSupplier.data.toList.drop 0 = dktX3_ofSupplier_0 := by decide +kernel
theorem dX3_ofSupplier_0 : decode cX3_ofSupplier 0 = .ok (.bipush 11, 2) := dk_16 11 (dk_at dksX3_ofSupplier_0 0 rfl rfl)
theorem dX3_ofSupplier_2 : decode cX3_ofSupplier 2 = .ok (.bipush 8, 2) := dk_16 8 (dk_at dksX3_ofSupplier_0 2 rfl rfl)
theorem dX3_ofSupplier_4 : decode cX3_ofSupplier 4 = .ok (.iload_n 0, 1) := dk_26 (dk_at dksX3_ofSupplier_0 4 rfl rfl)
theorem dX3_ofSupplier_5 : decode cX3_ofSupplier 5 = .ok (.imul, 1) := dk_104 (dk_at dksX3_ofSupplier_0 5 rfl rfl)
theorem dX3_ofSupplier_6 : decode cX3_ofSupplier 6 = .ok (.iadd, 1) := dk_96 (dk_at dksX3_ofSupplier_0 6 rfl rfl)
theorem dX3_ofSupplier_7 : decode cX3_ofSupplier 7 = .ok (.iload_n 1, 1) := dk_27 (dk_at dksX3_ofSupplier_0 7 rfl rfl)
theorem dX3_ofSupplier_8 : decode cX3_ofSupplier 8 = .ok (.iadd, 1) := dk_96 (dk_at dksX3_ofSupplier_0 8 rfl rfl)
theorem dX3_ofSupplier_9 : decode cX3_ofSupplier 9 = .ok (.ireturn, 1) := dk_172 (dk_at dksX3_ofSupplier_0 9 rfl rfl)
abbrev cX3_acted : ByteArray := prog_14_method_18_code
def yX3_acted : MethodName := ⟨RX3, "acted", "(I)I"⟩
def dkwX3_acted_4 : List UInt8 := [181, 0, 71, 27, 172]
abbrev dktX3_acted_4 : List UInt8 := dkwX3_acted_4 ++ []
def dkwX3_acted_3 : List UInt8 := [28, 96, 42, 180, 0, 17, 28, 47, 80, 132, 2, 1, 167, 255, 225, 42, 89, 180, 0, 71, 4, 96]
abbrev dktX3_acted_3 : List UInt8 := dkwX3_acted_3 ++ dktX3_acted_4
def dkwX3_acted_2 : List UInt8 := [181, 0, 71, 3, 61, 28, 17, 5, 131, 162, 0, 30, 42, 180, 0, 23, 17, 5, 131, 42, 180, 0, 71, 104]
abbrev dktX3_acted_2 : List UInt8 := dkwX3_acted_2 ++ dktX3_acted_3
def dkwX3_acted_1 : List UInt8 := [180, 0, 23, 28, 17, 5, 131, 96, 47, 80, 132, 2, 1, 167, 255, 230, 42, 89, 180, 0, 71, 4, 100]
abbrev dktX3_acted_1 : List UInt8 := dkwX3_acted_1 ++ dktX3_acted_2
def dkwX3_acted_0 : List UInt8 := [42, 180, 0, 71, 7, 160, 0, 44, 3, 61, 28, 17, 16, 137, 162, 0, 25, 42, 180, 0, 23, 28, 42]
abbrev dktX3_acted_0 : List UInt8 := dkwX3_acted_0 ++ dktX3_acted_1
theorem dksX3_acted_0 : cX3_acted.data.toList.drop 0 = dktX3_acted_0 := by decide +kernel
theorem dksX3_acted_1 : cX3_acted.data.toList.drop 23 = dktX3_acted_1 := dk_seg dksX3_acted_0 23 rfl rfl
theorem dksX3_acted_2 : cX3_acted.data.toList.drop 46 = dktX3_acted_2 := dk_seg dksX3_acted_1 23 rfl rfl
theorem dksX3_acted_3 : cX3_acted.data.toList.drop 70 = dktX3_acted_3 := dk_seg dksX3_acted_2 24 rfl rfl
theorem dksX3_acted_4 : cX3_acted.data.toList.drop 92 = dktX3_acted_4 := dk_seg dksX3_acted_3 22 rfl rfl
theorem dX3_acted_0 : decode cX3_acted 0 = .ok (.aload_n 0, 1) := dk_42 (dk_at dksX3_acted_0 0 rfl rfl)
theorem dX3_acted_1 : decode cX3_acted 1 = .ok (.getfield 71, 3) := dk_180 0 71 (dk_at dksX3_acted_0 1 rfl rfl)
theorem dX3_acted_4 : decode cX3_acted 4 = .ok (.iconst 4, 1) := dk_7 (dk_at dksX3_acted_0 4 rfl rfl)
theorem dX3_acted_5 : decode cX3_acted 5 = .ok (.if_icmp .ne 44, 3) := dk_160 0 44 (dk_at dksX3_acted_0 5 rfl rfl)
theorem dX3_acted_8 : decode cX3_acted 8 = .ok (.iconst 0, 1) := dk_3 (dk_at dksX3_acted_0 8 rfl rfl)
theorem dX3_acted_9 : decode cX3_acted 9 = .ok (.istore_n 2, 1) := dk_61 (dk_at dksX3_acted_0 9 rfl rfl)
theorem dX3_acted_10 : decode cX3_acted 10 = .ok (.iload_n 2, 1) := dk_28 (dk_at dksX3_acted_0 10 rfl rfl)
theorem dX3_acted_11 : decode cX3_acted 11 = .ok (.sipush 4233, 3) := dk_17 16 137 (dk_at dksX3_acted_0 11 rfl rfl)
theorem dX3_acted_14 : decode cX3_acted 14 = .ok (.if_icmp .ge 25, 3) := dk_162 0 25 (dk_at dksX3_acted_0 14 rfl rfl)
theorem dX3_acted_17 : decode cX3_acted 17 = .ok (.aload_n 0, 1) := dk_42 (dk_at dksX3_acted_0 17 rfl rfl)
theorem dX3_acted_18 : decode cX3_acted 18 = .ok (.getfield 23, 3) := dk_180 0 23 (dk_at dksX3_acted_0 18 rfl rfl)
theorem dX3_acted_21 : decode cX3_acted 21 = .ok (.iload_n 2, 1) := dk_28 (dk_at dksX3_acted_0 21 rfl rfl)
theorem dX3_acted_22 : decode cX3_acted 22 = .ok (.aload_n 0, 1) := dk_42 (dk_at dksX3_acted_0 22 rfl rfl)
theorem dX3_acted_23 : decode cX3_acted 23 = .ok (.getfield 23, 3) := dk_180 0 23 (dk_at dksX3_acted_1 0 rfl rfl)
theorem dX3_acted_26 : decode cX3_acted 26 = .ok (.iload_n 2, 1) := dk_28 (dk_at dksX3_acted_1 3 rfl rfl)
theorem dX3_acted_27 : decode cX3_acted 27 = .ok (.sipush 1411, 3) := dk_17 5 131 (dk_at dksX3_acted_1 4 rfl rfl)
theorem dX3_acted_30 : decode cX3_acted 30 = .ok (.iadd, 1) := dk_96 (dk_at dksX3_acted_1 7 rfl rfl)
theorem dX3_acted_31 : decode cX3_acted 31 = .ok (.laload, 1) := dk_47 (dk_at dksX3_acted_1 8 rfl rfl)
theorem dX3_acted_32 : decode cX3_acted 32 = .ok (.lastore, 1) := dk_80 (dk_at dksX3_acted_1 9 rfl rfl)
theorem dX3_acted_33 : decode cX3_acted 33 = .ok (.iinc 2 1, 3) := dk_132 2 1 (dk_at dksX3_acted_1 10 rfl rfl)
theorem dX3_acted_36 : decode cX3_acted 36 = .ok (.goto (-26), 3) := dk_167 255 230 (dk_at dksX3_acted_1 13 rfl rfl)
theorem dX3_acted_39 : decode cX3_acted 39 = .ok (.aload_n 0, 1) := dk_42 (dk_at dksX3_acted_1 16 rfl rfl)
theorem dX3_acted_40 : decode cX3_acted 40 = .ok (.dup, 1) := dk_89 (dk_at dksX3_acted_1 17 rfl rfl)
theorem dX3_acted_41 : decode cX3_acted 41 = .ok (.getfield 71, 3) := dk_180 0 71 (dk_at dksX3_acted_1 18 rfl rfl)
theorem dX3_acted_44 : decode cX3_acted 44 = .ok (.iconst 1, 1) := dk_4 (dk_at dksX3_acted_1 21 rfl rfl)
theorem dX3_acted_45 : decode cX3_acted 45 = .ok (.isub, 1) := dk_100 (dk_at dksX3_acted_1 22 rfl rfl)
theorem dX3_acted_46 : decode cX3_acted 46 = .ok (.putfield 71, 3) := dk_181 0 71 (dk_at dksX3_acted_2 0 rfl rfl)
theorem dX3_acted_49 : decode cX3_acted 49 = .ok (.iconst 0, 1) := dk_3 (dk_at dksX3_acted_2 3 rfl rfl)
theorem dX3_acted_50 : decode cX3_acted 50 = .ok (.istore_n 2, 1) := dk_61 (dk_at dksX3_acted_2 4 rfl rfl)
theorem dX3_acted_51 : decode cX3_acted 51 = .ok (.iload_n 2, 1) := dk_28 (dk_at dksX3_acted_2 5 rfl rfl)
theorem dX3_acted_52 : decode cX3_acted 52 = .ok (.sipush 1411, 3) := dk_17 5 131 (dk_at dksX3_acted_2 6 rfl rfl)
theorem dX3_acted_55 : decode cX3_acted 55 = .ok (.if_icmp .ge 30, 3) := dk_162 0 30 (dk_at dksX3_acted_2 9 rfl rfl)
theorem dX3_acted_58 : decode cX3_acted 58 = .ok (.aload_n 0, 1) := dk_42 (dk_at dksX3_acted_2 12 rfl rfl)
theorem dX3_acted_59 : decode cX3_acted 59 = .ok (.getfield 23, 3) := dk_180 0 23 (dk_at dksX3_acted_2 13 rfl rfl)
theorem dX3_acted_62 : decode cX3_acted 62 = .ok (.sipush 1411, 3) := dk_17 5 131 (dk_at dksX3_acted_2 16 rfl rfl)
theorem dX3_acted_65 : decode cX3_acted 65 = .ok (.aload_n 0, 1) := dk_42 (dk_at dksX3_acted_2 19 rfl rfl)
theorem dX3_acted_66 : decode cX3_acted 66 = .ok (.getfield 71, 3) := dk_180 0 71 (dk_at dksX3_acted_2 20 rfl rfl)
theorem dX3_acted_69 : decode cX3_acted 69 = .ok (.imul, 1) := dk_104 (dk_at dksX3_acted_2 23 rfl rfl)
theorem dX3_acted_70 : decode cX3_acted 70 = .ok (.iload_n 2, 1) := dk_28 (dk_at dksX3_acted_3 0 rfl rfl)
theorem dX3_acted_71 : decode cX3_acted 71 = .ok (.iadd, 1) := dk_96 (dk_at dksX3_acted_3 1 rfl rfl)
theorem dX3_acted_72 : decode cX3_acted 72 = .ok (.aload_n 0, 1) := dk_42 (dk_at dksX3_acted_3 2 rfl rfl)
theorem dX3_acted_73 : decode cX3_acted 73 = .ok (.getfield 17, 3) := dk_180 0 17 (dk_at dksX3_acted_3 3 rfl rfl)
theorem dX3_acted_76 : decode cX3_acted 76 = .ok (.iload_n 2, 1) := dk_28 (dk_at dksX3_acted_3 6 rfl rfl)
theorem dX3_acted_77 : decode cX3_acted 77 = .ok (.laload, 1) := dk_47 (dk_at dksX3_acted_3 7 rfl rfl)
theorem dX3_acted_78 : decode cX3_acted 78 = .ok (.lastore, 1) := dk_80 (dk_at dksX3_acted_3 8 rfl rfl)
theorem dX3_acted_79 : decode cX3_acted 79 = .ok (.iinc 2 1, 3) := dk_132 2 1 (dk_at dksX3_acted_3 9 rfl rfl)
theorem dX3_acted_82 : decode cX3_acted 82 = .ok (.goto (-31), 3) := dk_167 255 225 (dk_at dksX3_acted_3 12 rfl rfl)
theorem dX3_acted_85 : decode cX3_acted 85 = .ok (.aload_n 0, 1) := dk_42 (dk_at dksX3_acted_3 15 rfl rfl)
theorem dX3_acted_86 : decode cX3_acted 86 = .ok (.dup, 1) := dk_89 (dk_at dksX3_acted_3 16 rfl rfl)
theorem dX3_acted_87 : decode cX3_acted 87 = .ok (.getfield 71, 3) := dk_180 0 71 (dk_at dksX3_acted_3 17 rfl rfl)
theorem dX3_acted_90 : decode cX3_acted 90 = .ok (.iconst 1, 1) := dk_4 (dk_at dksX3_acted_3 20 rfl rfl)
theorem dX3_acted_91 : decode cX3_acted 91 = .ok (.iadd, 1) := dk_96 (dk_at dksX3_acted_3 21 rfl rfl)
theorem dX3_acted_92 : decode cX3_acted 92 = .ok (.putfield 71, 3) := dk_181 0 71 (dk_at dksX3_acted_4 0 rfl rfl)
theorem dX3_acted_95 : decode cX3_acted 95 = .ok (.iload_n 1, 1) := dk_27 (dk_at dksX3_acted_4 3 rfl rfl)
theorem dX3_acted_96 : decode cX3_acted 96 = .ok (.ireturn, 1) := dk_172 (dk_at dksX3_acted_4 4 rfl rfl)
abbrev cX3_setTolerance : ByteArray := prog_14_method_22_code
def yX3_setTolerance : MethodName := ⟨RX3, "setTolerance", "(IZJ)I"⟩
def dkwX3_setTolerance_2 : List UInt8 := [47, 33, 148, 154, 0, 6, 16, 251, 172, 42, 180, 0, 13, 21, 5, 33, 80, 42, 4, 182, 0, 84, 172]
abbrev dktX3_setTolerance_2 : List UInt8 := dkwX3_setTolerance_2 ++ []
def dkwX3_setTolerance_1 : List UInt8 := [16, 254, 172, 27, 28, 153, 0, 7, 4, 167, 0, 4, 3, 184, 0, 77, 54, 5, 42, 180, 0, 13, 21, 5]
abbrev dktX3_setTolerance_1 : List UInt8 := dkwX3_setTolerance_1 ++ dktX3_setTolerance_2
def dkwX3_setTolerance_0 : List UInt8 := [42, 182, 0, 74, 42, 27, 182, 0, 89, 154, 0, 5, 2, 172, 33, 20, 0, 92, 184, 0, 94, 154, 0, 6]
abbrev dktX3_setTolerance_0 : List UInt8 := dkwX3_setTolerance_0 ++ dktX3_setTolerance_1
theorem dksX3_setTolerance_0 : cX3_setTolerance.data.toList.drop 0 = dktX3_setTolerance_0 := by decide +kernel
theorem dksX3_setTolerance_1 : cX3_setTolerance.data.toList.drop 24 = dktX3_setTolerance_1 := dk_seg dksX3_setTolerance_0 24 rfl rfl
theorem dksX3_setTolerance_2 : cX3_setTolerance.data.toList.drop 48 = dktX3_setTolerance_2 := dk_seg dksX3_setTolerance_1 24 rfl rfl
theorem dX3_setTolerance_0 : decode cX3_setTolerance 0 = .ok (.aload_n 0, 1) := dk_42 (dk_at dksX3_setTolerance_0 0 rfl rfl)
theorem dX3_setTolerance_1 : decode cX3_setTolerance 1 = .ok (.invokevirtual 74, 3) := dk_182 0 74 (dk_at dksX3_setTolerance_0 1 rfl rfl)
theorem dX3_setTolerance_4 : decode cX3_setTolerance 4 = .ok (.aload_n 0, 1) := dk_42 (dk_at dksX3_setTolerance_0 4 rfl rfl)
theorem dX3_setTolerance_5 : decode cX3_setTolerance 5 = .ok (.iload_n 1, 1) := dk_27 (dk_at dksX3_setTolerance_0 5 rfl rfl)
theorem dX3_setTolerance_6 : decode cX3_setTolerance 6 = .ok (.invokevirtual 89, 3) := dk_182 0 89 (dk_at dksX3_setTolerance_0 6 rfl rfl)
theorem dX3_setTolerance_9 : decode cX3_setTolerance 9 = .ok (.ifCond .ne 5, 3) := dk_154 0 5 (dk_at dksX3_setTolerance_0 9 rfl rfl)
theorem dX3_setTolerance_12 : decode cX3_setTolerance 12 = .ok (.iconst (-1), 1) := dk_2 (dk_at dksX3_setTolerance_0 12 rfl rfl)
theorem dX3_setTolerance_13 : decode cX3_setTolerance 13 = .ok (.ireturn, 1) := dk_172 (dk_at dksX3_setTolerance_0 13 rfl rfl)
theorem dX3_setTolerance_14 : decode cX3_setTolerance 14 = .ok (.lload_n 3, 1) := dk_33 (dk_at dksX3_setTolerance_0 14 rfl rfl)
theorem dX3_setTolerance_15 : decode cX3_setTolerance 15 = .ok (.ldc2_w 92, 3) := dk_20 0 92 (dk_at dksX3_setTolerance_0 15 rfl rfl)
theorem dX3_setTolerance_18 : decode cX3_setTolerance 18 = .ok (.invokestatic 94, 3) := dk_184 0 94 (dk_at dksX3_setTolerance_0 18 rfl rfl)
theorem dX3_setTolerance_21 : decode cX3_setTolerance 21 = .ok (.ifCond .ne 6, 3) := dk_154 0 6 (dk_at dksX3_setTolerance_0 21 rfl rfl)
theorem dX3_setTolerance_24 : decode cX3_setTolerance 24 = .ok (.bipush (-2), 2) := dk_16 254 (dk_at dksX3_setTolerance_1 0 rfl rfl)
theorem dX3_setTolerance_26 : decode cX3_setTolerance 26 = .ok (.ireturn, 1) := dk_172 (dk_at dksX3_setTolerance_1 2 rfl rfl)
theorem dX3_setTolerance_27 : decode cX3_setTolerance 27 = .ok (.iload_n 1, 1) := dk_27 (dk_at dksX3_setTolerance_1 3 rfl rfl)
theorem dX3_setTolerance_28 : decode cX3_setTolerance 28 = .ok (.iload_n 2, 1) := dk_28 (dk_at dksX3_setTolerance_1 4 rfl rfl)
theorem dX3_setTolerance_29 : decode cX3_setTolerance 29 = .ok (.ifCond .eq 7, 3) := dk_153 0 7 (dk_at dksX3_setTolerance_1 5 rfl rfl)
theorem dX3_setTolerance_32 : decode cX3_setTolerance 32 = .ok (.iconst 1, 1) := dk_4 (dk_at dksX3_setTolerance_1 8 rfl rfl)
theorem dX3_setTolerance_33 : decode cX3_setTolerance 33 = .ok (.goto 4, 3) := dk_167 0 4 (dk_at dksX3_setTolerance_1 9 rfl rfl)
theorem dX3_setTolerance_36 : decode cX3_setTolerance 36 = .ok (.iconst 0, 1) := dk_3 (dk_at dksX3_setTolerance_1 12 rfl rfl)
theorem dX3_setTolerance_37 : decode cX3_setTolerance 37 = .ok (.invokestatic 77, 3) := dk_184 0 77 (dk_at dksX3_setTolerance_1 13 rfl rfl)
theorem dX3_setTolerance_40 : decode cX3_setTolerance 40 = .ok (.istore 5, 2) := dk_54 5 (dk_at dksX3_setTolerance_1 16 rfl rfl)
theorem dX3_setTolerance_42 : decode cX3_setTolerance 42 = .ok (.aload_n 0, 1) := dk_42 (dk_at dksX3_setTolerance_1 18 rfl rfl)
theorem dX3_setTolerance_43 : decode cX3_setTolerance 43 = .ok (.getfield 13, 3) := dk_180 0 13 (dk_at dksX3_setTolerance_1 19 rfl rfl)
theorem dX3_setTolerance_46 : decode cX3_setTolerance 46 = .ok (.iload 5, 2) := dk_21 5 (dk_at dksX3_setTolerance_1 22 rfl rfl)
theorem dX3_setTolerance_48 : decode cX3_setTolerance 48 = .ok (.laload, 1) := dk_47 (dk_at dksX3_setTolerance_2 0 rfl rfl)
theorem dX3_setTolerance_49 : decode cX3_setTolerance 49 = .ok (.lload_n 3, 1) := dk_33 (dk_at dksX3_setTolerance_2 1 rfl rfl)
theorem dX3_setTolerance_50 : decode cX3_setTolerance 50 = .ok (.lcmp, 1) := dk_148 (dk_at dksX3_setTolerance_2 2 rfl rfl)
theorem dX3_setTolerance_51 : decode cX3_setTolerance 51 = .ok (.ifCond .ne 6, 3) := dk_154 0 6 (dk_at dksX3_setTolerance_2 3 rfl rfl)
theorem dX3_setTolerance_54 : decode cX3_setTolerance 54 = .ok (.bipush (-5), 2) := dk_16 251 (dk_at dksX3_setTolerance_2 6 rfl rfl)
theorem dX3_setTolerance_56 : decode cX3_setTolerance 56 = .ok (.ireturn, 1) := dk_172 (dk_at dksX3_setTolerance_2 8 rfl rfl)
theorem dX3_setTolerance_57 : decode cX3_setTolerance 57 = .ok (.aload_n 0, 1) := dk_42 (dk_at dksX3_setTolerance_2 9 rfl rfl)
theorem dX3_setTolerance_58 : decode cX3_setTolerance 58 = .ok (.getfield 13, 3) := dk_180 0 13 (dk_at dksX3_setTolerance_2 10 rfl rfl)
theorem dX3_setTolerance_61 : decode cX3_setTolerance 61 = .ok (.iload 5, 2) := dk_21 5 (dk_at dksX3_setTolerance_2 13 rfl rfl)
theorem dX3_setTolerance_63 : decode cX3_setTolerance 63 = .ok (.lload_n 3, 1) := dk_33 (dk_at dksX3_setTolerance_2 15 rfl rfl)
theorem dX3_setTolerance_64 : decode cX3_setTolerance 64 = .ok (.lastore, 1) := dk_80 (dk_at dksX3_setTolerance_2 16 rfl rfl)
theorem dX3_setTolerance_65 : decode cX3_setTolerance 65 = .ok (.aload_n 0, 1) := dk_42 (dk_at dksX3_setTolerance_2 17 rfl rfl)
theorem dX3_setTolerance_66 : decode cX3_setTolerance 66 = .ok (.iconst 1, 1) := dk_4 (dk_at dksX3_setTolerance_2 18 rfl rfl)
theorem dX3_setTolerance_67 : decode cX3_setTolerance 67 = .ok (.invokevirtual 84, 3) := dk_182 0 84 (dk_at dksX3_setTolerance_2 19 rfl rfl)
theorem dX3_setTolerance_70 : decode cX3_setTolerance 70 = .ok (.ireturn, 1) := dk_172 (dk_at dksX3_setTolerance_2 22 rfl rfl)
abbrev cX3_isSupplier : ByteArray := prog_14_method_10_code
def yX3_isSupplier : MethodName := ⟨RX3, "isSupplier", "(I)Z"⟩
def dkwX3_isSupplier_0 : List UInt8 := [27, 3, 42, 4, 182, 0, 49, 4, 100, 184, 0, 53, 172]
abbrev dktX3_isSupplier_0 : List UInt8 := dkwX3_isSupplier_0 ++ []
theorem dksX3_isSupplier_0 : cX3_isSupplier.data.toList.drop 0 = dktX3_isSupplier_0 := by decide +kernel
theorem dX3_isSupplier_0 : decode cX3_isSupplier 0 = .ok (.iload_n 1, 1) := dk_27 (dk_at dksX3_isSupplier_0 0 rfl rfl)
theorem dX3_isSupplier_1 : decode cX3_isSupplier 1 = .ok (.iconst 0, 1) := dk_3 (dk_at dksX3_isSupplier_0 1 rfl rfl)
theorem dX3_isSupplier_2 : decode cX3_isSupplier 2 = .ok (.aload_n 0, 1) := dk_42 (dk_at dksX3_isSupplier_0 2 rfl rfl)
theorem dX3_isSupplier_3 : decode cX3_isSupplier 3 = .ok (.iconst 1, 1) := dk_4 (dk_at dksX3_isSupplier_0 3 rfl rfl)
theorem dX3_isSupplier_4 : decode cX3_isSupplier 4 = .ok (.invokevirtual 49, 3) := dk_182 0 49 (dk_at dksX3_isSupplier_0 4 rfl rfl)
theorem dX3_isSupplier_7 : decode cX3_isSupplier 7 = .ok (.iconst 1, 1) := dk_4 (dk_at dksX3_isSupplier_0 7 rfl rfl)
theorem dX3_isSupplier_8 : decode cX3_isSupplier 8 = .ok (.isub, 1) := dk_100 (dk_at dksX3_isSupplier_0 8 rfl rfl)
theorem dX3_isSupplier_9 : decode cX3_isSupplier 9 = .ok (.invokestatic 53, 3) := dk_184 0 53 (dk_at dksX3_isSupplier_0 9 rfl rfl)
theorem dX3_isSupplier_12 : decode cX3_isSupplier 12 = .ok (.ireturn, 1) := dk_172 (dk_at dksX3_isSupplier_0 12 rfl rfl)
abbrev cX3_in : ByteArray := prog_14_method_2_code
def yX3_in : MethodName := ⟨RX3, "in", "(III)Z"⟩
def dkwX3_in_0 : List UInt8 := [26, 27, 161, 0, 12, 26, 28, 163, 0, 7, 4, 167, 0, 4, 3, 172]
abbrev dktX3_in_0 : List UInt8 := dkwX3_in_0 ++ []
theorem dksX3_in_0 : cX3_in.data.toList.drop 0 = dktX3_in_0 := by decide +kernel
theorem dX3_in_0 : decode cX3_in 0 = .ok (.iload_n 0, 1) := dk_26 (dk_at dksX3_in_0 0 rfl rfl)
theorem dX3_in_1 : decode cX3_in 1 = .ok (.iload_n 1, 1) := dk_27 (dk_at dksX3_in_0 1 rfl rfl)
theorem dX3_in_2 : decode cX3_in 2 = .ok (.if_icmp .lt 12, 3) := dk_161 0 12 (dk_at dksX3_in_0 2 rfl rfl)
theorem dX3_in_5 : decode cX3_in 5 = .ok (.iload_n 0, 1) := dk_26 (dk_at dksX3_in_0 5 rfl rfl)
theorem dX3_in_6 : decode cX3_in 6 = .ok (.iload_n 2, 1) := dk_28 (dk_at dksX3_in_0 6 rfl rfl)
theorem dX3_in_7 : decode cX3_in 7 = .ok (.if_icmp .gt 7, 3) := dk_163 0 7 (dk_at dksX3_in_0 7 rfl rfl)
theorem dX3_in_10 : decode cX3_in 10 = .ok (.iconst 1, 1) := dk_4 (dk_at dksX3_in_0 10 rfl rfl)
theorem dX3_in_11 : decode cX3_in 11 = .ok (.goto 4, 3) := dk_167 0 4 (dk_at dksX3_in_0 11 rfl rfl)
theorem dX3_in_14 : decode cX3_in 14 = .ok (.iconst 0, 1) := dk_3 (dk_at dksX3_in_0 14 rfl rfl)
theorem dX3_in_15 : decode cX3_in 15 = .ok (.ireturn, 1) := dk_172 (dk_at dksX3_in_0 15 rfl rfl)
abbrev cX3_isFrom : ByteArray := prog_14_method_21_code
def yX3_isFrom : MethodName := ⟨RX3, "isFrom", "(JD)Z"⟩
def dkwX3_isFrom_1 : List UInt8 := [167, 0, 4, 3, 172]
abbrev dktX3_isFrom_1 : List UInt8 := dkwX3_isFrom_1 ++ []
def dkwX3_isFrom_0 : List UInt8 := [30, 9, 148, 155, 0, 24, 30, 20, 0, 87, 148, 157, 0, 16, 30, 184, 0, 67, 40, 152, 157, 0, 7, 4]
abbrev dktX3_isFrom_0 : List UInt8 := dkwX3_isFrom_0 ++ dktX3_isFrom_1
theorem dksX3_isFrom_0 : cX3_isFrom.data.toList.drop 0 = dktX3_isFrom_0 := by decide +kernel
theorem dksX3_isFrom_1 : cX3_isFrom.data.toList.drop 24 = dktX3_isFrom_1 := dk_seg dksX3_isFrom_0 24 rfl rfl
theorem dX3_isFrom_0 : decode cX3_isFrom 0 = .ok (.lload_n 0, 1) := dk_30 (dk_at dksX3_isFrom_0 0 rfl rfl)
theorem dX3_isFrom_1 : decode cX3_isFrom 1 = .ok (.lconst 0, 1) := dk_9 (dk_at dksX3_isFrom_0 1 rfl rfl)
theorem dX3_isFrom_2 : decode cX3_isFrom 2 = .ok (.lcmp, 1) := dk_148 (dk_at dksX3_isFrom_0 2 rfl rfl)
theorem dX3_isFrom_3 : decode cX3_isFrom 3 = .ok (.ifCond .lt 24, 3) := dk_155 0 24 (dk_at dksX3_isFrom_0 3 rfl rfl)
theorem dX3_isFrom_6 : decode cX3_isFrom 6 = .ok (.lload_n 0, 1) := dk_30 (dk_at dksX3_isFrom_0 6 rfl rfl)
theorem dX3_isFrom_7 : decode cX3_isFrom 7 = .ok (.ldc2_w 87, 3) := dk_20 0 87 (dk_at dksX3_isFrom_0 7 rfl rfl)
theorem dX3_isFrom_10 : decode cX3_isFrom 10 = .ok (.lcmp, 1) := dk_148 (dk_at dksX3_isFrom_0 10 rfl rfl)
theorem dX3_isFrom_11 : decode cX3_isFrom 11 = .ok (.ifCond .gt 16, 3) := dk_157 0 16 (dk_at dksX3_isFrom_0 11 rfl rfl)
theorem dX3_isFrom_14 : decode cX3_isFrom 14 = .ok (.lload_n 0, 1) := dk_30 (dk_at dksX3_isFrom_0 14 rfl rfl)
theorem dX3_isFrom_15 : decode cX3_isFrom 15 = .ok (.invokestatic 67, 3) := dk_184 0 67 (dk_at dksX3_isFrom_0 15 rfl rfl)
theorem dX3_isFrom_18 : decode cX3_isFrom 18 = .ok (.dload_n 2, 1) := dk_40 (dk_at dksX3_isFrom_0 18 rfl rfl)
theorem dX3_isFrom_19 : decode cX3_isFrom 19 = .ok (.dcmp .g, 1) := dk_152 (dk_at dksX3_isFrom_0 19 rfl rfl)
theorem dX3_isFrom_20 : decode cX3_isFrom 20 = .ok (.ifCond .gt 7, 3) := dk_157 0 7 (dk_at dksX3_isFrom_0 20 rfl rfl)
theorem dX3_isFrom_23 : decode cX3_isFrom 23 = .ok (.iconst 1, 1) := dk_4 (dk_at dksX3_isFrom_0 23 rfl rfl)
theorem dX3_isFrom_24 : decode cX3_isFrom 24 = .ok (.goto 4, 3) := dk_167 0 4 (dk_at dksX3_isFrom_1 0 rfl rfl)
theorem dX3_isFrom_27 : decode cX3_isFrom 27 = .ok (.iconst 0, 1) := dk_3 (dk_at dksX3_isFrom_1 3 rfl rfl)
theorem dX3_isFrom_28 : decode cX3_isFrom 28 = .ok (.ireturn, 1) := dk_172 (dk_at dksX3_isFrom_1 4 rfl rfl)
abbrev cX3_setTrifle : ByteArray := prog_14_method_23_code
def yX3_setTrifle : MethodName := ⟨RX3, "setTrifle", "(II)I"⟩
def dkwX3_setTrifle_2 : List UInt8 := [42, 180, 0, 13, 27, 5, 184, 0, 77, 28, 133, 80, 42, 29, 182, 0, 84, 172]
abbrev dktX3_setTrifle_2 : List UInt8 := dkwX3_setTrifle_2 ++ []
def dkwX3_setTrifle_1 : List UInt8 := [154, 0, 6, 16, 254, 172, 42, 27, 5, 184, 0, 77, 182, 0, 49, 62, 29, 28, 160, 0, 6, 16, 251, 172]
abbrev dktX3_setTrifle_1 : List UInt8 := dkwX3_setTrifle_1 ++ dktX3_setTrifle_2
def dkwX3_setTrifle_0 : List UInt8 := [42, 182, 0, 74, 42, 27, 182, 0, 89, 154, 0, 5, 2, 172, 28, 3, 17, 39, 15, 184, 0, 53]
abbrev dktX3_setTrifle_0 : List UInt8 := dkwX3_setTrifle_0 ++ dktX3_setTrifle_1
theorem dksX3_setTrifle_0 : cX3_setTrifle.data.toList.drop 0 = dktX3_setTrifle_0 := by decide +kernel
theorem dksX3_setTrifle_1 : cX3_setTrifle.data.toList.drop 22 = dktX3_setTrifle_1 := dk_seg dksX3_setTrifle_0 22 rfl rfl
theorem dksX3_setTrifle_2 : cX3_setTrifle.data.toList.drop 46 = dktX3_setTrifle_2 := dk_seg dksX3_setTrifle_1 24 rfl rfl
theorem dX3_setTrifle_0 : decode cX3_setTrifle 0 = .ok (.aload_n 0, 1) := dk_42 (dk_at dksX3_setTrifle_0 0 rfl rfl)
theorem dX3_setTrifle_1 : decode cX3_setTrifle 1 = .ok (.invokevirtual 74, 3) := dk_182 0 74 (dk_at dksX3_setTrifle_0 1 rfl rfl)
theorem dX3_setTrifle_4 : decode cX3_setTrifle 4 = .ok (.aload_n 0, 1) := dk_42 (dk_at dksX3_setTrifle_0 4 rfl rfl)
theorem dX3_setTrifle_5 : decode cX3_setTrifle 5 = .ok (.iload_n 1, 1) := dk_27 (dk_at dksX3_setTrifle_0 5 rfl rfl)
theorem dX3_setTrifle_6 : decode cX3_setTrifle 6 = .ok (.invokevirtual 89, 3) := dk_182 0 89 (dk_at dksX3_setTrifle_0 6 rfl rfl)
theorem dX3_setTrifle_9 : decode cX3_setTrifle 9 = .ok (.ifCond .ne 5, 3) := dk_154 0 5 (dk_at dksX3_setTrifle_0 9 rfl rfl)
theorem dX3_setTrifle_12 : decode cX3_setTrifle 12 = .ok (.iconst (-1), 1) := dk_2 (dk_at dksX3_setTrifle_0 12 rfl rfl)
theorem dX3_setTrifle_13 : decode cX3_setTrifle 13 = .ok (.ireturn, 1) := dk_172 (dk_at dksX3_setTrifle_0 13 rfl rfl)
theorem dX3_setTrifle_14 : decode cX3_setTrifle 14 = .ok (.iload_n 2, 1) := dk_28 (dk_at dksX3_setTrifle_0 14 rfl rfl)
theorem dX3_setTrifle_15 : decode cX3_setTrifle 15 = .ok (.iconst 0, 1) := dk_3 (dk_at dksX3_setTrifle_0 15 rfl rfl)
theorem dX3_setTrifle_16 : decode cX3_setTrifle 16 = .ok (.sipush 9999, 3) := dk_17 39 15 (dk_at dksX3_setTrifle_0 16 rfl rfl)
theorem dX3_setTrifle_19 : decode cX3_setTrifle 19 = .ok (.invokestatic 53, 3) := dk_184 0 53 (dk_at dksX3_setTrifle_0 19 rfl rfl)
theorem dX3_setTrifle_22 : decode cX3_setTrifle 22 = .ok (.ifCond .ne 6, 3) := dk_154 0 6 (dk_at dksX3_setTrifle_1 0 rfl rfl)
theorem dX3_setTrifle_25 : decode cX3_setTrifle 25 = .ok (.bipush (-2), 2) := dk_16 254 (dk_at dksX3_setTrifle_1 3 rfl rfl)
theorem dX3_setTrifle_27 : decode cX3_setTrifle 27 = .ok (.ireturn, 1) := dk_172 (dk_at dksX3_setTrifle_1 5 rfl rfl)
theorem dX3_setTrifle_28 : decode cX3_setTrifle 28 = .ok (.aload_n 0, 1) := dk_42 (dk_at dksX3_setTrifle_1 6 rfl rfl)
theorem dX3_setTrifle_29 : decode cX3_setTrifle 29 = .ok (.iload_n 1, 1) := dk_27 (dk_at dksX3_setTrifle_1 7 rfl rfl)
theorem dX3_setTrifle_30 : decode cX3_setTrifle 30 = .ok (.iconst 2, 1) := dk_5 (dk_at dksX3_setTrifle_1 8 rfl rfl)
theorem dX3_setTrifle_31 : decode cX3_setTrifle 31 = .ok (.invokestatic 77, 3) := dk_184 0 77 (dk_at dksX3_setTrifle_1 9 rfl rfl)
theorem dX3_setTrifle_34 : decode cX3_setTrifle 34 = .ok (.invokevirtual 49, 3) := dk_182 0 49 (dk_at dksX3_setTrifle_1 12 rfl rfl)
theorem dX3_setTrifle_37 : decode cX3_setTrifle 37 = .ok (.istore_n 3, 1) := dk_62 (dk_at dksX3_setTrifle_1 15 rfl rfl)
theorem dX3_setTrifle_38 : decode cX3_setTrifle 38 = .ok (.iload_n 3, 1) := dk_29 (dk_at dksX3_setTrifle_1 16 rfl rfl)
theorem dX3_setTrifle_39 : decode cX3_setTrifle 39 = .ok (.iload_n 2, 1) := dk_28 (dk_at dksX3_setTrifle_1 17 rfl rfl)
theorem dX3_setTrifle_40 : decode cX3_setTrifle 40 = .ok (.if_icmp .ne 6, 3) := dk_160 0 6 (dk_at dksX3_setTrifle_1 18 rfl rfl)
theorem dX3_setTrifle_43 : decode cX3_setTrifle 43 = .ok (.bipush (-5), 2) := dk_16 251 (dk_at dksX3_setTrifle_1 21 rfl rfl)
theorem dX3_setTrifle_45 : decode cX3_setTrifle 45 = .ok (.ireturn, 1) := dk_172 (dk_at dksX3_setTrifle_1 23 rfl rfl)
theorem dX3_setTrifle_46 : decode cX3_setTrifle 46 = .ok (.aload_n 0, 1) := dk_42 (dk_at dksX3_setTrifle_2 0 rfl rfl)
theorem dX3_setTrifle_47 : decode cX3_setTrifle 47 = .ok (.getfield 13, 3) := dk_180 0 13 (dk_at dksX3_setTrifle_2 1 rfl rfl)
theorem dX3_setTrifle_50 : decode cX3_setTrifle 50 = .ok (.iload_n 1, 1) := dk_27 (dk_at dksX3_setTrifle_2 4 rfl rfl)
theorem dX3_setTrifle_51 : decode cX3_setTrifle 51 = .ok (.iconst 2, 1) := dk_5 (dk_at dksX3_setTrifle_2 5 rfl rfl)
theorem dX3_setTrifle_52 : decode cX3_setTrifle 52 = .ok (.invokestatic 77, 3) := dk_184 0 77 (dk_at dksX3_setTrifle_2 6 rfl rfl)
theorem dX3_setTrifle_55 : decode cX3_setTrifle 55 = .ok (.iload_n 2, 1) := dk_28 (dk_at dksX3_setTrifle_2 9 rfl rfl)
theorem dX3_setTrifle_56 : decode cX3_setTrifle 56 = .ok (.i2l, 1) := dk_133 (dk_at dksX3_setTrifle_2 10 rfl rfl)
theorem dX3_setTrifle_57 : decode cX3_setTrifle 57 = .ok (.lastore, 1) := dk_80 (dk_at dksX3_setTrifle_2 11 rfl rfl)
theorem dX3_setTrifle_58 : decode cX3_setTrifle 58 = .ok (.aload_n 0, 1) := dk_42 (dk_at dksX3_setTrifle_2 12 rfl rfl)
theorem dX3_setTrifle_59 : decode cX3_setTrifle 59 = .ok (.iload_n 3, 1) := dk_29 (dk_at dksX3_setTrifle_2 13 rfl rfl)
theorem dX3_setTrifle_60 : decode cX3_setTrifle 60 = .ok (.invokevirtual 84, 3) := dk_182 0 84 (dk_at dksX3_setTrifle_2 14 rfl rfl)
theorem dX3_setTrifle_63 : decode cX3_setTrifle 63 = .ok (.ireturn, 1) := dk_172 (dk_at dksX3_setTrifle_2 17 rfl rfl)
abbrev cX3_block : ByteArray := prog_14_method_25_code
def yX3_block : MethodName := ⟨RX3, "block", "(IZ)I"⟩
def dkwX3_block_4 : List UInt8 := [167, 255, 211, 42, 29, 182, 0, 84, 172]
abbrev dktX3_block_4 : List UInt8 := dkwX3_block_4 ++ []
def dkwX3_block_3 : List UInt8 := [42, 21, 4, 7, 184, 0, 45, 182, 0, 49, 6, 162, 0, 7, 4, 167, 0, 4, 3, 96, 62, 132, 4, 1]
abbrev dktX3_block_3 : List UInt8 := dkwX3_block_3 ++ dktX3_block_4
def dkwX3_block_2 : List UInt8 := [3, 54, 4, 21, 4, 42, 6, 182, 0, 49, 162, 0, 41, 29, 42, 21, 4, 182, 0, 101, 27, 160, 0, 21]
abbrev dktX3_block_2 : List UInt8 := dkwX3_block_2 ++ dktX3_block_3
def dkwX3_block_1 : List UInt8 := [16, 251, 172, 42, 180, 0, 13, 27, 7, 184, 0, 77, 28, 153, 0, 7, 10, 167, 0, 4, 9, 80, 3, 62]
abbrev dktX3_block_1 : List UInt8 := dkwX3_block_1 ++ dktX3_block_2
def dkwX3_block_0 : List UInt8 := [42, 182, 0, 74, 42, 27, 182, 0, 89, 154, 0, 5, 2, 172, 42, 27, 182, 0, 98, 28, 160, 0, 6]
abbrev dktX3_block_0 : List UInt8 := dkwX3_block_0 ++ dktX3_block_1
theorem dksX3_block_0 : cX3_block.data.toList.drop 0 = dktX3_block_0 := by decide +kernel
theorem dksX3_block_1 : cX3_block.data.toList.drop 23 = dktX3_block_1 := dk_seg dksX3_block_0 23 rfl rfl
theorem dksX3_block_2 : cX3_block.data.toList.drop 47 = dktX3_block_2 := dk_seg dksX3_block_1 24 rfl rfl
theorem dksX3_block_3 : cX3_block.data.toList.drop 71 = dktX3_block_3 := dk_seg dksX3_block_2 24 rfl rfl
theorem dksX3_block_4 : cX3_block.data.toList.drop 95 = dktX3_block_4 := dk_seg dksX3_block_3 24 rfl rfl
theorem dX3_block_0 : decode cX3_block 0 = .ok (.aload_n 0, 1) := dk_42 (dk_at dksX3_block_0 0 rfl rfl)
theorem dX3_block_1 : decode cX3_block 1 = .ok (.invokevirtual 74, 3) := dk_182 0 74 (dk_at dksX3_block_0 1 rfl rfl)
theorem dX3_block_4 : decode cX3_block 4 = .ok (.aload_n 0, 1) := dk_42 (dk_at dksX3_block_0 4 rfl rfl)
theorem dX3_block_5 : decode cX3_block 5 = .ok (.iload_n 1, 1) := dk_27 (dk_at dksX3_block_0 5 rfl rfl)
theorem dX3_block_6 : decode cX3_block 6 = .ok (.invokevirtual 89, 3) := dk_182 0 89 (dk_at dksX3_block_0 6 rfl rfl)
theorem dX3_block_9 : decode cX3_block 9 = .ok (.ifCond .ne 5, 3) := dk_154 0 5 (dk_at dksX3_block_0 9 rfl rfl)
theorem dX3_block_12 : decode cX3_block 12 = .ok (.iconst (-1), 1) := dk_2 (dk_at dksX3_block_0 12 rfl rfl)
theorem dX3_block_13 : decode cX3_block 13 = .ok (.ireturn, 1) := dk_172 (dk_at dksX3_block_0 13 rfl rfl)
theorem dX3_block_14 : decode cX3_block 14 = .ok (.aload_n 0, 1) := dk_42 (dk_at dksX3_block_0 14 rfl rfl)
theorem dX3_block_15 : decode cX3_block 15 = .ok (.iload_n 1, 1) := dk_27 (dk_at dksX3_block_0 15 rfl rfl)
theorem dX3_block_16 : decode cX3_block 16 = .ok (.invokevirtual 98, 3) := dk_182 0 98 (dk_at dksX3_block_0 16 rfl rfl)
theorem dX3_block_19 : decode cX3_block 19 = .ok (.iload_n 2, 1) := dk_28 (dk_at dksX3_block_0 19 rfl rfl)
theorem dX3_block_20 : decode cX3_block 20 = .ok (.if_icmp .ne 6, 3) := dk_160 0 6 (dk_at dksX3_block_0 20 rfl rfl)
theorem dX3_block_23 : decode cX3_block 23 = .ok (.bipush (-5), 2) := dk_16 251 (dk_at dksX3_block_1 0 rfl rfl)
theorem dX3_block_25 : decode cX3_block 25 = .ok (.ireturn, 1) := dk_172 (dk_at dksX3_block_1 2 rfl rfl)
theorem dX3_block_26 : decode cX3_block 26 = .ok (.aload_n 0, 1) := dk_42 (dk_at dksX3_block_1 3 rfl rfl)
theorem dX3_block_27 : decode cX3_block 27 = .ok (.getfield 13, 3) := dk_180 0 13 (dk_at dksX3_block_1 4 rfl rfl)
theorem dX3_block_30 : decode cX3_block 30 = .ok (.iload_n 1, 1) := dk_27 (dk_at dksX3_block_1 7 rfl rfl)
theorem dX3_block_31 : decode cX3_block 31 = .ok (.iconst 4, 1) := dk_7 (dk_at dksX3_block_1 8 rfl rfl)
theorem dX3_block_32 : decode cX3_block 32 = .ok (.invokestatic 77, 3) := dk_184 0 77 (dk_at dksX3_block_1 9 rfl rfl)
theorem dX3_block_35 : decode cX3_block 35 = .ok (.iload_n 2, 1) := dk_28 (dk_at dksX3_block_1 12 rfl rfl)
theorem dX3_block_36 : decode cX3_block 36 = .ok (.ifCond .eq 7, 3) := dk_153 0 7 (dk_at dksX3_block_1 13 rfl rfl)
theorem dX3_block_39 : decode cX3_block 39 = .ok (.lconst 1, 1) := dk_10 (dk_at dksX3_block_1 16 rfl rfl)
theorem dX3_block_40 : decode cX3_block 40 = .ok (.goto 4, 3) := dk_167 0 4 (dk_at dksX3_block_1 17 rfl rfl)
theorem dX3_block_43 : decode cX3_block 43 = .ok (.lconst 0, 1) := dk_9 (dk_at dksX3_block_1 20 rfl rfl)
theorem dX3_block_44 : decode cX3_block 44 = .ok (.lastore, 1) := dk_80 (dk_at dksX3_block_1 21 rfl rfl)
theorem dX3_block_45 : decode cX3_block 45 = .ok (.iconst 0, 1) := dk_3 (dk_at dksX3_block_1 22 rfl rfl)
theorem dX3_block_46 : decode cX3_block 46 = .ok (.istore_n 3, 1) := dk_62 (dk_at dksX3_block_1 23 rfl rfl)
theorem dX3_block_47 : decode cX3_block 47 = .ok (.iconst 0, 1) := dk_3 (dk_at dksX3_block_2 0 rfl rfl)
theorem dX3_block_48 : decode cX3_block 48 = .ok (.istore 4, 2) := dk_54 4 (dk_at dksX3_block_2 1 rfl rfl)
theorem dX3_block_50 : decode cX3_block 50 = .ok (.iload 4, 2) := dk_21 4 (dk_at dksX3_block_2 3 rfl rfl)
theorem dX3_block_52 : decode cX3_block 52 = .ok (.aload_n 0, 1) := dk_42 (dk_at dksX3_block_2 5 rfl rfl)
theorem dX3_block_53 : decode cX3_block 53 = .ok (.iconst 3, 1) := dk_6 (dk_at dksX3_block_2 6 rfl rfl)
theorem dX3_block_54 : decode cX3_block 54 = .ok (.invokevirtual 49, 3) := dk_182 0 49 (dk_at dksX3_block_2 7 rfl rfl)
theorem dX3_block_57 : decode cX3_block 57 = .ok (.if_icmp .ge 41, 3) := dk_162 0 41 (dk_at dksX3_block_2 10 rfl rfl)
theorem dX3_block_60 : decode cX3_block 60 = .ok (.iload_n 3, 1) := dk_29 (dk_at dksX3_block_2 13 rfl rfl)
theorem dX3_block_61 : decode cX3_block 61 = .ok (.aload_n 0, 1) := dk_42 (dk_at dksX3_block_2 14 rfl rfl)
theorem dX3_block_62 : decode cX3_block 62 = .ok (.iload 4, 2) := dk_21 4 (dk_at dksX3_block_2 15 rfl rfl)
theorem dX3_block_64 : decode cX3_block 64 = .ok (.invokevirtual 101, 3) := dk_182 0 101 (dk_at dksX3_block_2 17 rfl rfl)
theorem dX3_block_67 : decode cX3_block 67 = .ok (.iload_n 1, 1) := dk_27 (dk_at dksX3_block_2 20 rfl rfl)
theorem dX3_block_68 : decode cX3_block 68 = .ok (.if_icmp .ne 21, 3) := dk_160 0 21 (dk_at dksX3_block_2 21 rfl rfl)
theorem dX3_block_71 : decode cX3_block 71 = .ok (.aload_n 0, 1) := dk_42 (dk_at dksX3_block_3 0 rfl rfl)
theorem dX3_block_72 : decode cX3_block 72 = .ok (.iload 4, 2) := dk_21 4 (dk_at dksX3_block_3 1 rfl rfl)
theorem dX3_block_74 : decode cX3_block 74 = .ok (.iconst 4, 1) := dk_7 (dk_at dksX3_block_3 3 rfl rfl)
theorem dX3_block_75 : decode cX3_block 75 = .ok (.invokestatic 45, 3) := dk_184 0 45 (dk_at dksX3_block_3 4 rfl rfl)
theorem dX3_block_78 : decode cX3_block 78 = .ok (.invokevirtual 49, 3) := dk_182 0 49 (dk_at dksX3_block_3 7 rfl rfl)
theorem dX3_block_81 : decode cX3_block 81 = .ok (.iconst 3, 1) := dk_6 (dk_at dksX3_block_3 10 rfl rfl)
theorem dX3_block_82 : decode cX3_block 82 = .ok (.if_icmp .ge 7, 3) := dk_162 0 7 (dk_at dksX3_block_3 11 rfl rfl)
theorem dX3_block_85 : decode cX3_block 85 = .ok (.iconst 1, 1) := dk_4 (dk_at dksX3_block_3 14 rfl rfl)
theorem dX3_block_86 : decode cX3_block 86 = .ok (.goto 4, 3) := dk_167 0 4 (dk_at dksX3_block_3 15 rfl rfl)
theorem dX3_block_89 : decode cX3_block 89 = .ok (.iconst 0, 1) := dk_3 (dk_at dksX3_block_3 18 rfl rfl)
theorem dX3_block_90 : decode cX3_block 90 = .ok (.iadd, 1) := dk_96 (dk_at dksX3_block_3 19 rfl rfl)
theorem dX3_block_91 : decode cX3_block 91 = .ok (.istore_n 3, 1) := dk_62 (dk_at dksX3_block_3 20 rfl rfl)
theorem dX3_block_92 : decode cX3_block 92 = .ok (.iinc 4 1, 3) := dk_132 4 1 (dk_at dksX3_block_3 21 rfl rfl)
theorem dX3_block_95 : decode cX3_block 95 = .ok (.goto (-45), 3) := dk_167 255 211 (dk_at dksX3_block_4 0 rfl rfl)
theorem dX3_block_98 : decode cX3_block 98 = .ok (.aload_n 0, 1) := dk_42 (dk_at dksX3_block_4 3 rfl rfl)
theorem dX3_block_99 : decode cX3_block 99 = .ok (.iload_n 3, 1) := dk_29 (dk_at dksX3_block_4 4 rfl rfl)
theorem dX3_block_100 : decode cX3_block 100 = .ok (.invokevirtual 84, 3) := dk_182 0 84 (dk_at dksX3_block_4 5 rfl rfl)
theorem dX3_block_103 : decode cX3_block 103 = .ok (.ireturn, 1) := dk_172 (dk_at dksX3_block_4 8 rfl rfl)
abbrev cX3_isBlocked : ByteArray := prog_14_method_24_code
def yX3_isBlocked : MethodName := ⟨RX3, "isBlocked", "(I)Z"⟩
def dkwX3_isBlocked_0 : List UInt8 := [42, 27, 7, 184, 0, 77, 182, 0, 49, 4, 160, 0, 7, 4, 167, 0, 4, 3, 172]
abbrev dktX3_isBlocked_0 : List UInt8 := dkwX3_isBlocked_0 ++ []
theorem dksX3_isBlocked_0 : cX3_isBlocked.data.toList.drop 0 = dktX3_isBlocked_0 := by decide +kernel
theorem dX3_isBlocked_0 : decode cX3_isBlocked 0 = .ok (.aload_n 0, 1) := dk_42 (dk_at dksX3_isBlocked_0 0 rfl rfl)
theorem dX3_isBlocked_1 : decode cX3_isBlocked 1 = .ok (.iload_n 1, 1) := dk_27 (dk_at dksX3_isBlocked_0 1 rfl rfl)
theorem dX3_isBlocked_2 : decode cX3_isBlocked 2 = .ok (.iconst 4, 1) := dk_7 (dk_at dksX3_isBlocked_0 2 rfl rfl)
theorem dX3_isBlocked_3 : decode cX3_isBlocked 3 = .ok (.invokestatic 77, 3) := dk_184 0 77 (dk_at dksX3_isBlocked_0 3 rfl rfl)
theorem dX3_isBlocked_6 : decode cX3_isBlocked 6 = .ok (.invokevirtual 49, 3) := dk_182 0 49 (dk_at dksX3_isBlocked_0 6 rfl rfl)
theorem dX3_isBlocked_9 : decode cX3_isBlocked 9 = .ok (.iconst 1, 1) := dk_4 (dk_at dksX3_isBlocked_0 9 rfl rfl)
theorem dX3_isBlocked_10 : decode cX3_isBlocked 10 = .ok (.if_icmp .ne 7, 3) := dk_160 0 7 (dk_at dksX3_isBlocked_0 10 rfl rfl)
theorem dX3_isBlocked_13 : decode cX3_isBlocked 13 = .ok (.iconst 1, 1) := dk_4 (dk_at dksX3_isBlocked_0 13 rfl rfl)
theorem dX3_isBlocked_14 : decode cX3_isBlocked 14 = .ok (.goto 4, 3) := dk_167 0 4 (dk_at dksX3_isBlocked_0 14 rfl rfl)
theorem dX3_isBlocked_17 : decode cX3_isBlocked 17 = .ok (.iconst 0, 1) := dk_3 (dk_at dksX3_isBlocked_0 17 rfl rfl)
theorem dX3_isBlocked_18 : decode cX3_isBlocked 18 = .ok (.ireturn, 1) := dk_172 (dk_at dksX3_isBlocked_0 18 rfl rfl)
abbrev cX3_payee : ByteArray := prog_14_method_15_code
def yX3_payee : MethodName := ⟨RX3, "payee", "(I)I"⟩
def dkwX3_payee_0 : List UInt8 := [42, 42, 27, 4, 184, 0, 45, 182, 0, 49, 182, 0, 64, 172]
abbrev dktX3_payee_0 : List UInt8 := dkwX3_payee_0 ++ []
theorem dksX3_payee_0 : cX3_payee.data.toList.drop 0 = dktX3_payee_0 := by decide +kernel
theorem dX3_payee_0 : decode cX3_payee 0 = .ok (.aload_n 0, 1) := dk_42 (dk_at dksX3_payee_0 0 rfl rfl)
theorem dX3_payee_1 : decode cX3_payee 1 = .ok (.aload_n 0, 1) := dk_42 (dk_at dksX3_payee_0 1 rfl rfl)
theorem dX3_payee_2 : decode cX3_payee 2 = .ok (.iload_n 1, 1) := dk_27 (dk_at dksX3_payee_0 2 rfl rfl)
theorem dX3_payee_3 : decode cX3_payee 3 = .ok (.iconst 1, 1) := dk_4 (dk_at dksX3_payee_0 3 rfl rfl)
theorem dX3_payee_4 : decode cX3_payee 4 = .ok (.invokestatic 45, 3) := dk_184 0 45 (dk_at dksX3_payee_0 4 rfl rfl)
theorem dX3_payee_7 : decode cX3_payee 7 = .ok (.invokevirtual 49, 3) := dk_182 0 49 (dk_at dksX3_payee_0 7 rfl rfl)
theorem dX3_payee_10 : decode cX3_payee 10 = .ok (.invokevirtual 64, 3) := dk_182 0 64 (dk_at dksX3_payee_0 10 rfl rfl)
theorem dX3_payee_13 : decode cX3_payee 13 = .ok (.ireturn, 1) := dk_172 (dk_at dksX3_payee_0 13 rfl rfl)
abbrev cX3_ofInvoice : ByteArray := prog_14_method_8_code
def yX3_ofInvoice : MethodName := ⟨RX3, "ofInvoice", "(II)I"⟩
def dkwX3_ofInvoice_0 : List UInt8 := [17, 2, 163, 16, 29, 26, 104, 96, 27, 96, 172]
abbrev dktX3_ofInvoice_0 : List UInt8 := dkwX3_ofInvoice_0 ++ []
theorem dksX3_ofInvoice_0 : cX3_ofInvoice.data.toList.drop 0 = dktX3_ofInvoice_0 := by decide +kernel
theorem dX3_ofInvoice_0 : decode cX3_ofInvoice 0 = .ok (.sipush 675, 3) := dk_17 2 163 (dk_at dksX3_ofInvoice_0 0 rfl rfl)
theorem dX3_ofInvoice_3 : decode cX3_ofInvoice 3 = .ok (.bipush 29, 2) := dk_16 29 (dk_at dksX3_ofInvoice_0 3 rfl rfl)
theorem dX3_ofInvoice_5 : decode cX3_ofInvoice 5 = .ok (.iload_n 0, 1) := dk_26 (dk_at dksX3_ofInvoice_0 5 rfl rfl)
theorem dX3_ofInvoice_6 : decode cX3_ofInvoice 6 = .ok (.imul, 1) := dk_104 (dk_at dksX3_ofInvoice_0 6 rfl rfl)
theorem dX3_ofInvoice_7 : decode cX3_ofInvoice 7 = .ok (.iadd, 1) := dk_96 (dk_at dksX3_ofInvoice_0 7 rfl rfl)
theorem dX3_ofInvoice_8 : decode cX3_ofInvoice 8 = .ok (.iload_n 1, 1) := dk_27 (dk_at dksX3_ofInvoice_0 8 rfl rfl)
theorem dX3_ofInvoice_9 : decode cX3_ofInvoice 9 = .ok (.iadd, 1) := dk_96 (dk_at dksX3_ofInvoice_0 9 rfl rfl)
theorem dX3_ofInvoice_10 : decode cX3_ofInvoice 10 = .ok (.ireturn, 1) := dk_172 (dk_at dksX3_ofInvoice_0 10 rfl rfl)
abbrev cX3_whose : ByteArray := prog_14_method_14_code
def yX3_whose : MethodName := ⟨RX3, "whose", "(I)I"⟩
def dkwX3_whose_0 : List UInt8 := [42, 27, 3, 184, 0, 61, 182, 0, 49, 172]
abbrev dktX3_whose_0 : List UInt8 := dkwX3_whose_0 ++ []
theorem dksX3_whose_0 : cX3_whose.data.toList.drop 0 = dktX3_whose_0 := by decide +kernel
theorem dX3_whose_0 : decode cX3_whose 0 = .ok (.aload_n 0, 1) := dk_42 (dk_at dksX3_whose_0 0 rfl rfl)
theorem dX3_whose_1 : decode cX3_whose 1 = .ok (.iload_n 1, 1) := dk_27 (dk_at dksX3_whose_0 1 rfl rfl)
theorem dX3_whose_2 : decode cX3_whose 2 = .ok (.iconst 0, 1) := dk_3 (dk_at dksX3_whose_0 2 rfl rfl)
theorem dX3_whose_3 : decode cX3_whose 3 = .ok (.invokestatic 61, 3) := dk_184 0 61 (dk_at dksX3_whose_0 3 rfl rfl)
theorem dX3_whose_6 : decode cX3_whose 6 = .ok (.invokevirtual 49, 3) := dk_182 0 49 (dk_at dksX3_whose_0 6 rfl rfl)
theorem dX3_whose_9 : decode cX3_whose 9 = .ok (.ireturn, 1) := dk_172 (dk_at dksX3_whose_0 9 rfl rfl)
abbrev cX3_ofOrder : ByteArray := prog_14_method_6_code
def yX3_ofOrder : MethodName := ⟨RX3, "ofOrder", "(II)I"⟩
def dkwX3_ofOrder_0 : List UInt8 := [16, 51, 7, 26, 104, 96, 27, 96, 172]
abbrev dktX3_ofOrder_0 : List UInt8 := dkwX3_ofOrder_0 ++ []
theorem dksX3_ofOrder_0 : cX3_ofOrder.data.toList.drop 0 = dktX3_ofOrder_0 := by decide +kernel
theorem dX3_ofOrder_0 : decode cX3_ofOrder 0 = .ok (.bipush 51, 2) := dk_16 51 (dk_at dksX3_ofOrder_0 0 rfl rfl)
theorem dX3_ofOrder_2 : decode cX3_ofOrder 2 = .ok (.iconst 4, 1) := dk_7 (dk_at dksX3_ofOrder_0 2 rfl rfl)
theorem dX3_ofOrder_3 : decode cX3_ofOrder 3 = .ok (.iload_n 0, 1) := dk_26 (dk_at dksX3_ofOrder_0 3 rfl rfl)
theorem dX3_ofOrder_4 : decode cX3_ofOrder 4 = .ok (.imul, 1) := dk_104 (dk_at dksX3_ofOrder_0 4 rfl rfl)
theorem dX3_ofOrder_5 : decode cX3_ofOrder 5 = .ok (.iadd, 1) := dk_96 (dk_at dksX3_ofOrder_0 5 rfl rfl)
theorem dX3_ofOrder_6 : decode cX3_ofOrder 6 = .ok (.iload_n 1, 1) := dk_27 (dk_at dksX3_ofOrder_0 6 rfl rfl)
theorem dX3_ofOrder_7 : decode cX3_ofOrder 7 = .ok (.iadd, 1) := dk_96 (dk_at dksX3_ofOrder_0 7 rfl rfl)
theorem dX3_ofOrder_8 : decode cX3_ofOrder 8 = .ok (.ireturn, 1) := dk_172 (dk_at dksX3_ofOrder_0 8 rfl rfl)
abbrev cX3_setDiscount : ByteArray := prog_14_method_26_code
def yX3_setDiscount : MethodName := ⟨RX3, "setDiscount", "(J)I"⟩
def dkwX3_setDiscount_1 : List UInt8 := [148, 154, 0, 6, 16, 251, 172, 42, 180, 0, 13, 7, 31, 80, 42, 4, 182, 0, 84, 172]
abbrev dktX3_setDiscount_1 : List UInt8 := dkwX3_setDiscount_1 ++ []
def dkwX3_setDiscount_0 : List UInt8 := [42, 182, 0, 74, 31, 20, 0, 104, 184, 0, 94, 154, 0, 6, 16, 254, 172, 42, 180, 0, 13, 7, 47, 31]
abbrev dktX3_setDiscount_0 : List UInt8 := dkwX3_setDiscount_0 ++ dktX3_setDiscount_1
theorem dksX3_setDiscount_0 : cX3_setDiscount.data.toList.drop 0 = dktX3_setDiscount_0 := by decide +kernel
theorem dksX3_setDiscount_1 : cX3_setDiscount.data.toList.drop 24 = dktX3_setDiscount_1 := dk_seg dksX3_setDiscount_0 24 rfl rfl
theorem dX3_setDiscount_0 : decode cX3_setDiscount 0 = .ok (.aload_n 0, 1) := dk_42 (dk_at dksX3_setDiscount_0 0 rfl rfl)
theorem dX3_setDiscount_1 : decode cX3_setDiscount 1 = .ok (.invokevirtual 74, 3) := dk_182 0 74 (dk_at dksX3_setDiscount_0 1 rfl rfl)
theorem dX3_setDiscount_4 : decode cX3_setDiscount 4 = .ok (.lload_n 1, 1) := dk_31 (dk_at dksX3_setDiscount_0 4 rfl rfl)
theorem dX3_setDiscount_5 : decode cX3_setDiscount 5 = .ok (.ldc2_w 104, 3) := dk_20 0 104 (dk_at dksX3_setDiscount_0 5 rfl rfl)
theorem dX3_setDiscount_8 : decode cX3_setDiscount 8 = .ok (.invokestatic 94, 3) := dk_184 0 94 (dk_at dksX3_setDiscount_0 8 rfl rfl)
theorem dX3_setDiscount_11 : decode cX3_setDiscount 11 = .ok (.ifCond .ne 6, 3) := dk_154 0 6 (dk_at dksX3_setDiscount_0 11 rfl rfl)
theorem dX3_setDiscount_14 : decode cX3_setDiscount 14 = .ok (.bipush (-2), 2) := dk_16 254 (dk_at dksX3_setDiscount_0 14 rfl rfl)
theorem dX3_setDiscount_16 : decode cX3_setDiscount 16 = .ok (.ireturn, 1) := dk_172 (dk_at dksX3_setDiscount_0 16 rfl rfl)
theorem dX3_setDiscount_17 : decode cX3_setDiscount 17 = .ok (.aload_n 0, 1) := dk_42 (dk_at dksX3_setDiscount_0 17 rfl rfl)
theorem dX3_setDiscount_18 : decode cX3_setDiscount 18 = .ok (.getfield 13, 3) := dk_180 0 13 (dk_at dksX3_setDiscount_0 18 rfl rfl)
theorem dX3_setDiscount_21 : decode cX3_setDiscount 21 = .ok (.iconst 4, 1) := dk_7 (dk_at dksX3_setDiscount_0 21 rfl rfl)
theorem dX3_setDiscount_22 : decode cX3_setDiscount 22 = .ok (.laload, 1) := dk_47 (dk_at dksX3_setDiscount_0 22 rfl rfl)
theorem dX3_setDiscount_23 : decode cX3_setDiscount 23 = .ok (.lload_n 1, 1) := dk_31 (dk_at dksX3_setDiscount_0 23 rfl rfl)
theorem dX3_setDiscount_24 : decode cX3_setDiscount 24 = .ok (.lcmp, 1) := dk_148 (dk_at dksX3_setDiscount_1 0 rfl rfl)
theorem dX3_setDiscount_25 : decode cX3_setDiscount 25 = .ok (.ifCond .ne 6, 3) := dk_154 0 6 (dk_at dksX3_setDiscount_1 1 rfl rfl)
theorem dX3_setDiscount_28 : decode cX3_setDiscount 28 = .ok (.bipush (-5), 2) := dk_16 251 (dk_at dksX3_setDiscount_1 4 rfl rfl)
theorem dX3_setDiscount_30 : decode cX3_setDiscount 30 = .ok (.ireturn, 1) := dk_172 (dk_at dksX3_setDiscount_1 6 rfl rfl)
theorem dX3_setDiscount_31 : decode cX3_setDiscount 31 = .ok (.aload_n 0, 1) := dk_42 (dk_at dksX3_setDiscount_1 7 rfl rfl)
theorem dX3_setDiscount_32 : decode cX3_setDiscount 32 = .ok (.getfield 13, 3) := dk_180 0 13 (dk_at dksX3_setDiscount_1 8 rfl rfl)
theorem dX3_setDiscount_35 : decode cX3_setDiscount 35 = .ok (.iconst 4, 1) := dk_7 (dk_at dksX3_setDiscount_1 11 rfl rfl)
theorem dX3_setDiscount_36 : decode cX3_setDiscount 36 = .ok (.lload_n 1, 1) := dk_31 (dk_at dksX3_setDiscount_1 12 rfl rfl)
theorem dX3_setDiscount_37 : decode cX3_setDiscount 37 = .ok (.lastore, 1) := dk_80 (dk_at dksX3_setDiscount_1 13 rfl rfl)
theorem dX3_setDiscount_38 : decode cX3_setDiscount 38 = .ok (.aload_n 0, 1) := dk_42 (dk_at dksX3_setDiscount_1 14 rfl rfl)
theorem dX3_setDiscount_39 : decode cX3_setDiscount 39 = .ok (.iconst 1, 1) := dk_4 (dk_at dksX3_setDiscount_1 15 rfl rfl)
theorem dX3_setDiscount_40 : decode cX3_setDiscount 40 = .ok (.invokevirtual 84, 3) := dk_182 0 84 (dk_at dksX3_setDiscount_1 16 rfl rfl)
theorem dX3_setDiscount_43 : decode cX3_setDiscount 43 = .ok (.ireturn, 1) := dk_172 (dk_at dksX3_setDiscount_1 19 rfl rfl)
abbrev cX3_setTerms : ByteArray := prog_14_method_27_code
def yX3_setTerms : MethodName := ⟨RX3, "setTerms", "(II)I"⟩
def dkwX3_setTerms_3 : List UInt8 := [182, 0, 84, 172]
abbrev dktX3_setTerms_3 : List UInt8 := dkwX3_setTerms_3 ++ []
def dkwX3_setTerms_2 : List UInt8 := [16, 251, 172, 42, 180, 0, 13, 8, 27, 133, 80, 42, 180, 0, 13, 16, 6, 28, 133, 80, 42, 29]
abbrev dktX3_setTerms_2 : List UInt8 := dkwX3_setTerms_2 ++ dktX3_setTerms_3
def dkwX3_setTerms_1 : List UInt8 := [16, 254, 172, 42, 16, 6, 182, 0, 49, 62, 42, 8, 182, 0, 49, 27, 160, 0, 11, 29, 28, 160, 0, 6]
abbrev dktX3_setTerms_1 : List UInt8 := dkwX3_setTerms_1 ++ dktX3_setTerms_2
def dkwX3_setTerms_0 : List UInt8 := [42, 182, 0, 74, 27, 3, 16, 60, 184, 0, 53, 153, 0, 13, 28, 4, 16, 90, 184, 0, 53, 154, 0, 6]
abbrev dktX3_setTerms_0 : List UInt8 := dkwX3_setTerms_0 ++ dktX3_setTerms_1
theorem dksX3_setTerms_0 : cX3_setTerms.data.toList.drop 0 = dktX3_setTerms_0 := by decide +kernel
theorem dksX3_setTerms_1 : cX3_setTerms.data.toList.drop 24 = dktX3_setTerms_1 := dk_seg dksX3_setTerms_0 24 rfl rfl
theorem dksX3_setTerms_2 : cX3_setTerms.data.toList.drop 48 = dktX3_setTerms_2 := dk_seg dksX3_setTerms_1 24 rfl rfl
theorem dksX3_setTerms_3 : cX3_setTerms.data.toList.drop 70 = dktX3_setTerms_3 := dk_seg dksX3_setTerms_2 22 rfl rfl
theorem dX3_setTerms_0 : decode cX3_setTerms 0 = .ok (.aload_n 0, 1) := dk_42 (dk_at dksX3_setTerms_0 0 rfl rfl)
theorem dX3_setTerms_1 : decode cX3_setTerms 1 = .ok (.invokevirtual 74, 3) := dk_182 0 74 (dk_at dksX3_setTerms_0 1 rfl rfl)
theorem dX3_setTerms_4 : decode cX3_setTerms 4 = .ok (.iload_n 1, 1) := dk_27 (dk_at dksX3_setTerms_0 4 rfl rfl)
theorem dX3_setTerms_5 : decode cX3_setTerms 5 = .ok (.iconst 0, 1) := dk_3 (dk_at dksX3_setTerms_0 5 rfl rfl)
theorem dX3_setTerms_6 : decode cX3_setTerms 6 = .ok (.bipush 60, 2) := dk_16 60 (dk_at dksX3_setTerms_0 6 rfl rfl)
theorem dX3_setTerms_8 : decode cX3_setTerms 8 = .ok (.invokestatic 53, 3) := dk_184 0 53 (dk_at dksX3_setTerms_0 8 rfl rfl)
theorem dX3_setTerms_11 : decode cX3_setTerms 11 = .ok (.ifCond .eq 13, 3) := dk_153 0 13 (dk_at dksX3_setTerms_0 11 rfl rfl)
theorem dX3_setTerms_14 : decode cX3_setTerms 14 = .ok (.iload_n 2, 1) := dk_28 (dk_at dksX3_setTerms_0 14 rfl rfl)
theorem dX3_setTerms_15 : decode cX3_setTerms 15 = .ok (.iconst 1, 1) := dk_4 (dk_at dksX3_setTerms_0 15 rfl rfl)
theorem dX3_setTerms_16 : decode cX3_setTerms 16 = .ok (.bipush 90, 2) := dk_16 90 (dk_at dksX3_setTerms_0 16 rfl rfl)
theorem dX3_setTerms_18 : decode cX3_setTerms 18 = .ok (.invokestatic 53, 3) := dk_184 0 53 (dk_at dksX3_setTerms_0 18 rfl rfl)
theorem dX3_setTerms_21 : decode cX3_setTerms 21 = .ok (.ifCond .ne 6, 3) := dk_154 0 6 (dk_at dksX3_setTerms_0 21 rfl rfl)
theorem dX3_setTerms_24 : decode cX3_setTerms 24 = .ok (.bipush (-2), 2) := dk_16 254 (dk_at dksX3_setTerms_1 0 rfl rfl)
theorem dX3_setTerms_26 : decode cX3_setTerms 26 = .ok (.ireturn, 1) := dk_172 (dk_at dksX3_setTerms_1 2 rfl rfl)
theorem dX3_setTerms_27 : decode cX3_setTerms 27 = .ok (.aload_n 0, 1) := dk_42 (dk_at dksX3_setTerms_1 3 rfl rfl)
theorem dX3_setTerms_28 : decode cX3_setTerms 28 = .ok (.bipush 6, 2) := dk_16 6 (dk_at dksX3_setTerms_1 4 rfl rfl)
theorem dX3_setTerms_30 : decode cX3_setTerms 30 = .ok (.invokevirtual 49, 3) := dk_182 0 49 (dk_at dksX3_setTerms_1 6 rfl rfl)
theorem dX3_setTerms_33 : decode cX3_setTerms 33 = .ok (.istore_n 3, 1) := dk_62 (dk_at dksX3_setTerms_1 9 rfl rfl)
theorem dX3_setTerms_34 : decode cX3_setTerms 34 = .ok (.aload_n 0, 1) := dk_42 (dk_at dksX3_setTerms_1 10 rfl rfl)
theorem dX3_setTerms_35 : decode cX3_setTerms 35 = .ok (.iconst 5, 1) := dk_8 (dk_at dksX3_setTerms_1 11 rfl rfl)
theorem dX3_setTerms_36 : decode cX3_setTerms 36 = .ok (.invokevirtual 49, 3) := dk_182 0 49 (dk_at dksX3_setTerms_1 12 rfl rfl)
theorem dX3_setTerms_39 : decode cX3_setTerms 39 = .ok (.iload_n 1, 1) := dk_27 (dk_at dksX3_setTerms_1 15 rfl rfl)
theorem dX3_setTerms_40 : decode cX3_setTerms 40 = .ok (.if_icmp .ne 11, 3) := dk_160 0 11 (dk_at dksX3_setTerms_1 16 rfl rfl)
theorem dX3_setTerms_43 : decode cX3_setTerms 43 = .ok (.iload_n 3, 1) := dk_29 (dk_at dksX3_setTerms_1 19 rfl rfl)
theorem dX3_setTerms_44 : decode cX3_setTerms 44 = .ok (.iload_n 2, 1) := dk_28 (dk_at dksX3_setTerms_1 20 rfl rfl)
theorem dX3_setTerms_45 : decode cX3_setTerms 45 = .ok (.if_icmp .ne 6, 3) := dk_160 0 6 (dk_at dksX3_setTerms_1 21 rfl rfl)
theorem dX3_setTerms_48 : decode cX3_setTerms 48 = .ok (.bipush (-5), 2) := dk_16 251 (dk_at dksX3_setTerms_2 0 rfl rfl)
theorem dX3_setTerms_50 : decode cX3_setTerms 50 = .ok (.ireturn, 1) := dk_172 (dk_at dksX3_setTerms_2 2 rfl rfl)
theorem dX3_setTerms_51 : decode cX3_setTerms 51 = .ok (.aload_n 0, 1) := dk_42 (dk_at dksX3_setTerms_2 3 rfl rfl)
theorem dX3_setTerms_52 : decode cX3_setTerms 52 = .ok (.getfield 13, 3) := dk_180 0 13 (dk_at dksX3_setTerms_2 4 rfl rfl)
theorem dX3_setTerms_55 : decode cX3_setTerms 55 = .ok (.iconst 5, 1) := dk_8 (dk_at dksX3_setTerms_2 7 rfl rfl)
theorem dX3_setTerms_56 : decode cX3_setTerms 56 = .ok (.iload_n 1, 1) := dk_27 (dk_at dksX3_setTerms_2 8 rfl rfl)
theorem dX3_setTerms_57 : decode cX3_setTerms 57 = .ok (.i2l, 1) := dk_133 (dk_at dksX3_setTerms_2 9 rfl rfl)
theorem dX3_setTerms_58 : decode cX3_setTerms 58 = .ok (.lastore, 1) := dk_80 (dk_at dksX3_setTerms_2 10 rfl rfl)
theorem dX3_setTerms_59 : decode cX3_setTerms 59 = .ok (.aload_n 0, 1) := dk_42 (dk_at dksX3_setTerms_2 11 rfl rfl)
theorem dX3_setTerms_60 : decode cX3_setTerms 60 = .ok (.getfield 13, 3) := dk_180 0 13 (dk_at dksX3_setTerms_2 12 rfl rfl)
theorem dX3_setTerms_63 : decode cX3_setTerms 63 = .ok (.bipush 6, 2) := dk_16 6 (dk_at dksX3_setTerms_2 15 rfl rfl)
theorem dX3_setTerms_65 : decode cX3_setTerms 65 = .ok (.iload_n 2, 1) := dk_28 (dk_at dksX3_setTerms_2 17 rfl rfl)
theorem dX3_setTerms_66 : decode cX3_setTerms 66 = .ok (.i2l, 1) := dk_133 (dk_at dksX3_setTerms_2 18 rfl rfl)
theorem dX3_setTerms_67 : decode cX3_setTerms 67 = .ok (.lastore, 1) := dk_80 (dk_at dksX3_setTerms_2 19 rfl rfl)
theorem dX3_setTerms_68 : decode cX3_setTerms 68 = .ok (.aload_n 0, 1) := dk_42 (dk_at dksX3_setTerms_2 20 rfl rfl)
theorem dX3_setTerms_69 : decode cX3_setTerms 69 = .ok (.iload_n 3, 1) := dk_29 (dk_at dksX3_setTerms_2 21 rfl rfl)
theorem dX3_setTerms_70 : decode cX3_setTerms 70 = .ok (.invokevirtual 84, 3) := dk_182 0 84 (dk_at dksX3_setTerms_3 0 rfl rfl)
theorem dX3_setTerms_73 : decode cX3_setTerms 73 = .ok (.ireturn, 1) := dk_172 (dk_at dksX3_setTerms_3 3 rfl rfl)
abbrev cX3_addOrder : ByteArray := prog_14_method_28_code
def yX3_addOrder : MethodName := ⟨RX3, "addOrder", "(I)I"⟩
def dkwX3_addOrder_3 : List UInt8 := [28, 3, 184, 0, 61, 27, 133, 80, 42, 180, 0, 13, 5, 92, 47, 10, 97, 80, 42, 28, 182, 0, 84, 172]
abbrev dktX3_addOrder_3 : List UInt8 := dkwX3_addOrder_3 ++ []
def dkwX3_addOrder_2 : List UInt8 := [162, 0, 20, 42, 180, 0, 13, 28, 29, 184, 0, 61, 9, 80, 132, 3, 1, 167, 255, 237, 42, 180, 0, 13]
abbrev dktX3_addOrder_2 : List UInt8 := dkwX3_addOrder_2 ++ dktX3_addOrder_3
def dkwX3_addOrder_1 : List UInt8 := [172, 42, 5, 182, 0, 49, 16, 12, 160, 0, 6, 16, 253, 172, 42, 5, 182, 0, 49, 61, 3, 62, 29, 7]
abbrev dktX3_addOrder_1 : List UInt8 := dkwX3_addOrder_1 ++ dktX3_addOrder_2
def dkwX3_addOrder_0 : List UInt8 := [42, 182, 0, 74, 42, 27, 182, 0, 89, 154, 0, 5, 2, 172, 42, 27, 182, 0, 98, 153, 0, 6, 16, 252]
abbrev dktX3_addOrder_0 : List UInt8 := dkwX3_addOrder_0 ++ dktX3_addOrder_1
theorem dksX3_addOrder_0 : cX3_addOrder.data.toList.drop 0 = dktX3_addOrder_0 := by decide +kernel
theorem dksX3_addOrder_1 : cX3_addOrder.data.toList.drop 24 = dktX3_addOrder_1 := dk_seg dksX3_addOrder_0 24 rfl rfl
theorem dksX3_addOrder_2 : cX3_addOrder.data.toList.drop 48 = dktX3_addOrder_2 := dk_seg dksX3_addOrder_1 24 rfl rfl
theorem dksX3_addOrder_3 : cX3_addOrder.data.toList.drop 72 = dktX3_addOrder_3 := dk_seg dksX3_addOrder_2 24 rfl rfl
theorem dX3_addOrder_0 : decode cX3_addOrder 0 = .ok (.aload_n 0, 1) := dk_42 (dk_at dksX3_addOrder_0 0 rfl rfl)
theorem dX3_addOrder_1 : decode cX3_addOrder 1 = .ok (.invokevirtual 74, 3) := dk_182 0 74 (dk_at dksX3_addOrder_0 1 rfl rfl)
theorem dX3_addOrder_4 : decode cX3_addOrder 4 = .ok (.aload_n 0, 1) := dk_42 (dk_at dksX3_addOrder_0 4 rfl rfl)
theorem dX3_addOrder_5 : decode cX3_addOrder 5 = .ok (.iload_n 1, 1) := dk_27 (dk_at dksX3_addOrder_0 5 rfl rfl)
theorem dX3_addOrder_6 : decode cX3_addOrder 6 = .ok (.invokevirtual 89, 3) := dk_182 0 89 (dk_at dksX3_addOrder_0 6 rfl rfl)
theorem dX3_addOrder_9 : decode cX3_addOrder 9 = .ok (.ifCond .ne 5, 3) := dk_154 0 5 (dk_at dksX3_addOrder_0 9 rfl rfl)
theorem dX3_addOrder_12 : decode cX3_addOrder 12 = .ok (.iconst (-1), 1) := dk_2 (dk_at dksX3_addOrder_0 12 rfl rfl)
theorem dX3_addOrder_13 : decode cX3_addOrder 13 = .ok (.ireturn, 1) := dk_172 (dk_at dksX3_addOrder_0 13 rfl rfl)
theorem dX3_addOrder_14 : decode cX3_addOrder 14 = .ok (.aload_n 0, 1) := dk_42 (dk_at dksX3_addOrder_0 14 rfl rfl)
theorem dX3_addOrder_15 : decode cX3_addOrder 15 = .ok (.iload_n 1, 1) := dk_27 (dk_at dksX3_addOrder_0 15 rfl rfl)
theorem dX3_addOrder_16 : decode cX3_addOrder 16 = .ok (.invokevirtual 98, 3) := dk_182 0 98 (dk_at dksX3_addOrder_0 16 rfl rfl)
theorem dX3_addOrder_19 : decode cX3_addOrder 19 = .ok (.ifCond .eq 6, 3) := dk_153 0 6 (dk_at dksX3_addOrder_0 19 rfl rfl)
theorem dX3_addOrder_22 : decode cX3_addOrder 22 = .ok (.bipush (-4), 2) := dk_16 252 (dk_at dksX3_addOrder_0 22 rfl rfl)
theorem dX3_addOrder_24 : decode cX3_addOrder 24 = .ok (.ireturn, 1) := dk_172 (dk_at dksX3_addOrder_1 0 rfl rfl)
theorem dX3_addOrder_25 : decode cX3_addOrder 25 = .ok (.aload_n 0, 1) := dk_42 (dk_at dksX3_addOrder_1 1 rfl rfl)
theorem dX3_addOrder_26 : decode cX3_addOrder 26 = .ok (.iconst 2, 1) := dk_5 (dk_at dksX3_addOrder_1 2 rfl rfl)
theorem dX3_addOrder_27 : decode cX3_addOrder 27 = .ok (.invokevirtual 49, 3) := dk_182 0 49 (dk_at dksX3_addOrder_1 3 rfl rfl)
theorem dX3_addOrder_30 : decode cX3_addOrder 30 = .ok (.bipush 12, 2) := dk_16 12 (dk_at dksX3_addOrder_1 6 rfl rfl)
theorem dX3_addOrder_32 : decode cX3_addOrder 32 = .ok (.if_icmp .ne 6, 3) := dk_160 0 6 (dk_at dksX3_addOrder_1 8 rfl rfl)
theorem dX3_addOrder_35 : decode cX3_addOrder 35 = .ok (.bipush (-3), 2) := dk_16 253 (dk_at dksX3_addOrder_1 11 rfl rfl)
theorem dX3_addOrder_37 : decode cX3_addOrder 37 = .ok (.ireturn, 1) := dk_172 (dk_at dksX3_addOrder_1 13 rfl rfl)
theorem dX3_addOrder_38 : decode cX3_addOrder 38 = .ok (.aload_n 0, 1) := dk_42 (dk_at dksX3_addOrder_1 14 rfl rfl)
theorem dX3_addOrder_39 : decode cX3_addOrder 39 = .ok (.iconst 2, 1) := dk_5 (dk_at dksX3_addOrder_1 15 rfl rfl)
theorem dX3_addOrder_40 : decode cX3_addOrder 40 = .ok (.invokevirtual 49, 3) := dk_182 0 49 (dk_at dksX3_addOrder_1 16 rfl rfl)
theorem dX3_addOrder_43 : decode cX3_addOrder 43 = .ok (.istore_n 2, 1) := dk_61 (dk_at dksX3_addOrder_1 19 rfl rfl)
theorem dX3_addOrder_44 : decode cX3_addOrder 44 = .ok (.iconst 0, 1) := dk_3 (dk_at dksX3_addOrder_1 20 rfl rfl)
theorem dX3_addOrder_45 : decode cX3_addOrder 45 = .ok (.istore_n 3, 1) := dk_62 (dk_at dksX3_addOrder_1 21 rfl rfl)
theorem dX3_addOrder_46 : decode cX3_addOrder 46 = .ok (.iload_n 3, 1) := dk_29 (dk_at dksX3_addOrder_1 22 rfl rfl)
theorem dX3_addOrder_47 : decode cX3_addOrder 47 = .ok (.iconst 4, 1) := dk_7 (dk_at dksX3_addOrder_1 23 rfl rfl)
theorem dX3_addOrder_48 : decode cX3_addOrder 48 = .ok (.if_icmp .ge 20, 3) := dk_162 0 20 (dk_at dksX3_addOrder_2 0 rfl rfl)
theorem dX3_addOrder_51 : decode cX3_addOrder 51 = .ok (.aload_n 0, 1) := dk_42 (dk_at dksX3_addOrder_2 3 rfl rfl)
theorem dX3_addOrder_52 : decode cX3_addOrder 52 = .ok (.getfield 13, 3) := dk_180 0 13 (dk_at dksX3_addOrder_2 4 rfl rfl)
theorem dX3_addOrder_55 : decode cX3_addOrder 55 = .ok (.iload_n 2, 1) := dk_28 (dk_at dksX3_addOrder_2 7 rfl rfl)
theorem dX3_addOrder_56 : decode cX3_addOrder 56 = .ok (.iload_n 3, 1) := dk_29 (dk_at dksX3_addOrder_2 8 rfl rfl)
theorem dX3_addOrder_57 : decode cX3_addOrder 57 = .ok (.invokestatic 61, 3) := dk_184 0 61 (dk_at dksX3_addOrder_2 9 rfl rfl)
theorem dX3_addOrder_60 : decode cX3_addOrder 60 = .ok (.lconst 0, 1) := dk_9 (dk_at dksX3_addOrder_2 12 rfl rfl)
theorem dX3_addOrder_61 : decode cX3_addOrder 61 = .ok (.lastore, 1) := dk_80 (dk_at dksX3_addOrder_2 13 rfl rfl)
theorem dX3_addOrder_62 : decode cX3_addOrder 62 = .ok (.iinc 3 1, 3) := dk_132 3 1 (dk_at dksX3_addOrder_2 14 rfl rfl)
theorem dX3_addOrder_65 : decode cX3_addOrder 65 = .ok (.goto (-19), 3) := dk_167 255 237 (dk_at dksX3_addOrder_2 17 rfl rfl)
theorem dX3_addOrder_68 : decode cX3_addOrder 68 = .ok (.aload_n 0, 1) := dk_42 (dk_at dksX3_addOrder_2 20 rfl rfl)
theorem dX3_addOrder_69 : decode cX3_addOrder 69 = .ok (.getfield 13, 3) := dk_180 0 13 (dk_at dksX3_addOrder_2 21 rfl rfl)
theorem dX3_addOrder_72 : decode cX3_addOrder 72 = .ok (.iload_n 2, 1) := dk_28 (dk_at dksX3_addOrder_3 0 rfl rfl)
theorem dX3_addOrder_73 : decode cX3_addOrder 73 = .ok (.iconst 0, 1) := dk_3 (dk_at dksX3_addOrder_3 1 rfl rfl)
theorem dX3_addOrder_74 : decode cX3_addOrder 74 = .ok (.invokestatic 61, 3) := dk_184 0 61 (dk_at dksX3_addOrder_3 2 rfl rfl)
theorem dX3_addOrder_77 : decode cX3_addOrder 77 = .ok (.iload_n 1, 1) := dk_27 (dk_at dksX3_addOrder_3 5 rfl rfl)
theorem dX3_addOrder_78 : decode cX3_addOrder 78 = .ok (.i2l, 1) := dk_133 (dk_at dksX3_addOrder_3 6 rfl rfl)
theorem dX3_addOrder_79 : decode cX3_addOrder 79 = .ok (.lastore, 1) := dk_80 (dk_at dksX3_addOrder_3 7 rfl rfl)
theorem dX3_addOrder_80 : decode cX3_addOrder 80 = .ok (.aload_n 0, 1) := dk_42 (dk_at dksX3_addOrder_3 8 rfl rfl)
theorem dX3_addOrder_81 : decode cX3_addOrder 81 = .ok (.getfield 13, 3) := dk_180 0 13 (dk_at dksX3_addOrder_3 9 rfl rfl)
theorem dX3_addOrder_84 : decode cX3_addOrder 84 = .ok (.iconst 2, 1) := dk_5 (dk_at dksX3_addOrder_3 12 rfl rfl)
theorem dX3_addOrder_85 : decode cX3_addOrder 85 = .ok (.dup2, 1) := dk_92 (dk_at dksX3_addOrder_3 13 rfl rfl)
theorem dX3_addOrder_86 : decode cX3_addOrder 86 = .ok (.laload, 1) := dk_47 (dk_at dksX3_addOrder_3 14 rfl rfl)
theorem dX3_addOrder_87 : decode cX3_addOrder 87 = .ok (.lconst 1, 1) := dk_10 (dk_at dksX3_addOrder_3 15 rfl rfl)
theorem dX3_addOrder_88 : decode cX3_addOrder 88 = .ok (.ladd, 1) := dk_97 (dk_at dksX3_addOrder_3 16 rfl rfl)
theorem dX3_addOrder_89 : decode cX3_addOrder 89 = .ok (.lastore, 1) := dk_80 (dk_at dksX3_addOrder_3 17 rfl rfl)
theorem dX3_addOrder_90 : decode cX3_addOrder 90 = .ok (.aload_n 0, 1) := dk_42 (dk_at dksX3_addOrder_3 18 rfl rfl)
theorem dX3_addOrder_91 : decode cX3_addOrder 91 = .ok (.iload_n 2, 1) := dk_28 (dk_at dksX3_addOrder_3 19 rfl rfl)
theorem dX3_addOrder_92 : decode cX3_addOrder 92 = .ok (.invokevirtual 84, 3) := dk_182 0 84 (dk_at dksX3_addOrder_3 20 rfl rfl)
theorem dX3_addOrder_95 : decode cX3_addOrder 95 = .ok (.ireturn, 1) := dk_172 (dk_at dksX3_addOrder_3 23 rfl rfl)
abbrev cX3_addLine : ByteArray := prog_14_method_30_code
def yX3_addLine : MethodName := ⟨RX3, "addLine", "(IIII)I"⟩
def dkwX3_addLine_7 : List UInt8 := [47, 10, 97, 80, 42, 21, 5, 182, 0, 84, 172]
abbrev dktX3_addLine_7 : List UInt8 := dkwX3_addLine_7 ++ []
def dkwX3_addLine_6 : List UInt8 := [180, 0, 13, 27, 21, 5, 5, 184, 0, 109, 21, 4, 133, 80, 42, 180, 0, 13, 27, 4, 184, 0, 61, 92]
abbrev dktX3_addLine_6 : List UInt8 := dkwX3_addLine_6 ++ dktX3_addLine_7
def dkwX3_addLine_5 : List UInt8 := [21, 5, 3, 184, 0, 109, 28, 133, 80, 42, 180, 0, 13, 27, 21, 5, 4, 184, 0, 109, 29, 133, 80, 42]
abbrev dktX3_addLine_5 : List UInt8 := dkwX3_addLine_5 ++ dktX3_addLine_6
def dkwX3_addLine_4 : List UInt8 := [180, 0, 13, 27, 21, 5, 21, 6, 184, 0, 109, 9, 80, 132, 6, 1, 167, 255, 232, 42, 180, 0, 13, 27]
abbrev dktX3_addLine_4 : List UInt8 := dkwX3_addLine_4 ++ dktX3_addLine_5
def dkwX3_addLine_3 : List UInt8 := [54, 5, 21, 5, 16, 6, 160, 0, 6, 16, 253, 172, 3, 54, 6, 21, 6, 16, 8, 162, 0, 23, 42]
abbrev dktX3_addLine_3 : List UInt8 := dkwX3_addLine_3 ++ dktX3_addLine_4
def dkwX3_addLine_2 : List UInt8 := [16, 254, 172, 42, 27, 182, 0, 106, 154, 0, 6, 16, 252, 172, 42, 27, 4, 184, 0, 61, 182, 0, 49]
abbrev dktX3_addLine_2 : List UInt8 := dkwX3_addLine_2 ++ dktX3_addLine_3
def dkwX3_addLine_1 : List UInt8 := [29, 4, 17, 3, 231, 184, 0, 53, 153, 0, 15, 21, 4, 4, 17, 39, 15, 184, 0, 53, 154, 0, 6]
abbrev dktX3_addLine_1 : List UInt8 := dkwX3_addLine_1 ++ dktX3_addLine_2
def dkwX3_addLine_0 : List UInt8 := [42, 182, 0, 74, 42, 27, 182, 0, 57, 154, 0, 5, 2, 172, 28, 3, 16, 99, 184, 0, 53, 153, 0, 26]
abbrev dktX3_addLine_0 : List UInt8 := dkwX3_addLine_0 ++ dktX3_addLine_1
theorem dksX3_addLine_0 : cX3_addLine.data.toList.drop 0 = dktX3_addLine_0 := by decide +kernel
theorem dksX3_addLine_1 : cX3_addLine.data.toList.drop 24 = dktX3_addLine_1 := dk_seg dksX3_addLine_0 24 rfl rfl
theorem dksX3_addLine_2 : cX3_addLine.data.toList.drop 47 = dktX3_addLine_2 := dk_seg dksX3_addLine_1 23 rfl rfl
theorem dksX3_addLine_3 : cX3_addLine.data.toList.drop 70 = dktX3_addLine_3 := dk_seg dksX3_addLine_2 23 rfl rfl
theorem dksX3_addLine_4 : cX3_addLine.data.toList.drop 93 = dktX3_addLine_4 := dk_seg dksX3_addLine_3 23 rfl rfl
theorem dksX3_addLine_5 : cX3_addLine.data.toList.drop 117 = dktX3_addLine_5 := dk_seg dksX3_addLine_4 24 rfl rfl
theorem dksX3_addLine_6 : cX3_addLine.data.toList.drop 141 = dktX3_addLine_6 := dk_seg dksX3_addLine_5 24 rfl rfl
theorem dksX3_addLine_7 : cX3_addLine.data.toList.drop 165 = dktX3_addLine_7 := dk_seg dksX3_addLine_6 24 rfl rfl
theorem dX3_addLine_0 : decode cX3_addLine 0 = .ok (.aload_n 0, 1) := dk_42 (dk_at dksX3_addLine_0 0 rfl rfl)
theorem dX3_addLine_1 : decode cX3_addLine 1 = .ok (.invokevirtual 74, 3) := dk_182 0 74 (dk_at dksX3_addLine_0 1 rfl rfl)
theorem dX3_addLine_4 : decode cX3_addLine 4 = .ok (.aload_n 0, 1) := dk_42 (dk_at dksX3_addLine_0 4 rfl rfl)
theorem dX3_addLine_5 : decode cX3_addLine 5 = .ok (.iload_n 1, 1) := dk_27 (dk_at dksX3_addLine_0 5 rfl rfl)
theorem dX3_addLine_6 : decode cX3_addLine 6 = .ok (.invokevirtual 57, 3) := dk_182 0 57 (dk_at dksX3_addLine_0 6 rfl rfl)
theorem dX3_addLine_9 : decode cX3_addLine 9 = .ok (.ifCond .ne 5, 3) := dk_154 0 5 (dk_at dksX3_addLine_0 9 rfl rfl)
theorem dX3_addLine_12 : decode cX3_addLine 12 = .ok (.iconst (-1), 1) := dk_2 (dk_at dksX3_addLine_0 12 rfl rfl)
theorem dX3_addLine_13 : decode cX3_addLine 13 = .ok (.ireturn, 1) := dk_172 (dk_at dksX3_addLine_0 13 rfl rfl)
theorem dX3_addLine_14 : decode cX3_addLine 14 = .ok (.iload_n 2, 1) := dk_28 (dk_at dksX3_addLine_0 14 rfl rfl)
theorem dX3_addLine_15 : decode cX3_addLine 15 = .ok (.iconst 0, 1) := dk_3 (dk_at dksX3_addLine_0 15 rfl rfl)
theorem dX3_addLine_16 : decode cX3_addLine 16 = .ok (.bipush 99, 2) := dk_16 99 (dk_at dksX3_addLine_0 16 rfl rfl)
theorem dX3_addLine_18 : decode cX3_addLine 18 = .ok (.invokestatic 53, 3) := dk_184 0 53 (dk_at dksX3_addLine_0 18 rfl rfl)
theorem dX3_addLine_21 : decode cX3_addLine 21 = .ok (.ifCond .eq 26, 3) := dk_153 0 26 (dk_at dksX3_addLine_0 21 rfl rfl)
theorem dX3_addLine_24 : decode cX3_addLine 24 = .ok (.iload_n 3, 1) := dk_29 (dk_at dksX3_addLine_1 0 rfl rfl)
theorem dX3_addLine_25 : decode cX3_addLine 25 = .ok (.iconst 1, 1) := dk_4 (dk_at dksX3_addLine_1 1 rfl rfl)
theorem dX3_addLine_26 : decode cX3_addLine 26 = .ok (.sipush 999, 3) := dk_17 3 231 (dk_at dksX3_addLine_1 2 rfl rfl)
theorem dX3_addLine_29 : decode cX3_addLine 29 = .ok (.invokestatic 53, 3) := dk_184 0 53 (dk_at dksX3_addLine_1 5 rfl rfl)
theorem dX3_addLine_32 : decode cX3_addLine 32 = .ok (.ifCond .eq 15, 3) := dk_153 0 15 (dk_at dksX3_addLine_1 8 rfl rfl)
theorem dX3_addLine_35 : decode cX3_addLine 35 = .ok (.iload 4, 2) := dk_21 4 (dk_at dksX3_addLine_1 11 rfl rfl)
theorem dX3_addLine_37 : decode cX3_addLine 37 = .ok (.iconst 1, 1) := dk_4 (dk_at dksX3_addLine_1 13 rfl rfl)
theorem dX3_addLine_38 : decode cX3_addLine 38 = .ok (.sipush 9999, 3) := dk_17 39 15 (dk_at dksX3_addLine_1 14 rfl rfl)
theorem dX3_addLine_41 : decode cX3_addLine 41 = .ok (.invokestatic 53, 3) := dk_184 0 53 (dk_at dksX3_addLine_1 17 rfl rfl)
theorem dX3_addLine_44 : decode cX3_addLine 44 = .ok (.ifCond .ne 6, 3) := dk_154 0 6 (dk_at dksX3_addLine_1 20 rfl rfl)
theorem dX3_addLine_47 : decode cX3_addLine 47 = .ok (.bipush (-2), 2) := dk_16 254 (dk_at dksX3_addLine_2 0 rfl rfl)
theorem dX3_addLine_49 : decode cX3_addLine 49 = .ok (.ireturn, 1) := dk_172 (dk_at dksX3_addLine_2 2 rfl rfl)
theorem dX3_addLine_50 : decode cX3_addLine 50 = .ok (.aload_n 0, 1) := dk_42 (dk_at dksX3_addLine_2 3 rfl rfl)
theorem dX3_addLine_51 : decode cX3_addLine 51 = .ok (.iload_n 1, 1) := dk_27 (dk_at dksX3_addLine_2 4 rfl rfl)
theorem dX3_addLine_52 : decode cX3_addLine 52 = .ok (.invokevirtual 106, 3) := dk_182 0 106 (dk_at dksX3_addLine_2 5 rfl rfl)
theorem dX3_addLine_55 : decode cX3_addLine 55 = .ok (.ifCond .ne 6, 3) := dk_154 0 6 (dk_at dksX3_addLine_2 8 rfl rfl)
theorem dX3_addLine_58 : decode cX3_addLine 58 = .ok (.bipush (-4), 2) := dk_16 252 (dk_at dksX3_addLine_2 11 rfl rfl)
theorem dX3_addLine_60 : decode cX3_addLine 60 = .ok (.ireturn, 1) := dk_172 (dk_at dksX3_addLine_2 13 rfl rfl)
theorem dX3_addLine_61 : decode cX3_addLine 61 = .ok (.aload_n 0, 1) := dk_42 (dk_at dksX3_addLine_2 14 rfl rfl)
theorem dX3_addLine_62 : decode cX3_addLine 62 = .ok (.iload_n 1, 1) := dk_27 (dk_at dksX3_addLine_2 15 rfl rfl)
theorem dX3_addLine_63 : decode cX3_addLine 63 = .ok (.iconst 1, 1) := dk_4 (dk_at dksX3_addLine_2 16 rfl rfl)
theorem dX3_addLine_64 : decode cX3_addLine 64 = .ok (.invokestatic 61, 3) := dk_184 0 61 (dk_at dksX3_addLine_2 17 rfl rfl)
theorem dX3_addLine_67 : decode cX3_addLine 67 = .ok (.invokevirtual 49, 3) := dk_182 0 49 (dk_at dksX3_addLine_2 20 rfl rfl)
theorem dX3_addLine_70 : decode cX3_addLine 70 = .ok (.istore 5, 2) := dk_54 5 (dk_at dksX3_addLine_3 0 rfl rfl)
theorem dX3_addLine_72 : decode cX3_addLine 72 = .ok (.iload 5, 2) := dk_21 5 (dk_at dksX3_addLine_3 2 rfl rfl)
theorem dX3_addLine_74 : decode cX3_addLine 74 = .ok (.bipush 6, 2) := dk_16 6 (dk_at dksX3_addLine_3 4 rfl rfl)
theorem dX3_addLine_76 : decode cX3_addLine 76 = .ok (.if_icmp .ne 6, 3) := dk_160 0 6 (dk_at dksX3_addLine_3 6 rfl rfl)
theorem dX3_addLine_79 : decode cX3_addLine 79 = .ok (.bipush (-3), 2) := dk_16 253 (dk_at dksX3_addLine_3 9 rfl rfl)
theorem dX3_addLine_81 : decode cX3_addLine 81 = .ok (.ireturn, 1) := dk_172 (dk_at dksX3_addLine_3 11 rfl rfl)
theorem dX3_addLine_82 : decode cX3_addLine 82 = .ok (.iconst 0, 1) := dk_3 (dk_at dksX3_addLine_3 12 rfl rfl)
theorem dX3_addLine_83 : decode cX3_addLine 83 = .ok (.istore 6, 2) := dk_54 6 (dk_at dksX3_addLine_3 13 rfl rfl)
theorem dX3_addLine_85 : decode cX3_addLine 85 = .ok (.iload 6, 2) := dk_21 6 (dk_at dksX3_addLine_3 15 rfl rfl)
theorem dX3_addLine_87 : decode cX3_addLine 87 = .ok (.bipush 8, 2) := dk_16 8 (dk_at dksX3_addLine_3 17 rfl rfl)
theorem dX3_addLine_89 : decode cX3_addLine 89 = .ok (.if_icmp .ge 23, 3) := dk_162 0 23 (dk_at dksX3_addLine_3 19 rfl rfl)
theorem dX3_addLine_92 : decode cX3_addLine 92 = .ok (.aload_n 0, 1) := dk_42 (dk_at dksX3_addLine_3 22 rfl rfl)
theorem dX3_addLine_93 : decode cX3_addLine 93 = .ok (.getfield 13, 3) := dk_180 0 13 (dk_at dksX3_addLine_4 0 rfl rfl)
theorem dX3_addLine_96 : decode cX3_addLine 96 = .ok (.iload_n 1, 1) := dk_27 (dk_at dksX3_addLine_4 3 rfl rfl)
theorem dX3_addLine_97 : decode cX3_addLine 97 = .ok (.iload 5, 2) := dk_21 5 (dk_at dksX3_addLine_4 4 rfl rfl)
theorem dX3_addLine_99 : decode cX3_addLine 99 = .ok (.iload 6, 2) := dk_21 6 (dk_at dksX3_addLine_4 6 rfl rfl)
theorem dX3_addLine_101 : decode cX3_addLine 101 = .ok (.invokestatic 109, 3) := dk_184 0 109 (dk_at dksX3_addLine_4 8 rfl rfl)
theorem dX3_addLine_104 : decode cX3_addLine 104 = .ok (.lconst 0, 1) := dk_9 (dk_at dksX3_addLine_4 11 rfl rfl)
theorem dX3_addLine_105 : decode cX3_addLine 105 = .ok (.lastore, 1) := dk_80 (dk_at dksX3_addLine_4 12 rfl rfl)
theorem dX3_addLine_106 : decode cX3_addLine 106 = .ok (.iinc 6 1, 3) := dk_132 6 1 (dk_at dksX3_addLine_4 13 rfl rfl)
theorem dX3_addLine_109 : decode cX3_addLine 109 = .ok (.goto (-24), 3) := dk_167 255 232 (dk_at dksX3_addLine_4 16 rfl rfl)
theorem dX3_addLine_112 : decode cX3_addLine 112 = .ok (.aload_n 0, 1) := dk_42 (dk_at dksX3_addLine_4 19 rfl rfl)
theorem dX3_addLine_113 : decode cX3_addLine 113 = .ok (.getfield 13, 3) := dk_180 0 13 (dk_at dksX3_addLine_4 20 rfl rfl)
theorem dX3_addLine_116 : decode cX3_addLine 116 = .ok (.iload_n 1, 1) := dk_27 (dk_at dksX3_addLine_4 23 rfl rfl)
theorem dX3_addLine_117 : decode cX3_addLine 117 = .ok (.iload 5, 2) := dk_21 5 (dk_at dksX3_addLine_5 0 rfl rfl)
theorem dX3_addLine_119 : decode cX3_addLine 119 = .ok (.iconst 0, 1) := dk_3 (dk_at dksX3_addLine_5 2 rfl rfl)
theorem dX3_addLine_120 : decode cX3_addLine 120 = .ok (.invokestatic 109, 3) := dk_184 0 109 (dk_at dksX3_addLine_5 3 rfl rfl)
theorem dX3_addLine_123 : decode cX3_addLine 123 = .ok (.iload_n 2, 1) := dk_28 (dk_at dksX3_addLine_5 6 rfl rfl)
theorem dX3_addLine_124 : decode cX3_addLine 124 = .ok (.i2l, 1) := dk_133 (dk_at dksX3_addLine_5 7 rfl rfl)
theorem dX3_addLine_125 : decode cX3_addLine 125 = .ok (.lastore, 1) := dk_80 (dk_at dksX3_addLine_5 8 rfl rfl)
theorem dX3_addLine_126 : decode cX3_addLine 126 = .ok (.aload_n 0, 1) := dk_42 (dk_at dksX3_addLine_5 9 rfl rfl)
theorem dX3_addLine_127 : decode cX3_addLine 127 = .ok (.getfield 13, 3) := dk_180 0 13 (dk_at dksX3_addLine_5 10 rfl rfl)
theorem dX3_addLine_130 : decode cX3_addLine 130 = .ok (.iload_n 1, 1) := dk_27 (dk_at dksX3_addLine_5 13 rfl rfl)
theorem dX3_addLine_131 : decode cX3_addLine 131 = .ok (.iload 5, 2) := dk_21 5 (dk_at dksX3_addLine_5 14 rfl rfl)
theorem dX3_addLine_133 : decode cX3_addLine 133 = .ok (.iconst 1, 1) := dk_4 (dk_at dksX3_addLine_5 16 rfl rfl)
theorem dX3_addLine_134 : decode cX3_addLine 134 = .ok (.invokestatic 109, 3) := dk_184 0 109 (dk_at dksX3_addLine_5 17 rfl rfl)
theorem dX3_addLine_137 : decode cX3_addLine 137 = .ok (.iload_n 3, 1) := dk_29 (dk_at dksX3_addLine_5 20 rfl rfl)
theorem dX3_addLine_138 : decode cX3_addLine 138 = .ok (.i2l, 1) := dk_133 (dk_at dksX3_addLine_5 21 rfl rfl)
theorem dX3_addLine_139 : decode cX3_addLine 139 = .ok (.lastore, 1) := dk_80 (dk_at dksX3_addLine_5 22 rfl rfl)
theorem dX3_addLine_140 : decode cX3_addLine 140 = .ok (.aload_n 0, 1) := dk_42 (dk_at dksX3_addLine_5 23 rfl rfl)
theorem dX3_addLine_141 : decode cX3_addLine 141 = .ok (.getfield 13, 3) := dk_180 0 13 (dk_at dksX3_addLine_6 0 rfl rfl)
theorem dX3_addLine_144 : decode cX3_addLine 144 = .ok (.iload_n 1, 1) := dk_27 (dk_at dksX3_addLine_6 3 rfl rfl)
theorem dX3_addLine_145 : decode cX3_addLine 145 = .ok (.iload 5, 2) := dk_21 5 (dk_at dksX3_addLine_6 4 rfl rfl)
theorem dX3_addLine_147 : decode cX3_addLine 147 = .ok (.iconst 2, 1) := dk_5 (dk_at dksX3_addLine_6 6 rfl rfl)
theorem dX3_addLine_148 : decode cX3_addLine 148 = .ok (.invokestatic 109, 3) := dk_184 0 109 (dk_at dksX3_addLine_6 7 rfl rfl)
theorem dX3_addLine_151 : decode cX3_addLine 151 = .ok (.iload 4, 2) := dk_21 4 (dk_at dksX3_addLine_6 10 rfl rfl)
theorem dX3_addLine_153 : decode cX3_addLine 153 = .ok (.i2l, 1) := dk_133 (dk_at dksX3_addLine_6 12 rfl rfl)
theorem dX3_addLine_154 : decode cX3_addLine 154 = .ok (.lastore, 1) := dk_80 (dk_at dksX3_addLine_6 13 rfl rfl)
theorem dX3_addLine_155 : decode cX3_addLine 155 = .ok (.aload_n 0, 1) := dk_42 (dk_at dksX3_addLine_6 14 rfl rfl)
theorem dX3_addLine_156 : decode cX3_addLine 156 = .ok (.getfield 13, 3) := dk_180 0 13 (dk_at dksX3_addLine_6 15 rfl rfl)
theorem dX3_addLine_159 : decode cX3_addLine 159 = .ok (.iload_n 1, 1) := dk_27 (dk_at dksX3_addLine_6 18 rfl rfl)
theorem dX3_addLine_160 : decode cX3_addLine 160 = .ok (.iconst 1, 1) := dk_4 (dk_at dksX3_addLine_6 19 rfl rfl)
theorem dX3_addLine_161 : decode cX3_addLine 161 = .ok (.invokestatic 61, 3) := dk_184 0 61 (dk_at dksX3_addLine_6 20 rfl rfl)
theorem dX3_addLine_164 : decode cX3_addLine 164 = .ok (.dup2, 1) := dk_92 (dk_at dksX3_addLine_6 23 rfl rfl)
theorem dX3_addLine_165 : decode cX3_addLine 165 = .ok (.laload, 1) := dk_47 (dk_at dksX3_addLine_7 0 rfl rfl)
theorem dX3_addLine_166 : decode cX3_addLine 166 = .ok (.lconst 1, 1) := dk_10 (dk_at dksX3_addLine_7 1 rfl rfl)
theorem dX3_addLine_167 : decode cX3_addLine 167 = .ok (.ladd, 1) := dk_97 (dk_at dksX3_addLine_7 2 rfl rfl)
theorem dX3_addLine_168 : decode cX3_addLine 168 = .ok (.lastore, 1) := dk_80 (dk_at dksX3_addLine_7 3 rfl rfl)
theorem dX3_addLine_169 : decode cX3_addLine 169 = .ok (.aload_n 0, 1) := dk_42 (dk_at dksX3_addLine_7 4 rfl rfl)
theorem dX3_addLine_170 : decode cX3_addLine 170 = .ok (.iload 5, 2) := dk_21 5 (dk_at dksX3_addLine_7 5 rfl rfl)
theorem dX3_addLine_172 : decode cX3_addLine 172 = .ok (.invokevirtual 84, 3) := dk_182 0 84 (dk_at dksX3_addLine_7 7 rfl rfl)
theorem dX3_addLine_175 : decode cX3_addLine 175 = .ok (.ireturn, 1) := dk_172 (dk_at dksX3_addLine_7 10 rfl rfl)
abbrev cX3_isOrder : ByteArray := prog_14_method_11_code
def yX3_isOrder : MethodName := ⟨RX3, "isOrder", "(I)Z"⟩
def dkwX3_isOrder_0 : List UInt8 := [27, 3, 42, 5, 182, 0, 49, 4, 100, 184, 0, 53, 172]
abbrev dktX3_isOrder_0 : List UInt8 := dkwX3_isOrder_0 ++ []
theorem dksX3_isOrder_0 : cX3_isOrder.data.toList.drop 0 = dktX3_isOrder_0 := by decide +kernel
theorem dX3_isOrder_0 : decode cX3_isOrder 0 = .ok (.iload_n 1, 1) := dk_27 (dk_at dksX3_isOrder_0 0 rfl rfl)
theorem dX3_isOrder_1 : decode cX3_isOrder 1 = .ok (.iconst 0, 1) := dk_3 (dk_at dksX3_isOrder_0 1 rfl rfl)
theorem dX3_isOrder_2 : decode cX3_isOrder 2 = .ok (.aload_n 0, 1) := dk_42 (dk_at dksX3_isOrder_0 2 rfl rfl)
theorem dX3_isOrder_3 : decode cX3_isOrder 3 = .ok (.iconst 2, 1) := dk_5 (dk_at dksX3_isOrder_0 3 rfl rfl)
theorem dX3_isOrder_4 : decode cX3_isOrder 4 = .ok (.invokevirtual 49, 3) := dk_182 0 49 (dk_at dksX3_isOrder_0 4 rfl rfl)
theorem dX3_isOrder_7 : decode cX3_isOrder 7 = .ok (.iconst 1, 1) := dk_4 (dk_at dksX3_isOrder_0 7 rfl rfl)
theorem dX3_isOrder_8 : decode cX3_isOrder 8 = .ok (.isub, 1) := dk_100 (dk_at dksX3_isOrder_0 8 rfl rfl)
theorem dX3_isOrder_9 : decode cX3_isOrder 9 = .ok (.invokestatic 53, 3) := dk_184 0 53 (dk_at dksX3_isOrder_0 9 rfl rfl)
theorem dX3_isOrder_12 : decode cX3_isOrder 12 = .ok (.ireturn, 1) := dk_172 (dk_at dksX3_isOrder_0 12 rfl rfl)
abbrev cX3_isOpen : ByteArray := prog_14_method_29_code
def yX3_isOpen : MethodName := ⟨RX3, "isOpen", "(I)Z"⟩
def dkwX3_isOpen_0 : List UInt8 := [42, 27, 5, 184, 0, 61, 182, 0, 49, 154, 0, 7, 4, 167, 0, 4, 3, 172]
abbrev dktX3_isOpen_0 : List UInt8 := dkwX3_isOpen_0 ++ []
theorem dksX3_isOpen_0 : cX3_isOpen.data.toList.drop 0 = dktX3_isOpen_0 := by decide +kernel
theorem dX3_isOpen_0 : decode cX3_isOpen 0 = .ok (.aload_n 0, 1) := dk_42 (dk_at dksX3_isOpen_0 0 rfl rfl)
theorem dX3_isOpen_1 : decode cX3_isOpen 1 = .ok (.iload_n 1, 1) := dk_27 (dk_at dksX3_isOpen_0 1 rfl rfl)
theorem dX3_isOpen_2 : decode cX3_isOpen 2 = .ok (.iconst 2, 1) := dk_5 (dk_at dksX3_isOpen_0 2 rfl rfl)
theorem dX3_isOpen_3 : decode cX3_isOpen 3 = .ok (.invokestatic 61, 3) := dk_184 0 61 (dk_at dksX3_isOpen_0 3 rfl rfl)
theorem dX3_isOpen_6 : decode cX3_isOpen 6 = .ok (.invokevirtual 49, 3) := dk_182 0 49 (dk_at dksX3_isOpen_0 6 rfl rfl)
theorem dX3_isOpen_9 : decode cX3_isOpen 9 = .ok (.ifCond .ne 7, 3) := dk_154 0 7 (dk_at dksX3_isOpen_0 9 rfl rfl)
theorem dX3_isOpen_12 : decode cX3_isOpen 12 = .ok (.iconst 1, 1) := dk_4 (dk_at dksX3_isOpen_0 12 rfl rfl)
theorem dX3_isOpen_13 : decode cX3_isOpen 13 = .ok (.goto 4, 3) := dk_167 0 4 (dk_at dksX3_isOpen_0 13 rfl rfl)
theorem dX3_isOpen_16 : decode cX3_isOpen 16 = .ok (.iconst 0, 1) := dk_3 (dk_at dksX3_isOpen_0 16 rfl rfl)
theorem dX3_isOpen_17 : decode cX3_isOpen 17 = .ok (.ireturn, 1) := dk_172 (dk_at dksX3_isOpen_0 17 rfl rfl)
abbrev cX3_ofLine : ByteArray := prog_14_method_7_code
def yX3_ofLine : MethodName := ⟨RX3, "ofLine", "(III)I"⟩
def dkwX3_ofLine_0 : List UInt8 := [16, 99, 16, 48, 26, 104, 96, 16, 8, 27, 104, 96, 28, 96, 172]
abbrev dktX3_ofLine_0 : List UInt8 := dkwX3_ofLine_0 ++ []
theorem dksX3_ofLine_0 : cX3_ofLine.data.toList.drop 0 = dktX3_ofLine_0 := by decide +kernel
theorem dX3_ofLine_0 : decode cX3_ofLine 0 = .ok (.bipush 99, 2) := dk_16 99 (dk_at dksX3_ofLine_0 0 rfl rfl)
theorem dX3_ofLine_2 : decode cX3_ofLine 2 = .ok (.bipush 48, 2) := dk_16 48 (dk_at dksX3_ofLine_0 2 rfl rfl)
theorem dX3_ofLine_4 : decode cX3_ofLine 4 = .ok (.iload_n 0, 1) := dk_26 (dk_at dksX3_ofLine_0 4 rfl rfl)
theorem dX3_ofLine_5 : decode cX3_ofLine 5 = .ok (.imul, 1) := dk_104 (dk_at dksX3_ofLine_0 5 rfl rfl)
theorem dX3_ofLine_6 : decode cX3_ofLine 6 = .ok (.iadd, 1) := dk_96 (dk_at dksX3_ofLine_0 6 rfl rfl)
theorem dX3_ofLine_7 : decode cX3_ofLine 7 = .ok (.bipush 8, 2) := dk_16 8 (dk_at dksX3_ofLine_0 7 rfl rfl)
theorem dX3_ofLine_9 : decode cX3_ofLine 9 = .ok (.iload_n 1, 1) := dk_27 (dk_at dksX3_ofLine_0 9 rfl rfl)
theorem dX3_ofLine_10 : decode cX3_ofLine 10 = .ok (.imul, 1) := dk_104 (dk_at dksX3_ofLine_0 10 rfl rfl)
theorem dX3_ofLine_11 : decode cX3_ofLine 11 = .ok (.iadd, 1) := dk_96 (dk_at dksX3_ofLine_0 11 rfl rfl)
theorem dX3_ofLine_12 : decode cX3_ofLine 12 = .ok (.iload_n 2, 1) := dk_28 (dk_at dksX3_ofLine_0 12 rfl rfl)
theorem dX3_ofLine_13 : decode cX3_ofLine 13 = .ok (.iadd, 1) := dk_96 (dk_at dksX3_ofLine_0 13 rfl rfl)
theorem dX3_ofLine_14 : decode cX3_ofLine 14 = .ok (.ireturn, 1) := dk_172 (dk_at dksX3_ofLine_0 14 rfl rfl)
abbrev cX3_changeLine : ByteArray := prog_14_method_31_code
def yX3_changeLine : MethodName := ⟨RX3, "changeLine", "(IIII)I"⟩
def dkwX3_changeLine_7 : List UInt8 := [182, 0, 49, 182, 0, 84, 172]
abbrev dktX3_changeLine_7 : List UInt8 := dkwX3_changeLine_7 ++ []
def dkwX3_changeLine_6 : List UInt8 := [133, 80, 42, 180, 0, 13, 27, 6, 184, 0, 61, 92, 47, 10, 97, 80, 42, 42, 27, 6, 184, 0, 61]
abbrev dktX3_changeLine_6 : List UInt8 := dkwX3_changeLine_6 ++ dktX3_changeLine_7
def dkwX3_changeLine_5 : List UInt8 := [180, 0, 13, 27, 28, 4, 184, 0, 109, 29, 133, 80, 42, 180, 0, 13, 27, 28, 5, 184, 0, 109, 21, 4]
abbrev dktX3_changeLine_5 : List UInt8 := dkwX3_changeLine_5 ++ dktX3_changeLine_6
def dkwX3_changeLine_4 : List UInt8 := [160, 0, 21, 42, 27, 28, 5, 184, 0, 109, 182, 0, 49, 21, 4, 160, 0, 6, 16, 251, 172, 42]
abbrev dktX3_changeLine_4 : List UInt8 := dkwX3_changeLine_4 ++ dktX3_changeLine_5
def dkwX3_changeLine_3 : List UInt8 := [184, 0, 109, 182, 0, 49, 162, 0, 6, 16, 252, 172, 42, 27, 28, 4, 184, 0, 109, 182, 0, 49, 29]
abbrev dktX3_changeLine_3 : List UInt8 := dkwX3_changeLine_3 ++ dktX3_changeLine_4
def dkwX3_changeLine_2 : List UInt8 := [153, 0, 31, 29, 42, 27, 28, 6, 184, 0, 109, 182, 0, 49, 161, 0, 17, 29, 42, 27, 28, 8]
abbrev dktX3_changeLine_2 : List UInt8 := dkwX3_changeLine_2 ++ dktX3_changeLine_3
def dkwX3_changeLine_1 : List UInt8 := [153, 0, 15, 21, 4, 4, 17, 39, 15, 184, 0, 53, 154, 0, 6, 16, 254, 172, 42, 27, 182, 0, 106]
abbrev dktX3_changeLine_1 : List UInt8 := dkwX3_changeLine_1 ++ dktX3_changeLine_2
def dkwX3_changeLine_0 : List UInt8 := [42, 182, 0, 74, 42, 27, 28, 182, 0, 113, 154, 0, 5, 2, 172, 29, 4, 17, 3, 231, 184, 0, 53]
abbrev dktX3_changeLine_0 : List UInt8 := dkwX3_changeLine_0 ++ dktX3_changeLine_1
theorem dksX3_changeLine_0 : cX3_changeLine.data.toList.drop 0 = dktX3_changeLine_0 := by decide +kernel
theorem dksX3_changeLine_1 : cX3_changeLine.data.toList.drop 23 = dktX3_changeLine_1 := dk_seg dksX3_changeLine_0 23 rfl rfl
theorem dksX3_changeLine_2 : cX3_changeLine.data.toList.drop 46 = dktX3_changeLine_2 := dk_seg dksX3_changeLine_1 23 rfl rfl
theorem dksX3_changeLine_3 : cX3_changeLine.data.toList.drop 68 = dktX3_changeLine_3 := dk_seg dksX3_changeLine_2 22 rfl rfl
theorem dksX3_changeLine_4 : cX3_changeLine.data.toList.drop 91 = dktX3_changeLine_4 := dk_seg dksX3_changeLine_3 23 rfl rfl
theorem dksX3_changeLine_5 : cX3_changeLine.data.toList.drop 113 = dktX3_changeLine_5 := dk_seg dksX3_changeLine_4 22 rfl rfl
theorem dksX3_changeLine_6 : cX3_changeLine.data.toList.drop 137 = dktX3_changeLine_6 := dk_seg dksX3_changeLine_5 24 rfl rfl
theorem dksX3_changeLine_7 : cX3_changeLine.data.toList.drop 160 = dktX3_changeLine_7 := dk_seg dksX3_changeLine_6 23 rfl rfl
theorem dX3_changeLine_0 : decode cX3_changeLine 0 = .ok (.aload_n 0, 1) := dk_42 (dk_at dksX3_changeLine_0 0 rfl rfl)
theorem dX3_changeLine_1 : decode cX3_changeLine 1 = .ok (.invokevirtual 74, 3) := dk_182 0 74 (dk_at dksX3_changeLine_0 1 rfl rfl)
theorem dX3_changeLine_4 : decode cX3_changeLine 4 = .ok (.aload_n 0, 1) := dk_42 (dk_at dksX3_changeLine_0 4 rfl rfl)
theorem dX3_changeLine_5 : decode cX3_changeLine 5 = .ok (.iload_n 1, 1) := dk_27 (dk_at dksX3_changeLine_0 5 rfl rfl)
theorem dX3_changeLine_6 : decode cX3_changeLine 6 = .ok (.iload_n 2, 1) := dk_28 (dk_at dksX3_changeLine_0 6 rfl rfl)
theorem dX3_changeLine_7 : decode cX3_changeLine 7 = .ok (.invokevirtual 113, 3) := dk_182 0 113 (dk_at dksX3_changeLine_0 7 rfl rfl)
theorem dX3_changeLine_10 : decode cX3_changeLine 10 = .ok (.ifCond .ne 5, 3) := dk_154 0 5 (dk_at dksX3_changeLine_0 10 rfl rfl)
theorem dX3_changeLine_13 : decode cX3_changeLine 13 = .ok (.iconst (-1), 1) := dk_2 (dk_at dksX3_changeLine_0 13 rfl rfl)
theorem dX3_changeLine_14 : decode cX3_changeLine 14 = .ok (.ireturn, 1) := dk_172 (dk_at dksX3_changeLine_0 14 rfl rfl)
theorem dX3_changeLine_15 : decode cX3_changeLine 15 = .ok (.iload_n 3, 1) := dk_29 (dk_at dksX3_changeLine_0 15 rfl rfl)
theorem dX3_changeLine_16 : decode cX3_changeLine 16 = .ok (.iconst 1, 1) := dk_4 (dk_at dksX3_changeLine_0 16 rfl rfl)
theorem dX3_changeLine_17 : decode cX3_changeLine 17 = .ok (.sipush 999, 3) := dk_17 3 231 (dk_at dksX3_changeLine_0 17 rfl rfl)
theorem dX3_changeLine_20 : decode cX3_changeLine 20 = .ok (.invokestatic 53, 3) := dk_184 0 53 (dk_at dksX3_changeLine_0 20 rfl rfl)
theorem dX3_changeLine_23 : decode cX3_changeLine 23 = .ok (.ifCond .eq 15, 3) := dk_153 0 15 (dk_at dksX3_changeLine_1 0 rfl rfl)
theorem dX3_changeLine_26 : decode cX3_changeLine 26 = .ok (.iload 4, 2) := dk_21 4 (dk_at dksX3_changeLine_1 3 rfl rfl)
theorem dX3_changeLine_28 : decode cX3_changeLine 28 = .ok (.iconst 1, 1) := dk_4 (dk_at dksX3_changeLine_1 5 rfl rfl)
theorem dX3_changeLine_29 : decode cX3_changeLine 29 = .ok (.sipush 9999, 3) := dk_17 39 15 (dk_at dksX3_changeLine_1 6 rfl rfl)
theorem dX3_changeLine_32 : decode cX3_changeLine 32 = .ok (.invokestatic 53, 3) := dk_184 0 53 (dk_at dksX3_changeLine_1 9 rfl rfl)
theorem dX3_changeLine_35 : decode cX3_changeLine 35 = .ok (.ifCond .ne 6, 3) := dk_154 0 6 (dk_at dksX3_changeLine_1 12 rfl rfl)
theorem dX3_changeLine_38 : decode cX3_changeLine 38 = .ok (.bipush (-2), 2) := dk_16 254 (dk_at dksX3_changeLine_1 15 rfl rfl)
theorem dX3_changeLine_40 : decode cX3_changeLine 40 = .ok (.ireturn, 1) := dk_172 (dk_at dksX3_changeLine_1 17 rfl rfl)
theorem dX3_changeLine_41 : decode cX3_changeLine 41 = .ok (.aload_n 0, 1) := dk_42 (dk_at dksX3_changeLine_1 18 rfl rfl)
theorem dX3_changeLine_42 : decode cX3_changeLine 42 = .ok (.iload_n 1, 1) := dk_27 (dk_at dksX3_changeLine_1 19 rfl rfl)
theorem dX3_changeLine_43 : decode cX3_changeLine 43 = .ok (.invokevirtual 106, 3) := dk_182 0 106 (dk_at dksX3_changeLine_1 20 rfl rfl)
theorem dX3_changeLine_46 : decode cX3_changeLine 46 = .ok (.ifCond .eq 31, 3) := dk_153 0 31 (dk_at dksX3_changeLine_2 0 rfl rfl)
theorem dX3_changeLine_49 : decode cX3_changeLine 49 = .ok (.iload_n 3, 1) := dk_29 (dk_at dksX3_changeLine_2 3 rfl rfl)
theorem dX3_changeLine_50 : decode cX3_changeLine 50 = .ok (.aload_n 0, 1) := dk_42 (dk_at dksX3_changeLine_2 4 rfl rfl)
theorem dX3_changeLine_51 : decode cX3_changeLine 51 = .ok (.iload_n 1, 1) := dk_27 (dk_at dksX3_changeLine_2 5 rfl rfl)
theorem dX3_changeLine_52 : decode cX3_changeLine 52 = .ok (.iload_n 2, 1) := dk_28 (dk_at dksX3_changeLine_2 6 rfl rfl)
theorem dX3_changeLine_53 : decode cX3_changeLine 53 = .ok (.iconst 3, 1) := dk_6 (dk_at dksX3_changeLine_2 7 rfl rfl)
theorem dX3_changeLine_54 : decode cX3_changeLine 54 = .ok (.invokestatic 109, 3) := dk_184 0 109 (dk_at dksX3_changeLine_2 8 rfl rfl)
theorem dX3_changeLine_57 : decode cX3_changeLine 57 = .ok (.invokevirtual 49, 3) := dk_182 0 49 (dk_at dksX3_changeLine_2 11 rfl rfl)
theorem dX3_changeLine_60 : decode cX3_changeLine 60 = .ok (.if_icmp .lt 17, 3) := dk_161 0 17 (dk_at dksX3_changeLine_2 14 rfl rfl)
theorem dX3_changeLine_63 : decode cX3_changeLine 63 = .ok (.iload_n 3, 1) := dk_29 (dk_at dksX3_changeLine_2 17 rfl rfl)
theorem dX3_changeLine_64 : decode cX3_changeLine 64 = .ok (.aload_n 0, 1) := dk_42 (dk_at dksX3_changeLine_2 18 rfl rfl)
theorem dX3_changeLine_65 : decode cX3_changeLine 65 = .ok (.iload_n 1, 1) := dk_27 (dk_at dksX3_changeLine_2 19 rfl rfl)
theorem dX3_changeLine_66 : decode cX3_changeLine 66 = .ok (.iload_n 2, 1) := dk_28 (dk_at dksX3_changeLine_2 20 rfl rfl)
theorem dX3_changeLine_67 : decode cX3_changeLine 67 = .ok (.iconst 5, 1) := dk_8 (dk_at dksX3_changeLine_2 21 rfl rfl)
theorem dX3_changeLine_68 : decode cX3_changeLine 68 = .ok (.invokestatic 109, 3) := dk_184 0 109 (dk_at dksX3_changeLine_3 0 rfl rfl)
theorem dX3_changeLine_71 : decode cX3_changeLine 71 = .ok (.invokevirtual 49, 3) := dk_182 0 49 (dk_at dksX3_changeLine_3 3 rfl rfl)
theorem dX3_changeLine_74 : decode cX3_changeLine 74 = .ok (.if_icmp .ge 6, 3) := dk_162 0 6 (dk_at dksX3_changeLine_3 6 rfl rfl)
theorem dX3_changeLine_77 : decode cX3_changeLine 77 = .ok (.bipush (-4), 2) := dk_16 252 (dk_at dksX3_changeLine_3 9 rfl rfl)
theorem dX3_changeLine_79 : decode cX3_changeLine 79 = .ok (.ireturn, 1) := dk_172 (dk_at dksX3_changeLine_3 11 rfl rfl)
theorem dX3_changeLine_80 : decode cX3_changeLine 80 = .ok (.aload_n 0, 1) := dk_42 (dk_at dksX3_changeLine_3 12 rfl rfl)
theorem dX3_changeLine_81 : decode cX3_changeLine 81 = .ok (.iload_n 1, 1) := dk_27 (dk_at dksX3_changeLine_3 13 rfl rfl)
theorem dX3_changeLine_82 : decode cX3_changeLine 82 = .ok (.iload_n 2, 1) := dk_28 (dk_at dksX3_changeLine_3 14 rfl rfl)
theorem dX3_changeLine_83 : decode cX3_changeLine 83 = .ok (.iconst 1, 1) := dk_4 (dk_at dksX3_changeLine_3 15 rfl rfl)
theorem dX3_changeLine_84 : decode cX3_changeLine 84 = .ok (.invokestatic 109, 3) := dk_184 0 109 (dk_at dksX3_changeLine_3 16 rfl rfl)
theorem dX3_changeLine_87 : decode cX3_changeLine 87 = .ok (.invokevirtual 49, 3) := dk_182 0 49 (dk_at dksX3_changeLine_3 19 rfl rfl)
theorem dX3_changeLine_90 : decode cX3_changeLine 90 = .ok (.iload_n 3, 1) := dk_29 (dk_at dksX3_changeLine_3 22 rfl rfl)
theorem dX3_changeLine_91 : decode cX3_changeLine 91 = .ok (.if_icmp .ne 21, 3) := dk_160 0 21 (dk_at dksX3_changeLine_4 0 rfl rfl)
theorem dX3_changeLine_94 : decode cX3_changeLine 94 = .ok (.aload_n 0, 1) := dk_42 (dk_at dksX3_changeLine_4 3 rfl rfl)
theorem dX3_changeLine_95 : decode cX3_changeLine 95 = .ok (.iload_n 1, 1) := dk_27 (dk_at dksX3_changeLine_4 4 rfl rfl)
theorem dX3_changeLine_96 : decode cX3_changeLine 96 = .ok (.iload_n 2, 1) := dk_28 (dk_at dksX3_changeLine_4 5 rfl rfl)
theorem dX3_changeLine_97 : decode cX3_changeLine 97 = .ok (.iconst 2, 1) := dk_5 (dk_at dksX3_changeLine_4 6 rfl rfl)
theorem dX3_changeLine_98 : decode cX3_changeLine 98 = .ok (.invokestatic 109, 3) := dk_184 0 109 (dk_at dksX3_changeLine_4 7 rfl rfl)
theorem dX3_changeLine_101 : decode cX3_changeLine 101 = .ok (.invokevirtual 49, 3) := dk_182 0 49 (dk_at dksX3_changeLine_4 10 rfl rfl)
theorem dX3_changeLine_104 : decode cX3_changeLine 104 = .ok (.iload 4, 2) := dk_21 4 (dk_at dksX3_changeLine_4 13 rfl rfl)
theorem dX3_changeLine_106 : decode cX3_changeLine 106 = .ok (.if_icmp .ne 6, 3) := dk_160 0 6 (dk_at dksX3_changeLine_4 15 rfl rfl)
theorem dX3_changeLine_109 : decode cX3_changeLine 109 = .ok (.bipush (-5), 2) := dk_16 251 (dk_at dksX3_changeLine_4 18 rfl rfl)
theorem dX3_changeLine_111 : decode cX3_changeLine 111 = .ok (.ireturn, 1) := dk_172 (dk_at dksX3_changeLine_4 20 rfl rfl)
theorem dX3_changeLine_112 : decode cX3_changeLine 112 = .ok (.aload_n 0, 1) := dk_42 (dk_at dksX3_changeLine_4 21 rfl rfl)
theorem dX3_changeLine_113 : decode cX3_changeLine 113 = .ok (.getfield 13, 3) := dk_180 0 13 (dk_at dksX3_changeLine_5 0 rfl rfl)
theorem dX3_changeLine_116 : decode cX3_changeLine 116 = .ok (.iload_n 1, 1) := dk_27 (dk_at dksX3_changeLine_5 3 rfl rfl)
theorem dX3_changeLine_117 : decode cX3_changeLine 117 = .ok (.iload_n 2, 1) := dk_28 (dk_at dksX3_changeLine_5 4 rfl rfl)
theorem dX3_changeLine_118 : decode cX3_changeLine 118 = .ok (.iconst 1, 1) := dk_4 (dk_at dksX3_changeLine_5 5 rfl rfl)
theorem dX3_changeLine_119 : decode cX3_changeLine 119 = .ok (.invokestatic 109, 3) := dk_184 0 109 (dk_at dksX3_changeLine_5 6 rfl rfl)
theorem dX3_changeLine_122 : decode cX3_changeLine 122 = .ok (.iload_n 3, 1) := dk_29 (dk_at dksX3_changeLine_5 9 rfl rfl)
theorem dX3_changeLine_123 : decode cX3_changeLine 123 = .ok (.i2l, 1) := dk_133 (dk_at dksX3_changeLine_5 10 rfl rfl)
theorem dX3_changeLine_124 : decode cX3_changeLine 124 = .ok (.lastore, 1) := dk_80 (dk_at dksX3_changeLine_5 11 rfl rfl)
theorem dX3_changeLine_125 : decode cX3_changeLine 125 = .ok (.aload_n 0, 1) := dk_42 (dk_at dksX3_changeLine_5 12 rfl rfl)
theorem dX3_changeLine_126 : decode cX3_changeLine 126 = .ok (.getfield 13, 3) := dk_180 0 13 (dk_at dksX3_changeLine_5 13 rfl rfl)
theorem dX3_changeLine_129 : decode cX3_changeLine 129 = .ok (.iload_n 1, 1) := dk_27 (dk_at dksX3_changeLine_5 16 rfl rfl)
theorem dX3_changeLine_130 : decode cX3_changeLine 130 = .ok (.iload_n 2, 1) := dk_28 (dk_at dksX3_changeLine_5 17 rfl rfl)
theorem dX3_changeLine_131 : decode cX3_changeLine 131 = .ok (.iconst 2, 1) := dk_5 (dk_at dksX3_changeLine_5 18 rfl rfl)
theorem dX3_changeLine_132 : decode cX3_changeLine 132 = .ok (.invokestatic 109, 3) := dk_184 0 109 (dk_at dksX3_changeLine_5 19 rfl rfl)
theorem dX3_changeLine_135 : decode cX3_changeLine 135 = .ok (.iload 4, 2) := dk_21 4 (dk_at dksX3_changeLine_5 22 rfl rfl)
theorem dX3_changeLine_137 : decode cX3_changeLine 137 = .ok (.i2l, 1) := dk_133 (dk_at dksX3_changeLine_6 0 rfl rfl)
theorem dX3_changeLine_138 : decode cX3_changeLine 138 = .ok (.lastore, 1) := dk_80 (dk_at dksX3_changeLine_6 1 rfl rfl)
theorem dX3_changeLine_139 : decode cX3_changeLine 139 = .ok (.aload_n 0, 1) := dk_42 (dk_at dksX3_changeLine_6 2 rfl rfl)
theorem dX3_changeLine_140 : decode cX3_changeLine 140 = .ok (.getfield 13, 3) := dk_180 0 13 (dk_at dksX3_changeLine_6 3 rfl rfl)
theorem dX3_changeLine_143 : decode cX3_changeLine 143 = .ok (.iload_n 1, 1) := dk_27 (dk_at dksX3_changeLine_6 6 rfl rfl)
theorem dX3_changeLine_144 : decode cX3_changeLine 144 = .ok (.iconst 3, 1) := dk_6 (dk_at dksX3_changeLine_6 7 rfl rfl)
theorem dX3_changeLine_145 : decode cX3_changeLine 145 = .ok (.invokestatic 61, 3) := dk_184 0 61 (dk_at dksX3_changeLine_6 8 rfl rfl)
theorem dX3_changeLine_148 : decode cX3_changeLine 148 = .ok (.dup2, 1) := dk_92 (dk_at dksX3_changeLine_6 11 rfl rfl)
theorem dX3_changeLine_149 : decode cX3_changeLine 149 = .ok (.laload, 1) := dk_47 (dk_at dksX3_changeLine_6 12 rfl rfl)
theorem dX3_changeLine_150 : decode cX3_changeLine 150 = .ok (.lconst 1, 1) := dk_10 (dk_at dksX3_changeLine_6 13 rfl rfl)
theorem dX3_changeLine_151 : decode cX3_changeLine 151 = .ok (.ladd, 1) := dk_97 (dk_at dksX3_changeLine_6 14 rfl rfl)
theorem dX3_changeLine_152 : decode cX3_changeLine 152 = .ok (.lastore, 1) := dk_80 (dk_at dksX3_changeLine_6 15 rfl rfl)
theorem dX3_changeLine_153 : decode cX3_changeLine 153 = .ok (.aload_n 0, 1) := dk_42 (dk_at dksX3_changeLine_6 16 rfl rfl)
theorem dX3_changeLine_154 : decode cX3_changeLine 154 = .ok (.aload_n 0, 1) := dk_42 (dk_at dksX3_changeLine_6 17 rfl rfl)
theorem dX3_changeLine_155 : decode cX3_changeLine 155 = .ok (.iload_n 1, 1) := dk_27 (dk_at dksX3_changeLine_6 18 rfl rfl)
theorem dX3_changeLine_156 : decode cX3_changeLine 156 = .ok (.iconst 3, 1) := dk_6 (dk_at dksX3_changeLine_6 19 rfl rfl)
theorem dX3_changeLine_157 : decode cX3_changeLine 157 = .ok (.invokestatic 61, 3) := dk_184 0 61 (dk_at dksX3_changeLine_6 20 rfl rfl)
theorem dX3_changeLine_160 : decode cX3_changeLine 160 = .ok (.invokevirtual 49, 3) := dk_182 0 49 (dk_at dksX3_changeLine_7 0 rfl rfl)
theorem dX3_changeLine_163 : decode cX3_changeLine 163 = .ok (.invokevirtual 84, 3) := dk_182 0 84 (dk_at dksX3_changeLine_7 3 rfl rfl)
theorem dX3_changeLine_166 : decode cX3_changeLine 166 = .ok (.ireturn, 1) := dk_172 (dk_at dksX3_changeLine_7 6 rfl rfl)
abbrev cX3_isLine : ByteArray := prog_14_method_12_code
def yX3_isLine : MethodName := ⟨RX3, "isLine", "(II)Z"⟩
def dkwX3_isLine_1 : List UInt8 := [153, 0, 7, 4, 167, 0, 4, 3, 172]
abbrev dktX3_isLine_1 : List UInt8 := dkwX3_isLine_1 ++ []
def dkwX3_isLine_0 : List UInt8 := [42, 27, 182, 0, 57, 153, 0, 26, 28, 3, 42, 27, 4, 184, 0, 61, 182, 0, 49, 4, 100, 184, 0, 53]
abbrev dktX3_isLine_0 : List UInt8 := dkwX3_isLine_0 ++ dktX3_isLine_1
theorem dksX3_isLine_0 : cX3_isLine.data.toList.drop 0 = dktX3_isLine_0 := by decide +kernel
theorem dksX3_isLine_1 : cX3_isLine.data.toList.drop 24 = dktX3_isLine_1 := dk_seg dksX3_isLine_0 24 rfl rfl
theorem dX3_isLine_0 : decode cX3_isLine 0 = .ok (.aload_n 0, 1) := dk_42 (dk_at dksX3_isLine_0 0 rfl rfl)
theorem dX3_isLine_1 : decode cX3_isLine 1 = .ok (.iload_n 1, 1) := dk_27 (dk_at dksX3_isLine_0 1 rfl rfl)
theorem dX3_isLine_2 : decode cX3_isLine 2 = .ok (.invokevirtual 57, 3) := dk_182 0 57 (dk_at dksX3_isLine_0 2 rfl rfl)
theorem dX3_isLine_5 : decode cX3_isLine 5 = .ok (.ifCond .eq 26, 3) := dk_153 0 26 (dk_at dksX3_isLine_0 5 rfl rfl)
theorem dX3_isLine_8 : decode cX3_isLine 8 = .ok (.iload_n 2, 1) := dk_28 (dk_at dksX3_isLine_0 8 rfl rfl)
theorem dX3_isLine_9 : decode cX3_isLine 9 = .ok (.iconst 0, 1) := dk_3 (dk_at dksX3_isLine_0 9 rfl rfl)
theorem dX3_isLine_10 : decode cX3_isLine 10 = .ok (.aload_n 0, 1) := dk_42 (dk_at dksX3_isLine_0 10 rfl rfl)
theorem dX3_isLine_11 : decode cX3_isLine 11 = .ok (.iload_n 1, 1) := dk_27 (dk_at dksX3_isLine_0 11 rfl rfl)
theorem dX3_isLine_12 : decode cX3_isLine 12 = .ok (.iconst 1, 1) := dk_4 (dk_at dksX3_isLine_0 12 rfl rfl)
theorem dX3_isLine_13 : decode cX3_isLine 13 = .ok (.invokestatic 61, 3) := dk_184 0 61 (dk_at dksX3_isLine_0 13 rfl rfl)
theorem dX3_isLine_16 : decode cX3_isLine 16 = .ok (.invokevirtual 49, 3) := dk_182 0 49 (dk_at dksX3_isLine_0 16 rfl rfl)
theorem dX3_isLine_19 : decode cX3_isLine 19 = .ok (.iconst 1, 1) := dk_4 (dk_at dksX3_isLine_0 19 rfl rfl)
theorem dX3_isLine_20 : decode cX3_isLine 20 = .ok (.isub, 1) := dk_100 (dk_at dksX3_isLine_0 20 rfl rfl)
theorem dX3_isLine_21 : decode cX3_isLine 21 = .ok (.invokestatic 53, 3) := dk_184 0 53 (dk_at dksX3_isLine_0 21 rfl rfl)
theorem dX3_isLine_24 : decode cX3_isLine 24 = .ok (.ifCond .eq 7, 3) := dk_153 0 7 (dk_at dksX3_isLine_1 0 rfl rfl)
theorem dX3_isLine_27 : decode cX3_isLine 27 = .ok (.iconst 1, 1) := dk_4 (dk_at dksX3_isLine_1 3 rfl rfl)
theorem dX3_isLine_28 : decode cX3_isLine 28 = .ok (.goto 4, 3) := dk_167 0 4 (dk_at dksX3_isLine_1 4 rfl rfl)
theorem dX3_isLine_31 : decode cX3_isLine 31 = .ok (.iconst 0, 1) := dk_3 (dk_at dksX3_isLine_1 7 rfl rfl)
theorem dX3_isLine_32 : decode cX3_isLine 32 = .ok (.ireturn, 1) := dk_172 (dk_at dksX3_isLine_1 8 rfl rfl)
abbrev cX3_close : ByteArray := prog_14_method_32_code
def yX3_close : MethodName := ⟨RX3, "close", "(I)I"⟩
def dkwX3_close_4 : List UInt8 := [167, 255, 203, 42, 28, 182, 0, 84, 172]
abbrev dktX3_close_4 : List UInt8 := dkwX3_close_4 ++ []
def dkwX3_close_3 : List UInt8 := [182, 0, 49, 100, 54, 4, 28, 21, 4, 158, 0, 8, 21, 4, 167, 0, 4, 3, 96, 61, 132, 3, 1]
abbrev dktX3_close_3 : List UInt8 := dkwX3_close_3 ++ dktX3_close_4
def dkwX3_close_2 : List UInt8 := [182, 0, 49, 162, 0, 46, 42, 27, 29, 4, 184, 0, 109, 182, 0, 49, 42, 27, 29, 6, 184, 0, 109]
abbrev dktX3_close_2 : List UInt8 := dkwX3_close_2 ++ dktX3_close_3
def dkwX3_close_1 : List UInt8 := [172, 42, 180, 0, 13, 27, 5, 184, 0, 61, 10, 80, 3, 61, 3, 62, 29, 42, 27, 4, 184, 0, 61]
abbrev dktX3_close_1 : List UInt8 := dkwX3_close_1 ++ dktX3_close_2
def dkwX3_close_0 : List UInt8 := [42, 182, 0, 74, 42, 27, 182, 0, 57, 154, 0, 5, 2, 172, 42, 27, 182, 0, 106, 154, 0, 6, 16, 252]
abbrev dktX3_close_0 : List UInt8 := dkwX3_close_0 ++ dktX3_close_1
theorem dksX3_close_0 : cX3_close.data.toList.drop 0 = dktX3_close_0 := by decide +kernel
theorem dksX3_close_1 : cX3_close.data.toList.drop 24 = dktX3_close_1 := dk_seg dksX3_close_0 24 rfl rfl
theorem dksX3_close_2 : cX3_close.data.toList.drop 47 = dktX3_close_2 := dk_seg dksX3_close_1 23 rfl rfl
theorem dksX3_close_3 : cX3_close.data.toList.drop 70 = dktX3_close_3 := dk_seg dksX3_close_2 23 rfl rfl
theorem dksX3_close_4 : cX3_close.data.toList.drop 93 = dktX3_close_4 := dk_seg dksX3_close_3 23 rfl rfl
theorem dX3_close_0 : decode cX3_close 0 = .ok (.aload_n 0, 1) := dk_42 (dk_at dksX3_close_0 0 rfl rfl)
theorem dX3_close_1 : decode cX3_close 1 = .ok (.invokevirtual 74, 3) := dk_182 0 74 (dk_at dksX3_close_0 1 rfl rfl)
theorem dX3_close_4 : decode cX3_close 4 = .ok (.aload_n 0, 1) := dk_42 (dk_at dksX3_close_0 4 rfl rfl)
theorem dX3_close_5 : decode cX3_close 5 = .ok (.iload_n 1, 1) := dk_27 (dk_at dksX3_close_0 5 rfl rfl)
theorem dX3_close_6 : decode cX3_close 6 = .ok (.invokevirtual 57, 3) := dk_182 0 57 (dk_at dksX3_close_0 6 rfl rfl)
theorem dX3_close_9 : decode cX3_close 9 = .ok (.ifCond .ne 5, 3) := dk_154 0 5 (dk_at dksX3_close_0 9 rfl rfl)
theorem dX3_close_12 : decode cX3_close 12 = .ok (.iconst (-1), 1) := dk_2 (dk_at dksX3_close_0 12 rfl rfl)
theorem dX3_close_13 : decode cX3_close 13 = .ok (.ireturn, 1) := dk_172 (dk_at dksX3_close_0 13 rfl rfl)
theorem dX3_close_14 : decode cX3_close 14 = .ok (.aload_n 0, 1) := dk_42 (dk_at dksX3_close_0 14 rfl rfl)
theorem dX3_close_15 : decode cX3_close 15 = .ok (.iload_n 1, 1) := dk_27 (dk_at dksX3_close_0 15 rfl rfl)
theorem dX3_close_16 : decode cX3_close 16 = .ok (.invokevirtual 106, 3) := dk_182 0 106 (dk_at dksX3_close_0 16 rfl rfl)
theorem dX3_close_19 : decode cX3_close 19 = .ok (.ifCond .ne 6, 3) := dk_154 0 6 (dk_at dksX3_close_0 19 rfl rfl)
theorem dX3_close_22 : decode cX3_close 22 = .ok (.bipush (-4), 2) := dk_16 252 (dk_at dksX3_close_0 22 rfl rfl)
theorem dX3_close_24 : decode cX3_close 24 = .ok (.ireturn, 1) := dk_172 (dk_at dksX3_close_1 0 rfl rfl)
theorem dX3_close_25 : decode cX3_close 25 = .ok (.aload_n 0, 1) := dk_42 (dk_at dksX3_close_1 1 rfl rfl)
theorem dX3_close_26 : decode cX3_close 26 = .ok (.getfield 13, 3) := dk_180 0 13 (dk_at dksX3_close_1 2 rfl rfl)
theorem dX3_close_29 : decode cX3_close 29 = .ok (.iload_n 1, 1) := dk_27 (dk_at dksX3_close_1 5 rfl rfl)
theorem dX3_close_30 : decode cX3_close 30 = .ok (.iconst 2, 1) := dk_5 (dk_at dksX3_close_1 6 rfl rfl)
theorem dX3_close_31 : decode cX3_close 31 = .ok (.invokestatic 61, 3) := dk_184 0 61 (dk_at dksX3_close_1 7 rfl rfl)
theorem dX3_close_34 : decode cX3_close 34 = .ok (.lconst 1, 1) := dk_10 (dk_at dksX3_close_1 10 rfl rfl)
theorem dX3_close_35 : decode cX3_close 35 = .ok (.lastore, 1) := dk_80 (dk_at dksX3_close_1 11 rfl rfl)
theorem dX3_close_36 : decode cX3_close 36 = .ok (.iconst 0, 1) := dk_3 (dk_at dksX3_close_1 12 rfl rfl)
theorem dX3_close_37 : decode cX3_close 37 = .ok (.istore_n 2, 1) := dk_61 (dk_at dksX3_close_1 13 rfl rfl)
theorem dX3_close_38 : decode cX3_close 38 = .ok (.iconst 0, 1) := dk_3 (dk_at dksX3_close_1 14 rfl rfl)
theorem dX3_close_39 : decode cX3_close 39 = .ok (.istore_n 3, 1) := dk_62 (dk_at dksX3_close_1 15 rfl rfl)
theorem dX3_close_40 : decode cX3_close 40 = .ok (.iload_n 3, 1) := dk_29 (dk_at dksX3_close_1 16 rfl rfl)
theorem dX3_close_41 : decode cX3_close 41 = .ok (.aload_n 0, 1) := dk_42 (dk_at dksX3_close_1 17 rfl rfl)
theorem dX3_close_42 : decode cX3_close 42 = .ok (.iload_n 1, 1) := dk_27 (dk_at dksX3_close_1 18 rfl rfl)
theorem dX3_close_43 : decode cX3_close 43 = .ok (.iconst 1, 1) := dk_4 (dk_at dksX3_close_1 19 rfl rfl)
theorem dX3_close_44 : decode cX3_close 44 = .ok (.invokestatic 61, 3) := dk_184 0 61 (dk_at dksX3_close_1 20 rfl rfl)
theorem dX3_close_47 : decode cX3_close 47 = .ok (.invokevirtual 49, 3) := dk_182 0 49 (dk_at dksX3_close_2 0 rfl rfl)
theorem dX3_close_50 : decode cX3_close 50 = .ok (.if_icmp .ge 46, 3) := dk_162 0 46 (dk_at dksX3_close_2 3 rfl rfl)
theorem dX3_close_53 : decode cX3_close 53 = .ok (.aload_n 0, 1) := dk_42 (dk_at dksX3_close_2 6 rfl rfl)
theorem dX3_close_54 : decode cX3_close 54 = .ok (.iload_n 1, 1) := dk_27 (dk_at dksX3_close_2 7 rfl rfl)
theorem dX3_close_55 : decode cX3_close 55 = .ok (.iload_n 3, 1) := dk_29 (dk_at dksX3_close_2 8 rfl rfl)
theorem dX3_close_56 : decode cX3_close 56 = .ok (.iconst 1, 1) := dk_4 (dk_at dksX3_close_2 9 rfl rfl)
theorem dX3_close_57 : decode cX3_close 57 = .ok (.invokestatic 109, 3) := dk_184 0 109 (dk_at dksX3_close_2 10 rfl rfl)
theorem dX3_close_60 : decode cX3_close 60 = .ok (.invokevirtual 49, 3) := dk_182 0 49 (dk_at dksX3_close_2 13 rfl rfl)
theorem dX3_close_63 : decode cX3_close 63 = .ok (.aload_n 0, 1) := dk_42 (dk_at dksX3_close_2 16 rfl rfl)
theorem dX3_close_64 : decode cX3_close 64 = .ok (.iload_n 1, 1) := dk_27 (dk_at dksX3_close_2 17 rfl rfl)
theorem dX3_close_65 : decode cX3_close 65 = .ok (.iload_n 3, 1) := dk_29 (dk_at dksX3_close_2 18 rfl rfl)
theorem dX3_close_66 : decode cX3_close 66 = .ok (.iconst 3, 1) := dk_6 (dk_at dksX3_close_2 19 rfl rfl)
theorem dX3_close_67 : decode cX3_close 67 = .ok (.invokestatic 109, 3) := dk_184 0 109 (dk_at dksX3_close_2 20 rfl rfl)
theorem dX3_close_70 : decode cX3_close 70 = .ok (.invokevirtual 49, 3) := dk_182 0 49 (dk_at dksX3_close_3 0 rfl rfl)
theorem dX3_close_73 : decode cX3_close 73 = .ok (.isub, 1) := dk_100 (dk_at dksX3_close_3 3 rfl rfl)
theorem dX3_close_74 : decode cX3_close 74 = .ok (.istore 4, 2) := dk_54 4 (dk_at dksX3_close_3 4 rfl rfl)
theorem dX3_close_76 : decode cX3_close 76 = .ok (.iload_n 2, 1) := dk_28 (dk_at dksX3_close_3 6 rfl rfl)
theorem dX3_close_77 : decode cX3_close 77 = .ok (.iload 4, 2) := dk_21 4 (dk_at dksX3_close_3 7 rfl rfl)
theorem dX3_close_79 : decode cX3_close 79 = .ok (.ifCond .le 8, 3) := dk_158 0 8 (dk_at dksX3_close_3 9 rfl rfl)
theorem dX3_close_82 : decode cX3_close 82 = .ok (.iload 4, 2) := dk_21 4 (dk_at dksX3_close_3 12 rfl rfl)
theorem dX3_close_84 : decode cX3_close 84 = .ok (.goto 4, 3) := dk_167 0 4 (dk_at dksX3_close_3 14 rfl rfl)
theorem dX3_close_87 : decode cX3_close 87 = .ok (.iconst 0, 1) := dk_3 (dk_at dksX3_close_3 17 rfl rfl)
theorem dX3_close_88 : decode cX3_close 88 = .ok (.iadd, 1) := dk_96 (dk_at dksX3_close_3 18 rfl rfl)
theorem dX3_close_89 : decode cX3_close 89 = .ok (.istore_n 2, 1) := dk_61 (dk_at dksX3_close_3 19 rfl rfl)
theorem dX3_close_90 : decode cX3_close 90 = .ok (.iinc 3 1, 3) := dk_132 3 1 (dk_at dksX3_close_3 20 rfl rfl)
theorem dX3_close_93 : decode cX3_close 93 = .ok (.goto (-53), 3) := dk_167 255 203 (dk_at dksX3_close_4 0 rfl rfl)
theorem dX3_close_96 : decode cX3_close 96 = .ok (.aload_n 0, 1) := dk_42 (dk_at dksX3_close_4 3 rfl rfl)
theorem dX3_close_97 : decode cX3_close 97 = .ok (.iload_n 2, 1) := dk_28 (dk_at dksX3_close_4 4 rfl rfl)
theorem dX3_close_98 : decode cX3_close 98 = .ok (.invokevirtual 84, 3) := dk_182 0 84 (dk_at dksX3_close_4 5 rfl rfl)
theorem dX3_close_101 : decode cX3_close 101 = .ok (.ireturn, 1) := dk_172 (dk_at dksX3_close_4 8 rfl rfl)
abbrev cX3_cancel : ByteArray := prog_14_method_33_code
def yX3_cancel : MethodName := ⟨RX3, "cancel", "(I)I"⟩
def dkwX3_cancel_4 : List UInt8 := [184, 0, 61, 20, 0, 117, 80, 42, 42, 27, 4, 184, 0, 61, 182, 0, 49, 182, 0, 84, 172]
abbrev dktX3_cancel_4 : List UInt8 := dkwX3_cancel_4 ++ []
def dkwX3_cancel_3 : List UInt8 := [167, 255, 204, 42, 27, 182, 0, 106, 153, 0, 7, 28, 158, 0, 6, 16, 252, 172, 42, 180, 0, 13, 27, 5]
abbrev dktX3_cancel_3 : List UInt8 := dkwX3_cancel_3 ++ dktX3_cancel_4
def dkwX3_cancel_2 : List UInt8 := [184, 0, 109, 182, 0, 49, 96, 42, 27, 29, 16, 6, 184, 0, 109, 182, 0, 49, 96, 96, 61, 132, 3, 1]
abbrev dktX3_cancel_2 : List UInt8 := dkwX3_cancel_2 ++ dktX3_cancel_3
def dkwX3_cancel_1 : List UInt8 := [184, 0, 61, 182, 0, 49, 162, 0, 45, 28, 42, 27, 29, 6, 184, 0, 109, 182, 0, 49, 42, 27, 29, 8]
abbrev dktX3_cancel_1 : List UInt8 := dkwX3_cancel_1 ++ dktX3_cancel_2
def dkwX3_cancel_0 : List UInt8 := [42, 182, 0, 74, 42, 27, 182, 0, 57, 154, 0, 5, 2, 172, 3, 61, 3, 62, 29, 42, 27, 4]
abbrev dktX3_cancel_0 : List UInt8 := dkwX3_cancel_0 ++ dktX3_cancel_1
theorem dksX3_cancel_0 : cX3_cancel.data.toList.drop 0 = dktX3_cancel_0 := by decide +kernel
theorem dksX3_cancel_1 : cX3_cancel.data.toList.drop 22 = dktX3_cancel_1 := dk_seg dksX3_cancel_0 22 rfl rfl
theorem dksX3_cancel_2 : cX3_cancel.data.toList.drop 46 = dktX3_cancel_2 := dk_seg dksX3_cancel_1 24 rfl rfl
theorem dksX3_cancel_3 : cX3_cancel.data.toList.drop 70 = dktX3_cancel_3 := dk_seg dksX3_cancel_2 24 rfl rfl
theorem dksX3_cancel_4 : cX3_cancel.data.toList.drop 94 = dktX3_cancel_4 := dk_seg dksX3_cancel_3 24 rfl rfl
theorem dX3_cancel_0 : decode cX3_cancel 0 = .ok (.aload_n 0, 1) := dk_42 (dk_at dksX3_cancel_0 0 rfl rfl)
theorem dX3_cancel_1 : decode cX3_cancel 1 = .ok (.invokevirtual 74, 3) := dk_182 0 74 (dk_at dksX3_cancel_0 1 rfl rfl)
theorem dX3_cancel_4 : decode cX3_cancel 4 = .ok (.aload_n 0, 1) := dk_42 (dk_at dksX3_cancel_0 4 rfl rfl)
theorem dX3_cancel_5 : decode cX3_cancel 5 = .ok (.iload_n 1, 1) := dk_27 (dk_at dksX3_cancel_0 5 rfl rfl)
theorem dX3_cancel_6 : decode cX3_cancel 6 = .ok (.invokevirtual 57, 3) := dk_182 0 57 (dk_at dksX3_cancel_0 6 rfl rfl)
theorem dX3_cancel_9 : decode cX3_cancel 9 = .ok (.ifCond .ne 5, 3) := dk_154 0 5 (dk_at dksX3_cancel_0 9 rfl rfl)
theorem dX3_cancel_12 : decode cX3_cancel 12 = .ok (.iconst (-1), 1) := dk_2 (dk_at dksX3_cancel_0 12 rfl rfl)
theorem dX3_cancel_13 : decode cX3_cancel 13 = .ok (.ireturn, 1) := dk_172 (dk_at dksX3_cancel_0 13 rfl rfl)
theorem dX3_cancel_14 : decode cX3_cancel 14 = .ok (.iconst 0, 1) := dk_3 (dk_at dksX3_cancel_0 14 rfl rfl)
theorem dX3_cancel_15 : decode cX3_cancel 15 = .ok (.istore_n 2, 1) := dk_61 (dk_at dksX3_cancel_0 15 rfl rfl)
theorem dX3_cancel_16 : decode cX3_cancel 16 = .ok (.iconst 0, 1) := dk_3 (dk_at dksX3_cancel_0 16 rfl rfl)
theorem dX3_cancel_17 : decode cX3_cancel 17 = .ok (.istore_n 3, 1) := dk_62 (dk_at dksX3_cancel_0 17 rfl rfl)
theorem dX3_cancel_18 : decode cX3_cancel 18 = .ok (.iload_n 3, 1) := dk_29 (dk_at dksX3_cancel_0 18 rfl rfl)
theorem dX3_cancel_19 : decode cX3_cancel 19 = .ok (.aload_n 0, 1) := dk_42 (dk_at dksX3_cancel_0 19 rfl rfl)
theorem dX3_cancel_20 : decode cX3_cancel 20 = .ok (.iload_n 1, 1) := dk_27 (dk_at dksX3_cancel_0 20 rfl rfl)
theorem dX3_cancel_21 : decode cX3_cancel 21 = .ok (.iconst 1, 1) := dk_4 (dk_at dksX3_cancel_0 21 rfl rfl)
theorem dX3_cancel_22 : decode cX3_cancel 22 = .ok (.invokestatic 61, 3) := dk_184 0 61 (dk_at dksX3_cancel_1 0 rfl rfl)
theorem dX3_cancel_25 : decode cX3_cancel 25 = .ok (.invokevirtual 49, 3) := dk_182 0 49 (dk_at dksX3_cancel_1 3 rfl rfl)
theorem dX3_cancel_28 : decode cX3_cancel 28 = .ok (.if_icmp .ge 45, 3) := dk_162 0 45 (dk_at dksX3_cancel_1 6 rfl rfl)
theorem dX3_cancel_31 : decode cX3_cancel 31 = .ok (.iload_n 2, 1) := dk_28 (dk_at dksX3_cancel_1 9 rfl rfl)
theorem dX3_cancel_32 : decode cX3_cancel 32 = .ok (.aload_n 0, 1) := dk_42 (dk_at dksX3_cancel_1 10 rfl rfl)
theorem dX3_cancel_33 : decode cX3_cancel 33 = .ok (.iload_n 1, 1) := dk_27 (dk_at dksX3_cancel_1 11 rfl rfl)
theorem dX3_cancel_34 : decode cX3_cancel 34 = .ok (.iload_n 3, 1) := dk_29 (dk_at dksX3_cancel_1 12 rfl rfl)
theorem dX3_cancel_35 : decode cX3_cancel 35 = .ok (.iconst 3, 1) := dk_6 (dk_at dksX3_cancel_1 13 rfl rfl)
theorem dX3_cancel_36 : decode cX3_cancel 36 = .ok (.invokestatic 109, 3) := dk_184 0 109 (dk_at dksX3_cancel_1 14 rfl rfl)
theorem dX3_cancel_39 : decode cX3_cancel 39 = .ok (.invokevirtual 49, 3) := dk_182 0 49 (dk_at dksX3_cancel_1 17 rfl rfl)
theorem dX3_cancel_42 : decode cX3_cancel 42 = .ok (.aload_n 0, 1) := dk_42 (dk_at dksX3_cancel_1 20 rfl rfl)
theorem dX3_cancel_43 : decode cX3_cancel 43 = .ok (.iload_n 1, 1) := dk_27 (dk_at dksX3_cancel_1 21 rfl rfl)
theorem dX3_cancel_44 : decode cX3_cancel 44 = .ok (.iload_n 3, 1) := dk_29 (dk_at dksX3_cancel_1 22 rfl rfl)
theorem dX3_cancel_45 : decode cX3_cancel 45 = .ok (.iconst 5, 1) := dk_8 (dk_at dksX3_cancel_1 23 rfl rfl)
theorem dX3_cancel_46 : decode cX3_cancel 46 = .ok (.invokestatic 109, 3) := dk_184 0 109 (dk_at dksX3_cancel_2 0 rfl rfl)
theorem dX3_cancel_49 : decode cX3_cancel 49 = .ok (.invokevirtual 49, 3) := dk_182 0 49 (dk_at dksX3_cancel_2 3 rfl rfl)
theorem dX3_cancel_52 : decode cX3_cancel 52 = .ok (.iadd, 1) := dk_96 (dk_at dksX3_cancel_2 6 rfl rfl)
theorem dX3_cancel_53 : decode cX3_cancel 53 = .ok (.aload_n 0, 1) := dk_42 (dk_at dksX3_cancel_2 7 rfl rfl)
theorem dX3_cancel_54 : decode cX3_cancel 54 = .ok (.iload_n 1, 1) := dk_27 (dk_at dksX3_cancel_2 8 rfl rfl)
theorem dX3_cancel_55 : decode cX3_cancel 55 = .ok (.iload_n 3, 1) := dk_29 (dk_at dksX3_cancel_2 9 rfl rfl)
theorem dX3_cancel_56 : decode cX3_cancel 56 = .ok (.bipush 6, 2) := dk_16 6 (dk_at dksX3_cancel_2 10 rfl rfl)
theorem dX3_cancel_58 : decode cX3_cancel 58 = .ok (.invokestatic 109, 3) := dk_184 0 109 (dk_at dksX3_cancel_2 12 rfl rfl)
theorem dX3_cancel_61 : decode cX3_cancel 61 = .ok (.invokevirtual 49, 3) := dk_182 0 49 (dk_at dksX3_cancel_2 15 rfl rfl)
theorem dX3_cancel_64 : decode cX3_cancel 64 = .ok (.iadd, 1) := dk_96 (dk_at dksX3_cancel_2 18 rfl rfl)
theorem dX3_cancel_65 : decode cX3_cancel 65 = .ok (.iadd, 1) := dk_96 (dk_at dksX3_cancel_2 19 rfl rfl)
theorem dX3_cancel_66 : decode cX3_cancel 66 = .ok (.istore_n 2, 1) := dk_61 (dk_at dksX3_cancel_2 20 rfl rfl)
theorem dX3_cancel_67 : decode cX3_cancel 67 = .ok (.iinc 3 1, 3) := dk_132 3 1 (dk_at dksX3_cancel_2 21 rfl rfl)
theorem dX3_cancel_70 : decode cX3_cancel 70 = .ok (.goto (-52), 3) := dk_167 255 204 (dk_at dksX3_cancel_3 0 rfl rfl)
theorem dX3_cancel_73 : decode cX3_cancel 73 = .ok (.aload_n 0, 1) := dk_42 (dk_at dksX3_cancel_3 3 rfl rfl)
theorem dX3_cancel_74 : decode cX3_cancel 74 = .ok (.iload_n 1, 1) := dk_27 (dk_at dksX3_cancel_3 4 rfl rfl)
theorem dX3_cancel_75 : decode cX3_cancel 75 = .ok (.invokevirtual 106, 3) := dk_182 0 106 (dk_at dksX3_cancel_3 5 rfl rfl)
theorem dX3_cancel_78 : decode cX3_cancel 78 = .ok (.ifCond .eq 7, 3) := dk_153 0 7 (dk_at dksX3_cancel_3 8 rfl rfl)
theorem dX3_cancel_81 : decode cX3_cancel 81 = .ok (.iload_n 2, 1) := dk_28 (dk_at dksX3_cancel_3 11 rfl rfl)
theorem dX3_cancel_82 : decode cX3_cancel 82 = .ok (.ifCond .le 6, 3) := dk_158 0 6 (dk_at dksX3_cancel_3 12 rfl rfl)
theorem dX3_cancel_85 : decode cX3_cancel 85 = .ok (.bipush (-4), 2) := dk_16 252 (dk_at dksX3_cancel_3 15 rfl rfl)
theorem dX3_cancel_87 : decode cX3_cancel 87 = .ok (.ireturn, 1) := dk_172 (dk_at dksX3_cancel_3 17 rfl rfl)
theorem dX3_cancel_88 : decode cX3_cancel 88 = .ok (.aload_n 0, 1) := dk_42 (dk_at dksX3_cancel_3 18 rfl rfl)
theorem dX3_cancel_89 : decode cX3_cancel 89 = .ok (.getfield 13, 3) := dk_180 0 13 (dk_at dksX3_cancel_3 19 rfl rfl)
theorem dX3_cancel_92 : decode cX3_cancel 92 = .ok (.iload_n 1, 1) := dk_27 (dk_at dksX3_cancel_3 22 rfl rfl)
theorem dX3_cancel_93 : decode cX3_cancel 93 = .ok (.iconst 2, 1) := dk_5 (dk_at dksX3_cancel_3 23 rfl rfl)
theorem dX3_cancel_94 : decode cX3_cancel 94 = .ok (.invokestatic 61, 3) := dk_184 0 61 (dk_at dksX3_cancel_4 0 rfl rfl)
theorem dX3_cancel_97 : decode cX3_cancel 97 = .ok (.ldc2_w 117, 3) := dk_20 0 117 (dk_at dksX3_cancel_4 3 rfl rfl)
theorem dX3_cancel_100 : decode cX3_cancel 100 = .ok (.lastore, 1) := dk_80 (dk_at dksX3_cancel_4 6 rfl rfl)
theorem dX3_cancel_101 : decode cX3_cancel 101 = .ok (.aload_n 0, 1) := dk_42 (dk_at dksX3_cancel_4 7 rfl rfl)
theorem dX3_cancel_102 : decode cX3_cancel 102 = .ok (.aload_n 0, 1) := dk_42 (dk_at dksX3_cancel_4 8 rfl rfl)
theorem dX3_cancel_103 : decode cX3_cancel 103 = .ok (.iload_n 1, 1) := dk_27 (dk_at dksX3_cancel_4 9 rfl rfl)
theorem dX3_cancel_104 : decode cX3_cancel 104 = .ok (.iconst 1, 1) := dk_4 (dk_at dksX3_cancel_4 10 rfl rfl)
theorem dX3_cancel_105 : decode cX3_cancel 105 = .ok (.invokestatic 61, 3) := dk_184 0 61 (dk_at dksX3_cancel_4 11 rfl rfl)
theorem dX3_cancel_108 : decode cX3_cancel 108 = .ok (.invokevirtual 49, 3) := dk_182 0 49 (dk_at dksX3_cancel_4 14 rfl rfl)
theorem dX3_cancel_111 : decode cX3_cancel 111 = .ok (.invokevirtual 84, 3) := dk_182 0 84 (dk_at dksX3_cancel_4 17 rfl rfl)
theorem dX3_cancel_114 : decode cX3_cancel 114 = .ok (.ireturn, 1) := dk_172 (dk_at dksX3_cancel_4 20 rfl rfl)
abbrev cX3_receive : ByteArray := prog_14_method_37_code
def yX3_receive : MethodName := ⟨RX3, "receive", "(IIII)I"⟩
def dkwX3_receive_5 : List UInt8 := [27, 29, 182, 0, 131, 42, 42, 27, 28, 6, 184, 0, 109, 182, 0, 49, 182, 0, 84, 172]
abbrev dktX3_receive_5 : List UInt8 := dkwX3_receive_5 ++ []
def dkwX3_receive_4 : List UInt8 := [47, 29, 133, 97, 80, 42, 180, 0, 13, 27, 28, 7, 184, 0, 109, 92, 47, 21, 4, 133, 97, 80, 42, 3]
abbrev dktX3_receive_4 : List UInt8 := dkwX3_receive_4 ++ dktX3_receive_5
def dkwX3_receive_3 : List UInt8 := [96, 42, 27, 28, 182, 0, 128, 164, 0, 6, 16, 252, 172, 42, 180, 0, 13, 27, 28, 6, 184, 0, 109, 92]
abbrev dktX3_receive_3 : List UInt8 := dkwX3_receive_3 ++ dktX3_receive_4
def dkwX3_receive_2 : List UInt8 := [172, 42, 27, 182, 0, 106, 153, 0, 28, 29, 158, 0, 27, 42, 27, 28, 6, 184, 0, 109, 182, 0, 49, 29]
abbrev dktX3_receive_2 : List UInt8 := dkwX3_receive_2 ++ dktX3_receive_3
def dkwX3_receive_1 : List UInt8 := [153, 0, 22, 21, 4, 3, 17, 3, 231, 184, 0, 53, 153, 0, 10, 29, 21, 4, 96, 154, 0, 6, 16, 254]
abbrev dktX3_receive_1 : List UInt8 := dkwX3_receive_1 ++ dktX3_receive_2
def dkwX3_receive_0 : List UInt8 := [42, 182, 0, 74, 42, 27, 28, 182, 0, 113, 154, 0, 5, 2, 172, 29, 3, 17, 3, 231, 184, 0, 53]
abbrev dktX3_receive_0 : List UInt8 := dkwX3_receive_0 ++ dktX3_receive_1
theorem dksX3_receive_0 : cX3_receive.data.toList.drop 0 = dktX3_receive_0 := by decide +kernel
theorem dksX3_receive_1 : cX3_receive.data.toList.drop 23 = dktX3_receive_1 := dk_seg dksX3_receive_0 23 rfl rfl
theorem dksX3_receive_2 : cX3_receive.data.toList.drop 47 = dktX3_receive_2 := dk_seg dksX3_receive_1 24 rfl rfl
theorem dksX3_receive_3 : cX3_receive.data.toList.drop 71 = dktX3_receive_3 := dk_seg dksX3_receive_2 24 rfl rfl
theorem dksX3_receive_4 : cX3_receive.data.toList.drop 95 = dktX3_receive_4 := dk_seg dksX3_receive_3 24 rfl rfl
theorem dksX3_receive_5 : cX3_receive.data.toList.drop 119 = dktX3_receive_5 := dk_seg dksX3_receive_4 24 rfl rfl
theorem dX3_receive_0 : decode cX3_receive 0 = .ok (.aload_n 0, 1) := dk_42 (dk_at dksX3_receive_0 0 rfl rfl)
theorem dX3_receive_1 : decode cX3_receive 1 = .ok (.invokevirtual 74, 3) := dk_182 0 74 (dk_at dksX3_receive_0 1 rfl rfl)
theorem dX3_receive_4 : decode cX3_receive 4 = .ok (.aload_n 0, 1) := dk_42 (dk_at dksX3_receive_0 4 rfl rfl)
theorem dX3_receive_5 : decode cX3_receive 5 = .ok (.iload_n 1, 1) := dk_27 (dk_at dksX3_receive_0 5 rfl rfl)
theorem dX3_receive_6 : decode cX3_receive 6 = .ok (.iload_n 2, 1) := dk_28 (dk_at dksX3_receive_0 6 rfl rfl)
theorem dX3_receive_7 : decode cX3_receive 7 = .ok (.invokevirtual 113, 3) := dk_182 0 113 (dk_at dksX3_receive_0 7 rfl rfl)
theorem dX3_receive_10 : decode cX3_receive 10 = .ok (.ifCond .ne 5, 3) := dk_154 0 5 (dk_at dksX3_receive_0 10 rfl rfl)
theorem dX3_receive_13 : decode cX3_receive 13 = .ok (.iconst (-1), 1) := dk_2 (dk_at dksX3_receive_0 13 rfl rfl)
theorem dX3_receive_14 : decode cX3_receive 14 = .ok (.ireturn, 1) := dk_172 (dk_at dksX3_receive_0 14 rfl rfl)
theorem dX3_receive_15 : decode cX3_receive 15 = .ok (.iload_n 3, 1) := dk_29 (dk_at dksX3_receive_0 15 rfl rfl)
theorem dX3_receive_16 : decode cX3_receive 16 = .ok (.iconst 0, 1) := dk_3 (dk_at dksX3_receive_0 16 rfl rfl)
theorem dX3_receive_17 : decode cX3_receive 17 = .ok (.sipush 999, 3) := dk_17 3 231 (dk_at dksX3_receive_0 17 rfl rfl)
theorem dX3_receive_20 : decode cX3_receive 20 = .ok (.invokestatic 53, 3) := dk_184 0 53 (dk_at dksX3_receive_0 20 rfl rfl)
theorem dX3_receive_23 : decode cX3_receive 23 = .ok (.ifCond .eq 22, 3) := dk_153 0 22 (dk_at dksX3_receive_1 0 rfl rfl)
theorem dX3_receive_26 : decode cX3_receive 26 = .ok (.iload 4, 2) := dk_21 4 (dk_at dksX3_receive_1 3 rfl rfl)
theorem dX3_receive_28 : decode cX3_receive 28 = .ok (.iconst 0, 1) := dk_3 (dk_at dksX3_receive_1 5 rfl rfl)
theorem dX3_receive_29 : decode cX3_receive 29 = .ok (.sipush 999, 3) := dk_17 3 231 (dk_at dksX3_receive_1 6 rfl rfl)
theorem dX3_receive_32 : decode cX3_receive 32 = .ok (.invokestatic 53, 3) := dk_184 0 53 (dk_at dksX3_receive_1 9 rfl rfl)
theorem dX3_receive_35 : decode cX3_receive 35 = .ok (.ifCond .eq 10, 3) := dk_153 0 10 (dk_at dksX3_receive_1 12 rfl rfl)
theorem dX3_receive_38 : decode cX3_receive 38 = .ok (.iload_n 3, 1) := dk_29 (dk_at dksX3_receive_1 15 rfl rfl)
theorem dX3_receive_39 : decode cX3_receive 39 = .ok (.iload 4, 2) := dk_21 4 (dk_at dksX3_receive_1 16 rfl rfl)
theorem dX3_receive_41 : decode cX3_receive 41 = .ok (.iadd, 1) := dk_96 (dk_at dksX3_receive_1 18 rfl rfl)
theorem dX3_receive_42 : decode cX3_receive 42 = .ok (.ifCond .ne 6, 3) := dk_154 0 6 (dk_at dksX3_receive_1 19 rfl rfl)
theorem dX3_receive_45 : decode cX3_receive 45 = .ok (.bipush (-2), 2) := dk_16 254 (dk_at dksX3_receive_1 22 rfl rfl)
theorem dX3_receive_47 : decode cX3_receive 47 = .ok (.ireturn, 1) := dk_172 (dk_at dksX3_receive_2 0 rfl rfl)
theorem dX3_receive_48 : decode cX3_receive 48 = .ok (.aload_n 0, 1) := dk_42 (dk_at dksX3_receive_2 1 rfl rfl)
theorem dX3_receive_49 : decode cX3_receive 49 = .ok (.iload_n 1, 1) := dk_27 (dk_at dksX3_receive_2 2 rfl rfl)
theorem dX3_receive_50 : decode cX3_receive 50 = .ok (.invokevirtual 106, 3) := dk_182 0 106 (dk_at dksX3_receive_2 3 rfl rfl)
theorem dX3_receive_53 : decode cX3_receive 53 = .ok (.ifCond .eq 28, 3) := dk_153 0 28 (dk_at dksX3_receive_2 6 rfl rfl)
theorem dX3_receive_56 : decode cX3_receive 56 = .ok (.iload_n 3, 1) := dk_29 (dk_at dksX3_receive_2 9 rfl rfl)
theorem dX3_receive_57 : decode cX3_receive 57 = .ok (.ifCond .le 27, 3) := dk_158 0 27 (dk_at dksX3_receive_2 10 rfl rfl)
theorem dX3_receive_60 : decode cX3_receive 60 = .ok (.aload_n 0, 1) := dk_42 (dk_at dksX3_receive_2 13 rfl rfl)
theorem dX3_receive_61 : decode cX3_receive 61 = .ok (.iload_n 1, 1) := dk_27 (dk_at dksX3_receive_2 14 rfl rfl)
theorem dX3_receive_62 : decode cX3_receive 62 = .ok (.iload_n 2, 1) := dk_28 (dk_at dksX3_receive_2 15 rfl rfl)
theorem dX3_receive_63 : decode cX3_receive 63 = .ok (.iconst 3, 1) := dk_6 (dk_at dksX3_receive_2 16 rfl rfl)
theorem dX3_receive_64 : decode cX3_receive 64 = .ok (.invokestatic 109, 3) := dk_184 0 109 (dk_at dksX3_receive_2 17 rfl rfl)
theorem dX3_receive_67 : decode cX3_receive 67 = .ok (.invokevirtual 49, 3) := dk_182 0 49 (dk_at dksX3_receive_2 20 rfl rfl)
theorem dX3_receive_70 : decode cX3_receive 70 = .ok (.iload_n 3, 1) := dk_29 (dk_at dksX3_receive_2 23 rfl rfl)
theorem dX3_receive_71 : decode cX3_receive 71 = .ok (.iadd, 1) := dk_96 (dk_at dksX3_receive_3 0 rfl rfl)
theorem dX3_receive_72 : decode cX3_receive 72 = .ok (.aload_n 0, 1) := dk_42 (dk_at dksX3_receive_3 1 rfl rfl)
theorem dX3_receive_73 : decode cX3_receive 73 = .ok (.iload_n 1, 1) := dk_27 (dk_at dksX3_receive_3 2 rfl rfl)
theorem dX3_receive_74 : decode cX3_receive 74 = .ok (.iload_n 2, 1) := dk_28 (dk_at dksX3_receive_3 3 rfl rfl)
theorem dX3_receive_75 : decode cX3_receive 75 = .ok (.invokevirtual 128, 3) := dk_182 0 128 (dk_at dksX3_receive_3 4 rfl rfl)
theorem dX3_receive_78 : decode cX3_receive 78 = .ok (.if_icmp .le 6, 3) := dk_164 0 6 (dk_at dksX3_receive_3 7 rfl rfl)
theorem dX3_receive_81 : decode cX3_receive 81 = .ok (.bipush (-4), 2) := dk_16 252 (dk_at dksX3_receive_3 10 rfl rfl)
theorem dX3_receive_83 : decode cX3_receive 83 = .ok (.ireturn, 1) := dk_172 (dk_at dksX3_receive_3 12 rfl rfl)
theorem dX3_receive_84 : decode cX3_receive 84 = .ok (.aload_n 0, 1) := dk_42 (dk_at dksX3_receive_3 13 rfl rfl)
theorem dX3_receive_85 : decode cX3_receive 85 = .ok (.getfield 13, 3) := dk_180 0 13 (dk_at dksX3_receive_3 14 rfl rfl)
theorem dX3_receive_88 : decode cX3_receive 88 = .ok (.iload_n 1, 1) := dk_27 (dk_at dksX3_receive_3 17 rfl rfl)
theorem dX3_receive_89 : decode cX3_receive 89 = .ok (.iload_n 2, 1) := dk_28 (dk_at dksX3_receive_3 18 rfl rfl)
theorem dX3_receive_90 : decode cX3_receive 90 = .ok (.iconst 3, 1) := dk_6 (dk_at dksX3_receive_3 19 rfl rfl)
theorem dX3_receive_91 : decode cX3_receive 91 = .ok (.invokestatic 109, 3) := dk_184 0 109 (dk_at dksX3_receive_3 20 rfl rfl)
theorem dX3_receive_94 : decode cX3_receive 94 = .ok (.dup2, 1) := dk_92 (dk_at dksX3_receive_3 23 rfl rfl)
theorem dX3_receive_95 : decode cX3_receive 95 = .ok (.laload, 1) := dk_47 (dk_at dksX3_receive_4 0 rfl rfl)
theorem dX3_receive_96 : decode cX3_receive 96 = .ok (.iload_n 3, 1) := dk_29 (dk_at dksX3_receive_4 1 rfl rfl)
theorem dX3_receive_97 : decode cX3_receive 97 = .ok (.i2l, 1) := dk_133 (dk_at dksX3_receive_4 2 rfl rfl)
theorem dX3_receive_98 : decode cX3_receive 98 = .ok (.ladd, 1) := dk_97 (dk_at dksX3_receive_4 3 rfl rfl)
theorem dX3_receive_99 : decode cX3_receive 99 = .ok (.lastore, 1) := dk_80 (dk_at dksX3_receive_4 4 rfl rfl)
theorem dX3_receive_100 : decode cX3_receive 100 = .ok (.aload_n 0, 1) := dk_42 (dk_at dksX3_receive_4 5 rfl rfl)
theorem dX3_receive_101 : decode cX3_receive 101 = .ok (.getfield 13, 3) := dk_180 0 13 (dk_at dksX3_receive_4 6 rfl rfl)
theorem dX3_receive_104 : decode cX3_receive 104 = .ok (.iload_n 1, 1) := dk_27 (dk_at dksX3_receive_4 9 rfl rfl)
theorem dX3_receive_105 : decode cX3_receive 105 = .ok (.iload_n 2, 1) := dk_28 (dk_at dksX3_receive_4 10 rfl rfl)
theorem dX3_receive_106 : decode cX3_receive 106 = .ok (.iconst 4, 1) := dk_7 (dk_at dksX3_receive_4 11 rfl rfl)
theorem dX3_receive_107 : decode cX3_receive 107 = .ok (.invokestatic 109, 3) := dk_184 0 109 (dk_at dksX3_receive_4 12 rfl rfl)
theorem dX3_receive_110 : decode cX3_receive 110 = .ok (.dup2, 1) := dk_92 (dk_at dksX3_receive_4 15 rfl rfl)
theorem dX3_receive_111 : decode cX3_receive 111 = .ok (.laload, 1) := dk_47 (dk_at dksX3_receive_4 16 rfl rfl)
theorem dX3_receive_112 : decode cX3_receive 112 = .ok (.iload 4, 2) := dk_21 4 (dk_at dksX3_receive_4 17 rfl rfl)
theorem dX3_receive_114 : decode cX3_receive 114 = .ok (.i2l, 1) := dk_133 (dk_at dksX3_receive_4 19 rfl rfl)
theorem dX3_receive_115 : decode cX3_receive 115 = .ok (.ladd, 1) := dk_97 (dk_at dksX3_receive_4 20 rfl rfl)
theorem dX3_receive_116 : decode cX3_receive 116 = .ok (.lastore, 1) := dk_80 (dk_at dksX3_receive_4 21 rfl rfl)
theorem dX3_receive_117 : decode cX3_receive 117 = .ok (.aload_n 0, 1) := dk_42 (dk_at dksX3_receive_4 22 rfl rfl)
theorem dX3_receive_118 : decode cX3_receive 118 = .ok (.iconst 0, 1) := dk_3 (dk_at dksX3_receive_4 23 rfl rfl)
theorem dX3_receive_119 : decode cX3_receive 119 = .ok (.iload_n 1, 1) := dk_27 (dk_at dksX3_receive_5 0 rfl rfl)
theorem dX3_receive_120 : decode cX3_receive 120 = .ok (.iload_n 3, 1) := dk_29 (dk_at dksX3_receive_5 1 rfl rfl)
theorem dX3_receive_121 : decode cX3_receive 121 = .ok (.invokevirtual 131, 3) := dk_182 0 131 (dk_at dksX3_receive_5 2 rfl rfl)
theorem dX3_receive_124 : decode cX3_receive 124 = .ok (.aload_n 0, 1) := dk_42 (dk_at dksX3_receive_5 5 rfl rfl)
theorem dX3_receive_125 : decode cX3_receive 125 = .ok (.aload_n 0, 1) := dk_42 (dk_at dksX3_receive_5 6 rfl rfl)
theorem dX3_receive_126 : decode cX3_receive 126 = .ok (.iload_n 1, 1) := dk_27 (dk_at dksX3_receive_5 7 rfl rfl)
theorem dX3_receive_127 : decode cX3_receive 127 = .ok (.iload_n 2, 1) := dk_28 (dk_at dksX3_receive_5 8 rfl rfl)
theorem dX3_receive_128 : decode cX3_receive 128 = .ok (.iconst 3, 1) := dk_6 (dk_at dksX3_receive_5 9 rfl rfl)
theorem dX3_receive_129 : decode cX3_receive 129 = .ok (.invokestatic 109, 3) := dk_184 0 109 (dk_at dksX3_receive_5 10 rfl rfl)
theorem dX3_receive_132 : decode cX3_receive 132 = .ok (.invokevirtual 49, 3) := dk_182 0 49 (dk_at dksX3_receive_5 13 rfl rfl)
theorem dX3_receive_135 : decode cX3_receive 135 = .ok (.invokevirtual 84, 3) := dk_182 0 84 (dk_at dksX3_receive_5 16 rfl rfl)
theorem dX3_receive_138 : decode cX3_receive 138 = .ok (.ireturn, 1) := dk_172 (dk_at dksX3_receive_5 19 rfl rfl)
abbrev cX3_takesMost : ByteArray := prog_14_method_35_code
def yX3_takesMost : MethodName := ⟨RX3, "takesMost", "(II)I"⟩
def dkwX3_takesMost_0 : List UInt8 := [42, 27, 42, 27, 28, 4, 184, 0, 109, 182, 0, 49, 182, 0, 125, 172]
abbrev dktX3_takesMost_0 : List UInt8 := dkwX3_takesMost_0 ++ []
theorem dksX3_takesMost_0 : cX3_takesMost.data.toList.drop 0 = dktX3_takesMost_0 := by decide +kernel
theorem dX3_takesMost_0 : decode cX3_takesMost 0 = .ok (.aload_n 0, 1) := dk_42 (dk_at dksX3_takesMost_0 0 rfl rfl)
theorem dX3_takesMost_1 : decode cX3_takesMost 1 = .ok (.iload_n 1, 1) := dk_27 (dk_at dksX3_takesMost_0 1 rfl rfl)
theorem dX3_takesMost_2 : decode cX3_takesMost 2 = .ok (.aload_n 0, 1) := dk_42 (dk_at dksX3_takesMost_0 2 rfl rfl)
theorem dX3_takesMost_3 : decode cX3_takesMost 3 = .ok (.iload_n 1, 1) := dk_27 (dk_at dksX3_takesMost_0 3 rfl rfl)
theorem dX3_takesMost_4 : decode cX3_takesMost 4 = .ok (.iload_n 2, 1) := dk_28 (dk_at dksX3_takesMost_0 4 rfl rfl)
theorem dX3_takesMost_5 : decode cX3_takesMost 5 = .ok (.iconst 1, 1) := dk_4 (dk_at dksX3_takesMost_0 5 rfl rfl)
theorem dX3_takesMost_6 : decode cX3_takesMost 6 = .ok (.invokestatic 109, 3) := dk_184 0 109 (dk_at dksX3_takesMost_0 6 rfl rfl)
theorem dX3_takesMost_9 : decode cX3_takesMost 9 = .ok (.invokevirtual 49, 3) := dk_182 0 49 (dk_at dksX3_takesMost_0 9 rfl rfl)
theorem dX3_takesMost_12 : decode cX3_takesMost 12 = .ok (.invokevirtual 125, 3) := dk_182 0 125 (dk_at dksX3_takesMost_0 12 rfl rfl)
theorem dX3_takesMost_15 : decode cX3_takesMost 15 = .ok (.ireturn, 1) := dk_172 (dk_at dksX3_takesMost_0 15 rfl rfl)
abbrev cX3_stretched : ByteArray := prog_14_method_34_code
def yX3_stretched : MethodName := ⟨RX3, "stretched", "(II)I"⟩
def dkwX3_stretched_0 : List UInt8 := [28, 135, 15, 42, 42, 27, 182, 0, 64, 4, 184, 0, 77, 182, 0, 119, 20, 0, 123, 111, 99, 107, 142, 172]
abbrev dktX3_stretched_0 : List UInt8 := dkwX3_stretched_0 ++ []
theorem dksX3_stretched_0 : cX3_stretched.data.toList.drop 0 = dktX3_stretched_0 := by decide +kernel
theorem dX3_stretched_0 : decode cX3_stretched 0 = .ok (.iload_n 2, 1) := dk_28 (dk_at dksX3_stretched_0 0 rfl rfl)
theorem dX3_stretched_1 : decode cX3_stretched 1 = .ok (.i2d, 1) := dk_135 (dk_at dksX3_stretched_0 1 rfl rfl)
theorem dX3_stretched_2 : decode cX3_stretched 2 = .ok (.dconst 1, 1) := dk_15 (dk_at dksX3_stretched_0 2 rfl rfl)
theorem dX3_stretched_3 : decode cX3_stretched 3 = .ok (.aload_n 0, 1) := dk_42 (dk_at dksX3_stretched_0 3 rfl rfl)
theorem dX3_stretched_4 : decode cX3_stretched 4 = .ok (.aload_n 0, 1) := dk_42 (dk_at dksX3_stretched_0 4 rfl rfl)
theorem dX3_stretched_5 : decode cX3_stretched 5 = .ok (.iload_n 1, 1) := dk_27 (dk_at dksX3_stretched_0 5 rfl rfl)
theorem dX3_stretched_6 : decode cX3_stretched 6 = .ok (.invokevirtual 64, 3) := dk_182 0 64 (dk_at dksX3_stretched_0 6 rfl rfl)
theorem dX3_stretched_9 : decode cX3_stretched 9 = .ok (.iconst 1, 1) := dk_4 (dk_at dksX3_stretched_0 9 rfl rfl)
theorem dX3_stretched_10 : decode cX3_stretched 10 = .ok (.invokestatic 77, 3) := dk_184 0 77 (dk_at dksX3_stretched_0 10 rfl rfl)
theorem dX3_stretched_13 : decode cX3_stretched 13 = .ok (.invokevirtual 119, 3) := dk_182 0 119 (dk_at dksX3_stretched_0 13 rfl rfl)
theorem dX3_stretched_16 : decode cX3_stretched 16 = .ok (.ldc2_w 123, 3) := dk_20 0 123 (dk_at dksX3_stretched_0 16 rfl rfl)
theorem dX3_stretched_19 : decode cX3_stretched 19 = .ok (.ddiv, 1) := dk_111 (dk_at dksX3_stretched_0 19 rfl rfl)
theorem dX3_stretched_20 : decode cX3_stretched 20 = .ok (.dadd, 1) := dk_99 (dk_at dksX3_stretched_0 20 rfl rfl)
theorem dX3_stretched_21 : decode cX3_stretched 21 = .ok (.dmul, 1) := dk_107 (dk_at dksX3_stretched_0 21 rfl rfl)
theorem dX3_stretched_22 : decode cX3_stretched 22 = .ok (.d2i, 1) := dk_142 (dk_at dksX3_stretched_0 22 rfl rfl)
theorem dX3_stretched_23 : decode cX3_stretched 23 = .ok (.ireturn, 1) := dk_172 (dk_at dksX3_stretched_0 23 rfl rfl)
abbrev cX3_real : ByteArray := prog_14_method_16_code
def yX3_real : MethodName := ⟨RX3, "real", "(I)D"⟩
def dkwX3_real_0 : List UInt8 := [42, 180, 0, 13, 27, 47, 184, 0, 67, 175]
abbrev dktX3_real_0 : List UInt8 := dkwX3_real_0 ++ []
theorem dksX3_real_0 : cX3_real.data.toList.drop 0 = dktX3_real_0 := by decide +kernel
theorem dX3_real_0 : decode cX3_real 0 = .ok (.aload_n 0, 1) := dk_42 (dk_at dksX3_real_0 0 rfl rfl)
theorem dX3_real_1 : decode cX3_real 1 = .ok (.getfield 13, 3) := dk_180 0 13 (dk_at dksX3_real_0 1 rfl rfl)
theorem dX3_real_4 : decode cX3_real 4 = .ok (.iload_n 1, 1) := dk_27 (dk_at dksX3_real_0 4 rfl rfl)
theorem dX3_real_5 : decode cX3_real 5 = .ok (.laload, 1) := dk_47 (dk_at dksX3_real_0 5 rfl rfl)
theorem dX3_real_6 : decode cX3_real 6 = .ok (.invokestatic 67, 3) := dk_184 0 67 (dk_at dksX3_real_0 6 rfl rfl)
theorem dX3_real_9 : decode cX3_real 9 = .ok (.dreturn, 1) := dk_175 (dk_at dksX3_real_0 9 rfl rfl)
abbrev cX3_log : ByteArray := prog_14_method_19_code
def yX3_log : MethodName := ⟨RX3, "log", "(III)V"⟩
def dkwX3_log_4 : List UInt8 := [177]
abbrev dktX3_log_4 : List UInt8 := dkwX3_log_4 ++ []
def dkwX3_log_3 : List UInt8 := [180, 0, 13, 17, 5, 94, 42, 180, 0, 13, 3, 47, 80, 42, 180, 0, 13, 16, 10, 92, 47, 10, 97, 80]
abbrev dktX3_log_3 : List UInt8 := dkwX3_log_3 ++ dktX3_log_4
def dkwX3_log_2 : List UInt8 := [133, 80, 42, 180, 0, 13, 17, 5, 92, 28, 133, 80, 42, 180, 0, 13, 17, 5, 93, 29, 133, 80, 42]
abbrev dktX3_log_2 : List UInt8 := dkwX3_log_2 ++ dktX3_log_3
def dkwX3_log_1 : List UInt8 := [17, 5, 91, 21, 4, 96, 7, 100, 47, 80, 132, 4, 255, 167, 255, 223, 42, 180, 0, 13, 17, 5, 91, 27]
abbrev dktX3_log_1 : List UInt8 := dkwX3_log_1 ++ dktX3_log_2
def dkwX3_log_0 : List UInt8 := [16, 39, 54, 4, 21, 4, 6, 164, 0, 33, 42, 180, 0, 13, 17, 5, 91, 21, 4, 96, 42, 180, 0, 13]
abbrev dktX3_log_0 : List UInt8 := dkwX3_log_0 ++ dktX3_log_1
theorem dksX3_log_0 : cX3_log.data.toList.drop 0 = dktX3_log_0 := by decide +kernel
theorem dksX3_log_1 : cX3_log.data.toList.drop 24 = dktX3_log_1 := dk_seg dksX3_log_0 24 rfl rfl
theorem dksX3_log_2 : cX3_log.data.toList.drop 48 = dktX3_log_2 := dk_seg dksX3_log_1 24 rfl rfl
theorem dksX3_log_3 : cX3_log.data.toList.drop 71 = dktX3_log_3 := dk_seg dksX3_log_2 23 rfl rfl
theorem dksX3_log_4 : cX3_log.data.toList.drop 95 = dktX3_log_4 := dk_seg dksX3_log_3 24 rfl rfl
theorem dX3_log_0 : decode cX3_log 0 = .ok (.bipush 39, 2) := dk_16 39 (dk_at dksX3_log_0 0 rfl rfl)
theorem dX3_log_2 : decode cX3_log 2 = .ok (.istore 4, 2) := dk_54 4 (dk_at dksX3_log_0 2 rfl rfl)
theorem dX3_log_4 : decode cX3_log 4 = .ok (.iload 4, 2) := dk_21 4 (dk_at dksX3_log_0 4 rfl rfl)
theorem dX3_log_6 : decode cX3_log 6 = .ok (.iconst 3, 1) := dk_6 (dk_at dksX3_log_0 6 rfl rfl)
theorem dX3_log_7 : decode cX3_log 7 = .ok (.if_icmp .le 33, 3) := dk_164 0 33 (dk_at dksX3_log_0 7 rfl rfl)
theorem dX3_log_10 : decode cX3_log 10 = .ok (.aload_n 0, 1) := dk_42 (dk_at dksX3_log_0 10 rfl rfl)
theorem dX3_log_11 : decode cX3_log 11 = .ok (.getfield 13, 3) := dk_180 0 13 (dk_at dksX3_log_0 11 rfl rfl)
theorem dX3_log_14 : decode cX3_log 14 = .ok (.sipush 1371, 3) := dk_17 5 91 (dk_at dksX3_log_0 14 rfl rfl)
theorem dX3_log_17 : decode cX3_log 17 = .ok (.iload 4, 2) := dk_21 4 (dk_at dksX3_log_0 17 rfl rfl)
theorem dX3_log_19 : decode cX3_log 19 = .ok (.iadd, 1) := dk_96 (dk_at dksX3_log_0 19 rfl rfl)
theorem dX3_log_20 : decode cX3_log 20 = .ok (.aload_n 0, 1) := dk_42 (dk_at dksX3_log_0 20 rfl rfl)
theorem dX3_log_21 : decode cX3_log 21 = .ok (.getfield 13, 3) := dk_180 0 13 (dk_at dksX3_log_0 21 rfl rfl)
theorem dX3_log_24 : decode cX3_log 24 = .ok (.sipush 1371, 3) := dk_17 5 91 (dk_at dksX3_log_1 0 rfl rfl)
theorem dX3_log_27 : decode cX3_log 27 = .ok (.iload 4, 2) := dk_21 4 (dk_at dksX3_log_1 3 rfl rfl)
theorem dX3_log_29 : decode cX3_log 29 = .ok (.iadd, 1) := dk_96 (dk_at dksX3_log_1 5 rfl rfl)
theorem dX3_log_30 : decode cX3_log 30 = .ok (.iconst 4, 1) := dk_7 (dk_at dksX3_log_1 6 rfl rfl)
theorem dX3_log_31 : decode cX3_log 31 = .ok (.isub, 1) := dk_100 (dk_at dksX3_log_1 7 rfl rfl)
theorem dX3_log_32 : decode cX3_log 32 = .ok (.laload, 1) := dk_47 (dk_at dksX3_log_1 8 rfl rfl)
theorem dX3_log_33 : decode cX3_log 33 = .ok (.lastore, 1) := dk_80 (dk_at dksX3_log_1 9 rfl rfl)
theorem dX3_log_34 : decode cX3_log 34 = .ok (.iinc 4 (-1), 3) := dk_132 4 255 (dk_at dksX3_log_1 10 rfl rfl)
theorem dX3_log_37 : decode cX3_log 37 = .ok (.goto (-33), 3) := dk_167 255 223 (dk_at dksX3_log_1 13 rfl rfl)
theorem dX3_log_40 : decode cX3_log 40 = .ok (.aload_n 0, 1) := dk_42 (dk_at dksX3_log_1 16 rfl rfl)
theorem dX3_log_41 : decode cX3_log 41 = .ok (.getfield 13, 3) := dk_180 0 13 (dk_at dksX3_log_1 17 rfl rfl)
theorem dX3_log_44 : decode cX3_log 44 = .ok (.sipush 1371, 3) := dk_17 5 91 (dk_at dksX3_log_1 20 rfl rfl)
theorem dX3_log_47 : decode cX3_log 47 = .ok (.iload_n 1, 1) := dk_27 (dk_at dksX3_log_1 23 rfl rfl)
theorem dX3_log_48 : decode cX3_log 48 = .ok (.i2l, 1) := dk_133 (dk_at dksX3_log_2 0 rfl rfl)
theorem dX3_log_49 : decode cX3_log 49 = .ok (.lastore, 1) := dk_80 (dk_at dksX3_log_2 1 rfl rfl)
theorem dX3_log_50 : decode cX3_log 50 = .ok (.aload_n 0, 1) := dk_42 (dk_at dksX3_log_2 2 rfl rfl)
theorem dX3_log_51 : decode cX3_log 51 = .ok (.getfield 13, 3) := dk_180 0 13 (dk_at dksX3_log_2 3 rfl rfl)
theorem dX3_log_54 : decode cX3_log 54 = .ok (.sipush 1372, 3) := dk_17 5 92 (dk_at dksX3_log_2 6 rfl rfl)
theorem dX3_log_57 : decode cX3_log 57 = .ok (.iload_n 2, 1) := dk_28 (dk_at dksX3_log_2 9 rfl rfl)
theorem dX3_log_58 : decode cX3_log 58 = .ok (.i2l, 1) := dk_133 (dk_at dksX3_log_2 10 rfl rfl)
theorem dX3_log_59 : decode cX3_log 59 = .ok (.lastore, 1) := dk_80 (dk_at dksX3_log_2 11 rfl rfl)
theorem dX3_log_60 : decode cX3_log 60 = .ok (.aload_n 0, 1) := dk_42 (dk_at dksX3_log_2 12 rfl rfl)
theorem dX3_log_61 : decode cX3_log 61 = .ok (.getfield 13, 3) := dk_180 0 13 (dk_at dksX3_log_2 13 rfl rfl)
theorem dX3_log_64 : decode cX3_log 64 = .ok (.sipush 1373, 3) := dk_17 5 93 (dk_at dksX3_log_2 16 rfl rfl)
theorem dX3_log_67 : decode cX3_log 67 = .ok (.iload_n 3, 1) := dk_29 (dk_at dksX3_log_2 19 rfl rfl)
theorem dX3_log_68 : decode cX3_log 68 = .ok (.i2l, 1) := dk_133 (dk_at dksX3_log_2 20 rfl rfl)
theorem dX3_log_69 : decode cX3_log 69 = .ok (.lastore, 1) := dk_80 (dk_at dksX3_log_2 21 rfl rfl)
theorem dX3_log_70 : decode cX3_log 70 = .ok (.aload_n 0, 1) := dk_42 (dk_at dksX3_log_2 22 rfl rfl)
theorem dX3_log_71 : decode cX3_log 71 = .ok (.getfield 13, 3) := dk_180 0 13 (dk_at dksX3_log_3 0 rfl rfl)
theorem dX3_log_74 : decode cX3_log 74 = .ok (.sipush 1374, 3) := dk_17 5 94 (dk_at dksX3_log_3 3 rfl rfl)
theorem dX3_log_77 : decode cX3_log 77 = .ok (.aload_n 0, 1) := dk_42 (dk_at dksX3_log_3 6 rfl rfl)
theorem dX3_log_78 : decode cX3_log 78 = .ok (.getfield 13, 3) := dk_180 0 13 (dk_at dksX3_log_3 7 rfl rfl)
theorem dX3_log_81 : decode cX3_log 81 = .ok (.iconst 0, 1) := dk_3 (dk_at dksX3_log_3 10 rfl rfl)
theorem dX3_log_82 : decode cX3_log 82 = .ok (.laload, 1) := dk_47 (dk_at dksX3_log_3 11 rfl rfl)
theorem dX3_log_83 : decode cX3_log 83 = .ok (.lastore, 1) := dk_80 (dk_at dksX3_log_3 12 rfl rfl)
theorem dX3_log_84 : decode cX3_log 84 = .ok (.aload_n 0, 1) := dk_42 (dk_at dksX3_log_3 13 rfl rfl)
theorem dX3_log_85 : decode cX3_log 85 = .ok (.getfield 13, 3) := dk_180 0 13 (dk_at dksX3_log_3 14 rfl rfl)
theorem dX3_log_88 : decode cX3_log 88 = .ok (.bipush 10, 2) := dk_16 10 (dk_at dksX3_log_3 17 rfl rfl)
theorem dX3_log_90 : decode cX3_log 90 = .ok (.dup2, 1) := dk_92 (dk_at dksX3_log_3 19 rfl rfl)
theorem dX3_log_91 : decode cX3_log 91 = .ok (.laload, 1) := dk_47 (dk_at dksX3_log_3 20 rfl rfl)
theorem dX3_log_92 : decode cX3_log 92 = .ok (.lconst 1, 1) := dk_10 (dk_at dksX3_log_3 21 rfl rfl)
theorem dX3_log_93 : decode cX3_log 93 = .ok (.ladd, 1) := dk_97 (dk_at dksX3_log_3 22 rfl rfl)
theorem dX3_log_94 : decode cX3_log 94 = .ok (.lastore, 1) := dk_80 (dk_at dksX3_log_3 23 rfl rfl)
theorem dX3_log_95 : decode cX3_log 95 = .ok (.return_, 1) := dk_177 (dk_at dksX3_log_4 0 rfl rfl)
abbrev cX3_giveBack : ByteArray := prog_14_method_39_code
def yX3_giveBack : MethodName := ⟨RX3, "giveBack", "(III)I"⟩
def dkwX3_giveBack_3 : List UInt8 := [4, 27, 29, 182, 0, 131, 42, 21, 4, 182, 0, 84, 172]
abbrev dktX3_giveBack_3 : List UInt8 := dkwX3_giveBack_3 ++ []
def dkwX3_giveBack_2 : List UInt8 := [180, 0, 13, 27, 28, 6, 184, 0, 109, 92, 47, 29, 133, 101, 80, 42, 27, 28, 182, 0, 138, 54, 4, 42]
abbrev dktX3_giveBack_2 : List UInt8 := dkwX3_giveBack_2 ++ dktX3_giveBack_3
def dkwX3_giveBack_1 : List UInt8 := [154, 0, 6, 16, 254, 172, 42, 27, 28, 6, 184, 0, 109, 182, 0, 49, 29, 162, 0, 6, 16, 252, 172, 42]
abbrev dktX3_giveBack_1 : List UInt8 := dkwX3_giveBack_1 ++ dktX3_giveBack_2
def dkwX3_giveBack_0 : List UInt8 := [42, 182, 0, 74, 42, 27, 28, 182, 0, 113, 154, 0, 5, 2, 172, 29, 4, 17, 3, 231, 184, 0, 53]
abbrev dktX3_giveBack_0 : List UInt8 := dkwX3_giveBack_0 ++ dktX3_giveBack_1
theorem dksX3_giveBack_0 : cX3_giveBack.data.toList.drop 0 = dktX3_giveBack_0 := by decide +kernel
theorem dksX3_giveBack_1 : cX3_giveBack.data.toList.drop 23 = dktX3_giveBack_1 := dk_seg dksX3_giveBack_0 23 rfl rfl
theorem dksX3_giveBack_2 : cX3_giveBack.data.toList.drop 47 = dktX3_giveBack_2 := dk_seg dksX3_giveBack_1 24 rfl rfl
theorem dksX3_giveBack_3 : cX3_giveBack.data.toList.drop 71 = dktX3_giveBack_3 := dk_seg dksX3_giveBack_2 24 rfl rfl
theorem dX3_giveBack_0 : decode cX3_giveBack 0 = .ok (.aload_n 0, 1) := dk_42 (dk_at dksX3_giveBack_0 0 rfl rfl)
theorem dX3_giveBack_1 : decode cX3_giveBack 1 = .ok (.invokevirtual 74, 3) := dk_182 0 74 (dk_at dksX3_giveBack_0 1 rfl rfl)
theorem dX3_giveBack_4 : decode cX3_giveBack 4 = .ok (.aload_n 0, 1) := dk_42 (dk_at dksX3_giveBack_0 4 rfl rfl)
theorem dX3_giveBack_5 : decode cX3_giveBack 5 = .ok (.iload_n 1, 1) := dk_27 (dk_at dksX3_giveBack_0 5 rfl rfl)
theorem dX3_giveBack_6 : decode cX3_giveBack 6 = .ok (.iload_n 2, 1) := dk_28 (dk_at dksX3_giveBack_0 6 rfl rfl)
theorem dX3_giveBack_7 : decode cX3_giveBack 7 = .ok (.invokevirtual 113, 3) := dk_182 0 113 (dk_at dksX3_giveBack_0 7 rfl rfl)
theorem dX3_giveBack_10 : decode cX3_giveBack 10 = .ok (.ifCond .ne 5, 3) := dk_154 0 5 (dk_at dksX3_giveBack_0 10 rfl rfl)
theorem dX3_giveBack_13 : decode cX3_giveBack 13 = .ok (.iconst (-1), 1) := dk_2 (dk_at dksX3_giveBack_0 13 rfl rfl)
theorem dX3_giveBack_14 : decode cX3_giveBack 14 = .ok (.ireturn, 1) := dk_172 (dk_at dksX3_giveBack_0 14 rfl rfl)
theorem dX3_giveBack_15 : decode cX3_giveBack 15 = .ok (.iload_n 3, 1) := dk_29 (dk_at dksX3_giveBack_0 15 rfl rfl)
theorem dX3_giveBack_16 : decode cX3_giveBack 16 = .ok (.iconst 1, 1) := dk_4 (dk_at dksX3_giveBack_0 16 rfl rfl)
theorem dX3_giveBack_17 : decode cX3_giveBack 17 = .ok (.sipush 999, 3) := dk_17 3 231 (dk_at dksX3_giveBack_0 17 rfl rfl)
theorem dX3_giveBack_20 : decode cX3_giveBack 20 = .ok (.invokestatic 53, 3) := dk_184 0 53 (dk_at dksX3_giveBack_0 20 rfl rfl)
theorem dX3_giveBack_23 : decode cX3_giveBack 23 = .ok (.ifCond .ne 6, 3) := dk_154 0 6 (dk_at dksX3_giveBack_1 0 rfl rfl)
theorem dX3_giveBack_26 : decode cX3_giveBack 26 = .ok (.bipush (-2), 2) := dk_16 254 (dk_at dksX3_giveBack_1 3 rfl rfl)
theorem dX3_giveBack_28 : decode cX3_giveBack 28 = .ok (.ireturn, 1) := dk_172 (dk_at dksX3_giveBack_1 5 rfl rfl)
theorem dX3_giveBack_29 : decode cX3_giveBack 29 = .ok (.aload_n 0, 1) := dk_42 (dk_at dksX3_giveBack_1 6 rfl rfl)
theorem dX3_giveBack_30 : decode cX3_giveBack 30 = .ok (.iload_n 1, 1) := dk_27 (dk_at dksX3_giveBack_1 7 rfl rfl)
theorem dX3_giveBack_31 : decode cX3_giveBack 31 = .ok (.iload_n 2, 1) := dk_28 (dk_at dksX3_giveBack_1 8 rfl rfl)
theorem dX3_giveBack_32 : decode cX3_giveBack 32 = .ok (.iconst 3, 1) := dk_6 (dk_at dksX3_giveBack_1 9 rfl rfl)
theorem dX3_giveBack_33 : decode cX3_giveBack 33 = .ok (.invokestatic 109, 3) := dk_184 0 109 (dk_at dksX3_giveBack_1 10 rfl rfl)
theorem dX3_giveBack_36 : decode cX3_giveBack 36 = .ok (.invokevirtual 49, 3) := dk_182 0 49 (dk_at dksX3_giveBack_1 13 rfl rfl)
theorem dX3_giveBack_39 : decode cX3_giveBack 39 = .ok (.iload_n 3, 1) := dk_29 (dk_at dksX3_giveBack_1 16 rfl rfl)
theorem dX3_giveBack_40 : decode cX3_giveBack 40 = .ok (.if_icmp .ge 6, 3) := dk_162 0 6 (dk_at dksX3_giveBack_1 17 rfl rfl)
theorem dX3_giveBack_43 : decode cX3_giveBack 43 = .ok (.bipush (-4), 2) := dk_16 252 (dk_at dksX3_giveBack_1 20 rfl rfl)
theorem dX3_giveBack_45 : decode cX3_giveBack 45 = .ok (.ireturn, 1) := dk_172 (dk_at dksX3_giveBack_1 22 rfl rfl)
theorem dX3_giveBack_46 : decode cX3_giveBack 46 = .ok (.aload_n 0, 1) := dk_42 (dk_at dksX3_giveBack_1 23 rfl rfl)
theorem dX3_giveBack_47 : decode cX3_giveBack 47 = .ok (.getfield 13, 3) := dk_180 0 13 (dk_at dksX3_giveBack_2 0 rfl rfl)
theorem dX3_giveBack_50 : decode cX3_giveBack 50 = .ok (.iload_n 1, 1) := dk_27 (dk_at dksX3_giveBack_2 3 rfl rfl)
theorem dX3_giveBack_51 : decode cX3_giveBack 51 = .ok (.iload_n 2, 1) := dk_28 (dk_at dksX3_giveBack_2 4 rfl rfl)
theorem dX3_giveBack_52 : decode cX3_giveBack 52 = .ok (.iconst 3, 1) := dk_6 (dk_at dksX3_giveBack_2 5 rfl rfl)
theorem dX3_giveBack_53 : decode cX3_giveBack 53 = .ok (.invokestatic 109, 3) := dk_184 0 109 (dk_at dksX3_giveBack_2 6 rfl rfl)
theorem dX3_giveBack_56 : decode cX3_giveBack 56 = .ok (.dup2, 1) := dk_92 (dk_at dksX3_giveBack_2 9 rfl rfl)
theorem dX3_giveBack_57 : decode cX3_giveBack 57 = .ok (.laload, 1) := dk_47 (dk_at dksX3_giveBack_2 10 rfl rfl)
theorem dX3_giveBack_58 : decode cX3_giveBack 58 = .ok (.iload_n 3, 1) := dk_29 (dk_at dksX3_giveBack_2 11 rfl rfl)
theorem dX3_giveBack_59 : decode cX3_giveBack 59 = .ok (.i2l, 1) := dk_133 (dk_at dksX3_giveBack_2 12 rfl rfl)
theorem dX3_giveBack_60 : decode cX3_giveBack 60 = .ok (.lsub, 1) := dk_101 (dk_at dksX3_giveBack_2 13 rfl rfl)
theorem dX3_giveBack_61 : decode cX3_giveBack 61 = .ok (.lastore, 1) := dk_80 (dk_at dksX3_giveBack_2 14 rfl rfl)
theorem dX3_giveBack_62 : decode cX3_giveBack 62 = .ok (.aload_n 0, 1) := dk_42 (dk_at dksX3_giveBack_2 15 rfl rfl)
theorem dX3_giveBack_63 : decode cX3_giveBack 63 = .ok (.iload_n 1, 1) := dk_27 (dk_at dksX3_giveBack_2 16 rfl rfl)
theorem dX3_giveBack_64 : decode cX3_giveBack 64 = .ok (.iload_n 2, 1) := dk_28 (dk_at dksX3_giveBack_2 17 rfl rfl)
theorem dX3_giveBack_65 : decode cX3_giveBack 65 = .ok (.invokevirtual 138, 3) := dk_182 0 138 (dk_at dksX3_giveBack_2 18 rfl rfl)
theorem dX3_giveBack_68 : decode cX3_giveBack 68 = .ok (.istore 4, 2) := dk_54 4 (dk_at dksX3_giveBack_2 21 rfl rfl)
theorem dX3_giveBack_70 : decode cX3_giveBack 70 = .ok (.aload_n 0, 1) := dk_42 (dk_at dksX3_giveBack_2 23 rfl rfl)
theorem dX3_giveBack_71 : decode cX3_giveBack 71 = .ok (.iconst 1, 1) := dk_4 (dk_at dksX3_giveBack_3 0 rfl rfl)
theorem dX3_giveBack_72 : decode cX3_giveBack 72 = .ok (.iload_n 1, 1) := dk_27 (dk_at dksX3_giveBack_3 1 rfl rfl)
theorem dX3_giveBack_73 : decode cX3_giveBack 73 = .ok (.iload_n 3, 1) := dk_29 (dk_at dksX3_giveBack_3 2 rfl rfl)
theorem dX3_giveBack_74 : decode cX3_giveBack 74 = .ok (.invokevirtual 131, 3) := dk_182 0 131 (dk_at dksX3_giveBack_3 3 rfl rfl)
theorem dX3_giveBack_77 : decode cX3_giveBack 77 = .ok (.aload_n 0, 1) := dk_42 (dk_at dksX3_giveBack_3 6 rfl rfl)
theorem dX3_giveBack_78 : decode cX3_giveBack 78 = .ok (.iload 4, 2) := dk_21 4 (dk_at dksX3_giveBack_3 7 rfl rfl)
theorem dX3_giveBack_80 : decode cX3_giveBack 80 = .ok (.invokevirtual 84, 3) := dk_182 0 84 (dk_at dksX3_giveBack_3 9 rfl rfl)
theorem dX3_giveBack_83 : decode cX3_giveBack 83 = .ok (.ireturn, 1) := dk_172 (dk_at dksX3_giveBack_3 12 rfl rfl)
abbrev cX3_claims : ByteArray := prog_14_method_38_code
def yX3_claims : MethodName := ⟨RX3, "claims", "(II)I"⟩
def dkwX3_claims_3 : List UInt8 := [42, 27, 182, 0, 64, 6, 184, 0, 77, 92, 47, 21, 4, 133, 97, 80, 21, 4, 172]
abbrev dktX3_claims_3 : List UInt8 := dkwX3_claims_3 ++ []
def dkwX3_claims_2 : List UInt8 := [104, 54, 4, 42, 180, 0, 13, 27, 28, 16, 7, 184, 0, 109, 92, 47, 29, 133, 97, 80, 42, 180, 0, 13]
abbrev dktX3_claims_2 : List UInt8 := dkwX3_claims_2 ++ dktX3_claims_3
def dkwX3_claims_1 : List UInt8 := [27, 28, 182, 0, 135, 100, 62, 29, 157, 0, 5, 3, 172, 29, 42, 27, 28, 5, 184, 0, 109, 182, 0, 49]
abbrev dktX3_claims_1 : List UInt8 := dkwX3_claims_1 ++ dktX3_claims_2
def dkwX3_claims_0 : List UInt8 := [42, 27, 28, 16, 6, 184, 0, 109, 182, 0, 49, 42, 27, 28, 16, 7, 184, 0, 109, 182, 0, 49, 100, 42]
abbrev dktX3_claims_0 : List UInt8 := dkwX3_claims_0 ++ dktX3_claims_1
theorem dksX3_claims_0 : cX3_claims.data.toList.drop 0 = dktX3_claims_0 := by decide +kernel
theorem dksX3_claims_1 : cX3_claims.data.toList.drop 24 = dktX3_claims_1 := dk_seg dksX3_claims_0 24 rfl rfl
theorem dksX3_claims_2 : cX3_claims.data.toList.drop 48 = dktX3_claims_2 := dk_seg dksX3_claims_1 24 rfl rfl
theorem dksX3_claims_3 : cX3_claims.data.toList.drop 72 = dktX3_claims_3 := dk_seg dksX3_claims_2 24 rfl rfl
theorem dX3_claims_0 : decode cX3_claims 0 = .ok (.aload_n 0, 1) := dk_42 (dk_at dksX3_claims_0 0 rfl rfl)
theorem dX3_claims_1 : decode cX3_claims 1 = .ok (.iload_n 1, 1) := dk_27 (dk_at dksX3_claims_0 1 rfl rfl)
theorem dX3_claims_2 : decode cX3_claims 2 = .ok (.iload_n 2, 1) := dk_28 (dk_at dksX3_claims_0 2 rfl rfl)
theorem dX3_claims_3 : decode cX3_claims 3 = .ok (.bipush 6, 2) := dk_16 6 (dk_at dksX3_claims_0 3 rfl rfl)
theorem dX3_claims_5 : decode cX3_claims 5 = .ok (.invokestatic 109, 3) := dk_184 0 109 (dk_at dksX3_claims_0 5 rfl rfl)
theorem dX3_claims_8 : decode cX3_claims 8 = .ok (.invokevirtual 49, 3) := dk_182 0 49 (dk_at dksX3_claims_0 8 rfl rfl)
theorem dX3_claims_11 : decode cX3_claims 11 = .ok (.aload_n 0, 1) := dk_42 (dk_at dksX3_claims_0 11 rfl rfl)
theorem dX3_claims_12 : decode cX3_claims 12 = .ok (.iload_n 1, 1) := dk_27 (dk_at dksX3_claims_0 12 rfl rfl)
theorem dX3_claims_13 : decode cX3_claims 13 = .ok (.iload_n 2, 1) := dk_28 (dk_at dksX3_claims_0 13 rfl rfl)
theorem dX3_claims_14 : decode cX3_claims 14 = .ok (.bipush 7, 2) := dk_16 7 (dk_at dksX3_claims_0 14 rfl rfl)
theorem dX3_claims_16 : decode cX3_claims 16 = .ok (.invokestatic 109, 3) := dk_184 0 109 (dk_at dksX3_claims_0 16 rfl rfl)
theorem dX3_claims_19 : decode cX3_claims 19 = .ok (.invokevirtual 49, 3) := dk_182 0 49 (dk_at dksX3_claims_0 19 rfl rfl)
theorem dX3_claims_22 : decode cX3_claims 22 = .ok (.isub, 1) := dk_100 (dk_at dksX3_claims_0 22 rfl rfl)
theorem dX3_claims_23 : decode cX3_claims 23 = .ok (.aload_n 0, 1) := dk_42 (dk_at dksX3_claims_0 23 rfl rfl)
theorem dX3_claims_24 : decode cX3_claims 24 = .ok (.iload_n 1, 1) := dk_27 (dk_at dksX3_claims_1 0 rfl rfl)
theorem dX3_claims_25 : decode cX3_claims 25 = .ok (.iload_n 2, 1) := dk_28 (dk_at dksX3_claims_1 1 rfl rfl)
theorem dX3_claims_26 : decode cX3_claims 26 = .ok (.invokevirtual 135, 3) := dk_182 0 135 (dk_at dksX3_claims_1 2 rfl rfl)
theorem dX3_claims_29 : decode cX3_claims 29 = .ok (.isub, 1) := dk_100 (dk_at dksX3_claims_1 5 rfl rfl)
theorem dX3_claims_30 : decode cX3_claims 30 = .ok (.istore_n 3, 1) := dk_62 (dk_at dksX3_claims_1 6 rfl rfl)
theorem dX3_claims_31 : decode cX3_claims 31 = .ok (.iload_n 3, 1) := dk_29 (dk_at dksX3_claims_1 7 rfl rfl)
theorem dX3_claims_32 : decode cX3_claims 32 = .ok (.ifCond .gt 5, 3) := dk_157 0 5 (dk_at dksX3_claims_1 8 rfl rfl)
theorem dX3_claims_35 : decode cX3_claims 35 = .ok (.iconst 0, 1) := dk_3 (dk_at dksX3_claims_1 11 rfl rfl)
theorem dX3_claims_36 : decode cX3_claims 36 = .ok (.ireturn, 1) := dk_172 (dk_at dksX3_claims_1 12 rfl rfl)
theorem dX3_claims_37 : decode cX3_claims 37 = .ok (.iload_n 3, 1) := dk_29 (dk_at dksX3_claims_1 13 rfl rfl)
theorem dX3_claims_38 : decode cX3_claims 38 = .ok (.aload_n 0, 1) := dk_42 (dk_at dksX3_claims_1 14 rfl rfl)
theorem dX3_claims_39 : decode cX3_claims 39 = .ok (.iload_n 1, 1) := dk_27 (dk_at dksX3_claims_1 15 rfl rfl)
theorem dX3_claims_40 : decode cX3_claims 40 = .ok (.iload_n 2, 1) := dk_28 (dk_at dksX3_claims_1 16 rfl rfl)
theorem dX3_claims_41 : decode cX3_claims 41 = .ok (.iconst 2, 1) := dk_5 (dk_at dksX3_claims_1 17 rfl rfl)
theorem dX3_claims_42 : decode cX3_claims 42 = .ok (.invokestatic 109, 3) := dk_184 0 109 (dk_at dksX3_claims_1 18 rfl rfl)
theorem dX3_claims_45 : decode cX3_claims 45 = .ok (.invokevirtual 49, 3) := dk_182 0 49 (dk_at dksX3_claims_1 21 rfl rfl)
theorem dX3_claims_48 : decode cX3_claims 48 = .ok (.imul, 1) := dk_104 (dk_at dksX3_claims_2 0 rfl rfl)
theorem dX3_claims_49 : decode cX3_claims 49 = .ok (.istore 4, 2) := dk_54 4 (dk_at dksX3_claims_2 1 rfl rfl)
theorem dX3_claims_51 : decode cX3_claims 51 = .ok (.aload_n 0, 1) := dk_42 (dk_at dksX3_claims_2 3 rfl rfl)
theorem dX3_claims_52 : decode cX3_claims 52 = .ok (.getfield 13, 3) := dk_180 0 13 (dk_at dksX3_claims_2 4 rfl rfl)
theorem dX3_claims_55 : decode cX3_claims 55 = .ok (.iload_n 1, 1) := dk_27 (dk_at dksX3_claims_2 7 rfl rfl)
theorem dX3_claims_56 : decode cX3_claims 56 = .ok (.iload_n 2, 1) := dk_28 (dk_at dksX3_claims_2 8 rfl rfl)
theorem dX3_claims_57 : decode cX3_claims 57 = .ok (.bipush 7, 2) := dk_16 7 (dk_at dksX3_claims_2 9 rfl rfl)
theorem dX3_claims_59 : decode cX3_claims 59 = .ok (.invokestatic 109, 3) := dk_184 0 109 (dk_at dksX3_claims_2 11 rfl rfl)
theorem dX3_claims_62 : decode cX3_claims 62 = .ok (.dup2, 1) := dk_92 (dk_at dksX3_claims_2 14 rfl rfl)
theorem dX3_claims_63 : decode cX3_claims 63 = .ok (.laload, 1) := dk_47 (dk_at dksX3_claims_2 15 rfl rfl)
theorem dX3_claims_64 : decode cX3_claims 64 = .ok (.iload_n 3, 1) := dk_29 (dk_at dksX3_claims_2 16 rfl rfl)
theorem dX3_claims_65 : decode cX3_claims 65 = .ok (.i2l, 1) := dk_133 (dk_at dksX3_claims_2 17 rfl rfl)
theorem dX3_claims_66 : decode cX3_claims 66 = .ok (.ladd, 1) := dk_97 (dk_at dksX3_claims_2 18 rfl rfl)
theorem dX3_claims_67 : decode cX3_claims 67 = .ok (.lastore, 1) := dk_80 (dk_at dksX3_claims_2 19 rfl rfl)
theorem dX3_claims_68 : decode cX3_claims 68 = .ok (.aload_n 0, 1) := dk_42 (dk_at dksX3_claims_2 20 rfl rfl)
theorem dX3_claims_69 : decode cX3_claims 69 = .ok (.getfield 13, 3) := dk_180 0 13 (dk_at dksX3_claims_2 21 rfl rfl)
theorem dX3_claims_72 : decode cX3_claims 72 = .ok (.aload_n 0, 1) := dk_42 (dk_at dksX3_claims_3 0 rfl rfl)
theorem dX3_claims_73 : decode cX3_claims 73 = .ok (.iload_n 1, 1) := dk_27 (dk_at dksX3_claims_3 1 rfl rfl)
theorem dX3_claims_74 : decode cX3_claims 74 = .ok (.invokevirtual 64, 3) := dk_182 0 64 (dk_at dksX3_claims_3 2 rfl rfl)
theorem dX3_claims_77 : decode cX3_claims 77 = .ok (.iconst 3, 1) := dk_6 (dk_at dksX3_claims_3 5 rfl rfl)
theorem dX3_claims_78 : decode cX3_claims 78 = .ok (.invokestatic 77, 3) := dk_184 0 77 (dk_at dksX3_claims_3 6 rfl rfl)
theorem dX3_claims_81 : decode cX3_claims 81 = .ok (.dup2, 1) := dk_92 (dk_at dksX3_claims_3 9 rfl rfl)
theorem dX3_claims_82 : decode cX3_claims 82 = .ok (.laload, 1) := dk_47 (dk_at dksX3_claims_3 10 rfl rfl)
theorem dX3_claims_83 : decode cX3_claims 83 = .ok (.iload 4, 2) := dk_21 4 (dk_at dksX3_claims_3 11 rfl rfl)
theorem dX3_claims_85 : decode cX3_claims 85 = .ok (.i2l, 1) := dk_133 (dk_at dksX3_claims_3 13 rfl rfl)
theorem dX3_claims_86 : decode cX3_claims 86 = .ok (.ladd, 1) := dk_97 (dk_at dksX3_claims_3 14 rfl rfl)
theorem dX3_claims_87 : decode cX3_claims 87 = .ok (.lastore, 1) := dk_80 (dk_at dksX3_claims_3 15 rfl rfl)
theorem dX3_claims_88 : decode cX3_claims 88 = .ok (.iload 4, 2) := dk_21 4 (dk_at dksX3_claims_3 16 rfl rfl)
theorem dX3_claims_90 : decode cX3_claims 90 = .ok (.ireturn, 1) := dk_172 (dk_at dksX3_claims_3 18 rfl rfl)
abbrev cX3_billsMost : ByteArray := prog_14_method_36_code
def yX3_billsMost : MethodName := ⟨RX3, "billsMost", "(II)I"⟩
def dkwX3_billsMost_0 : List UInt8 := [42, 27, 42, 27, 28, 6, 184, 0, 109, 182, 0, 49, 182, 0, 125, 172]
abbrev dktX3_billsMost_0 : List UInt8 := dkwX3_billsMost_0 ++ []
theorem dksX3_billsMost_0 : cX3_billsMost.data.toList.drop 0 = dktX3_billsMost_0 := by decide +kernel
theorem dX3_billsMost_0 : decode cX3_billsMost 0 = .ok (.aload_n 0, 1) := dk_42 (dk_at dksX3_billsMost_0 0 rfl rfl)
theorem dX3_billsMost_1 : decode cX3_billsMost 1 = .ok (.iload_n 1, 1) := dk_27 (dk_at dksX3_billsMost_0 1 rfl rfl)
theorem dX3_billsMost_2 : decode cX3_billsMost 2 = .ok (.aload_n 0, 1) := dk_42 (dk_at dksX3_billsMost_0 2 rfl rfl)
theorem dX3_billsMost_3 : decode cX3_billsMost 3 = .ok (.iload_n 1, 1) := dk_27 (dk_at dksX3_billsMost_0 3 rfl rfl)
theorem dX3_billsMost_4 : decode cX3_billsMost 4 = .ok (.iload_n 2, 1) := dk_28 (dk_at dksX3_billsMost_0 4 rfl rfl)
theorem dX3_billsMost_5 : decode cX3_billsMost 5 = .ok (.iconst 3, 1) := dk_6 (dk_at dksX3_billsMost_0 5 rfl rfl)
theorem dX3_billsMost_6 : decode cX3_billsMost 6 = .ok (.invokestatic 109, 3) := dk_184 0 109 (dk_at dksX3_billsMost_0 6 rfl rfl)
theorem dX3_billsMost_9 : decode cX3_billsMost 9 = .ok (.invokevirtual 49, 3) := dk_182 0 49 (dk_at dksX3_billsMost_0 9 rfl rfl)
theorem dX3_billsMost_12 : decode cX3_billsMost 12 = .ok (.invokevirtual 125, 3) := dk_182 0 125 (dk_at dksX3_billsMost_0 12 rfl rfl)
theorem dX3_billsMost_15 : decode cX3_billsMost 15 = .ok (.ireturn, 1) := dk_172 (dk_at dksX3_billsMost_0 15 rfl rfl)
abbrev cX3_bill : ByteArray := prog_14_method_44_code
def yX3_bill : MethodName := ⟨RX3, "bill", "(IIIII)I"⟩
def dkwX3_bill_3 : List UInt8 := [182, 0, 149, 54, 6, 42, 21, 6, 29, 21, 4, 21, 5, 182, 0, 152, 42, 21, 6, 182, 0, 156, 172]
abbrev dktX3_bill_3 : List UInt8 := dkwX3_bill_3 ++ []
def dkwX3_bill_2 : List UInt8 := [154, 0, 6, 16, 254, 172, 42, 6, 182, 0, 49, 16, 24, 160, 0, 6, 16, 253, 172, 42, 27, 28]
abbrev dktX3_bill_2 : List UInt8 := dkwX3_bill_2 ++ dktX3_bill_3
def dkwX3_bill_1 : List UInt8 := [153, 0, 27, 21, 4, 4, 17, 3, 231, 184, 0, 53, 153, 0, 15, 21, 5, 4, 17, 39, 15, 184, 0, 53]
abbrev dktX3_bill_1 : List UInt8 := dkwX3_bill_1 ++ dktX3_bill_2
def dkwX3_bill_0 : List UInt8 := [42, 182, 0, 74, 42, 28, 29, 182, 0, 113, 154, 0, 5, 2, 172, 27, 3, 17, 3, 231, 184, 0, 53]
abbrev dktX3_bill_0 : List UInt8 := dkwX3_bill_0 ++ dktX3_bill_1
theorem dksX3_bill_0 : cX3_bill.data.toList.drop 0 = dktX3_bill_0 := by decide +kernel
theorem dksX3_bill_1 : cX3_bill.data.toList.drop 23 = dktX3_bill_1 := dk_seg dksX3_bill_0 23 rfl rfl
theorem dksX3_bill_2 : cX3_bill.data.toList.drop 47 = dktX3_bill_2 := dk_seg dksX3_bill_1 24 rfl rfl
theorem dksX3_bill_3 : cX3_bill.data.toList.drop 69 = dktX3_bill_3 := dk_seg dksX3_bill_2 22 rfl rfl
theorem dX3_bill_0 : decode cX3_bill 0 = .ok (.aload_n 0, 1) := dk_42 (dk_at dksX3_bill_0 0 rfl rfl)
theorem dX3_bill_1 : decode cX3_bill 1 = .ok (.invokevirtual 74, 3) := dk_182 0 74 (dk_at dksX3_bill_0 1 rfl rfl)
theorem dX3_bill_4 : decode cX3_bill 4 = .ok (.aload_n 0, 1) := dk_42 (dk_at dksX3_bill_0 4 rfl rfl)
theorem dX3_bill_5 : decode cX3_bill 5 = .ok (.iload_n 2, 1) := dk_28 (dk_at dksX3_bill_0 5 rfl rfl)
theorem dX3_bill_6 : decode cX3_bill 6 = .ok (.iload_n 3, 1) := dk_29 (dk_at dksX3_bill_0 6 rfl rfl)
theorem dX3_bill_7 : decode cX3_bill 7 = .ok (.invokevirtual 113, 3) := dk_182 0 113 (dk_at dksX3_bill_0 7 rfl rfl)
theorem dX3_bill_10 : decode cX3_bill 10 = .ok (.ifCond .ne 5, 3) := dk_154 0 5 (dk_at dksX3_bill_0 10 rfl rfl)
theorem dX3_bill_13 : decode cX3_bill 13 = .ok (.iconst (-1), 1) := dk_2 (dk_at dksX3_bill_0 13 rfl rfl)
theorem dX3_bill_14 : decode cX3_bill 14 = .ok (.ireturn, 1) := dk_172 (dk_at dksX3_bill_0 14 rfl rfl)
theorem dX3_bill_15 : decode cX3_bill 15 = .ok (.iload_n 1, 1) := dk_27 (dk_at dksX3_bill_0 15 rfl rfl)
theorem dX3_bill_16 : decode cX3_bill 16 = .ok (.iconst 0, 1) := dk_3 (dk_at dksX3_bill_0 16 rfl rfl)
theorem dX3_bill_17 : decode cX3_bill 17 = .ok (.sipush 999, 3) := dk_17 3 231 (dk_at dksX3_bill_0 17 rfl rfl)
theorem dX3_bill_20 : decode cX3_bill 20 = .ok (.invokestatic 53, 3) := dk_184 0 53 (dk_at dksX3_bill_0 20 rfl rfl)
theorem dX3_bill_23 : decode cX3_bill 23 = .ok (.ifCond .eq 27, 3) := dk_153 0 27 (dk_at dksX3_bill_1 0 rfl rfl)
theorem dX3_bill_26 : decode cX3_bill 26 = .ok (.iload 4, 2) := dk_21 4 (dk_at dksX3_bill_1 3 rfl rfl)
theorem dX3_bill_28 : decode cX3_bill 28 = .ok (.iconst 1, 1) := dk_4 (dk_at dksX3_bill_1 5 rfl rfl)
theorem dX3_bill_29 : decode cX3_bill 29 = .ok (.sipush 999, 3) := dk_17 3 231 (dk_at dksX3_bill_1 6 rfl rfl)
theorem dX3_bill_32 : decode cX3_bill 32 = .ok (.invokestatic 53, 3) := dk_184 0 53 (dk_at dksX3_bill_1 9 rfl rfl)
theorem dX3_bill_35 : decode cX3_bill 35 = .ok (.ifCond .eq 15, 3) := dk_153 0 15 (dk_at dksX3_bill_1 12 rfl rfl)
theorem dX3_bill_38 : decode cX3_bill 38 = .ok (.iload 5, 2) := dk_21 5 (dk_at dksX3_bill_1 15 rfl rfl)
theorem dX3_bill_40 : decode cX3_bill 40 = .ok (.iconst 1, 1) := dk_4 (dk_at dksX3_bill_1 17 rfl rfl)
theorem dX3_bill_41 : decode cX3_bill 41 = .ok (.sipush 9999, 3) := dk_17 39 15 (dk_at dksX3_bill_1 18 rfl rfl)
theorem dX3_bill_44 : decode cX3_bill 44 = .ok (.invokestatic 53, 3) := dk_184 0 53 (dk_at dksX3_bill_1 21 rfl rfl)
theorem dX3_bill_47 : decode cX3_bill 47 = .ok (.ifCond .ne 6, 3) := dk_154 0 6 (dk_at dksX3_bill_2 0 rfl rfl)
theorem dX3_bill_50 : decode cX3_bill 50 = .ok (.bipush (-2), 2) := dk_16 254 (dk_at dksX3_bill_2 3 rfl rfl)
theorem dX3_bill_52 : decode cX3_bill 52 = .ok (.ireturn, 1) := dk_172 (dk_at dksX3_bill_2 5 rfl rfl)
theorem dX3_bill_53 : decode cX3_bill 53 = .ok (.aload_n 0, 1) := dk_42 (dk_at dksX3_bill_2 6 rfl rfl)
theorem dX3_bill_54 : decode cX3_bill 54 = .ok (.iconst 3, 1) := dk_6 (dk_at dksX3_bill_2 7 rfl rfl)
theorem dX3_bill_55 : decode cX3_bill 55 = .ok (.invokevirtual 49, 3) := dk_182 0 49 (dk_at dksX3_bill_2 8 rfl rfl)
theorem dX3_bill_58 : decode cX3_bill 58 = .ok (.bipush 24, 2) := dk_16 24 (dk_at dksX3_bill_2 11 rfl rfl)
theorem dX3_bill_60 : decode cX3_bill 60 = .ok (.if_icmp .ne 6, 3) := dk_160 0 6 (dk_at dksX3_bill_2 13 rfl rfl)
theorem dX3_bill_63 : decode cX3_bill 63 = .ok (.bipush (-3), 2) := dk_16 253 (dk_at dksX3_bill_2 16 rfl rfl)
theorem dX3_bill_65 : decode cX3_bill 65 = .ok (.ireturn, 1) := dk_172 (dk_at dksX3_bill_2 18 rfl rfl)
theorem dX3_bill_66 : decode cX3_bill 66 = .ok (.aload_n 0, 1) := dk_42 (dk_at dksX3_bill_2 19 rfl rfl)
theorem dX3_bill_67 : decode cX3_bill 67 = .ok (.iload_n 1, 1) := dk_27 (dk_at dksX3_bill_2 20 rfl rfl)
theorem dX3_bill_68 : decode cX3_bill 68 = .ok (.iload_n 2, 1) := dk_28 (dk_at dksX3_bill_2 21 rfl rfl)
theorem dX3_bill_69 : decode cX3_bill 69 = .ok (.invokevirtual 149, 3) := dk_182 0 149 (dk_at dksX3_bill_3 0 rfl rfl)
theorem dX3_bill_72 : decode cX3_bill 72 = .ok (.istore 6, 2) := dk_54 6 (dk_at dksX3_bill_3 3 rfl rfl)
theorem dX3_bill_74 : decode cX3_bill 74 = .ok (.aload_n 0, 1) := dk_42 (dk_at dksX3_bill_3 5 rfl rfl)
theorem dX3_bill_75 : decode cX3_bill 75 = .ok (.iload 6, 2) := dk_21 6 (dk_at dksX3_bill_3 6 rfl rfl)
theorem dX3_bill_77 : decode cX3_bill 77 = .ok (.iload_n 3, 1) := dk_29 (dk_at dksX3_bill_3 8 rfl rfl)
theorem dX3_bill_78 : decode cX3_bill 78 = .ok (.iload 4, 2) := dk_21 4 (dk_at dksX3_bill_3 9 rfl rfl)
theorem dX3_bill_80 : decode cX3_bill 80 = .ok (.iload 5, 2) := dk_21 5 (dk_at dksX3_bill_3 11 rfl rfl)
theorem dX3_bill_82 : decode cX3_bill 82 = .ok (.invokevirtual 152, 3) := dk_182 0 152 (dk_at dksX3_bill_3 13 rfl rfl)
theorem dX3_bill_85 : decode cX3_bill 85 = .ok (.aload_n 0, 1) := dk_42 (dk_at dksX3_bill_3 16 rfl rfl)
theorem dX3_bill_86 : decode cX3_bill 86 = .ok (.iload 6, 2) := dk_21 6 (dk_at dksX3_bill_3 17 rfl rfl)
theorem dX3_bill_88 : decode cX3_bill 88 = .ok (.invokevirtual 156, 3) := dk_182 0 156 (dk_at dksX3_bill_3 19 rfl rfl)
theorem dX3_bill_91 : decode cX3_bill 91 = .ok (.ireturn, 1) := dk_172 (dk_at dksX3_bill_3 22 rfl rfl)
abbrev cX3_begins : ByteArray := prog_14_method_41_code
def yX3_begins : MethodName := ⟨RX3, "begins", "(II)I"⟩
def dkwX3_begins_4 : List UInt8 := [20, 0, 144, 80, 132, 4, 1, 167, 255, 232, 42, 180, 0, 13, 6, 92, 47, 10, 97, 80, 29, 172]
abbrev dktX3_begins_4 : List UInt8 := dkwX3_begins_4 ++ []
def dkwX3_begins_3 : List UInt8 := [3, 47, 80, 16, 6, 54, 4, 21, 4, 16, 9, 163, 0, 23, 42, 180, 0, 13, 29, 21, 4, 184, 0, 45]
abbrev dktX3_begins_3 : List UInt8 := dkwX3_begins_3 ++ dktX3_begins_4
def dkwX3_begins_2 : List UInt8 := [180, 0, 13, 29, 4, 184, 0, 45, 28, 133, 80, 42, 180, 0, 13, 29, 5, 184, 0, 45, 42, 180, 0, 13]
abbrev dktX3_begins_2 : List UInt8 := dkwX3_begins_2 ++ dktX3_begins_3
def dkwX3_begins_1 : List UInt8 := [184, 0, 45, 9, 80, 132, 4, 1, 167, 255, 234, 42, 180, 0, 13, 29, 3, 184, 0, 45, 27, 133, 80, 42]
abbrev dktX3_begins_1 : List UInt8 := dkwX3_begins_1 ++ dktX3_begins_2
def dkwX3_begins_0 : List UInt8 := [42, 6, 182, 0, 49, 62, 3, 54, 4, 21, 4, 16, 29, 162, 0, 21, 42, 180, 0, 13, 29, 21, 4]
abbrev dktX3_begins_0 : List UInt8 := dkwX3_begins_0 ++ dktX3_begins_1
theorem dksX3_begins_0 : cX3_begins.data.toList.drop 0 = dktX3_begins_0 := by decide +kernel
theorem dksX3_begins_1 : cX3_begins.data.toList.drop 23 = dktX3_begins_1 := dk_seg dksX3_begins_0 23 rfl rfl
theorem dksX3_begins_2 : cX3_begins.data.toList.drop 47 = dktX3_begins_2 := dk_seg dksX3_begins_1 24 rfl rfl
theorem dksX3_begins_3 : cX3_begins.data.toList.drop 71 = dktX3_begins_3 := dk_seg dksX3_begins_2 24 rfl rfl
theorem dksX3_begins_4 : cX3_begins.data.toList.drop 95 = dktX3_begins_4 := dk_seg dksX3_begins_3 24 rfl rfl
theorem dX3_begins_0 : decode cX3_begins 0 = .ok (.aload_n 0, 1) := dk_42 (dk_at dksX3_begins_0 0 rfl rfl)
theorem dX3_begins_1 : decode cX3_begins 1 = .ok (.iconst 3, 1) := dk_6 (dk_at dksX3_begins_0 1 rfl rfl)
theorem dX3_begins_2 : decode cX3_begins 2 = .ok (.invokevirtual 49, 3) := dk_182 0 49 (dk_at dksX3_begins_0 2 rfl rfl)
theorem dX3_begins_5 : decode cX3_begins 5 = .ok (.istore_n 3, 1) := dk_62 (dk_at dksX3_begins_0 5 rfl rfl)
theorem dX3_begins_6 : decode cX3_begins 6 = .ok (.iconst 0, 1) := dk_3 (dk_at dksX3_begins_0 6 rfl rfl)
theorem dX3_begins_7 : decode cX3_begins 7 = .ok (.istore 4, 2) := dk_54 4 (dk_at dksX3_begins_0 7 rfl rfl)
theorem dX3_begins_9 : decode cX3_begins 9 = .ok (.iload 4, 2) := dk_21 4 (dk_at dksX3_begins_0 9 rfl rfl)
theorem dX3_begins_11 : decode cX3_begins 11 = .ok (.bipush 29, 2) := dk_16 29 (dk_at dksX3_begins_0 11 rfl rfl)
theorem dX3_begins_13 : decode cX3_begins 13 = .ok (.if_icmp .ge 21, 3) := dk_162 0 21 (dk_at dksX3_begins_0 13 rfl rfl)
theorem dX3_begins_16 : decode cX3_begins 16 = .ok (.aload_n 0, 1) := dk_42 (dk_at dksX3_begins_0 16 rfl rfl)
theorem dX3_begins_17 : decode cX3_begins 17 = .ok (.getfield 13, 3) := dk_180 0 13 (dk_at dksX3_begins_0 17 rfl rfl)
theorem dX3_begins_20 : decode cX3_begins 20 = .ok (.iload_n 3, 1) := dk_29 (dk_at dksX3_begins_0 20 rfl rfl)
theorem dX3_begins_21 : decode cX3_begins 21 = .ok (.iload 4, 2) := dk_21 4 (dk_at dksX3_begins_0 21 rfl rfl)
theorem dX3_begins_23 : decode cX3_begins 23 = .ok (.invokestatic 45, 3) := dk_184 0 45 (dk_at dksX3_begins_1 0 rfl rfl)
theorem dX3_begins_26 : decode cX3_begins 26 = .ok (.lconst 0, 1) := dk_9 (dk_at dksX3_begins_1 3 rfl rfl)
theorem dX3_begins_27 : decode cX3_begins 27 = .ok (.lastore, 1) := dk_80 (dk_at dksX3_begins_1 4 rfl rfl)
theorem dX3_begins_28 : decode cX3_begins 28 = .ok (.iinc 4 1, 3) := dk_132 4 1 (dk_at dksX3_begins_1 5 rfl rfl)
theorem dX3_begins_31 : decode cX3_begins 31 = .ok (.goto (-22), 3) := dk_167 255 234 (dk_at dksX3_begins_1 8 rfl rfl)
theorem dX3_begins_34 : decode cX3_begins 34 = .ok (.aload_n 0, 1) := dk_42 (dk_at dksX3_begins_1 11 rfl rfl)
theorem dX3_begins_35 : decode cX3_begins 35 = .ok (.getfield 13, 3) := dk_180 0 13 (dk_at dksX3_begins_1 12 rfl rfl)
theorem dX3_begins_38 : decode cX3_begins 38 = .ok (.iload_n 3, 1) := dk_29 (dk_at dksX3_begins_1 15 rfl rfl)
theorem dX3_begins_39 : decode cX3_begins 39 = .ok (.iconst 0, 1) := dk_3 (dk_at dksX3_begins_1 16 rfl rfl)
theorem dX3_begins_40 : decode cX3_begins 40 = .ok (.invokestatic 45, 3) := dk_184 0 45 (dk_at dksX3_begins_1 17 rfl rfl)
theorem dX3_begins_43 : decode cX3_begins 43 = .ok (.iload_n 1, 1) := dk_27 (dk_at dksX3_begins_1 20 rfl rfl)
theorem dX3_begins_44 : decode cX3_begins 44 = .ok (.i2l, 1) := dk_133 (dk_at dksX3_begins_1 21 rfl rfl)
theorem dX3_begins_45 : decode cX3_begins 45 = .ok (.lastore, 1) := dk_80 (dk_at dksX3_begins_1 22 rfl rfl)
theorem dX3_begins_46 : decode cX3_begins 46 = .ok (.aload_n 0, 1) := dk_42 (dk_at dksX3_begins_1 23 rfl rfl)
theorem dX3_begins_47 : decode cX3_begins 47 = .ok (.getfield 13, 3) := dk_180 0 13 (dk_at dksX3_begins_2 0 rfl rfl)
theorem dX3_begins_50 : decode cX3_begins 50 = .ok (.iload_n 3, 1) := dk_29 (dk_at dksX3_begins_2 3 rfl rfl)
theorem dX3_begins_51 : decode cX3_begins 51 = .ok (.iconst 1, 1) := dk_4 (dk_at dksX3_begins_2 4 rfl rfl)
theorem dX3_begins_52 : decode cX3_begins 52 = .ok (.invokestatic 45, 3) := dk_184 0 45 (dk_at dksX3_begins_2 5 rfl rfl)
theorem dX3_begins_55 : decode cX3_begins 55 = .ok (.iload_n 2, 1) := dk_28 (dk_at dksX3_begins_2 8 rfl rfl)
theorem dX3_begins_56 : decode cX3_begins 56 = .ok (.i2l, 1) := dk_133 (dk_at dksX3_begins_2 9 rfl rfl)
theorem dX3_begins_57 : decode cX3_begins 57 = .ok (.lastore, 1) := dk_80 (dk_at dksX3_begins_2 10 rfl rfl)
theorem dX3_begins_58 : decode cX3_begins 58 = .ok (.aload_n 0, 1) := dk_42 (dk_at dksX3_begins_2 11 rfl rfl)
theorem dX3_begins_59 : decode cX3_begins 59 = .ok (.getfield 13, 3) := dk_180 0 13 (dk_at dksX3_begins_2 12 rfl rfl)
theorem dX3_begins_62 : decode cX3_begins 62 = .ok (.iload_n 3, 1) := dk_29 (dk_at dksX3_begins_2 15 rfl rfl)
theorem dX3_begins_63 : decode cX3_begins 63 = .ok (.iconst 2, 1) := dk_5 (dk_at dksX3_begins_2 16 rfl rfl)
theorem dX3_begins_64 : decode cX3_begins 64 = .ok (.invokestatic 45, 3) := dk_184 0 45 (dk_at dksX3_begins_2 17 rfl rfl)
theorem dX3_begins_67 : decode cX3_begins 67 = .ok (.aload_n 0, 1) := dk_42 (dk_at dksX3_begins_2 20 rfl rfl)
theorem dX3_begins_68 : decode cX3_begins 68 = .ok (.getfield 13, 3) := dk_180 0 13 (dk_at dksX3_begins_2 21 rfl rfl)
theorem dX3_begins_71 : decode cX3_begins 71 = .ok (.iconst 0, 1) := dk_3 (dk_at dksX3_begins_3 0 rfl rfl)
theorem dX3_begins_72 : decode cX3_begins 72 = .ok (.laload, 1) := dk_47 (dk_at dksX3_begins_3 1 rfl rfl)
theorem dX3_begins_73 : decode cX3_begins 73 = .ok (.lastore, 1) := dk_80 (dk_at dksX3_begins_3 2 rfl rfl)
theorem dX3_begins_74 : decode cX3_begins 74 = .ok (.bipush 6, 2) := dk_16 6 (dk_at dksX3_begins_3 3 rfl rfl)
theorem dX3_begins_76 : decode cX3_begins 76 = .ok (.istore 4, 2) := dk_54 4 (dk_at dksX3_begins_3 5 rfl rfl)
theorem dX3_begins_78 : decode cX3_begins 78 = .ok (.iload 4, 2) := dk_21 4 (dk_at dksX3_begins_3 7 rfl rfl)
theorem dX3_begins_80 : decode cX3_begins 80 = .ok (.bipush 9, 2) := dk_16 9 (dk_at dksX3_begins_3 9 rfl rfl)
theorem dX3_begins_82 : decode cX3_begins 82 = .ok (.if_icmp .gt 23, 3) := dk_163 0 23 (dk_at dksX3_begins_3 11 rfl rfl)
theorem dX3_begins_85 : decode cX3_begins 85 = .ok (.aload_n 0, 1) := dk_42 (dk_at dksX3_begins_3 14 rfl rfl)
theorem dX3_begins_86 : decode cX3_begins 86 = .ok (.getfield 13, 3) := dk_180 0 13 (dk_at dksX3_begins_3 15 rfl rfl)
theorem dX3_begins_89 : decode cX3_begins 89 = .ok (.iload_n 3, 1) := dk_29 (dk_at dksX3_begins_3 18 rfl rfl)
theorem dX3_begins_90 : decode cX3_begins 90 = .ok (.iload 4, 2) := dk_21 4 (dk_at dksX3_begins_3 19 rfl rfl)
theorem dX3_begins_92 : decode cX3_begins 92 = .ok (.invokestatic 45, 3) := dk_184 0 45 (dk_at dksX3_begins_3 21 rfl rfl)
theorem dX3_begins_95 : decode cX3_begins 95 = .ok (.ldc2_w 144, 3) := dk_20 0 144 (dk_at dksX3_begins_4 0 rfl rfl)
theorem dX3_begins_98 : decode cX3_begins 98 = .ok (.lastore, 1) := dk_80 (dk_at dksX3_begins_4 3 rfl rfl)
theorem dX3_begins_99 : decode cX3_begins 99 = .ok (.iinc 4 1, 3) := dk_132 4 1 (dk_at dksX3_begins_4 4 rfl rfl)
theorem dX3_begins_102 : decode cX3_begins 102 = .ok (.goto (-24), 3) := dk_167 255 232 (dk_at dksX3_begins_4 7 rfl rfl)
theorem dX3_begins_105 : decode cX3_begins 105 = .ok (.aload_n 0, 1) := dk_42 (dk_at dksX3_begins_4 10 rfl rfl)
theorem dX3_begins_106 : decode cX3_begins 106 = .ok (.getfield 13, 3) := dk_180 0 13 (dk_at dksX3_begins_4 11 rfl rfl)
theorem dX3_begins_109 : decode cX3_begins 109 = .ok (.iconst 3, 1) := dk_6 (dk_at dksX3_begins_4 14 rfl rfl)
theorem dX3_begins_110 : decode cX3_begins 110 = .ok (.dup2, 1) := dk_92 (dk_at dksX3_begins_4 15 rfl rfl)
theorem dX3_begins_111 : decode cX3_begins 111 = .ok (.laload, 1) := dk_47 (dk_at dksX3_begins_4 16 rfl rfl)
theorem dX3_begins_112 : decode cX3_begins 112 = .ok (.lconst 1, 1) := dk_10 (dk_at dksX3_begins_4 17 rfl rfl)
theorem dX3_begins_113 : decode cX3_begins 113 = .ok (.ladd, 1) := dk_97 (dk_at dksX3_begins_4 18 rfl rfl)
theorem dX3_begins_114 : decode cX3_begins 114 = .ok (.lastore, 1) := dk_80 (dk_at dksX3_begins_4 19 rfl rfl)
theorem dX3_begins_115 : decode cX3_begins 115 = .ok (.iload_n 3, 1) := dk_29 (dk_at dksX3_begins_4 20 rfl rfl)
theorem dX3_begins_116 : decode cX3_begins 116 = .ok (.ireturn, 1) := dk_172 (dk_at dksX3_begins_4 21 rfl rfl)
abbrev cX3_adds : ByteArray := prog_14_method_42_code
def yX3_adds : MethodName := ⟨RX3, "adds", "(IIII)V"⟩
def dkwX3_adds_2 : List UInt8 := [21, 4, 133, 80, 42, 180, 0, 13, 27, 6, 184, 0, 45, 92, 47, 10, 97, 80, 177]
abbrev dktX3_adds_2 : List UInt8 := dkwX3_adds_2 ++ []
def dkwX3_adds_1 : List UInt8 := [21, 5, 28, 133, 80, 42, 180, 0, 13, 21, 5, 4, 96, 29, 133, 80, 42, 180, 0, 13, 21, 5, 5, 96]
abbrev dktX3_adds_1 : List UInt8 := dkwX3_adds_1 ++ dktX3_adds_2
def dkwX3_adds_0 : List UInt8 := [27, 16, 11, 184, 0, 45, 6, 42, 27, 6, 184, 0, 45, 182, 0, 49, 104, 96, 54, 5, 42, 180, 0, 13]
abbrev dktX3_adds_0 : List UInt8 := dkwX3_adds_0 ++ dktX3_adds_1
theorem dksX3_adds_0 : cX3_adds.data.toList.drop 0 = dktX3_adds_0 := by decide +kernel
theorem dksX3_adds_1 : cX3_adds.data.toList.drop 24 = dktX3_adds_1 := dk_seg dksX3_adds_0 24 rfl rfl
theorem dksX3_adds_2 : cX3_adds.data.toList.drop 48 = dktX3_adds_2 := dk_seg dksX3_adds_1 24 rfl rfl
theorem dX3_adds_0 : decode cX3_adds 0 = .ok (.iload_n 1, 1) := dk_27 (dk_at dksX3_adds_0 0 rfl rfl)
theorem dX3_adds_1 : decode cX3_adds 1 = .ok (.bipush 11, 2) := dk_16 11 (dk_at dksX3_adds_0 1 rfl rfl)
theorem dX3_adds_3 : decode cX3_adds 3 = .ok (.invokestatic 45, 3) := dk_184 0 45 (dk_at dksX3_adds_0 3 rfl rfl)
theorem dX3_adds_6 : decode cX3_adds 6 = .ok (.iconst 3, 1) := dk_6 (dk_at dksX3_adds_0 6 rfl rfl)
theorem dX3_adds_7 : decode cX3_adds 7 = .ok (.aload_n 0, 1) := dk_42 (dk_at dksX3_adds_0 7 rfl rfl)
theorem dX3_adds_8 : decode cX3_adds 8 = .ok (.iload_n 1, 1) := dk_27 (dk_at dksX3_adds_0 8 rfl rfl)
theorem dX3_adds_9 : decode cX3_adds 9 = .ok (.iconst 3, 1) := dk_6 (dk_at dksX3_adds_0 9 rfl rfl)
theorem dX3_adds_10 : decode cX3_adds 10 = .ok (.invokestatic 45, 3) := dk_184 0 45 (dk_at dksX3_adds_0 10 rfl rfl)
theorem dX3_adds_13 : decode cX3_adds 13 = .ok (.invokevirtual 49, 3) := dk_182 0 49 (dk_at dksX3_adds_0 13 rfl rfl)
theorem dX3_adds_16 : decode cX3_adds 16 = .ok (.imul, 1) := dk_104 (dk_at dksX3_adds_0 16 rfl rfl)
theorem dX3_adds_17 : decode cX3_adds 17 = .ok (.iadd, 1) := dk_96 (dk_at dksX3_adds_0 17 rfl rfl)
theorem dX3_adds_18 : decode cX3_adds 18 = .ok (.istore 5, 2) := dk_54 5 (dk_at dksX3_adds_0 18 rfl rfl)
theorem dX3_adds_20 : decode cX3_adds 20 = .ok (.aload_n 0, 1) := dk_42 (dk_at dksX3_adds_0 20 rfl rfl)
theorem dX3_adds_21 : decode cX3_adds 21 = .ok (.getfield 13, 3) := dk_180 0 13 (dk_at dksX3_adds_0 21 rfl rfl)
theorem dX3_adds_24 : decode cX3_adds 24 = .ok (.iload 5, 2) := dk_21 5 (dk_at dksX3_adds_1 0 rfl rfl)
theorem dX3_adds_26 : decode cX3_adds 26 = .ok (.iload_n 2, 1) := dk_28 (dk_at dksX3_adds_1 2 rfl rfl)
theorem dX3_adds_27 : decode cX3_adds 27 = .ok (.i2l, 1) := dk_133 (dk_at dksX3_adds_1 3 rfl rfl)
theorem dX3_adds_28 : decode cX3_adds 28 = .ok (.lastore, 1) := dk_80 (dk_at dksX3_adds_1 4 rfl rfl)
theorem dX3_adds_29 : decode cX3_adds 29 = .ok (.aload_n 0, 1) := dk_42 (dk_at dksX3_adds_1 5 rfl rfl)
theorem dX3_adds_30 : decode cX3_adds 30 = .ok (.getfield 13, 3) := dk_180 0 13 (dk_at dksX3_adds_1 6 rfl rfl)
theorem dX3_adds_33 : decode cX3_adds 33 = .ok (.iload 5, 2) := dk_21 5 (dk_at dksX3_adds_1 9 rfl rfl)
theorem dX3_adds_35 : decode cX3_adds 35 = .ok (.iconst 1, 1) := dk_4 (dk_at dksX3_adds_1 11 rfl rfl)
theorem dX3_adds_36 : decode cX3_adds 36 = .ok (.iadd, 1) := dk_96 (dk_at dksX3_adds_1 12 rfl rfl)
theorem dX3_adds_37 : decode cX3_adds 37 = .ok (.iload_n 3, 1) := dk_29 (dk_at dksX3_adds_1 13 rfl rfl)
theorem dX3_adds_38 : decode cX3_adds 38 = .ok (.i2l, 1) := dk_133 (dk_at dksX3_adds_1 14 rfl rfl)
theorem dX3_adds_39 : decode cX3_adds 39 = .ok (.lastore, 1) := dk_80 (dk_at dksX3_adds_1 15 rfl rfl)
theorem dX3_adds_40 : decode cX3_adds 40 = .ok (.aload_n 0, 1) := dk_42 (dk_at dksX3_adds_1 16 rfl rfl)
theorem dX3_adds_41 : decode cX3_adds 41 = .ok (.getfield 13, 3) := dk_180 0 13 (dk_at dksX3_adds_1 17 rfl rfl)
theorem dX3_adds_44 : decode cX3_adds 44 = .ok (.iload 5, 2) := dk_21 5 (dk_at dksX3_adds_1 20 rfl rfl)
theorem dX3_adds_46 : decode cX3_adds 46 = .ok (.iconst 2, 1) := dk_5 (dk_at dksX3_adds_1 22 rfl rfl)
theorem dX3_adds_47 : decode cX3_adds 47 = .ok (.iadd, 1) := dk_96 (dk_at dksX3_adds_1 23 rfl rfl)
theorem dX3_adds_48 : decode cX3_adds 48 = .ok (.iload 4, 2) := dk_21 4 (dk_at dksX3_adds_2 0 rfl rfl)
theorem dX3_adds_50 : decode cX3_adds 50 = .ok (.i2l, 1) := dk_133 (dk_at dksX3_adds_2 2 rfl rfl)
theorem dX3_adds_51 : decode cX3_adds 51 = .ok (.lastore, 1) := dk_80 (dk_at dksX3_adds_2 3 rfl rfl)
theorem dX3_adds_52 : decode cX3_adds 52 = .ok (.aload_n 0, 1) := dk_42 (dk_at dksX3_adds_2 4 rfl rfl)
theorem dX3_adds_53 : decode cX3_adds 53 = .ok (.getfield 13, 3) := dk_180 0 13 (dk_at dksX3_adds_2 5 rfl rfl)
theorem dX3_adds_56 : decode cX3_adds 56 = .ok (.iload_n 1, 1) := dk_27 (dk_at dksX3_adds_2 8 rfl rfl)
theorem dX3_adds_57 : decode cX3_adds 57 = .ok (.iconst 3, 1) := dk_6 (dk_at dksX3_adds_2 9 rfl rfl)
theorem dX3_adds_58 : decode cX3_adds 58 = .ok (.invokestatic 45, 3) := dk_184 0 45 (dk_at dksX3_adds_2 10 rfl rfl)
theorem dX3_adds_61 : decode cX3_adds 61 = .ok (.dup2, 1) := dk_92 (dk_at dksX3_adds_2 13 rfl rfl)
theorem dX3_adds_62 : decode cX3_adds 62 = .ok (.laload, 1) := dk_47 (dk_at dksX3_adds_2 14 rfl rfl)
theorem dX3_adds_63 : decode cX3_adds 63 = .ok (.lconst 1, 1) := dk_10 (dk_at dksX3_adds_2 15 rfl rfl)
theorem dX3_adds_64 : decode cX3_adds 64 = .ok (.ladd, 1) := dk_97 (dk_at dksX3_adds_2 16 rfl rfl)
theorem dX3_adds_65 : decode cX3_adds 65 = .ok (.lastore, 1) := dk_80 (dk_at dksX3_adds_2 17 rfl rfl)
theorem dX3_adds_66 : decode cX3_adds 66 = .ok (.return_, 1) := dk_177 (dk_at dksX3_adds_2 18 rfl rfl)
abbrev cX3_entered : ByteArray := prog_14_method_43_code
def yX3_entered : MethodName := ⟨RX3, "entered", "(I)I"⟩
def dkwX3_entered_0 : List UInt8 := [42, 5, 27, 42, 27, 182, 0, 146, 182, 0, 131, 42, 27, 182, 0, 84, 172]
abbrev dktX3_entered_0 : List UInt8 := dkwX3_entered_0 ++ []
theorem dksX3_entered_0 : cX3_entered.data.toList.drop 0 = dktX3_entered_0 := by decide +kernel
theorem dX3_entered_0 : decode cX3_entered 0 = .ok (.aload_n 0, 1) := dk_42 (dk_at dksX3_entered_0 0 rfl rfl)
theorem dX3_entered_1 : decode cX3_entered 1 = .ok (.iconst 2, 1) := dk_5 (dk_at dksX3_entered_0 1 rfl rfl)
theorem dX3_entered_2 : decode cX3_entered 2 = .ok (.iload_n 1, 1) := dk_27 (dk_at dksX3_entered_0 2 rfl rfl)
theorem dX3_entered_3 : decode cX3_entered 3 = .ok (.aload_n 0, 1) := dk_42 (dk_at dksX3_entered_0 3 rfl rfl)
theorem dX3_entered_4 : decode cX3_entered 4 = .ok (.iload_n 1, 1) := dk_27 (dk_at dksX3_entered_0 4 rfl rfl)
theorem dX3_entered_5 : decode cX3_entered 5 = .ok (.invokevirtual 146, 3) := dk_182 0 146 (dk_at dksX3_entered_0 5 rfl rfl)
theorem dX3_entered_8 : decode cX3_entered 8 = .ok (.invokevirtual 131, 3) := dk_182 0 131 (dk_at dksX3_entered_0 8 rfl rfl)
theorem dX3_entered_11 : decode cX3_entered 11 = .ok (.aload_n 0, 1) := dk_42 (dk_at dksX3_entered_0 11 rfl rfl)
theorem dX3_entered_12 : decode cX3_entered 12 = .ok (.iload_n 1, 1) := dk_27 (dk_at dksX3_entered_0 12 rfl rfl)
theorem dX3_entered_13 : decode cX3_entered 13 = .ok (.invokevirtual 84, 3) := dk_182 0 84 (dk_at dksX3_entered_0 13 rfl rfl)
theorem dX3_entered_16 : decode cX3_entered 16 = .ok (.ireturn, 1) := dk_172 (dk_at dksX3_entered_0 16 rfl rfl)
abbrev cX3_total : ByteArray := prog_14_method_40_code
def yX3_total : MethodName := ⟨RX3, "total", "(I)I"⟩
def dkwX3_total_1 : List UInt8 := [182, 0, 141, 42, 27, 29, 5, 182, 0, 141, 104, 96, 61, 132, 3, 1, 167, 255, 222, 28, 172]
abbrev dktX3_total_1 : List UInt8 := dkwX3_total_1 ++ []
def dkwX3_total_0 : List UInt8 := [3, 61, 3, 62, 29, 42, 27, 6, 184, 0, 45, 182, 0, 49, 162, 0, 27, 28, 42, 27, 29, 4]
abbrev dktX3_total_0 : List UInt8 := dkwX3_total_0 ++ dktX3_total_1
theorem dksX3_total_0 : cX3_total.data.toList.drop 0 = dktX3_total_0 := by decide +kernel
theorem dksX3_total_1 : cX3_total.data.toList.drop 22 = dktX3_total_1 := dk_seg dksX3_total_0 22 rfl rfl
theorem dX3_total_0 : decode cX3_total 0 = .ok (.iconst 0, 1) := dk_3 (dk_at dksX3_total_0 0 rfl rfl)
theorem dX3_total_1 : decode cX3_total 1 = .ok (.istore_n 2, 1) := dk_61 (dk_at dksX3_total_0 1 rfl rfl)
theorem dX3_total_2 : decode cX3_total 2 = .ok (.iconst 0, 1) := dk_3 (dk_at dksX3_total_0 2 rfl rfl)
theorem dX3_total_3 : decode cX3_total 3 = .ok (.istore_n 3, 1) := dk_62 (dk_at dksX3_total_0 3 rfl rfl)
theorem dX3_total_4 : decode cX3_total 4 = .ok (.iload_n 3, 1) := dk_29 (dk_at dksX3_total_0 4 rfl rfl)
theorem dX3_total_5 : decode cX3_total 5 = .ok (.aload_n 0, 1) := dk_42 (dk_at dksX3_total_0 5 rfl rfl)
theorem dX3_total_6 : decode cX3_total 6 = .ok (.iload_n 1, 1) := dk_27 (dk_at dksX3_total_0 6 rfl rfl)
theorem dX3_total_7 : decode cX3_total 7 = .ok (.iconst 3, 1) := dk_6 (dk_at dksX3_total_0 7 rfl rfl)
theorem dX3_total_8 : decode cX3_total 8 = .ok (.invokestatic 45, 3) := dk_184 0 45 (dk_at dksX3_total_0 8 rfl rfl)
theorem dX3_total_11 : decode cX3_total 11 = .ok (.invokevirtual 49, 3) := dk_182 0 49 (dk_at dksX3_total_0 11 rfl rfl)
theorem dX3_total_14 : decode cX3_total 14 = .ok (.if_icmp .ge 27, 3) := dk_162 0 27 (dk_at dksX3_total_0 14 rfl rfl)
theorem dX3_total_17 : decode cX3_total 17 = .ok (.iload_n 2, 1) := dk_28 (dk_at dksX3_total_0 17 rfl rfl)
theorem dX3_total_18 : decode cX3_total 18 = .ok (.aload_n 0, 1) := dk_42 (dk_at dksX3_total_0 18 rfl rfl)
theorem dX3_total_19 : decode cX3_total 19 = .ok (.iload_n 1, 1) := dk_27 (dk_at dksX3_total_0 19 rfl rfl)
theorem dX3_total_20 : decode cX3_total 20 = .ok (.iload_n 3, 1) := dk_29 (dk_at dksX3_total_0 20 rfl rfl)
theorem dX3_total_21 : decode cX3_total 21 = .ok (.iconst 1, 1) := dk_4 (dk_at dksX3_total_0 21 rfl rfl)
theorem dX3_total_22 : decode cX3_total 22 = .ok (.invokevirtual 141, 3) := dk_182 0 141 (dk_at dksX3_total_1 0 rfl rfl)
theorem dX3_total_25 : decode cX3_total 25 = .ok (.aload_n 0, 1) := dk_42 (dk_at dksX3_total_1 3 rfl rfl)
theorem dX3_total_26 : decode cX3_total 26 = .ok (.iload_n 1, 1) := dk_27 (dk_at dksX3_total_1 4 rfl rfl)
theorem dX3_total_27 : decode cX3_total 27 = .ok (.iload_n 3, 1) := dk_29 (dk_at dksX3_total_1 5 rfl rfl)
theorem dX3_total_28 : decode cX3_total 28 = .ok (.iconst 2, 1) := dk_5 (dk_at dksX3_total_1 6 rfl rfl)
theorem dX3_total_29 : decode cX3_total 29 = .ok (.invokevirtual 141, 3) := dk_182 0 141 (dk_at dksX3_total_1 7 rfl rfl)
theorem dX3_total_32 : decode cX3_total 32 = .ok (.imul, 1) := dk_104 (dk_at dksX3_total_1 10 rfl rfl)
theorem dX3_total_33 : decode cX3_total 33 = .ok (.iadd, 1) := dk_96 (dk_at dksX3_total_1 11 rfl rfl)
theorem dX3_total_34 : decode cX3_total 34 = .ok (.istore_n 2, 1) := dk_61 (dk_at dksX3_total_1 12 rfl rfl)
theorem dX3_total_35 : decode cX3_total 35 = .ok (.iinc 3 1, 3) := dk_132 3 1 (dk_at dksX3_total_1 13 rfl rfl)
theorem dX3_total_38 : decode cX3_total 38 = .ok (.goto (-34), 3) := dk_167 255 222 (dk_at dksX3_total_1 16 rfl rfl)
theorem dX3_total_41 : decode cX3_total 41 = .ok (.iload_n 2, 1) := dk_28 (dk_at dksX3_total_1 19 rfl rfl)
theorem dX3_total_42 : decode cX3_total 42 = .ok (.ireturn, 1) := dk_172 (dk_at dksX3_total_1 20 rfl rfl)
abbrev cX3_entryOf : ByteArray := prog_14_method_9_code
def yX3_entryOf : MethodName := ⟨RX3, "entryOf", "(III)I"⟩
def dkwX3_entryOf_0 : List UInt8 := [42, 27, 16, 11, 184, 0, 45, 6, 28, 104, 96, 29, 96, 182, 0, 49, 172]
abbrev dktX3_entryOf_0 : List UInt8 := dkwX3_entryOf_0 ++ []
theorem dksX3_entryOf_0 : cX3_entryOf.data.toList.drop 0 = dktX3_entryOf_0 := by decide +kernel
theorem dX3_entryOf_0 : decode cX3_entryOf 0 = .ok (.aload_n 0, 1) := dk_42 (dk_at dksX3_entryOf_0 0 rfl rfl)
theorem dX3_entryOf_1 : decode cX3_entryOf 1 = .ok (.iload_n 1, 1) := dk_27 (dk_at dksX3_entryOf_0 1 rfl rfl)
theorem dX3_entryOf_2 : decode cX3_entryOf 2 = .ok (.bipush 11, 2) := dk_16 11 (dk_at dksX3_entryOf_0 2 rfl rfl)
theorem dX3_entryOf_4 : decode cX3_entryOf 4 = .ok (.invokestatic 45, 3) := dk_184 0 45 (dk_at dksX3_entryOf_0 4 rfl rfl)
theorem dX3_entryOf_7 : decode cX3_entryOf 7 = .ok (.iconst 3, 1) := dk_6 (dk_at dksX3_entryOf_0 7 rfl rfl)
theorem dX3_entryOf_8 : decode cX3_entryOf 8 = .ok (.iload_n 2, 1) := dk_28 (dk_at dksX3_entryOf_0 8 rfl rfl)
theorem dX3_entryOf_9 : decode cX3_entryOf 9 = .ok (.imul, 1) := dk_104 (dk_at dksX3_entryOf_0 9 rfl rfl)
theorem dX3_entryOf_10 : decode cX3_entryOf 10 = .ok (.iadd, 1) := dk_96 (dk_at dksX3_entryOf_0 10 rfl rfl)
theorem dX3_entryOf_11 : decode cX3_entryOf 11 = .ok (.iload_n 3, 1) := dk_29 (dk_at dksX3_entryOf_0 11 rfl rfl)
theorem dX3_entryOf_12 : decode cX3_entryOf 12 = .ok (.iadd, 1) := dk_96 (dk_at dksX3_entryOf_0 12 rfl rfl)
theorem dX3_entryOf_13 : decode cX3_entryOf 13 = .ok (.invokevirtual 49, 3) := dk_182 0 49 (dk_at dksX3_entryOf_0 13 rfl rfl)
theorem dX3_entryOf_16 : decode cX3_entryOf 16 = .ok (.ireturn, 1) := dk_172 (dk_at dksX3_entryOf_0 16 rfl rfl)
abbrev cX3_match : ByteArray := prog_14_method_53_code
def yX3_match : MethodName := ⟨RX3, "match", "(I)I"⟩
def dkwX3_match_7 : List UInt8 := [172]
abbrev dktX3_match_7 : List UInt8 := dkwX3_match_7 ++ []
def dkwX3_match_6 : List UInt8 := [180, 0, 13, 27, 7, 184, 0, 45, 20, 0, 117, 80, 42, 7, 27, 28, 182, 0, 131, 42, 28, 182, 0, 84]
abbrev dktX3_match_6 : List UInt8 := dkwX3_match_6 ++ dktX3_match_7
def dkwX3_match_5 : List UInt8 := [180, 0, 13, 27, 8, 184, 0, 45, 28, 133, 80, 28, 154, 0, 11, 42, 27, 182, 0, 184, 167, 0, 23, 42]
abbrev dktX3_match_5 : List UInt8 := dkwX3_match_5 ++ dktX3_match_6
def dkwX3_match_4 : List UInt8 := [97, 80, 42, 180, 0, 13, 16, 7, 92, 47, 28, 154, 0, 7, 10, 167, 0, 4, 9, 97, 80, 42]
abbrev dktX3_match_4 : List UInt8 := dkwX3_match_4 ++ dktX3_match_5
def dkwX3_match_3 : List UInt8 := [154, 0, 45, 42, 180, 0, 13, 27, 16, 10, 184, 0, 45, 10, 80, 42, 180, 0, 13, 16, 8, 92, 47, 10]
abbrev dktX3_match_3 : List UInt8 := dkwX3_match_3 ++ dktX3_match_4
def dkwX3_match_2 : List UInt8 := [184, 0, 45, 182, 0, 49, 28, 160, 0, 6, 16, 251, 172, 42, 27, 16, 10, 184, 0, 45, 182, 0, 49]
abbrev dktX3_match_2 : List UInt8 := dkwX3_match_2 ++ dktX3_match_3
def dkwX3_match_1 : List UInt8 := [172, 42, 27, 182, 0, 181, 61, 42, 27, 7, 184, 0, 45, 182, 0, 49, 5, 160, 0, 19, 42, 27, 8]
abbrev dktX3_match_1 : List UInt8 := dkwX3_match_1 ++ dktX3_match_2
def dkwX3_match_0 : List UInt8 := [42, 182, 0, 74, 42, 27, 182, 0, 175, 154, 0, 5, 2, 172, 42, 27, 182, 0, 178, 154, 0, 6, 16, 252]
abbrev dktX3_match_0 : List UInt8 := dkwX3_match_0 ++ dktX3_match_1
theorem dksX3_match_0 : cX3_match.data.toList.drop 0 = dktX3_match_0 := by decide +kernel
theorem dksX3_match_1 : cX3_match.data.toList.drop 24 = dktX3_match_1 := dk_seg dksX3_match_0 24 rfl rfl
theorem dksX3_match_2 : cX3_match.data.toList.drop 47 = dktX3_match_2 := dk_seg dksX3_match_1 23 rfl rfl
theorem dksX3_match_3 : cX3_match.data.toList.drop 70 = dktX3_match_3 := dk_seg dksX3_match_2 23 rfl rfl
theorem dksX3_match_4 : cX3_match.data.toList.drop 94 = dktX3_match_4 := dk_seg dksX3_match_3 24 rfl rfl
theorem dksX3_match_5 : cX3_match.data.toList.drop 116 = dktX3_match_5 := dk_seg dksX3_match_4 22 rfl rfl
theorem dksX3_match_6 : cX3_match.data.toList.drop 140 = dktX3_match_6 := dk_seg dksX3_match_5 24 rfl rfl
theorem dksX3_match_7 : cX3_match.data.toList.drop 164 = dktX3_match_7 := dk_seg dksX3_match_6 24 rfl rfl
theorem dX3_match_0 : decode cX3_match 0 = .ok (.aload_n 0, 1) := dk_42 (dk_at dksX3_match_0 0 rfl rfl)
theorem dX3_match_1 : decode cX3_match 1 = .ok (.invokevirtual 74, 3) := dk_182 0 74 (dk_at dksX3_match_0 1 rfl rfl)
theorem dX3_match_4 : decode cX3_match 4 = .ok (.aload_n 0, 1) := dk_42 (dk_at dksX3_match_0 4 rfl rfl)
theorem dX3_match_5 : decode cX3_match 5 = .ok (.iload_n 1, 1) := dk_27 (dk_at dksX3_match_0 5 rfl rfl)
theorem dX3_match_6 : decode cX3_match 6 = .ok (.invokevirtual 175, 3) := dk_182 0 175 (dk_at dksX3_match_0 6 rfl rfl)
theorem dX3_match_9 : decode cX3_match 9 = .ok (.ifCond .ne 5, 3) := dk_154 0 5 (dk_at dksX3_match_0 9 rfl rfl)
theorem dX3_match_12 : decode cX3_match 12 = .ok (.iconst (-1), 1) := dk_2 (dk_at dksX3_match_0 12 rfl rfl)
theorem dX3_match_13 : decode cX3_match 13 = .ok (.ireturn, 1) := dk_172 (dk_at dksX3_match_0 13 rfl rfl)
theorem dX3_match_14 : decode cX3_match 14 = .ok (.aload_n 0, 1) := dk_42 (dk_at dksX3_match_0 14 rfl rfl)
theorem dX3_match_15 : decode cX3_match 15 = .ok (.iload_n 1, 1) := dk_27 (dk_at dksX3_match_0 15 rfl rfl)
theorem dX3_match_16 : decode cX3_match 16 = .ok (.invokevirtual 178, 3) := dk_182 0 178 (dk_at dksX3_match_0 16 rfl rfl)
theorem dX3_match_19 : decode cX3_match 19 = .ok (.ifCond .ne 6, 3) := dk_154 0 6 (dk_at dksX3_match_0 19 rfl rfl)
theorem dX3_match_22 : decode cX3_match 22 = .ok (.bipush (-4), 2) := dk_16 252 (dk_at dksX3_match_0 22 rfl rfl)
theorem dX3_match_24 : decode cX3_match 24 = .ok (.ireturn, 1) := dk_172 (dk_at dksX3_match_1 0 rfl rfl)
theorem dX3_match_25 : decode cX3_match 25 = .ok (.aload_n 0, 1) := dk_42 (dk_at dksX3_match_1 1 rfl rfl)
theorem dX3_match_26 : decode cX3_match 26 = .ok (.iload_n 1, 1) := dk_27 (dk_at dksX3_match_1 2 rfl rfl)
theorem dX3_match_27 : decode cX3_match 27 = .ok (.invokevirtual 181, 3) := dk_182 0 181 (dk_at dksX3_match_1 3 rfl rfl)
theorem dX3_match_30 : decode cX3_match 30 = .ok (.istore_n 2, 1) := dk_61 (dk_at dksX3_match_1 6 rfl rfl)
theorem dX3_match_31 : decode cX3_match 31 = .ok (.aload_n 0, 1) := dk_42 (dk_at dksX3_match_1 7 rfl rfl)
theorem dX3_match_32 : decode cX3_match 32 = .ok (.iload_n 1, 1) := dk_27 (dk_at dksX3_match_1 8 rfl rfl)
theorem dX3_match_33 : decode cX3_match 33 = .ok (.iconst 4, 1) := dk_7 (dk_at dksX3_match_1 9 rfl rfl)
theorem dX3_match_34 : decode cX3_match 34 = .ok (.invokestatic 45, 3) := dk_184 0 45 (dk_at dksX3_match_1 10 rfl rfl)
theorem dX3_match_37 : decode cX3_match 37 = .ok (.invokevirtual 49, 3) := dk_182 0 49 (dk_at dksX3_match_1 13 rfl rfl)
theorem dX3_match_40 : decode cX3_match 40 = .ok (.iconst 2, 1) := dk_5 (dk_at dksX3_match_1 16 rfl rfl)
theorem dX3_match_41 : decode cX3_match 41 = .ok (.if_icmp .ne 19, 3) := dk_160 0 19 (dk_at dksX3_match_1 17 rfl rfl)
theorem dX3_match_44 : decode cX3_match 44 = .ok (.aload_n 0, 1) := dk_42 (dk_at dksX3_match_1 20 rfl rfl)
theorem dX3_match_45 : decode cX3_match 45 = .ok (.iload_n 1, 1) := dk_27 (dk_at dksX3_match_1 21 rfl rfl)
theorem dX3_match_46 : decode cX3_match 46 = .ok (.iconst 5, 1) := dk_8 (dk_at dksX3_match_1 22 rfl rfl)
theorem dX3_match_47 : decode cX3_match 47 = .ok (.invokestatic 45, 3) := dk_184 0 45 (dk_at dksX3_match_2 0 rfl rfl)
theorem dX3_match_50 : decode cX3_match 50 = .ok (.invokevirtual 49, 3) := dk_182 0 49 (dk_at dksX3_match_2 3 rfl rfl)
theorem dX3_match_53 : decode cX3_match 53 = .ok (.iload_n 2, 1) := dk_28 (dk_at dksX3_match_2 6 rfl rfl)
theorem dX3_match_54 : decode cX3_match 54 = .ok (.if_icmp .ne 6, 3) := dk_160 0 6 (dk_at dksX3_match_2 7 rfl rfl)
theorem dX3_match_57 : decode cX3_match 57 = .ok (.bipush (-5), 2) := dk_16 251 (dk_at dksX3_match_2 10 rfl rfl)
theorem dX3_match_59 : decode cX3_match 59 = .ok (.ireturn, 1) := dk_172 (dk_at dksX3_match_2 12 rfl rfl)
theorem dX3_match_60 : decode cX3_match 60 = .ok (.aload_n 0, 1) := dk_42 (dk_at dksX3_match_2 13 rfl rfl)
theorem dX3_match_61 : decode cX3_match 61 = .ok (.iload_n 1, 1) := dk_27 (dk_at dksX3_match_2 14 rfl rfl)
theorem dX3_match_62 : decode cX3_match 62 = .ok (.bipush 10, 2) := dk_16 10 (dk_at dksX3_match_2 15 rfl rfl)
theorem dX3_match_64 : decode cX3_match 64 = .ok (.invokestatic 45, 3) := dk_184 0 45 (dk_at dksX3_match_2 17 rfl rfl)
theorem dX3_match_67 : decode cX3_match 67 = .ok (.invokevirtual 49, 3) := dk_182 0 49 (dk_at dksX3_match_2 20 rfl rfl)
theorem dX3_match_70 : decode cX3_match 70 = .ok (.ifCond .ne 45, 3) := dk_154 0 45 (dk_at dksX3_match_3 0 rfl rfl)
theorem dX3_match_73 : decode cX3_match 73 = .ok (.aload_n 0, 1) := dk_42 (dk_at dksX3_match_3 3 rfl rfl)
theorem dX3_match_74 : decode cX3_match 74 = .ok (.getfield 13, 3) := dk_180 0 13 (dk_at dksX3_match_3 4 rfl rfl)
theorem dX3_match_77 : decode cX3_match 77 = .ok (.iload_n 1, 1) := dk_27 (dk_at dksX3_match_3 7 rfl rfl)
theorem dX3_match_78 : decode cX3_match 78 = .ok (.bipush 10, 2) := dk_16 10 (dk_at dksX3_match_3 8 rfl rfl)
theorem dX3_match_80 : decode cX3_match 80 = .ok (.invokestatic 45, 3) := dk_184 0 45 (dk_at dksX3_match_3 10 rfl rfl)
theorem dX3_match_83 : decode cX3_match 83 = .ok (.lconst 1, 1) := dk_10 (dk_at dksX3_match_3 13 rfl rfl)
theorem dX3_match_84 : decode cX3_match 84 = .ok (.lastore, 1) := dk_80 (dk_at dksX3_match_3 14 rfl rfl)
theorem dX3_match_85 : decode cX3_match 85 = .ok (.aload_n 0, 1) := dk_42 (dk_at dksX3_match_3 15 rfl rfl)
theorem dX3_match_86 : decode cX3_match 86 = .ok (.getfield 13, 3) := dk_180 0 13 (dk_at dksX3_match_3 16 rfl rfl)
theorem dX3_match_89 : decode cX3_match 89 = .ok (.bipush 8, 2) := dk_16 8 (dk_at dksX3_match_3 19 rfl rfl)
theorem dX3_match_91 : decode cX3_match 91 = .ok (.dup2, 1) := dk_92 (dk_at dksX3_match_3 21 rfl rfl)
theorem dX3_match_92 : decode cX3_match 92 = .ok (.laload, 1) := dk_47 (dk_at dksX3_match_3 22 rfl rfl)
theorem dX3_match_93 : decode cX3_match 93 = .ok (.lconst 1, 1) := dk_10 (dk_at dksX3_match_3 23 rfl rfl)
theorem dX3_match_94 : decode cX3_match 94 = .ok (.ladd, 1) := dk_97 (dk_at dksX3_match_4 0 rfl rfl)
theorem dX3_match_95 : decode cX3_match 95 = .ok (.lastore, 1) := dk_80 (dk_at dksX3_match_4 1 rfl rfl)
theorem dX3_match_96 : decode cX3_match 96 = .ok (.aload_n 0, 1) := dk_42 (dk_at dksX3_match_4 2 rfl rfl)
theorem dX3_match_97 : decode cX3_match 97 = .ok (.getfield 13, 3) := dk_180 0 13 (dk_at dksX3_match_4 3 rfl rfl)
theorem dX3_match_100 : decode cX3_match 100 = .ok (.bipush 7, 2) := dk_16 7 (dk_at dksX3_match_4 6 rfl rfl)
theorem dX3_match_102 : decode cX3_match 102 = .ok (.dup2, 1) := dk_92 (dk_at dksX3_match_4 8 rfl rfl)
theorem dX3_match_103 : decode cX3_match 103 = .ok (.laload, 1) := dk_47 (dk_at dksX3_match_4 9 rfl rfl)
theorem dX3_match_104 : decode cX3_match 104 = .ok (.iload_n 2, 1) := dk_28 (dk_at dksX3_match_4 10 rfl rfl)
theorem dX3_match_105 : decode cX3_match 105 = .ok (.ifCond .ne 7, 3) := dk_154 0 7 (dk_at dksX3_match_4 11 rfl rfl)
theorem dX3_match_108 : decode cX3_match 108 = .ok (.lconst 1, 1) := dk_10 (dk_at dksX3_match_4 14 rfl rfl)
theorem dX3_match_109 : decode cX3_match 109 = .ok (.goto 4, 3) := dk_167 0 4 (dk_at dksX3_match_4 15 rfl rfl)
theorem dX3_match_112 : decode cX3_match 112 = .ok (.lconst 0, 1) := dk_9 (dk_at dksX3_match_4 18 rfl rfl)
theorem dX3_match_113 : decode cX3_match 113 = .ok (.ladd, 1) := dk_97 (dk_at dksX3_match_4 19 rfl rfl)
theorem dX3_match_114 : decode cX3_match 114 = .ok (.lastore, 1) := dk_80 (dk_at dksX3_match_4 20 rfl rfl)
theorem dX3_match_115 : decode cX3_match 115 = .ok (.aload_n 0, 1) := dk_42 (dk_at dksX3_match_4 21 rfl rfl)
theorem dX3_match_116 : decode cX3_match 116 = .ok (.getfield 13, 3) := dk_180 0 13 (dk_at dksX3_match_5 0 rfl rfl)
theorem dX3_match_119 : decode cX3_match 119 = .ok (.iload_n 1, 1) := dk_27 (dk_at dksX3_match_5 3 rfl rfl)
theorem dX3_match_120 : decode cX3_match 120 = .ok (.iconst 5, 1) := dk_8 (dk_at dksX3_match_5 4 rfl rfl)
theorem dX3_match_121 : decode cX3_match 121 = .ok (.invokestatic 45, 3) := dk_184 0 45 (dk_at dksX3_match_5 5 rfl rfl)
theorem dX3_match_124 : decode cX3_match 124 = .ok (.iload_n 2, 1) := dk_28 (dk_at dksX3_match_5 8 rfl rfl)
theorem dX3_match_125 : decode cX3_match 125 = .ok (.i2l, 1) := dk_133 (dk_at dksX3_match_5 9 rfl rfl)
theorem dX3_match_126 : decode cX3_match 126 = .ok (.lastore, 1) := dk_80 (dk_at dksX3_match_5 10 rfl rfl)
theorem dX3_match_127 : decode cX3_match 127 = .ok (.iload_n 2, 1) := dk_28 (dk_at dksX3_match_5 11 rfl rfl)
theorem dX3_match_128 : decode cX3_match 128 = .ok (.ifCond .ne 11, 3) := dk_154 0 11 (dk_at dksX3_match_5 12 rfl rfl)
theorem dX3_match_131 : decode cX3_match 131 = .ok (.aload_n 0, 1) := dk_42 (dk_at dksX3_match_5 15 rfl rfl)
theorem dX3_match_132 : decode cX3_match 132 = .ok (.iload_n 1, 1) := dk_27 (dk_at dksX3_match_5 16 rfl rfl)
theorem dX3_match_133 : decode cX3_match 133 = .ok (.invokevirtual 184, 3) := dk_182 0 184 (dk_at dksX3_match_5 17 rfl rfl)
theorem dX3_match_136 : decode cX3_match 136 = .ok (.goto 23, 3) := dk_167 0 23 (dk_at dksX3_match_5 20 rfl rfl)
theorem dX3_match_139 : decode cX3_match 139 = .ok (.aload_n 0, 1) := dk_42 (dk_at dksX3_match_5 23 rfl rfl)
theorem dX3_match_140 : decode cX3_match 140 = .ok (.getfield 13, 3) := dk_180 0 13 (dk_at dksX3_match_6 0 rfl rfl)
theorem dX3_match_143 : decode cX3_match 143 = .ok (.iload_n 1, 1) := dk_27 (dk_at dksX3_match_6 3 rfl rfl)
theorem dX3_match_144 : decode cX3_match 144 = .ok (.iconst 4, 1) := dk_7 (dk_at dksX3_match_6 4 rfl rfl)
theorem dX3_match_145 : decode cX3_match 145 = .ok (.invokestatic 45, 3) := dk_184 0 45 (dk_at dksX3_match_6 5 rfl rfl)
theorem dX3_match_148 : decode cX3_match 148 = .ok (.ldc2_w 117, 3) := dk_20 0 117 (dk_at dksX3_match_6 8 rfl rfl)
theorem dX3_match_151 : decode cX3_match 151 = .ok (.lastore, 1) := dk_80 (dk_at dksX3_match_6 11 rfl rfl)
theorem dX3_match_152 : decode cX3_match 152 = .ok (.aload_n 0, 1) := dk_42 (dk_at dksX3_match_6 12 rfl rfl)
theorem dX3_match_153 : decode cX3_match 153 = .ok (.iconst 4, 1) := dk_7 (dk_at dksX3_match_6 13 rfl rfl)
theorem dX3_match_154 : decode cX3_match 154 = .ok (.iload_n 1, 1) := dk_27 (dk_at dksX3_match_6 14 rfl rfl)
theorem dX3_match_155 : decode cX3_match 155 = .ok (.iload_n 2, 1) := dk_28 (dk_at dksX3_match_6 15 rfl rfl)
theorem dX3_match_156 : decode cX3_match 156 = .ok (.invokevirtual 131, 3) := dk_182 0 131 (dk_at dksX3_match_6 16 rfl rfl)
theorem dX3_match_159 : decode cX3_match 159 = .ok (.aload_n 0, 1) := dk_42 (dk_at dksX3_match_6 19 rfl rfl)
theorem dX3_match_160 : decode cX3_match 160 = .ok (.iload_n 2, 1) := dk_28 (dk_at dksX3_match_6 20 rfl rfl)
theorem dX3_match_161 : decode cX3_match 161 = .ok (.invokevirtual 84, 3) := dk_182 0 84 (dk_at dksX3_match_6 21 rfl rfl)
theorem dX3_match_164 : decode cX3_match 164 = .ok (.ireturn, 1) := dk_172 (dk_at dksX3_match_7 0 rfl rfl)
abbrev cX3_isInvoice : ByteArray := prog_14_method_13_code
def yX3_isInvoice : MethodName := ⟨RX3, "isInvoice", "(I)Z"⟩
def dkwX3_isInvoice_0 : List UInt8 := [27, 3, 42, 6, 182, 0, 49, 4, 100, 184, 0, 53, 172]
abbrev dktX3_isInvoice_0 : List UInt8 := dkwX3_isInvoice_0 ++ []
theorem dksX3_isInvoice_0 : cX3_isInvoice.data.toList.drop 0 = dktX3_isInvoice_0 := by decide +kernel
theorem dX3_isInvoice_0 : decode cX3_isInvoice 0 = .ok (.iload_n 1, 1) := dk_27 (dk_at dksX3_isInvoice_0 0 rfl rfl)
theorem dX3_isInvoice_1 : decode cX3_isInvoice 1 = .ok (.iconst 0, 1) := dk_3 (dk_at dksX3_isInvoice_0 1 rfl rfl)
theorem dX3_isInvoice_2 : decode cX3_isInvoice 2 = .ok (.aload_n 0, 1) := dk_42 (dk_at dksX3_isInvoice_0 2 rfl rfl)
theorem dX3_isInvoice_3 : decode cX3_isInvoice 3 = .ok (.iconst 3, 1) := dk_6 (dk_at dksX3_isInvoice_0 3 rfl rfl)
theorem dX3_isInvoice_4 : decode cX3_isInvoice 4 = .ok (.invokevirtual 49, 3) := dk_182 0 49 (dk_at dksX3_isInvoice_0 4 rfl rfl)
theorem dX3_isInvoice_7 : decode cX3_isInvoice 7 = .ok (.iconst 1, 1) := dk_4 (dk_at dksX3_isInvoice_0 7 rfl rfl)
theorem dX3_isInvoice_8 : decode cX3_isInvoice 8 = .ok (.isub, 1) := dk_100 (dk_at dksX3_isInvoice_0 8 rfl rfl)
theorem dX3_isInvoice_9 : decode cX3_isInvoice 9 = .ok (.invokestatic 53, 3) := dk_184 0 53 (dk_at dksX3_isInvoice_0 9 rfl rfl)
theorem dX3_isInvoice_12 : decode cX3_isInvoice 12 = .ok (.ireturn, 1) := dk_172 (dk_at dksX3_isInvoice_0 12 rfl rfl)
abbrev cX3_isWaiting : ByteArray := prog_14_method_52_code
def yX3_isWaiting : MethodName := ⟨RX3, "isWaiting", "(I)Z"⟩
def dkwX3_isWaiting_1 : List UInt8 := [172]
abbrev dktX3_isWaiting_1 : List UInt8 := dkwX3_isWaiting_1 ++ []
def dkwX3_isWaiting_0 : List UInt8 := [42, 27, 7, 184, 0, 45, 182, 0, 49, 61, 28, 153, 0, 8, 28, 5, 160, 0, 7, 4, 167, 0, 4, 3]
abbrev dktX3_isWaiting_0 : List UInt8 := dkwX3_isWaiting_0 ++ dktX3_isWaiting_1
theorem dksX3_isWaiting_0 : cX3_isWaiting.data.toList.drop 0 = dktX3_isWaiting_0 := by decide +kernel
theorem dksX3_isWaiting_1 : cX3_isWaiting.data.toList.drop 24 = dktX3_isWaiting_1 := dk_seg dksX3_isWaiting_0 24 rfl rfl
theorem dX3_isWaiting_0 : decode cX3_isWaiting 0 = .ok (.aload_n 0, 1) := dk_42 (dk_at dksX3_isWaiting_0 0 rfl rfl)
theorem dX3_isWaiting_1 : decode cX3_isWaiting 1 = .ok (.iload_n 1, 1) := dk_27 (dk_at dksX3_isWaiting_0 1 rfl rfl)
theorem dX3_isWaiting_2 : decode cX3_isWaiting 2 = .ok (.iconst 4, 1) := dk_7 (dk_at dksX3_isWaiting_0 2 rfl rfl)
theorem dX3_isWaiting_3 : decode cX3_isWaiting 3 = .ok (.invokestatic 45, 3) := dk_184 0 45 (dk_at dksX3_isWaiting_0 3 rfl rfl)
theorem dX3_isWaiting_6 : decode cX3_isWaiting 6 = .ok (.invokevirtual 49, 3) := dk_182 0 49 (dk_at dksX3_isWaiting_0 6 rfl rfl)
theorem dX3_isWaiting_9 : decode cX3_isWaiting 9 = .ok (.istore_n 2, 1) := dk_61 (dk_at dksX3_isWaiting_0 9 rfl rfl)
theorem dX3_isWaiting_10 : decode cX3_isWaiting 10 = .ok (.iload_n 2, 1) := dk_28 (dk_at dksX3_isWaiting_0 10 rfl rfl)
theorem dX3_isWaiting_11 : decode cX3_isWaiting 11 = .ok (.ifCond .eq 8, 3) := dk_153 0 8 (dk_at dksX3_isWaiting_0 11 rfl rfl)
theorem dX3_isWaiting_14 : decode cX3_isWaiting 14 = .ok (.iload_n 2, 1) := dk_28 (dk_at dksX3_isWaiting_0 14 rfl rfl)
theorem dX3_isWaiting_15 : decode cX3_isWaiting 15 = .ok (.iconst 2, 1) := dk_5 (dk_at dksX3_isWaiting_0 15 rfl rfl)
theorem dX3_isWaiting_16 : decode cX3_isWaiting 16 = .ok (.if_icmp .ne 7, 3) := dk_160 0 7 (dk_at dksX3_isWaiting_0 16 rfl rfl)
theorem dX3_isWaiting_19 : decode cX3_isWaiting 19 = .ok (.iconst 1, 1) := dk_4 (dk_at dksX3_isWaiting_0 19 rfl rfl)
theorem dX3_isWaiting_20 : decode cX3_isWaiting 20 = .ok (.goto 4, 3) := dk_167 0 4 (dk_at dksX3_isWaiting_0 20 rfl rfl)
theorem dX3_isWaiting_23 : decode cX3_isWaiting 23 = .ok (.iconst 0, 1) := dk_3 (dk_at dksX3_isWaiting_0 23 rfl rfl)
theorem dX3_isWaiting_24 : decode cX3_isWaiting 24 = .ok (.ireturn, 1) := dk_172 (dk_at dksX3_isWaiting_1 0 rfl rfl)
abbrev cX3_reasons : ByteArray := prog_14_method_50_code
def yX3_reasons : MethodName := ⟨RX3, "reasons", "(I)I"⟩
def dkwX3_reasons_7 : List UInt8 := [172]
abbrev dktX3_reasons_7 : List UInt8 := dkwX3_reasons_7 ++ []
def dkwX3_reasons_6 : List UInt8 := [96, 29, 153, 0, 8, 16, 8, 167, 0, 4, 3, 96, 21, 4, 153, 0, 8, 16, 16, 167, 0, 4, 3, 96]
abbrev dktX3_reasons_6 : List UInt8 := dkwX3_reasons_6 ++ dktX3_reasons_7
def dkwX3_reasons_5 : List UInt8 := [132, 5, 1, 167, 255, 155, 42, 28, 182, 0, 169, 42, 27, 182, 0, 172, 153, 0, 7, 5, 167, 0, 4, 3]
abbrev dktX3_reasons_5 : List UInt8 := dkwX3_reasons_5 ++ dktX3_reasons_6
def dkwX3_reasons_4 : List UInt8 := [182, 0, 163, 42, 27, 21, 5, 4, 182, 0, 141, 182, 0, 166, 153, 0, 7, 4, 167, 0, 4, 3, 54, 4]
abbrev dktX3_reasons_4 : List UInt8 := dkwX3_reasons_4 ++ dktX3_reasons_5
def dkwX3_reasons_3 : List UInt8 := [153, 0, 7, 4, 167, 0, 4, 3, 62, 21, 4, 154, 0, 29, 42, 28, 21, 6, 42, 27, 28, 21, 5]
abbrev dktX3_reasons_3 : List UInt8 := dkwX3_reasons_3 ++ dktX3_reasons_4
def dkwX3_reasons_2 : List UInt8 := [28, 21, 6, 42, 27, 21, 5, 4, 182, 0, 141, 42, 27, 21, 5, 5, 182, 0, 141, 182, 0, 159]
abbrev dktX3_reasons_2 : List UInt8 := dkwX3_reasons_2 ++ dktX3_reasons_3
def dkwX3_reasons_1 : List UInt8 := [184, 0, 45, 182, 0, 49, 162, 0, 93, 42, 27, 21, 5, 3, 182, 0, 141, 54, 6, 29, 154, 0, 29, 42]
abbrev dktX3_reasons_1 : List UInt8 := dkwX3_reasons_1 ++ dktX3_reasons_2
def dkwX3_reasons_0 : List UInt8 := [42, 27, 4, 184, 0, 45, 182, 0, 49, 61, 3, 62, 3, 54, 4, 3, 54, 5, 21, 5, 42, 27, 6]
abbrev dktX3_reasons_0 : List UInt8 := dkwX3_reasons_0 ++ dktX3_reasons_1
theorem dksX3_reasons_0 : cX3_reasons.data.toList.drop 0 = dktX3_reasons_0 := by decide +kernel
theorem dksX3_reasons_1 : cX3_reasons.data.toList.drop 23 = dktX3_reasons_1 := dk_seg dksX3_reasons_0 23 rfl rfl
theorem dksX3_reasons_2 : cX3_reasons.data.toList.drop 47 = dktX3_reasons_2 := dk_seg dksX3_reasons_1 24 rfl rfl
theorem dksX3_reasons_3 : cX3_reasons.data.toList.drop 69 = dktX3_reasons_3 := dk_seg dksX3_reasons_2 22 rfl rfl
theorem dksX3_reasons_4 : cX3_reasons.data.toList.drop 92 = dktX3_reasons_4 := dk_seg dksX3_reasons_3 23 rfl rfl
theorem dksX3_reasons_5 : cX3_reasons.data.toList.drop 116 = dktX3_reasons_5 := dk_seg dksX3_reasons_4 24 rfl rfl
theorem dksX3_reasons_6 : cX3_reasons.data.toList.drop 140 = dktX3_reasons_6 := dk_seg dksX3_reasons_5 24 rfl rfl
theorem dksX3_reasons_7 : cX3_reasons.data.toList.drop 164 = dktX3_reasons_7 := dk_seg dksX3_reasons_6 24 rfl rfl
theorem dX3_reasons_0 : decode cX3_reasons 0 = .ok (.aload_n 0, 1) := dk_42 (dk_at dksX3_reasons_0 0 rfl rfl)
theorem dX3_reasons_1 : decode cX3_reasons 1 = .ok (.iload_n 1, 1) := dk_27 (dk_at dksX3_reasons_0 1 rfl rfl)
theorem dX3_reasons_2 : decode cX3_reasons 2 = .ok (.iconst 1, 1) := dk_4 (dk_at dksX3_reasons_0 2 rfl rfl)
theorem dX3_reasons_3 : decode cX3_reasons 3 = .ok (.invokestatic 45, 3) := dk_184 0 45 (dk_at dksX3_reasons_0 3 rfl rfl)
theorem dX3_reasons_6 : decode cX3_reasons 6 = .ok (.invokevirtual 49, 3) := dk_182 0 49 (dk_at dksX3_reasons_0 6 rfl rfl)
theorem dX3_reasons_9 : decode cX3_reasons 9 = .ok (.istore_n 2, 1) := dk_61 (dk_at dksX3_reasons_0 9 rfl rfl)
theorem dX3_reasons_10 : decode cX3_reasons 10 = .ok (.iconst 0, 1) := dk_3 (dk_at dksX3_reasons_0 10 rfl rfl)
theorem dX3_reasons_11 : decode cX3_reasons 11 = .ok (.istore_n 3, 1) := dk_62 (dk_at dksX3_reasons_0 11 rfl rfl)
theorem dX3_reasons_12 : decode cX3_reasons 12 = .ok (.iconst 0, 1) := dk_3 (dk_at dksX3_reasons_0 12 rfl rfl)
theorem dX3_reasons_13 : decode cX3_reasons 13 = .ok (.istore 4, 2) := dk_54 4 (dk_at dksX3_reasons_0 13 rfl rfl)
theorem dX3_reasons_15 : decode cX3_reasons 15 = .ok (.iconst 0, 1) := dk_3 (dk_at dksX3_reasons_0 15 rfl rfl)
theorem dX3_reasons_16 : decode cX3_reasons 16 = .ok (.istore 5, 2) := dk_54 5 (dk_at dksX3_reasons_0 16 rfl rfl)
theorem dX3_reasons_18 : decode cX3_reasons 18 = .ok (.iload 5, 2) := dk_21 5 (dk_at dksX3_reasons_0 18 rfl rfl)
theorem dX3_reasons_20 : decode cX3_reasons 20 = .ok (.aload_n 0, 1) := dk_42 (dk_at dksX3_reasons_0 20 rfl rfl)
theorem dX3_reasons_21 : decode cX3_reasons 21 = .ok (.iload_n 1, 1) := dk_27 (dk_at dksX3_reasons_0 21 rfl rfl)
theorem dX3_reasons_22 : decode cX3_reasons 22 = .ok (.iconst 3, 1) := dk_6 (dk_at dksX3_reasons_0 22 rfl rfl)
theorem dX3_reasons_23 : decode cX3_reasons 23 = .ok (.invokestatic 45, 3) := dk_184 0 45 (dk_at dksX3_reasons_1 0 rfl rfl)
theorem dX3_reasons_26 : decode cX3_reasons 26 = .ok (.invokevirtual 49, 3) := dk_182 0 49 (dk_at dksX3_reasons_1 3 rfl rfl)
theorem dX3_reasons_29 : decode cX3_reasons 29 = .ok (.if_icmp .ge 93, 3) := dk_162 0 93 (dk_at dksX3_reasons_1 6 rfl rfl)
theorem dX3_reasons_32 : decode cX3_reasons 32 = .ok (.aload_n 0, 1) := dk_42 (dk_at dksX3_reasons_1 9 rfl rfl)
theorem dX3_reasons_33 : decode cX3_reasons 33 = .ok (.iload_n 1, 1) := dk_27 (dk_at dksX3_reasons_1 10 rfl rfl)
theorem dX3_reasons_34 : decode cX3_reasons 34 = .ok (.iload 5, 2) := dk_21 5 (dk_at dksX3_reasons_1 11 rfl rfl)
theorem dX3_reasons_36 : decode cX3_reasons 36 = .ok (.iconst 0, 1) := dk_3 (dk_at dksX3_reasons_1 13 rfl rfl)
theorem dX3_reasons_37 : decode cX3_reasons 37 = .ok (.invokevirtual 141, 3) := dk_182 0 141 (dk_at dksX3_reasons_1 14 rfl rfl)
theorem dX3_reasons_40 : decode cX3_reasons 40 = .ok (.istore 6, 2) := dk_54 6 (dk_at dksX3_reasons_1 17 rfl rfl)
theorem dX3_reasons_42 : decode cX3_reasons 42 = .ok (.iload_n 3, 1) := dk_29 (dk_at dksX3_reasons_1 19 rfl rfl)
theorem dX3_reasons_43 : decode cX3_reasons 43 = .ok (.ifCond .ne 29, 3) := dk_154 0 29 (dk_at dksX3_reasons_1 20 rfl rfl)
theorem dX3_reasons_46 : decode cX3_reasons 46 = .ok (.aload_n 0, 1) := dk_42 (dk_at dksX3_reasons_1 23 rfl rfl)
theorem dX3_reasons_47 : decode cX3_reasons 47 = .ok (.iload_n 2, 1) := dk_28 (dk_at dksX3_reasons_2 0 rfl rfl)
theorem dX3_reasons_48 : decode cX3_reasons 48 = .ok (.iload 6, 2) := dk_21 6 (dk_at dksX3_reasons_2 1 rfl rfl)
theorem dX3_reasons_50 : decode cX3_reasons 50 = .ok (.aload_n 0, 1) := dk_42 (dk_at dksX3_reasons_2 3 rfl rfl)
theorem dX3_reasons_51 : decode cX3_reasons 51 = .ok (.iload_n 1, 1) := dk_27 (dk_at dksX3_reasons_2 4 rfl rfl)
theorem dX3_reasons_52 : decode cX3_reasons 52 = .ok (.iload 5, 2) := dk_21 5 (dk_at dksX3_reasons_2 5 rfl rfl)
theorem dX3_reasons_54 : decode cX3_reasons 54 = .ok (.iconst 1, 1) := dk_4 (dk_at dksX3_reasons_2 7 rfl rfl)
theorem dX3_reasons_55 : decode cX3_reasons 55 = .ok (.invokevirtual 141, 3) := dk_182 0 141 (dk_at dksX3_reasons_2 8 rfl rfl)
theorem dX3_reasons_58 : decode cX3_reasons 58 = .ok (.aload_n 0, 1) := dk_42 (dk_at dksX3_reasons_2 11 rfl rfl)
theorem dX3_reasons_59 : decode cX3_reasons 59 = .ok (.iload_n 1, 1) := dk_27 (dk_at dksX3_reasons_2 12 rfl rfl)
theorem dX3_reasons_60 : decode cX3_reasons 60 = .ok (.iload 5, 2) := dk_21 5 (dk_at dksX3_reasons_2 13 rfl rfl)
theorem dX3_reasons_62 : decode cX3_reasons 62 = .ok (.iconst 2, 1) := dk_5 (dk_at dksX3_reasons_2 15 rfl rfl)
theorem dX3_reasons_63 : decode cX3_reasons 63 = .ok (.invokevirtual 141, 3) := dk_182 0 141 (dk_at dksX3_reasons_2 16 rfl rfl)
theorem dX3_reasons_66 : decode cX3_reasons 66 = .ok (.invokevirtual 159, 3) := dk_182 0 159 (dk_at dksX3_reasons_2 19 rfl rfl)
theorem dX3_reasons_69 : decode cX3_reasons 69 = .ok (.ifCond .eq 7, 3) := dk_153 0 7 (dk_at dksX3_reasons_3 0 rfl rfl)
theorem dX3_reasons_72 : decode cX3_reasons 72 = .ok (.iconst 1, 1) := dk_4 (dk_at dksX3_reasons_3 3 rfl rfl)
theorem dX3_reasons_73 : decode cX3_reasons 73 = .ok (.goto 4, 3) := dk_167 0 4 (dk_at dksX3_reasons_3 4 rfl rfl)
theorem dX3_reasons_76 : decode cX3_reasons 76 = .ok (.iconst 0, 1) := dk_3 (dk_at dksX3_reasons_3 7 rfl rfl)
theorem dX3_reasons_77 : decode cX3_reasons 77 = .ok (.istore_n 3, 1) := dk_62 (dk_at dksX3_reasons_3 8 rfl rfl)
theorem dX3_reasons_78 : decode cX3_reasons 78 = .ok (.iload 4, 2) := dk_21 4 (dk_at dksX3_reasons_3 9 rfl rfl)
theorem dX3_reasons_80 : decode cX3_reasons 80 = .ok (.ifCond .ne 29, 3) := dk_154 0 29 (dk_at dksX3_reasons_3 11 rfl rfl)
theorem dX3_reasons_83 : decode cX3_reasons 83 = .ok (.aload_n 0, 1) := dk_42 (dk_at dksX3_reasons_3 14 rfl rfl)
theorem dX3_reasons_84 : decode cX3_reasons 84 = .ok (.iload_n 2, 1) := dk_28 (dk_at dksX3_reasons_3 15 rfl rfl)
theorem dX3_reasons_85 : decode cX3_reasons 85 = .ok (.iload 6, 2) := dk_21 6 (dk_at dksX3_reasons_3 16 rfl rfl)
theorem dX3_reasons_87 : decode cX3_reasons 87 = .ok (.aload_n 0, 1) := dk_42 (dk_at dksX3_reasons_3 18 rfl rfl)
theorem dX3_reasons_88 : decode cX3_reasons 88 = .ok (.iload_n 1, 1) := dk_27 (dk_at dksX3_reasons_3 19 rfl rfl)
theorem dX3_reasons_89 : decode cX3_reasons 89 = .ok (.iload_n 2, 1) := dk_28 (dk_at dksX3_reasons_3 20 rfl rfl)
theorem dX3_reasons_90 : decode cX3_reasons 90 = .ok (.iload 5, 2) := dk_21 5 (dk_at dksX3_reasons_3 21 rfl rfl)
theorem dX3_reasons_92 : decode cX3_reasons 92 = .ok (.invokevirtual 163, 3) := dk_182 0 163 (dk_at dksX3_reasons_4 0 rfl rfl)
theorem dX3_reasons_95 : decode cX3_reasons 95 = .ok (.aload_n 0, 1) := dk_42 (dk_at dksX3_reasons_4 3 rfl rfl)
theorem dX3_reasons_96 : decode cX3_reasons 96 = .ok (.iload_n 1, 1) := dk_27 (dk_at dksX3_reasons_4 4 rfl rfl)
theorem dX3_reasons_97 : decode cX3_reasons 97 = .ok (.iload 5, 2) := dk_21 5 (dk_at dksX3_reasons_4 5 rfl rfl)
theorem dX3_reasons_99 : decode cX3_reasons 99 = .ok (.iconst 1, 1) := dk_4 (dk_at dksX3_reasons_4 7 rfl rfl)
theorem dX3_reasons_100 : decode cX3_reasons 100 = .ok (.invokevirtual 141, 3) := dk_182 0 141 (dk_at dksX3_reasons_4 8 rfl rfl)
theorem dX3_reasons_103 : decode cX3_reasons 103 = .ok (.invokevirtual 166, 3) := dk_182 0 166 (dk_at dksX3_reasons_4 11 rfl rfl)
theorem dX3_reasons_106 : decode cX3_reasons 106 = .ok (.ifCond .eq 7, 3) := dk_153 0 7 (dk_at dksX3_reasons_4 14 rfl rfl)
theorem dX3_reasons_109 : decode cX3_reasons 109 = .ok (.iconst 1, 1) := dk_4 (dk_at dksX3_reasons_4 17 rfl rfl)
theorem dX3_reasons_110 : decode cX3_reasons 110 = .ok (.goto 4, 3) := dk_167 0 4 (dk_at dksX3_reasons_4 18 rfl rfl)
theorem dX3_reasons_113 : decode cX3_reasons 113 = .ok (.iconst 0, 1) := dk_3 (dk_at dksX3_reasons_4 21 rfl rfl)
theorem dX3_reasons_114 : decode cX3_reasons 114 = .ok (.istore 4, 2) := dk_54 4 (dk_at dksX3_reasons_4 22 rfl rfl)
theorem dX3_reasons_116 : decode cX3_reasons 116 = .ok (.iinc 5 1, 3) := dk_132 5 1 (dk_at dksX3_reasons_5 0 rfl rfl)
theorem dX3_reasons_119 : decode cX3_reasons 119 = .ok (.goto (-101), 3) := dk_167 255 155 (dk_at dksX3_reasons_5 3 rfl rfl)
theorem dX3_reasons_122 : decode cX3_reasons 122 = .ok (.aload_n 0, 1) := dk_42 (dk_at dksX3_reasons_5 6 rfl rfl)
theorem dX3_reasons_123 : decode cX3_reasons 123 = .ok (.iload_n 2, 1) := dk_28 (dk_at dksX3_reasons_5 7 rfl rfl)
theorem dX3_reasons_124 : decode cX3_reasons 124 = .ok (.invokevirtual 169, 3) := dk_182 0 169 (dk_at dksX3_reasons_5 8 rfl rfl)
theorem dX3_reasons_127 : decode cX3_reasons 127 = .ok (.aload_n 0, 1) := dk_42 (dk_at dksX3_reasons_5 11 rfl rfl)
theorem dX3_reasons_128 : decode cX3_reasons 128 = .ok (.iload_n 1, 1) := dk_27 (dk_at dksX3_reasons_5 12 rfl rfl)
theorem dX3_reasons_129 : decode cX3_reasons 129 = .ok (.invokevirtual 172, 3) := dk_182 0 172 (dk_at dksX3_reasons_5 13 rfl rfl)
theorem dX3_reasons_132 : decode cX3_reasons 132 = .ok (.ifCond .eq 7, 3) := dk_153 0 7 (dk_at dksX3_reasons_5 16 rfl rfl)
theorem dX3_reasons_135 : decode cX3_reasons 135 = .ok (.iconst 2, 1) := dk_5 (dk_at dksX3_reasons_5 19 rfl rfl)
theorem dX3_reasons_136 : decode cX3_reasons 136 = .ok (.goto 4, 3) := dk_167 0 4 (dk_at dksX3_reasons_5 20 rfl rfl)
theorem dX3_reasons_139 : decode cX3_reasons 139 = .ok (.iconst 0, 1) := dk_3 (dk_at dksX3_reasons_5 23 rfl rfl)
theorem dX3_reasons_140 : decode cX3_reasons 140 = .ok (.iadd, 1) := dk_96 (dk_at dksX3_reasons_6 0 rfl rfl)
theorem dX3_reasons_141 : decode cX3_reasons 141 = .ok (.iload_n 3, 1) := dk_29 (dk_at dksX3_reasons_6 1 rfl rfl)
theorem dX3_reasons_142 : decode cX3_reasons 142 = .ok (.ifCond .eq 8, 3) := dk_153 0 8 (dk_at dksX3_reasons_6 2 rfl rfl)
theorem dX3_reasons_145 : decode cX3_reasons 145 = .ok (.bipush 8, 2) := dk_16 8 (dk_at dksX3_reasons_6 5 rfl rfl)
theorem dX3_reasons_147 : decode cX3_reasons 147 = .ok (.goto 4, 3) := dk_167 0 4 (dk_at dksX3_reasons_6 7 rfl rfl)
theorem dX3_reasons_150 : decode cX3_reasons 150 = .ok (.iconst 0, 1) := dk_3 (dk_at dksX3_reasons_6 10 rfl rfl)
theorem dX3_reasons_151 : decode cX3_reasons 151 = .ok (.iadd, 1) := dk_96 (dk_at dksX3_reasons_6 11 rfl rfl)
theorem dX3_reasons_152 : decode cX3_reasons 152 = .ok (.iload 4, 2) := dk_21 4 (dk_at dksX3_reasons_6 12 rfl rfl)
theorem dX3_reasons_154 : decode cX3_reasons 154 = .ok (.ifCond .eq 8, 3) := dk_153 0 8 (dk_at dksX3_reasons_6 14 rfl rfl)
theorem dX3_reasons_157 : decode cX3_reasons 157 = .ok (.bipush 16, 2) := dk_16 16 (dk_at dksX3_reasons_6 17 rfl rfl)
theorem dX3_reasons_159 : decode cX3_reasons 159 = .ok (.goto 4, 3) := dk_167 0 4 (dk_at dksX3_reasons_6 19 rfl rfl)
theorem dX3_reasons_162 : decode cX3_reasons 162 = .ok (.iconst 0, 1) := dk_3 (dk_at dksX3_reasons_6 22 rfl rfl)
theorem dX3_reasons_163 : decode cX3_reasons 163 = .ok (.iadd, 1) := dk_96 (dk_at dksX3_reasons_6 23 rfl rfl)
theorem dX3_reasons_164 : decode cX3_reasons 164 = .ok (.ireturn, 1) := dk_172 (dk_at dksX3_reasons_7 0 rfl rfl)
abbrev cX3_isDear : ByteArray := prog_14_method_45_code
def yX3_isDear : MethodName := ⟨RX3, "isDear", "(IIII)Z"⟩
def dkwX3_isDear_3 : List UInt8 := [4, 167, 0, 4, 3, 172]
abbrev dktX3_isDear_3 : List UInt8 := dkwX3_isDear_3 ++ []
def dkwX3_isDear_2 : List UInt8 := [151, 158, 0, 27, 21, 6, 29, 104, 42, 42, 27, 182, 0, 64, 5, 184, 0, 77, 182, 0, 49, 164, 0, 7]
abbrev dktX3_isDear_2 : List UInt8 := dkwX3_isDear_2 ++ dktX3_isDear_3
def dkwX3_isDear_1 : List UInt8 := [21, 6, 135, 20, 0, 123, 107, 21, 5, 135, 111, 42, 42, 27, 182, 0, 64, 3, 184, 0, 77, 182, 0, 119]
abbrev dktX3_isDear_1 : List UInt8 := dkwX3_isDear_1 ++ dktX3_isDear_2
def dkwX3_isDear_0 : List UInt8 := [42, 27, 28, 5, 184, 0, 109, 182, 0, 49, 54, 5, 21, 4, 21, 5, 100, 54, 6, 21, 6, 158, 0, 55]
abbrev dktX3_isDear_0 : List UInt8 := dkwX3_isDear_0 ++ dktX3_isDear_1
theorem dksX3_isDear_0 : cX3_isDear.data.toList.drop 0 = dktX3_isDear_0 := by decide +kernel
theorem dksX3_isDear_1 : cX3_isDear.data.toList.drop 24 = dktX3_isDear_1 := dk_seg dksX3_isDear_0 24 rfl rfl
theorem dksX3_isDear_2 : cX3_isDear.data.toList.drop 48 = dktX3_isDear_2 := dk_seg dksX3_isDear_1 24 rfl rfl
theorem dksX3_isDear_3 : cX3_isDear.data.toList.drop 72 = dktX3_isDear_3 := dk_seg dksX3_isDear_2 24 rfl rfl
theorem dX3_isDear_0 : decode cX3_isDear 0 = .ok (.aload_n 0, 1) := dk_42 (dk_at dksX3_isDear_0 0 rfl rfl)
theorem dX3_isDear_1 : decode cX3_isDear 1 = .ok (.iload_n 1, 1) := dk_27 (dk_at dksX3_isDear_0 1 rfl rfl)
theorem dX3_isDear_2 : decode cX3_isDear 2 = .ok (.iload_n 2, 1) := dk_28 (dk_at dksX3_isDear_0 2 rfl rfl)
theorem dX3_isDear_3 : decode cX3_isDear 3 = .ok (.iconst 2, 1) := dk_5 (dk_at dksX3_isDear_0 3 rfl rfl)
theorem dX3_isDear_4 : decode cX3_isDear 4 = .ok (.invokestatic 109, 3) := dk_184 0 109 (dk_at dksX3_isDear_0 4 rfl rfl)
theorem dX3_isDear_7 : decode cX3_isDear 7 = .ok (.invokevirtual 49, 3) := dk_182 0 49 (dk_at dksX3_isDear_0 7 rfl rfl)
theorem dX3_isDear_10 : decode cX3_isDear 10 = .ok (.istore 5, 2) := dk_54 5 (dk_at dksX3_isDear_0 10 rfl rfl)
theorem dX3_isDear_12 : decode cX3_isDear 12 = .ok (.iload 4, 2) := dk_21 4 (dk_at dksX3_isDear_0 12 rfl rfl)
theorem dX3_isDear_14 : decode cX3_isDear 14 = .ok (.iload 5, 2) := dk_21 5 (dk_at dksX3_isDear_0 14 rfl rfl)
theorem dX3_isDear_16 : decode cX3_isDear 16 = .ok (.isub, 1) := dk_100 (dk_at dksX3_isDear_0 16 rfl rfl)
theorem dX3_isDear_17 : decode cX3_isDear 17 = .ok (.istore 6, 2) := dk_54 6 (dk_at dksX3_isDear_0 17 rfl rfl)
theorem dX3_isDear_19 : decode cX3_isDear 19 = .ok (.iload 6, 2) := dk_21 6 (dk_at dksX3_isDear_0 19 rfl rfl)
theorem dX3_isDear_21 : decode cX3_isDear 21 = .ok (.ifCond .le 55, 3) := dk_158 0 55 (dk_at dksX3_isDear_0 21 rfl rfl)
theorem dX3_isDear_24 : decode cX3_isDear 24 = .ok (.iload 6, 2) := dk_21 6 (dk_at dksX3_isDear_1 0 rfl rfl)
theorem dX3_isDear_26 : decode cX3_isDear 26 = .ok (.i2d, 1) := dk_135 (dk_at dksX3_isDear_1 2 rfl rfl)
theorem dX3_isDear_27 : decode cX3_isDear 27 = .ok (.ldc2_w 123, 3) := dk_20 0 123 (dk_at dksX3_isDear_1 3 rfl rfl)
theorem dX3_isDear_30 : decode cX3_isDear 30 = .ok (.dmul, 1) := dk_107 (dk_at dksX3_isDear_1 6 rfl rfl)
theorem dX3_isDear_31 : decode cX3_isDear 31 = .ok (.iload 5, 2) := dk_21 5 (dk_at dksX3_isDear_1 7 rfl rfl)
theorem dX3_isDear_33 : decode cX3_isDear 33 = .ok (.i2d, 1) := dk_135 (dk_at dksX3_isDear_1 9 rfl rfl)
theorem dX3_isDear_34 : decode cX3_isDear 34 = .ok (.ddiv, 1) := dk_111 (dk_at dksX3_isDear_1 10 rfl rfl)
theorem dX3_isDear_35 : decode cX3_isDear 35 = .ok (.aload_n 0, 1) := dk_42 (dk_at dksX3_isDear_1 11 rfl rfl)
theorem dX3_isDear_36 : decode cX3_isDear 36 = .ok (.aload_n 0, 1) := dk_42 (dk_at dksX3_isDear_1 12 rfl rfl)
theorem dX3_isDear_37 : decode cX3_isDear 37 = .ok (.iload_n 1, 1) := dk_27 (dk_at dksX3_isDear_1 13 rfl rfl)
theorem dX3_isDear_38 : decode cX3_isDear 38 = .ok (.invokevirtual 64, 3) := dk_182 0 64 (dk_at dksX3_isDear_1 14 rfl rfl)
theorem dX3_isDear_41 : decode cX3_isDear 41 = .ok (.iconst 0, 1) := dk_3 (dk_at dksX3_isDear_1 17 rfl rfl)
theorem dX3_isDear_42 : decode cX3_isDear 42 = .ok (.invokestatic 77, 3) := dk_184 0 77 (dk_at dksX3_isDear_1 18 rfl rfl)
theorem dX3_isDear_45 : decode cX3_isDear 45 = .ok (.invokevirtual 119, 3) := dk_182 0 119 (dk_at dksX3_isDear_1 21 rfl rfl)
theorem dX3_isDear_48 : decode cX3_isDear 48 = .ok (.dcmp .l, 1) := dk_151 (dk_at dksX3_isDear_2 0 rfl rfl)
theorem dX3_isDear_49 : decode cX3_isDear 49 = .ok (.ifCond .le 27, 3) := dk_158 0 27 (dk_at dksX3_isDear_2 1 rfl rfl)
theorem dX3_isDear_52 : decode cX3_isDear 52 = .ok (.iload 6, 2) := dk_21 6 (dk_at dksX3_isDear_2 4 rfl rfl)
theorem dX3_isDear_54 : decode cX3_isDear 54 = .ok (.iload_n 3, 1) := dk_29 (dk_at dksX3_isDear_2 6 rfl rfl)
theorem dX3_isDear_55 : decode cX3_isDear 55 = .ok (.imul, 1) := dk_104 (dk_at dksX3_isDear_2 7 rfl rfl)
theorem dX3_isDear_56 : decode cX3_isDear 56 = .ok (.aload_n 0, 1) := dk_42 (dk_at dksX3_isDear_2 8 rfl rfl)
theorem dX3_isDear_57 : decode cX3_isDear 57 = .ok (.aload_n 0, 1) := dk_42 (dk_at dksX3_isDear_2 9 rfl rfl)
theorem dX3_isDear_58 : decode cX3_isDear 58 = .ok (.iload_n 1, 1) := dk_27 (dk_at dksX3_isDear_2 10 rfl rfl)
theorem dX3_isDear_59 : decode cX3_isDear 59 = .ok (.invokevirtual 64, 3) := dk_182 0 64 (dk_at dksX3_isDear_2 11 rfl rfl)
theorem dX3_isDear_62 : decode cX3_isDear 62 = .ok (.iconst 2, 1) := dk_5 (dk_at dksX3_isDear_2 14 rfl rfl)
theorem dX3_isDear_63 : decode cX3_isDear 63 = .ok (.invokestatic 77, 3) := dk_184 0 77 (dk_at dksX3_isDear_2 15 rfl rfl)
theorem dX3_isDear_66 : decode cX3_isDear 66 = .ok (.invokevirtual 49, 3) := dk_182 0 49 (dk_at dksX3_isDear_2 18 rfl rfl)
theorem dX3_isDear_69 : decode cX3_isDear 69 = .ok (.if_icmp .le 7, 3) := dk_164 0 7 (dk_at dksX3_isDear_2 21 rfl rfl)
theorem dX3_isDear_72 : decode cX3_isDear 72 = .ok (.iconst 1, 1) := dk_4 (dk_at dksX3_isDear_3 0 rfl rfl)
theorem dX3_isDear_73 : decode cX3_isDear 73 = .ok (.goto 4, 3) := dk_167 0 4 (dk_at dksX3_isDear_3 1 rfl rfl)
theorem dX3_isDear_76 : decode cX3_isDear 76 = .ok (.iconst 0, 1) := dk_3 (dk_at dksX3_isDear_3 4 rfl rfl)
theorem dX3_isDear_77 : decode cX3_isDear 77 = .ok (.ireturn, 1) := dk_172 (dk_at dksX3_isDear_3 5 rfl rfl)
abbrev cX3_billedBut : ByteArray := prog_14_method_49_code
def yX3_billedBut : MethodName := ⟨RX3, "billedBut", "(III)I"⟩
def dkwX3_billedBut_2 : List UInt8 := [182, 0, 49, 21, 4, 153, 0, 13, 42, 27, 29, 4, 182, 0, 141, 167, 0, 4, 3, 100, 172]
abbrev dktX3_billedBut_2 : List UInt8 := dkwX3_billedBut_2 ++ []
def dkwX3_billedBut_1 : List UInt8 := [160, 0, 7, 4, 167, 0, 4, 3, 54, 4, 42, 28, 42, 27, 29, 3, 182, 0, 141, 8, 184, 0, 109]
abbrev dktX3_billedBut_1 : List UInt8 := dkwX3_billedBut_1 ++ dktX3_billedBut_2
def dkwX3_billedBut_0 : List UInt8 := [42, 27, 7, 184, 0, 45, 182, 0, 49, 4, 159, 0, 16, 42, 27, 7, 184, 0, 45, 182, 0, 49, 6]
abbrev dktX3_billedBut_0 : List UInt8 := dkwX3_billedBut_0 ++ dktX3_billedBut_1
theorem dksX3_billedBut_0 : cX3_billedBut.data.toList.drop 0 = dktX3_billedBut_0 := by decide +kernel
theorem dksX3_billedBut_1 : cX3_billedBut.data.toList.drop 23 = dktX3_billedBut_1 := dk_seg dksX3_billedBut_0 23 rfl rfl
theorem dksX3_billedBut_2 : cX3_billedBut.data.toList.drop 46 = dktX3_billedBut_2 := dk_seg dksX3_billedBut_1 23 rfl rfl
theorem dX3_billedBut_0 : decode cX3_billedBut 0 = .ok (.aload_n 0, 1) := dk_42 (dk_at dksX3_billedBut_0 0 rfl rfl)
theorem dX3_billedBut_1 : decode cX3_billedBut 1 = .ok (.iload_n 1, 1) := dk_27 (dk_at dksX3_billedBut_0 1 rfl rfl)
theorem dX3_billedBut_2 : decode cX3_billedBut 2 = .ok (.iconst 4, 1) := dk_7 (dk_at dksX3_billedBut_0 2 rfl rfl)
theorem dX3_billedBut_3 : decode cX3_billedBut 3 = .ok (.invokestatic 45, 3) := dk_184 0 45 (dk_at dksX3_billedBut_0 3 rfl rfl)
theorem dX3_billedBut_6 : decode cX3_billedBut 6 = .ok (.invokevirtual 49, 3) := dk_182 0 49 (dk_at dksX3_billedBut_0 6 rfl rfl)
theorem dX3_billedBut_9 : decode cX3_billedBut 9 = .ok (.iconst 1, 1) := dk_4 (dk_at dksX3_billedBut_0 9 rfl rfl)
theorem dX3_billedBut_10 : decode cX3_billedBut 10 = .ok (.if_icmp .eq 16, 3) := dk_159 0 16 (dk_at dksX3_billedBut_0 10 rfl rfl)
theorem dX3_billedBut_13 : decode cX3_billedBut 13 = .ok (.aload_n 0, 1) := dk_42 (dk_at dksX3_billedBut_0 13 rfl rfl)
theorem dX3_billedBut_14 : decode cX3_billedBut 14 = .ok (.iload_n 1, 1) := dk_27 (dk_at dksX3_billedBut_0 14 rfl rfl)
theorem dX3_billedBut_15 : decode cX3_billedBut 15 = .ok (.iconst 4, 1) := dk_7 (dk_at dksX3_billedBut_0 15 rfl rfl)
theorem dX3_billedBut_16 : decode cX3_billedBut 16 = .ok (.invokestatic 45, 3) := dk_184 0 45 (dk_at dksX3_billedBut_0 16 rfl rfl)
theorem dX3_billedBut_19 : decode cX3_billedBut 19 = .ok (.invokevirtual 49, 3) := dk_182 0 49 (dk_at dksX3_billedBut_0 19 rfl rfl)
theorem dX3_billedBut_22 : decode cX3_billedBut 22 = .ok (.iconst 3, 1) := dk_6 (dk_at dksX3_billedBut_0 22 rfl rfl)
theorem dX3_billedBut_23 : decode cX3_billedBut 23 = .ok (.if_icmp .ne 7, 3) := dk_160 0 7 (dk_at dksX3_billedBut_1 0 rfl rfl)
theorem dX3_billedBut_26 : decode cX3_billedBut 26 = .ok (.iconst 1, 1) := dk_4 (dk_at dksX3_billedBut_1 3 rfl rfl)
theorem dX3_billedBut_27 : decode cX3_billedBut 27 = .ok (.goto 4, 3) := dk_167 0 4 (dk_at dksX3_billedBut_1 4 rfl rfl)
theorem dX3_billedBut_30 : decode cX3_billedBut 30 = .ok (.iconst 0, 1) := dk_3 (dk_at dksX3_billedBut_1 7 rfl rfl)
theorem dX3_billedBut_31 : decode cX3_billedBut 31 = .ok (.istore 4, 2) := dk_54 4 (dk_at dksX3_billedBut_1 8 rfl rfl)
theorem dX3_billedBut_33 : decode cX3_billedBut 33 = .ok (.aload_n 0, 1) := dk_42 (dk_at dksX3_billedBut_1 10 rfl rfl)
theorem dX3_billedBut_34 : decode cX3_billedBut 34 = .ok (.iload_n 2, 1) := dk_28 (dk_at dksX3_billedBut_1 11 rfl rfl)
theorem dX3_billedBut_35 : decode cX3_billedBut 35 = .ok (.aload_n 0, 1) := dk_42 (dk_at dksX3_billedBut_1 12 rfl rfl)
theorem dX3_billedBut_36 : decode cX3_billedBut 36 = .ok (.iload_n 1, 1) := dk_27 (dk_at dksX3_billedBut_1 13 rfl rfl)
theorem dX3_billedBut_37 : decode cX3_billedBut 37 = .ok (.iload_n 3, 1) := dk_29 (dk_at dksX3_billedBut_1 14 rfl rfl)
theorem dX3_billedBut_38 : decode cX3_billedBut 38 = .ok (.iconst 0, 1) := dk_3 (dk_at dksX3_billedBut_1 15 rfl rfl)
theorem dX3_billedBut_39 : decode cX3_billedBut 39 = .ok (.invokevirtual 141, 3) := dk_182 0 141 (dk_at dksX3_billedBut_1 16 rfl rfl)
theorem dX3_billedBut_42 : decode cX3_billedBut 42 = .ok (.iconst 5, 1) := dk_8 (dk_at dksX3_billedBut_1 19 rfl rfl)
theorem dX3_billedBut_43 : decode cX3_billedBut 43 = .ok (.invokestatic 109, 3) := dk_184 0 109 (dk_at dksX3_billedBut_1 20 rfl rfl)
theorem dX3_billedBut_46 : decode cX3_billedBut 46 = .ok (.invokevirtual 49, 3) := dk_182 0 49 (dk_at dksX3_billedBut_2 0 rfl rfl)
theorem dX3_billedBut_49 : decode cX3_billedBut 49 = .ok (.iload 4, 2) := dk_21 4 (dk_at dksX3_billedBut_2 3 rfl rfl)
theorem dX3_billedBut_51 : decode cX3_billedBut 51 = .ok (.ifCond .eq 13, 3) := dk_153 0 13 (dk_at dksX3_billedBut_2 5 rfl rfl)
theorem dX3_billedBut_54 : decode cX3_billedBut 54 = .ok (.aload_n 0, 1) := dk_42 (dk_at dksX3_billedBut_2 8 rfl rfl)
theorem dX3_billedBut_55 : decode cX3_billedBut 55 = .ok (.iload_n 1, 1) := dk_27 (dk_at dksX3_billedBut_2 9 rfl rfl)
theorem dX3_billedBut_56 : decode cX3_billedBut 56 = .ok (.iload_n 3, 1) := dk_29 (dk_at dksX3_billedBut_2 10 rfl rfl)
theorem dX3_billedBut_57 : decode cX3_billedBut 57 = .ok (.iconst 1, 1) := dk_4 (dk_at dksX3_billedBut_2 11 rfl rfl)
theorem dX3_billedBut_58 : decode cX3_billedBut 58 = .ok (.invokevirtual 141, 3) := dk_182 0 141 (dk_at dksX3_billedBut_2 12 rfl rfl)
theorem dX3_billedBut_61 : decode cX3_billedBut 61 = .ok (.goto 4, 3) := dk_167 0 4 (dk_at dksX3_billedBut_2 15 rfl rfl)
theorem dX3_billedBut_64 : decode cX3_billedBut 64 = .ok (.iconst 0, 1) := dk_3 (dk_at dksX3_billedBut_2 18 rfl rfl)
theorem dX3_billedBut_65 : decode cX3_billedBut 65 = .ok (.isub, 1) := dk_100 (dk_at dksX3_billedBut_2 19 rfl rfl)
theorem dX3_billedBut_66 : decode cX3_billedBut 66 = .ok (.ireturn, 1) := dk_172 (dk_at dksX3_billedBut_2 20 rfl rfl)
abbrev cX3_isMuch : ByteArray := prog_14_method_46_code
def yX3_isMuch : MethodName := ⟨RX3, "isMuch", "(IIII)Z"⟩
def dkwX3_isMuch_0 : List UInt8 := [29, 21, 4, 96, 42, 27, 28, 182, 0, 135, 164, 0, 7, 4, 167, 0, 4, 3, 172]
abbrev dktX3_isMuch_0 : List UInt8 := dkwX3_isMuch_0 ++ []
theorem dksX3_isMuch_0 : cX3_isMuch.data.toList.drop 0 = dktX3_isMuch_0 := by decide +kernel
theorem dX3_isMuch_0 : decode cX3_isMuch 0 = .ok (.iload_n 3, 1) := dk_29 (dk_at dksX3_isMuch_0 0 rfl rfl)
theorem dX3_isMuch_1 : decode cX3_isMuch 1 = .ok (.iload 4, 2) := dk_21 4 (dk_at dksX3_isMuch_0 1 rfl rfl)
theorem dX3_isMuch_3 : decode cX3_isMuch 3 = .ok (.iadd, 1) := dk_96 (dk_at dksX3_isMuch_0 3 rfl rfl)
theorem dX3_isMuch_4 : decode cX3_isMuch 4 = .ok (.aload_n 0, 1) := dk_42 (dk_at dksX3_isMuch_0 4 rfl rfl)
theorem dX3_isMuch_5 : decode cX3_isMuch 5 = .ok (.iload_n 1, 1) := dk_27 (dk_at dksX3_isMuch_0 5 rfl rfl)
theorem dX3_isMuch_6 : decode cX3_isMuch 6 = .ok (.iload_n 2, 1) := dk_28 (dk_at dksX3_isMuch_0 6 rfl rfl)
theorem dX3_isMuch_7 : decode cX3_isMuch 7 = .ok (.invokevirtual 135, 3) := dk_182 0 135 (dk_at dksX3_isMuch_0 7 rfl rfl)
theorem dX3_isMuch_10 : decode cX3_isMuch 10 = .ok (.if_icmp .le 7, 3) := dk_164 0 7 (dk_at dksX3_isMuch_0 10 rfl rfl)
theorem dX3_isMuch_13 : decode cX3_isMuch 13 = .ok (.iconst 1, 1) := dk_4 (dk_at dksX3_isMuch_0 13 rfl rfl)
theorem dX3_isMuch_14 : decode cX3_isMuch 14 = .ok (.goto 4, 3) := dk_167 0 4 (dk_at dksX3_isMuch_0 14 rfl rfl)
theorem dX3_isMuch_17 : decode cX3_isMuch 17 = .ok (.iconst 0, 1) := dk_3 (dk_at dksX3_isMuch_0 17 rfl rfl)
theorem dX3_isMuch_18 : decode cX3_isMuch 18 = .ok (.ireturn, 1) := dk_172 (dk_at dksX3_isMuch_0 18 rfl rfl)
abbrev cX3_reasonsOf : ByteArray := prog_14_method_47_code
def yX3_reasonsOf : MethodName := ⟨RX3, "reasonsOf", "(I)I"⟩
def dkwX3_reasonsOf_1 : List UInt8 := [182, 0, 49, 5, 160, 0, 7, 7, 167, 0, 4, 3, 96, 172]
abbrev dktX3_reasonsOf_1 : List UInt8 := dkwX3_reasonsOf_1 ++ []
def dkwX3_reasonsOf_0 : List UInt8 := [42, 42, 27, 182, 0, 64, 182, 0, 98, 153, 0, 7, 4, 167, 0, 4, 3, 42, 27, 5, 184, 0, 61]
abbrev dktX3_reasonsOf_0 : List UInt8 := dkwX3_reasonsOf_0 ++ dktX3_reasonsOf_1
theorem dksX3_reasonsOf_0 : cX3_reasonsOf.data.toList.drop 0 = dktX3_reasonsOf_0 := by decide +kernel
theorem dksX3_reasonsOf_1 : cX3_reasonsOf.data.toList.drop 23 = dktX3_reasonsOf_1 := dk_seg dksX3_reasonsOf_0 23 rfl rfl
theorem dX3_reasonsOf_0 : decode cX3_reasonsOf 0 = .ok (.aload_n 0, 1) := dk_42 (dk_at dksX3_reasonsOf_0 0 rfl rfl)
theorem dX3_reasonsOf_1 : decode cX3_reasonsOf 1 = .ok (.aload_n 0, 1) := dk_42 (dk_at dksX3_reasonsOf_0 1 rfl rfl)
theorem dX3_reasonsOf_2 : decode cX3_reasonsOf 2 = .ok (.iload_n 1, 1) := dk_27 (dk_at dksX3_reasonsOf_0 2 rfl rfl)
theorem dX3_reasonsOf_3 : decode cX3_reasonsOf 3 = .ok (.invokevirtual 64, 3) := dk_182 0 64 (dk_at dksX3_reasonsOf_0 3 rfl rfl)
theorem dX3_reasonsOf_6 : decode cX3_reasonsOf 6 = .ok (.invokevirtual 98, 3) := dk_182 0 98 (dk_at dksX3_reasonsOf_0 6 rfl rfl)
theorem dX3_reasonsOf_9 : decode cX3_reasonsOf 9 = .ok (.ifCond .eq 7, 3) := dk_153 0 7 (dk_at dksX3_reasonsOf_0 9 rfl rfl)
theorem dX3_reasonsOf_12 : decode cX3_reasonsOf 12 = .ok (.iconst 1, 1) := dk_4 (dk_at dksX3_reasonsOf_0 12 rfl rfl)
theorem dX3_reasonsOf_13 : decode cX3_reasonsOf 13 = .ok (.goto 4, 3) := dk_167 0 4 (dk_at dksX3_reasonsOf_0 13 rfl rfl)
theorem dX3_reasonsOf_16 : decode cX3_reasonsOf 16 = .ok (.iconst 0, 1) := dk_3 (dk_at dksX3_reasonsOf_0 16 rfl rfl)
theorem dX3_reasonsOf_17 : decode cX3_reasonsOf 17 = .ok (.aload_n 0, 1) := dk_42 (dk_at dksX3_reasonsOf_0 17 rfl rfl)
theorem dX3_reasonsOf_18 : decode cX3_reasonsOf 18 = .ok (.iload_n 1, 1) := dk_27 (dk_at dksX3_reasonsOf_0 18 rfl rfl)
theorem dX3_reasonsOf_19 : decode cX3_reasonsOf 19 = .ok (.iconst 2, 1) := dk_5 (dk_at dksX3_reasonsOf_0 19 rfl rfl)
theorem dX3_reasonsOf_20 : decode cX3_reasonsOf 20 = .ok (.invokestatic 61, 3) := dk_184 0 61 (dk_at dksX3_reasonsOf_0 20 rfl rfl)
theorem dX3_reasonsOf_23 : decode cX3_reasonsOf 23 = .ok (.invokevirtual 49, 3) := dk_182 0 49 (dk_at dksX3_reasonsOf_1 0 rfl rfl)
theorem dX3_reasonsOf_26 : decode cX3_reasonsOf 26 = .ok (.iconst 2, 1) := dk_5 (dk_at dksX3_reasonsOf_1 3 rfl rfl)
theorem dX3_reasonsOf_27 : decode cX3_reasonsOf 27 = .ok (.if_icmp .ne 7, 3) := dk_160 0 7 (dk_at dksX3_reasonsOf_1 4 rfl rfl)
theorem dX3_reasonsOf_30 : decode cX3_reasonsOf 30 = .ok (.iconst 4, 1) := dk_7 (dk_at dksX3_reasonsOf_1 7 rfl rfl)
theorem dX3_reasonsOf_31 : decode cX3_reasonsOf 31 = .ok (.goto 4, 3) := dk_167 0 4 (dk_at dksX3_reasonsOf_1 8 rfl rfl)
theorem dX3_reasonsOf_34 : decode cX3_reasonsOf 34 = .ok (.iconst 0, 1) := dk_3 (dk_at dksX3_reasonsOf_1 11 rfl rfl)
theorem dX3_reasonsOf_35 : decode cX3_reasonsOf 35 = .ok (.iadd, 1) := dk_96 (dk_at dksX3_reasonsOf_1 12 rfl rfl)
theorem dX3_reasonsOf_36 : decode cX3_reasonsOf 36 = .ok (.ireturn, 1) := dk_172 (dk_at dksX3_reasonsOf_1 13 rfl rfl)
abbrev cX3_isTwice : ByteArray := prog_14_method_48_code
def yX3_isTwice : MethodName := ⟨RX3, "isTwice", "(I)Z"⟩
def dkwX3_isTwice_2 : List UInt8 := [182, 0, 49, 7, 159, 0, 5, 4, 172, 132, 2, 1, 167, 255, 199, 3, 172]
abbrev dktX3_isTwice_2 : List UInt8 := dkwX3_isTwice_2 ++ []
def dkwX3_isTwice_1 : List UInt8 := [184, 0, 45, 182, 0, 49, 42, 27, 3, 184, 0, 45, 182, 0, 49, 160, 0, 18, 42, 28, 7, 184, 0, 45]
abbrev dktX3_isTwice_1 : List UInt8 := dkwX3_isTwice_1 ++ dktX3_isTwice_2
def dkwX3_isTwice_0 : List UInt8 := [3, 61, 28, 27, 162, 0, 58, 42, 28, 182, 0, 101, 42, 27, 182, 0, 101, 160, 0, 39, 42, 28, 3]
abbrev dktX3_isTwice_0 : List UInt8 := dkwX3_isTwice_0 ++ dktX3_isTwice_1
theorem dksX3_isTwice_0 : cX3_isTwice.data.toList.drop 0 = dktX3_isTwice_0 := by decide +kernel
theorem dksX3_isTwice_1 : cX3_isTwice.data.toList.drop 23 = dktX3_isTwice_1 := dk_seg dksX3_isTwice_0 23 rfl rfl
theorem dksX3_isTwice_2 : cX3_isTwice.data.toList.drop 47 = dktX3_isTwice_2 := dk_seg dksX3_isTwice_1 24 rfl rfl
theorem dX3_isTwice_0 : decode cX3_isTwice 0 = .ok (.iconst 0, 1) := dk_3 (dk_at dksX3_isTwice_0 0 rfl rfl)
theorem dX3_isTwice_1 : decode cX3_isTwice 1 = .ok (.istore_n 2, 1) := dk_61 (dk_at dksX3_isTwice_0 1 rfl rfl)
theorem dX3_isTwice_2 : decode cX3_isTwice 2 = .ok (.iload_n 2, 1) := dk_28 (dk_at dksX3_isTwice_0 2 rfl rfl)
theorem dX3_isTwice_3 : decode cX3_isTwice 3 = .ok (.iload_n 1, 1) := dk_27 (dk_at dksX3_isTwice_0 3 rfl rfl)
theorem dX3_isTwice_4 : decode cX3_isTwice 4 = .ok (.if_icmp .ge 58, 3) := dk_162 0 58 (dk_at dksX3_isTwice_0 4 rfl rfl)
theorem dX3_isTwice_7 : decode cX3_isTwice 7 = .ok (.aload_n 0, 1) := dk_42 (dk_at dksX3_isTwice_0 7 rfl rfl)
theorem dX3_isTwice_8 : decode cX3_isTwice 8 = .ok (.iload_n 2, 1) := dk_28 (dk_at dksX3_isTwice_0 8 rfl rfl)
theorem dX3_isTwice_9 : decode cX3_isTwice 9 = .ok (.invokevirtual 101, 3) := dk_182 0 101 (dk_at dksX3_isTwice_0 9 rfl rfl)
theorem dX3_isTwice_12 : decode cX3_isTwice 12 = .ok (.aload_n 0, 1) := dk_42 (dk_at dksX3_isTwice_0 12 rfl rfl)
theorem dX3_isTwice_13 : decode cX3_isTwice 13 = .ok (.iload_n 1, 1) := dk_27 (dk_at dksX3_isTwice_0 13 rfl rfl)
theorem dX3_isTwice_14 : decode cX3_isTwice 14 = .ok (.invokevirtual 101, 3) := dk_182 0 101 (dk_at dksX3_isTwice_0 14 rfl rfl)
theorem dX3_isTwice_17 : decode cX3_isTwice 17 = .ok (.if_icmp .ne 39, 3) := dk_160 0 39 (dk_at dksX3_isTwice_0 17 rfl rfl)
theorem dX3_isTwice_20 : decode cX3_isTwice 20 = .ok (.aload_n 0, 1) := dk_42 (dk_at dksX3_isTwice_0 20 rfl rfl)
theorem dX3_isTwice_21 : decode cX3_isTwice 21 = .ok (.iload_n 2, 1) := dk_28 (dk_at dksX3_isTwice_0 21 rfl rfl)
theorem dX3_isTwice_22 : decode cX3_isTwice 22 = .ok (.iconst 0, 1) := dk_3 (dk_at dksX3_isTwice_0 22 rfl rfl)
theorem dX3_isTwice_23 : decode cX3_isTwice 23 = .ok (.invokestatic 45, 3) := dk_184 0 45 (dk_at dksX3_isTwice_1 0 rfl rfl)
theorem dX3_isTwice_26 : decode cX3_isTwice 26 = .ok (.invokevirtual 49, 3) := dk_182 0 49 (dk_at dksX3_isTwice_1 3 rfl rfl)
theorem dX3_isTwice_29 : decode cX3_isTwice 29 = .ok (.aload_n 0, 1) := dk_42 (dk_at dksX3_isTwice_1 6 rfl rfl)
theorem dX3_isTwice_30 : decode cX3_isTwice 30 = .ok (.iload_n 1, 1) := dk_27 (dk_at dksX3_isTwice_1 7 rfl rfl)
theorem dX3_isTwice_31 : decode cX3_isTwice 31 = .ok (.iconst 0, 1) := dk_3 (dk_at dksX3_isTwice_1 8 rfl rfl)
theorem dX3_isTwice_32 : decode cX3_isTwice 32 = .ok (.invokestatic 45, 3) := dk_184 0 45 (dk_at dksX3_isTwice_1 9 rfl rfl)
theorem dX3_isTwice_35 : decode cX3_isTwice 35 = .ok (.invokevirtual 49, 3) := dk_182 0 49 (dk_at dksX3_isTwice_1 12 rfl rfl)
theorem dX3_isTwice_38 : decode cX3_isTwice 38 = .ok (.if_icmp .ne 18, 3) := dk_160 0 18 (dk_at dksX3_isTwice_1 15 rfl rfl)
theorem dX3_isTwice_41 : decode cX3_isTwice 41 = .ok (.aload_n 0, 1) := dk_42 (dk_at dksX3_isTwice_1 18 rfl rfl)
theorem dX3_isTwice_42 : decode cX3_isTwice 42 = .ok (.iload_n 2, 1) := dk_28 (dk_at dksX3_isTwice_1 19 rfl rfl)
theorem dX3_isTwice_43 : decode cX3_isTwice 43 = .ok (.iconst 4, 1) := dk_7 (dk_at dksX3_isTwice_1 20 rfl rfl)
theorem dX3_isTwice_44 : decode cX3_isTwice 44 = .ok (.invokestatic 45, 3) := dk_184 0 45 (dk_at dksX3_isTwice_1 21 rfl rfl)
theorem dX3_isTwice_47 : decode cX3_isTwice 47 = .ok (.invokevirtual 49, 3) := dk_182 0 49 (dk_at dksX3_isTwice_2 0 rfl rfl)
theorem dX3_isTwice_50 : decode cX3_isTwice 50 = .ok (.iconst 4, 1) := dk_7 (dk_at dksX3_isTwice_2 3 rfl rfl)
theorem dX3_isTwice_51 : decode cX3_isTwice 51 = .ok (.if_icmp .eq 5, 3) := dk_159 0 5 (dk_at dksX3_isTwice_2 4 rfl rfl)
theorem dX3_isTwice_54 : decode cX3_isTwice 54 = .ok (.iconst 1, 1) := dk_4 (dk_at dksX3_isTwice_2 7 rfl rfl)
theorem dX3_isTwice_55 : decode cX3_isTwice 55 = .ok (.ireturn, 1) := dk_172 (dk_at dksX3_isTwice_2 8 rfl rfl)
theorem dX3_isTwice_56 : decode cX3_isTwice 56 = .ok (.iinc 2 1, 3) := dk_132 2 1 (dk_at dksX3_isTwice_2 9 rfl rfl)
theorem dX3_isTwice_59 : decode cX3_isTwice 59 = .ok (.goto (-57), 3) := dk_167 255 199 (dk_at dksX3_isTwice_2 12 rfl rfl)
theorem dX3_isTwice_62 : decode cX3_isTwice 62 = .ok (.iconst 0, 1) := dk_3 (dk_at dksX3_isTwice_2 15 rfl rfl)
theorem dX3_isTwice_63 : decode cX3_isTwice 63 = .ok (.ireturn, 1) := dk_172 (dk_at dksX3_isTwice_2 16 rfl rfl)
abbrev cX3_approves : ByteArray := prog_14_method_51_code
def yX3_approves : MethodName := ⟨RX3, "approves", "(I)V"⟩
def dkwX3_approves_3 : List UInt8 := [27, 42, 27, 182, 0, 146, 182, 0, 131, 177]
abbrev dktX3_approves_3 : List UInt8 := dkwX3_approves_3 ++ []
def dkwX3_approves_2 : List UInt8 := [8, 184, 0, 109, 92, 47, 42, 27, 29, 4, 182, 0, 141, 133, 97, 80, 132, 3, 1, 167, 255, 212, 42, 6]
abbrev dktX3_approves_2 : List UInt8 := dkwX3_approves_2 ++ dktX3_approves_3
def dkwX3_approves_1 : List UInt8 := [42, 27, 6, 184, 0, 45, 182, 0, 49, 162, 0, 37, 42, 180, 0, 13, 28, 42, 27, 29, 3, 182, 0, 141]
abbrev dktX3_approves_1 : List UInt8 := dkwX3_approves_1 ++ dktX3_approves_2
def dkwX3_approves_0 : List UInt8 := [42, 27, 4, 184, 0, 45, 182, 0, 49, 61, 42, 180, 0, 13, 27, 7, 184, 0, 45, 10, 80, 3, 62, 29]
abbrev dktX3_approves_0 : List UInt8 := dkwX3_approves_0 ++ dktX3_approves_1
theorem dksX3_approves_0 : cX3_approves.data.toList.drop 0 = dktX3_approves_0 := by decide +kernel
theorem dksX3_approves_1 : cX3_approves.data.toList.drop 24 = dktX3_approves_1 := dk_seg dksX3_approves_0 24 rfl rfl
theorem dksX3_approves_2 : cX3_approves.data.toList.drop 48 = dktX3_approves_2 := dk_seg dksX3_approves_1 24 rfl rfl
theorem dksX3_approves_3 : cX3_approves.data.toList.drop 72 = dktX3_approves_3 := dk_seg dksX3_approves_2 24 rfl rfl
theorem dX3_approves_0 : decode cX3_approves 0 = .ok (.aload_n 0, 1) := dk_42 (dk_at dksX3_approves_0 0 rfl rfl)
theorem dX3_approves_1 : decode cX3_approves 1 = .ok (.iload_n 1, 1) := dk_27 (dk_at dksX3_approves_0 1 rfl rfl)
theorem dX3_approves_2 : decode cX3_approves 2 = .ok (.iconst 1, 1) := dk_4 (dk_at dksX3_approves_0 2 rfl rfl)
theorem dX3_approves_3 : decode cX3_approves 3 = .ok (.invokestatic 45, 3) := dk_184 0 45 (dk_at dksX3_approves_0 3 rfl rfl)
theorem dX3_approves_6 : decode cX3_approves 6 = .ok (.invokevirtual 49, 3) := dk_182 0 49 (dk_at dksX3_approves_0 6 rfl rfl)
theorem dX3_approves_9 : decode cX3_approves 9 = .ok (.istore_n 2, 1) := dk_61 (dk_at dksX3_approves_0 9 rfl rfl)
theorem dX3_approves_10 : decode cX3_approves 10 = .ok (.aload_n 0, 1) := dk_42 (dk_at dksX3_approves_0 10 rfl rfl)
theorem dX3_approves_11 : decode cX3_approves 11 = .ok (.getfield 13, 3) := dk_180 0 13 (dk_at dksX3_approves_0 11 rfl rfl)
theorem dX3_approves_14 : decode cX3_approves 14 = .ok (.iload_n 1, 1) := dk_27 (dk_at dksX3_approves_0 14 rfl rfl)
theorem dX3_approves_15 : decode cX3_approves 15 = .ok (.iconst 4, 1) := dk_7 (dk_at dksX3_approves_0 15 rfl rfl)
theorem dX3_approves_16 : decode cX3_approves 16 = .ok (.invokestatic 45, 3) := dk_184 0 45 (dk_at dksX3_approves_0 16 rfl rfl)
theorem dX3_approves_19 : decode cX3_approves 19 = .ok (.lconst 1, 1) := dk_10 (dk_at dksX3_approves_0 19 rfl rfl)
theorem dX3_approves_20 : decode cX3_approves 20 = .ok (.lastore, 1) := dk_80 (dk_at dksX3_approves_0 20 rfl rfl)
theorem dX3_approves_21 : decode cX3_approves 21 = .ok (.iconst 0, 1) := dk_3 (dk_at dksX3_approves_0 21 rfl rfl)
theorem dX3_approves_22 : decode cX3_approves 22 = .ok (.istore_n 3, 1) := dk_62 (dk_at dksX3_approves_0 22 rfl rfl)
theorem dX3_approves_23 : decode cX3_approves 23 = .ok (.iload_n 3, 1) := dk_29 (dk_at dksX3_approves_0 23 rfl rfl)
theorem dX3_approves_24 : decode cX3_approves 24 = .ok (.aload_n 0, 1) := dk_42 (dk_at dksX3_approves_1 0 rfl rfl)
theorem dX3_approves_25 : decode cX3_approves 25 = .ok (.iload_n 1, 1) := dk_27 (dk_at dksX3_approves_1 1 rfl rfl)
theorem dX3_approves_26 : decode cX3_approves 26 = .ok (.iconst 3, 1) := dk_6 (dk_at dksX3_approves_1 2 rfl rfl)
theorem dX3_approves_27 : decode cX3_approves 27 = .ok (.invokestatic 45, 3) := dk_184 0 45 (dk_at dksX3_approves_1 3 rfl rfl)
theorem dX3_approves_30 : decode cX3_approves 30 = .ok (.invokevirtual 49, 3) := dk_182 0 49 (dk_at dksX3_approves_1 6 rfl rfl)
theorem dX3_approves_33 : decode cX3_approves 33 = .ok (.if_icmp .ge 37, 3) := dk_162 0 37 (dk_at dksX3_approves_1 9 rfl rfl)
theorem dX3_approves_36 : decode cX3_approves 36 = .ok (.aload_n 0, 1) := dk_42 (dk_at dksX3_approves_1 12 rfl rfl)
theorem dX3_approves_37 : decode cX3_approves 37 = .ok (.getfield 13, 3) := dk_180 0 13 (dk_at dksX3_approves_1 13 rfl rfl)
theorem dX3_approves_40 : decode cX3_approves 40 = .ok (.iload_n 2, 1) := dk_28 (dk_at dksX3_approves_1 16 rfl rfl)
theorem dX3_approves_41 : decode cX3_approves 41 = .ok (.aload_n 0, 1) := dk_42 (dk_at dksX3_approves_1 17 rfl rfl)
theorem dX3_approves_42 : decode cX3_approves 42 = .ok (.iload_n 1, 1) := dk_27 (dk_at dksX3_approves_1 18 rfl rfl)
theorem dX3_approves_43 : decode cX3_approves 43 = .ok (.iload_n 3, 1) := dk_29 (dk_at dksX3_approves_1 19 rfl rfl)
theorem dX3_approves_44 : decode cX3_approves 44 = .ok (.iconst 0, 1) := dk_3 (dk_at dksX3_approves_1 20 rfl rfl)
theorem dX3_approves_45 : decode cX3_approves 45 = .ok (.invokevirtual 141, 3) := dk_182 0 141 (dk_at dksX3_approves_1 21 rfl rfl)
theorem dX3_approves_48 : decode cX3_approves 48 = .ok (.iconst 5, 1) := dk_8 (dk_at dksX3_approves_2 0 rfl rfl)
theorem dX3_approves_49 : decode cX3_approves 49 = .ok (.invokestatic 109, 3) := dk_184 0 109 (dk_at dksX3_approves_2 1 rfl rfl)
theorem dX3_approves_52 : decode cX3_approves 52 = .ok (.dup2, 1) := dk_92 (dk_at dksX3_approves_2 4 rfl rfl)
theorem dX3_approves_53 : decode cX3_approves 53 = .ok (.laload, 1) := dk_47 (dk_at dksX3_approves_2 5 rfl rfl)
theorem dX3_approves_54 : decode cX3_approves 54 = .ok (.aload_n 0, 1) := dk_42 (dk_at dksX3_approves_2 6 rfl rfl)
theorem dX3_approves_55 : decode cX3_approves 55 = .ok (.iload_n 1, 1) := dk_27 (dk_at dksX3_approves_2 7 rfl rfl)
theorem dX3_approves_56 : decode cX3_approves 56 = .ok (.iload_n 3, 1) := dk_29 (dk_at dksX3_approves_2 8 rfl rfl)
theorem dX3_approves_57 : decode cX3_approves 57 = .ok (.iconst 1, 1) := dk_4 (dk_at dksX3_approves_2 9 rfl rfl)
theorem dX3_approves_58 : decode cX3_approves 58 = .ok (.invokevirtual 141, 3) := dk_182 0 141 (dk_at dksX3_approves_2 10 rfl rfl)
theorem dX3_approves_61 : decode cX3_approves 61 = .ok (.i2l, 1) := dk_133 (dk_at dksX3_approves_2 13 rfl rfl)
theorem dX3_approves_62 : decode cX3_approves 62 = .ok (.ladd, 1) := dk_97 (dk_at dksX3_approves_2 14 rfl rfl)
theorem dX3_approves_63 : decode cX3_approves 63 = .ok (.lastore, 1) := dk_80 (dk_at dksX3_approves_2 15 rfl rfl)
theorem dX3_approves_64 : decode cX3_approves 64 = .ok (.iinc 3 1, 3) := dk_132 3 1 (dk_at dksX3_approves_2 16 rfl rfl)
theorem dX3_approves_67 : decode cX3_approves 67 = .ok (.goto (-44), 3) := dk_167 255 212 (dk_at dksX3_approves_2 19 rfl rfl)
theorem dX3_approves_70 : decode cX3_approves 70 = .ok (.aload_n 0, 1) := dk_42 (dk_at dksX3_approves_2 22 rfl rfl)
theorem dX3_approves_71 : decode cX3_approves 71 = .ok (.iconst 3, 1) := dk_6 (dk_at dksX3_approves_2 23 rfl rfl)
theorem dX3_approves_72 : decode cX3_approves 72 = .ok (.iload_n 1, 1) := dk_27 (dk_at dksX3_approves_3 0 rfl rfl)
theorem dX3_approves_73 : decode cX3_approves 73 = .ok (.aload_n 0, 1) := dk_42 (dk_at dksX3_approves_3 1 rfl rfl)
theorem dX3_approves_74 : decode cX3_approves 74 = .ok (.iload_n 1, 1) := dk_27 (dk_at dksX3_approves_3 2 rfl rfl)
theorem dX3_approves_75 : decode cX3_approves 75 = .ok (.invokevirtual 146, 3) := dk_182 0 146 (dk_at dksX3_approves_3 3 rfl rfl)
theorem dX3_approves_78 : decode cX3_approves 78 = .ok (.invokevirtual 131, 3) := dk_182 0 131 (dk_at dksX3_approves_3 6 rfl rfl)
theorem dX3_approves_81 : decode cX3_approves 81 = .ok (.return_, 1) := dk_177 (dk_at dksX3_approves_3 9 rfl rfl)
abbrev cX3_note : ByteArray := prog_14_method_54_code
def yX3_note : MethodName := ⟨RX3, "note", "(I)I"⟩
def dkwX3_note_12 : List UInt8 := [21, 4, 182, 0, 131, 42, 27, 182, 0, 184, 42, 21, 4, 182, 0, 84, 172]
abbrev dktX3_note_12 : List UInt8 := dkwX3_note_12 ++ []
def dkwX3_note_11 : List UInt8 := [184, 0, 77, 92, 47, 21, 4, 133, 97, 80, 42, 180, 0, 13, 16, 9, 92, 47, 10, 97, 80, 42, 8, 27]
abbrev dktX3_note_11 : List UInt8 := dkwX3_note_11 ++ dktX3_note_12
def dkwX3_note_10 : List UInt8 := [180, 0, 13, 27, 16, 6, 184, 0, 45, 21, 4, 133, 80, 42, 180, 0, 13, 42, 28, 182, 0, 64, 16, 6]
abbrev dktX3_note_10 : List UInt8 := dkwX3_note_10 ++ dktX3_note_11
def dkwX3_note_9 : List UInt8 := [133, 167, 0, 4, 9, 80, 132, 4, 1, 167, 255, 98, 29, 42, 27, 182, 0, 146, 100, 54, 4, 42]
abbrev dktX3_note_9 : List UInt8 := dkwX3_note_9 ++ dktX3_note_10
def dkwX3_note_8 : List UInt8 := [184, 0, 109, 182, 0, 49, 100, 54, 7, 42, 180, 0, 13, 21, 6, 4, 96, 21, 7, 158, 0, 9, 21, 7]
abbrev dktX3_note_8 : List UInt8 := dkwX3_note_8 ++ dktX3_note_9
def dkwX3_note_7 : List UInt8 := [4, 182, 0, 141, 182, 0, 166, 153, 0, 45, 42, 28, 21, 5, 182, 0, 135, 42, 28, 21, 5, 8]
abbrev dktX3_note_7 : List UInt8 := dkwX3_note_7 ++ dktX3_note_8
def dkwX3_note_6 : List UInt8 := [184, 0, 109, 47, 80, 42, 28, 21, 5, 42, 28, 21, 5, 8, 184, 0, 109, 182, 0, 49, 42, 27, 21, 4]
abbrev dktX3_note_6 : List UInt8 := dkwX3_note_6 ++ dktX3_note_7
def dkwX3_note_5 : List UInt8 := [182, 0, 159, 153, 0, 24, 42, 180, 0, 13, 21, 6, 5, 96, 42, 180, 0, 13, 28, 21, 5, 5]
abbrev dktX3_note_5 : List UInt8 := dkwX3_note_5 ++ dktX3_note_6
def dkwX3_note_4 : List UInt8 := [54, 6, 42, 28, 21, 5, 42, 27, 21, 4, 4, 182, 0, 141, 42, 27, 21, 4, 5, 182, 0, 141]
abbrev dktX3_note_4 : List UInt8 := dkwX3_note_4 ++ dktX3_note_5
def dkwX3_note_3 : List UInt8 := [162, 0, 150, 42, 27, 21, 4, 3, 182, 0, 141, 54, 5, 27, 16, 11, 184, 0, 45, 6, 21, 4, 104, 96]
abbrev dktX3_note_3 : List UInt8 := dkwX3_note_3 ++ dktX3_note_4
def dkwX3_note_2 : List UInt8 := [182, 0, 49, 61, 42, 27, 182, 0, 146, 62, 3, 54, 4, 21, 4, 42, 27, 6, 184, 0, 45, 182, 0, 49]
abbrev dktX3_note_2 : List UInt8 := dkwX3_note_2 ++ dktX3_note_3
def dkwX3_note_1 : List UInt8 := [160, 0, 14, 42, 27, 182, 0, 181, 16, 7, 126, 153, 0, 6, 16, 252, 172, 42, 27, 4, 184, 0, 45]
abbrev dktX3_note_1 : List UInt8 := dkwX3_note_1 ++ dktX3_note_2
def dkwX3_note_0 : List UInt8 := [42, 182, 0, 74, 42, 27, 182, 0, 175, 154, 0, 5, 2, 172, 42, 27, 7, 184, 0, 45, 182, 0, 49, 5]
abbrev dktX3_note_0 : List UInt8 := dkwX3_note_0 ++ dktX3_note_1
theorem dksX3_note_0 : cX3_note.data.toList.drop 0 = dktX3_note_0 := by decide +kernel
theorem dksX3_note_1 : cX3_note.data.toList.drop 24 = dktX3_note_1 := dk_seg dksX3_note_0 24 rfl rfl
theorem dksX3_note_2 : cX3_note.data.toList.drop 47 = dktX3_note_2 := dk_seg dksX3_note_1 23 rfl rfl
theorem dksX3_note_3 : cX3_note.data.toList.drop 71 = dktX3_note_3 := dk_seg dksX3_note_2 24 rfl rfl
theorem dksX3_note_4 : cX3_note.data.toList.drop 95 = dktX3_note_4 := dk_seg dksX3_note_3 24 rfl rfl
theorem dksX3_note_5 : cX3_note.data.toList.drop 117 = dktX3_note_5 := dk_seg dksX3_note_4 22 rfl rfl
theorem dksX3_note_6 : cX3_note.data.toList.drop 139 = dktX3_note_6 := dk_seg dksX3_note_5 22 rfl rfl
theorem dksX3_note_7 : cX3_note.data.toList.drop 163 = dktX3_note_7 := dk_seg dksX3_note_6 24 rfl rfl
theorem dksX3_note_8 : cX3_note.data.toList.drop 185 = dktX3_note_8 := dk_seg dksX3_note_7 22 rfl rfl
theorem dksX3_note_9 : cX3_note.data.toList.drop 209 = dktX3_note_9 := dk_seg dksX3_note_8 24 rfl rfl
theorem dksX3_note_10 : cX3_note.data.toList.drop 231 = dktX3_note_10 := dk_seg dksX3_note_9 22 rfl rfl
theorem dksX3_note_11 : cX3_note.data.toList.drop 255 = dktX3_note_11 := dk_seg dksX3_note_10 24 rfl rfl
theorem dksX3_note_12 : cX3_note.data.toList.drop 279 = dktX3_note_12 := dk_seg dksX3_note_11 24 rfl rfl
theorem dX3_note_0 : decode cX3_note 0 = .ok (.aload_n 0, 1) := dk_42 (dk_at dksX3_note_0 0 rfl rfl)
theorem dX3_note_1 : decode cX3_note 1 = .ok (.invokevirtual 74, 3) := dk_182 0 74 (dk_at dksX3_note_0 1 rfl rfl)
theorem dX3_note_4 : decode cX3_note 4 = .ok (.aload_n 0, 1) := dk_42 (dk_at dksX3_note_0 4 rfl rfl)
theorem dX3_note_5 : decode cX3_note 5 = .ok (.iload_n 1, 1) := dk_27 (dk_at dksX3_note_0 5 rfl rfl)
theorem dX3_note_6 : decode cX3_note 6 = .ok (.invokevirtual 175, 3) := dk_182 0 175 (dk_at dksX3_note_0 6 rfl rfl)
theorem dX3_note_9 : decode cX3_note 9 = .ok (.ifCond .ne 5, 3) := dk_154 0 5 (dk_at dksX3_note_0 9 rfl rfl)
theorem dX3_note_12 : decode cX3_note 12 = .ok (.iconst (-1), 1) := dk_2 (dk_at dksX3_note_0 12 rfl rfl)
theorem dX3_note_13 : decode cX3_note 13 = .ok (.ireturn, 1) := dk_172 (dk_at dksX3_note_0 13 rfl rfl)
theorem dX3_note_14 : decode cX3_note 14 = .ok (.aload_n 0, 1) := dk_42 (dk_at dksX3_note_0 14 rfl rfl)
theorem dX3_note_15 : decode cX3_note 15 = .ok (.iload_n 1, 1) := dk_27 (dk_at dksX3_note_0 15 rfl rfl)
theorem dX3_note_16 : decode cX3_note 16 = .ok (.iconst 4, 1) := dk_7 (dk_at dksX3_note_0 16 rfl rfl)
theorem dX3_note_17 : decode cX3_note 17 = .ok (.invokestatic 45, 3) := dk_184 0 45 (dk_at dksX3_note_0 17 rfl rfl)
theorem dX3_note_20 : decode cX3_note 20 = .ok (.invokevirtual 49, 3) := dk_182 0 49 (dk_at dksX3_note_0 20 rfl rfl)
theorem dX3_note_23 : decode cX3_note 23 = .ok (.iconst 2, 1) := dk_5 (dk_at dksX3_note_0 23 rfl rfl)
theorem dX3_note_24 : decode cX3_note 24 = .ok (.if_icmp .ne 14, 3) := dk_160 0 14 (dk_at dksX3_note_1 0 rfl rfl)
theorem dX3_note_27 : decode cX3_note 27 = .ok (.aload_n 0, 1) := dk_42 (dk_at dksX3_note_1 3 rfl rfl)
theorem dX3_note_28 : decode cX3_note 28 = .ok (.iload_n 1, 1) := dk_27 (dk_at dksX3_note_1 4 rfl rfl)
theorem dX3_note_29 : decode cX3_note 29 = .ok (.invokevirtual 181, 3) := dk_182 0 181 (dk_at dksX3_note_1 5 rfl rfl)
theorem dX3_note_32 : decode cX3_note 32 = .ok (.bipush 7, 2) := dk_16 7 (dk_at dksX3_note_1 8 rfl rfl)
theorem dX3_note_34 : decode cX3_note 34 = .ok (.iand, 1) := dk_126 (dk_at dksX3_note_1 10 rfl rfl)
theorem dX3_note_35 : decode cX3_note 35 = .ok (.ifCond .eq 6, 3) := dk_153 0 6 (dk_at dksX3_note_1 11 rfl rfl)
theorem dX3_note_38 : decode cX3_note 38 = .ok (.bipush (-4), 2) := dk_16 252 (dk_at dksX3_note_1 14 rfl rfl)
theorem dX3_note_40 : decode cX3_note 40 = .ok (.ireturn, 1) := dk_172 (dk_at dksX3_note_1 16 rfl rfl)
theorem dX3_note_41 : decode cX3_note 41 = .ok (.aload_n 0, 1) := dk_42 (dk_at dksX3_note_1 17 rfl rfl)
theorem dX3_note_42 : decode cX3_note 42 = .ok (.iload_n 1, 1) := dk_27 (dk_at dksX3_note_1 18 rfl rfl)
theorem dX3_note_43 : decode cX3_note 43 = .ok (.iconst 1, 1) := dk_4 (dk_at dksX3_note_1 19 rfl rfl)
theorem dX3_note_44 : decode cX3_note 44 = .ok (.invokestatic 45, 3) := dk_184 0 45 (dk_at dksX3_note_1 20 rfl rfl)
theorem dX3_note_47 : decode cX3_note 47 = .ok (.invokevirtual 49, 3) := dk_182 0 49 (dk_at dksX3_note_2 0 rfl rfl)
theorem dX3_note_50 : decode cX3_note 50 = .ok (.istore_n 2, 1) := dk_61 (dk_at dksX3_note_2 3 rfl rfl)
theorem dX3_note_51 : decode cX3_note 51 = .ok (.aload_n 0, 1) := dk_42 (dk_at dksX3_note_2 4 rfl rfl)
theorem dX3_note_52 : decode cX3_note 52 = .ok (.iload_n 1, 1) := dk_27 (dk_at dksX3_note_2 5 rfl rfl)
theorem dX3_note_53 : decode cX3_note 53 = .ok (.invokevirtual 146, 3) := dk_182 0 146 (dk_at dksX3_note_2 6 rfl rfl)
theorem dX3_note_56 : decode cX3_note 56 = .ok (.istore_n 3, 1) := dk_62 (dk_at dksX3_note_2 9 rfl rfl)
theorem dX3_note_57 : decode cX3_note 57 = .ok (.iconst 0, 1) := dk_3 (dk_at dksX3_note_2 10 rfl rfl)
theorem dX3_note_58 : decode cX3_note 58 = .ok (.istore 4, 2) := dk_54 4 (dk_at dksX3_note_2 11 rfl rfl)
theorem dX3_note_60 : decode cX3_note 60 = .ok (.iload 4, 2) := dk_21 4 (dk_at dksX3_note_2 13 rfl rfl)
theorem dX3_note_62 : decode cX3_note 62 = .ok (.aload_n 0, 1) := dk_42 (dk_at dksX3_note_2 15 rfl rfl)
theorem dX3_note_63 : decode cX3_note 63 = .ok (.iload_n 1, 1) := dk_27 (dk_at dksX3_note_2 16 rfl rfl)
theorem dX3_note_64 : decode cX3_note 64 = .ok (.iconst 3, 1) := dk_6 (dk_at dksX3_note_2 17 rfl rfl)
theorem dX3_note_65 : decode cX3_note 65 = .ok (.invokestatic 45, 3) := dk_184 0 45 (dk_at dksX3_note_2 18 rfl rfl)
theorem dX3_note_68 : decode cX3_note 68 = .ok (.invokevirtual 49, 3) := dk_182 0 49 (dk_at dksX3_note_2 21 rfl rfl)
theorem dX3_note_71 : decode cX3_note 71 = .ok (.if_icmp .ge 150, 3) := dk_162 0 150 (dk_at dksX3_note_3 0 rfl rfl)
theorem dX3_note_74 : decode cX3_note 74 = .ok (.aload_n 0, 1) := dk_42 (dk_at dksX3_note_3 3 rfl rfl)
theorem dX3_note_75 : decode cX3_note 75 = .ok (.iload_n 1, 1) := dk_27 (dk_at dksX3_note_3 4 rfl rfl)
theorem dX3_note_76 : decode cX3_note 76 = .ok (.iload 4, 2) := dk_21 4 (dk_at dksX3_note_3 5 rfl rfl)
theorem dX3_note_78 : decode cX3_note 78 = .ok (.iconst 0, 1) := dk_3 (dk_at dksX3_note_3 7 rfl rfl)
theorem dX3_note_79 : decode cX3_note 79 = .ok (.invokevirtual 141, 3) := dk_182 0 141 (dk_at dksX3_note_3 8 rfl rfl)
theorem dX3_note_82 : decode cX3_note 82 = .ok (.istore 5, 2) := dk_54 5 (dk_at dksX3_note_3 11 rfl rfl)
theorem dX3_note_84 : decode cX3_note 84 = .ok (.iload_n 1, 1) := dk_27 (dk_at dksX3_note_3 13 rfl rfl)
theorem dX3_note_85 : decode cX3_note 85 = .ok (.bipush 11, 2) := dk_16 11 (dk_at dksX3_note_3 14 rfl rfl)
theorem dX3_note_87 : decode cX3_note 87 = .ok (.invokestatic 45, 3) := dk_184 0 45 (dk_at dksX3_note_3 16 rfl rfl)
theorem dX3_note_90 : decode cX3_note 90 = .ok (.iconst 3, 1) := dk_6 (dk_at dksX3_note_3 19 rfl rfl)
theorem dX3_note_91 : decode cX3_note 91 = .ok (.iload 4, 2) := dk_21 4 (dk_at dksX3_note_3 20 rfl rfl)
theorem dX3_note_93 : decode cX3_note 93 = .ok (.imul, 1) := dk_104 (dk_at dksX3_note_3 22 rfl rfl)
theorem dX3_note_94 : decode cX3_note 94 = .ok (.iadd, 1) := dk_96 (dk_at dksX3_note_3 23 rfl rfl)
theorem dX3_note_95 : decode cX3_note 95 = .ok (.istore 6, 2) := dk_54 6 (dk_at dksX3_note_4 0 rfl rfl)
theorem dX3_note_97 : decode cX3_note 97 = .ok (.aload_n 0, 1) := dk_42 (dk_at dksX3_note_4 2 rfl rfl)
theorem dX3_note_98 : decode cX3_note 98 = .ok (.iload_n 2, 1) := dk_28 (dk_at dksX3_note_4 3 rfl rfl)
theorem dX3_note_99 : decode cX3_note 99 = .ok (.iload 5, 2) := dk_21 5 (dk_at dksX3_note_4 4 rfl rfl)
theorem dX3_note_101 : decode cX3_note 101 = .ok (.aload_n 0, 1) := dk_42 (dk_at dksX3_note_4 6 rfl rfl)
theorem dX3_note_102 : decode cX3_note 102 = .ok (.iload_n 1, 1) := dk_27 (dk_at dksX3_note_4 7 rfl rfl)
theorem dX3_note_103 : decode cX3_note 103 = .ok (.iload 4, 2) := dk_21 4 (dk_at dksX3_note_4 8 rfl rfl)
theorem dX3_note_105 : decode cX3_note 105 = .ok (.iconst 1, 1) := dk_4 (dk_at dksX3_note_4 10 rfl rfl)
theorem dX3_note_106 : decode cX3_note 106 = .ok (.invokevirtual 141, 3) := dk_182 0 141 (dk_at dksX3_note_4 11 rfl rfl)
theorem dX3_note_109 : decode cX3_note 109 = .ok (.aload_n 0, 1) := dk_42 (dk_at dksX3_note_4 14 rfl rfl)
theorem dX3_note_110 : decode cX3_note 110 = .ok (.iload_n 1, 1) := dk_27 (dk_at dksX3_note_4 15 rfl rfl)
theorem dX3_note_111 : decode cX3_note 111 = .ok (.iload 4, 2) := dk_21 4 (dk_at dksX3_note_4 16 rfl rfl)
theorem dX3_note_113 : decode cX3_note 113 = .ok (.iconst 2, 1) := dk_5 (dk_at dksX3_note_4 18 rfl rfl)
theorem dX3_note_114 : decode cX3_note 114 = .ok (.invokevirtual 141, 3) := dk_182 0 141 (dk_at dksX3_note_4 19 rfl rfl)
theorem dX3_note_117 : decode cX3_note 117 = .ok (.invokevirtual 159, 3) := dk_182 0 159 (dk_at dksX3_note_5 0 rfl rfl)
theorem dX3_note_120 : decode cX3_note 120 = .ok (.ifCond .eq 24, 3) := dk_153 0 24 (dk_at dksX3_note_5 3 rfl rfl)
theorem dX3_note_123 : decode cX3_note 123 = .ok (.aload_n 0, 1) := dk_42 (dk_at dksX3_note_5 6 rfl rfl)
theorem dX3_note_124 : decode cX3_note 124 = .ok (.getfield 13, 3) := dk_180 0 13 (dk_at dksX3_note_5 7 rfl rfl)
theorem dX3_note_127 : decode cX3_note 127 = .ok (.iload 6, 2) := dk_21 6 (dk_at dksX3_note_5 10 rfl rfl)
theorem dX3_note_129 : decode cX3_note 129 = .ok (.iconst 2, 1) := dk_5 (dk_at dksX3_note_5 12 rfl rfl)
theorem dX3_note_130 : decode cX3_note 130 = .ok (.iadd, 1) := dk_96 (dk_at dksX3_note_5 13 rfl rfl)
theorem dX3_note_131 : decode cX3_note 131 = .ok (.aload_n 0, 1) := dk_42 (dk_at dksX3_note_5 14 rfl rfl)
theorem dX3_note_132 : decode cX3_note 132 = .ok (.getfield 13, 3) := dk_180 0 13 (dk_at dksX3_note_5 15 rfl rfl)
theorem dX3_note_135 : decode cX3_note 135 = .ok (.iload_n 2, 1) := dk_28 (dk_at dksX3_note_5 18 rfl rfl)
theorem dX3_note_136 : decode cX3_note 136 = .ok (.iload 5, 2) := dk_21 5 (dk_at dksX3_note_5 19 rfl rfl)
theorem dX3_note_138 : decode cX3_note 138 = .ok (.iconst 2, 1) := dk_5 (dk_at dksX3_note_5 21 rfl rfl)
theorem dX3_note_139 : decode cX3_note 139 = .ok (.invokestatic 109, 3) := dk_184 0 109 (dk_at dksX3_note_6 0 rfl rfl)
theorem dX3_note_142 : decode cX3_note 142 = .ok (.laload, 1) := dk_47 (dk_at dksX3_note_6 3 rfl rfl)
theorem dX3_note_143 : decode cX3_note 143 = .ok (.lastore, 1) := dk_80 (dk_at dksX3_note_6 4 rfl rfl)
theorem dX3_note_144 : decode cX3_note 144 = .ok (.aload_n 0, 1) := dk_42 (dk_at dksX3_note_6 5 rfl rfl)
theorem dX3_note_145 : decode cX3_note 145 = .ok (.iload_n 2, 1) := dk_28 (dk_at dksX3_note_6 6 rfl rfl)
theorem dX3_note_146 : decode cX3_note 146 = .ok (.iload 5, 2) := dk_21 5 (dk_at dksX3_note_6 7 rfl rfl)
theorem dX3_note_148 : decode cX3_note 148 = .ok (.aload_n 0, 1) := dk_42 (dk_at dksX3_note_6 9 rfl rfl)
theorem dX3_note_149 : decode cX3_note 149 = .ok (.iload_n 2, 1) := dk_28 (dk_at dksX3_note_6 10 rfl rfl)
theorem dX3_note_150 : decode cX3_note 150 = .ok (.iload 5, 2) := dk_21 5 (dk_at dksX3_note_6 11 rfl rfl)
theorem dX3_note_152 : decode cX3_note 152 = .ok (.iconst 5, 1) := dk_8 (dk_at dksX3_note_6 13 rfl rfl)
theorem dX3_note_153 : decode cX3_note 153 = .ok (.invokestatic 109, 3) := dk_184 0 109 (dk_at dksX3_note_6 14 rfl rfl)
theorem dX3_note_156 : decode cX3_note 156 = .ok (.invokevirtual 49, 3) := dk_182 0 49 (dk_at dksX3_note_6 17 rfl rfl)
theorem dX3_note_159 : decode cX3_note 159 = .ok (.aload_n 0, 1) := dk_42 (dk_at dksX3_note_6 20 rfl rfl)
theorem dX3_note_160 : decode cX3_note 160 = .ok (.iload_n 1, 1) := dk_27 (dk_at dksX3_note_6 21 rfl rfl)
theorem dX3_note_161 : decode cX3_note 161 = .ok (.iload 4, 2) := dk_21 4 (dk_at dksX3_note_6 22 rfl rfl)
theorem dX3_note_163 : decode cX3_note 163 = .ok (.iconst 1, 1) := dk_4 (dk_at dksX3_note_7 0 rfl rfl)
theorem dX3_note_164 : decode cX3_note 164 = .ok (.invokevirtual 141, 3) := dk_182 0 141 (dk_at dksX3_note_7 1 rfl rfl)
theorem dX3_note_167 : decode cX3_note 167 = .ok (.invokevirtual 166, 3) := dk_182 0 166 (dk_at dksX3_note_7 4 rfl rfl)
theorem dX3_note_170 : decode cX3_note 170 = .ok (.ifCond .eq 45, 3) := dk_153 0 45 (dk_at dksX3_note_7 7 rfl rfl)
theorem dX3_note_173 : decode cX3_note 173 = .ok (.aload_n 0, 1) := dk_42 (dk_at dksX3_note_7 10 rfl rfl)
theorem dX3_note_174 : decode cX3_note 174 = .ok (.iload_n 2, 1) := dk_28 (dk_at dksX3_note_7 11 rfl rfl)
theorem dX3_note_175 : decode cX3_note 175 = .ok (.iload 5, 2) := dk_21 5 (dk_at dksX3_note_7 12 rfl rfl)
theorem dX3_note_177 : decode cX3_note 177 = .ok (.invokevirtual 135, 3) := dk_182 0 135 (dk_at dksX3_note_7 14 rfl rfl)
theorem dX3_note_180 : decode cX3_note 180 = .ok (.aload_n 0, 1) := dk_42 (dk_at dksX3_note_7 17 rfl rfl)
theorem dX3_note_181 : decode cX3_note 181 = .ok (.iload_n 2, 1) := dk_28 (dk_at dksX3_note_7 18 rfl rfl)
theorem dX3_note_182 : decode cX3_note 182 = .ok (.iload 5, 2) := dk_21 5 (dk_at dksX3_note_7 19 rfl rfl)
theorem dX3_note_184 : decode cX3_note 184 = .ok (.iconst 5, 1) := dk_8 (dk_at dksX3_note_7 21 rfl rfl)
theorem dX3_note_185 : decode cX3_note 185 = .ok (.invokestatic 109, 3) := dk_184 0 109 (dk_at dksX3_note_8 0 rfl rfl)
theorem dX3_note_188 : decode cX3_note 188 = .ok (.invokevirtual 49, 3) := dk_182 0 49 (dk_at dksX3_note_8 3 rfl rfl)
theorem dX3_note_191 : decode cX3_note 191 = .ok (.isub, 1) := dk_100 (dk_at dksX3_note_8 6 rfl rfl)
theorem dX3_note_192 : decode cX3_note 192 = .ok (.istore 7, 2) := dk_54 7 (dk_at dksX3_note_8 7 rfl rfl)
theorem dX3_note_194 : decode cX3_note 194 = .ok (.aload_n 0, 1) := dk_42 (dk_at dksX3_note_8 9 rfl rfl)
theorem dX3_note_195 : decode cX3_note 195 = .ok (.getfield 13, 3) := dk_180 0 13 (dk_at dksX3_note_8 10 rfl rfl)
theorem dX3_note_198 : decode cX3_note 198 = .ok (.iload 6, 2) := dk_21 6 (dk_at dksX3_note_8 13 rfl rfl)
theorem dX3_note_200 : decode cX3_note 200 = .ok (.iconst 1, 1) := dk_4 (dk_at dksX3_note_8 15 rfl rfl)
theorem dX3_note_201 : decode cX3_note 201 = .ok (.iadd, 1) := dk_96 (dk_at dksX3_note_8 16 rfl rfl)
theorem dX3_note_202 : decode cX3_note 202 = .ok (.iload 7, 2) := dk_21 7 (dk_at dksX3_note_8 17 rfl rfl)
theorem dX3_note_204 : decode cX3_note 204 = .ok (.ifCond .le 9, 3) := dk_158 0 9 (dk_at dksX3_note_8 19 rfl rfl)
theorem dX3_note_207 : decode cX3_note 207 = .ok (.iload 7, 2) := dk_21 7 (dk_at dksX3_note_8 22 rfl rfl)
theorem dX3_note_209 : decode cX3_note 209 = .ok (.i2l, 1) := dk_133 (dk_at dksX3_note_9 0 rfl rfl)
theorem dX3_note_210 : decode cX3_note 210 = .ok (.goto 4, 3) := dk_167 0 4 (dk_at dksX3_note_9 1 rfl rfl)
theorem dX3_note_213 : decode cX3_note 213 = .ok (.lconst 0, 1) := dk_9 (dk_at dksX3_note_9 4 rfl rfl)
theorem dX3_note_214 : decode cX3_note 214 = .ok (.lastore, 1) := dk_80 (dk_at dksX3_note_9 5 rfl rfl)
theorem dX3_note_215 : decode cX3_note 215 = .ok (.iinc 4 1, 3) := dk_132 4 1 (dk_at dksX3_note_9 6 rfl rfl)
theorem dX3_note_218 : decode cX3_note 218 = .ok (.goto (-158), 3) := dk_167 255 98 (dk_at dksX3_note_9 9 rfl rfl)
theorem dX3_note_221 : decode cX3_note 221 = .ok (.iload_n 3, 1) := dk_29 (dk_at dksX3_note_9 12 rfl rfl)
theorem dX3_note_222 : decode cX3_note 222 = .ok (.aload_n 0, 1) := dk_42 (dk_at dksX3_note_9 13 rfl rfl)
theorem dX3_note_223 : decode cX3_note 223 = .ok (.iload_n 1, 1) := dk_27 (dk_at dksX3_note_9 14 rfl rfl)
theorem dX3_note_224 : decode cX3_note 224 = .ok (.invokevirtual 146, 3) := dk_182 0 146 (dk_at dksX3_note_9 15 rfl rfl)
theorem dX3_note_227 : decode cX3_note 227 = .ok (.isub, 1) := dk_100 (dk_at dksX3_note_9 18 rfl rfl)
theorem dX3_note_228 : decode cX3_note 228 = .ok (.istore 4, 2) := dk_54 4 (dk_at dksX3_note_9 19 rfl rfl)
theorem dX3_note_230 : decode cX3_note 230 = .ok (.aload_n 0, 1) := dk_42 (dk_at dksX3_note_9 21 rfl rfl)
theorem dX3_note_231 : decode cX3_note 231 = .ok (.getfield 13, 3) := dk_180 0 13 (dk_at dksX3_note_10 0 rfl rfl)
theorem dX3_note_234 : decode cX3_note 234 = .ok (.iload_n 1, 1) := dk_27 (dk_at dksX3_note_10 3 rfl rfl)
theorem dX3_note_235 : decode cX3_note 235 = .ok (.bipush 6, 2) := dk_16 6 (dk_at dksX3_note_10 4 rfl rfl)
theorem dX3_note_237 : decode cX3_note 237 = .ok (.invokestatic 45, 3) := dk_184 0 45 (dk_at dksX3_note_10 6 rfl rfl)
theorem dX3_note_240 : decode cX3_note 240 = .ok (.iload 4, 2) := dk_21 4 (dk_at dksX3_note_10 9 rfl rfl)
theorem dX3_note_242 : decode cX3_note 242 = .ok (.i2l, 1) := dk_133 (dk_at dksX3_note_10 11 rfl rfl)
theorem dX3_note_243 : decode cX3_note 243 = .ok (.lastore, 1) := dk_80 (dk_at dksX3_note_10 12 rfl rfl)
theorem dX3_note_244 : decode cX3_note 244 = .ok (.aload_n 0, 1) := dk_42 (dk_at dksX3_note_10 13 rfl rfl)
theorem dX3_note_245 : decode cX3_note 245 = .ok (.getfield 13, 3) := dk_180 0 13 (dk_at dksX3_note_10 14 rfl rfl)
theorem dX3_note_248 : decode cX3_note 248 = .ok (.aload_n 0, 1) := dk_42 (dk_at dksX3_note_10 17 rfl rfl)
theorem dX3_note_249 : decode cX3_note 249 = .ok (.iload_n 2, 1) := dk_28 (dk_at dksX3_note_10 18 rfl rfl)
theorem dX3_note_250 : decode cX3_note 250 = .ok (.invokevirtual 64, 3) := dk_182 0 64 (dk_at dksX3_note_10 19 rfl rfl)
theorem dX3_note_253 : decode cX3_note 253 = .ok (.bipush 6, 2) := dk_16 6 (dk_at dksX3_note_10 22 rfl rfl)
theorem dX3_note_255 : decode cX3_note 255 = .ok (.invokestatic 77, 3) := dk_184 0 77 (dk_at dksX3_note_11 0 rfl rfl)
theorem dX3_note_258 : decode cX3_note 258 = .ok (.dup2, 1) := dk_92 (dk_at dksX3_note_11 3 rfl rfl)
theorem dX3_note_259 : decode cX3_note 259 = .ok (.laload, 1) := dk_47 (dk_at dksX3_note_11 4 rfl rfl)
theorem dX3_note_260 : decode cX3_note 260 = .ok (.iload 4, 2) := dk_21 4 (dk_at dksX3_note_11 5 rfl rfl)
theorem dX3_note_262 : decode cX3_note 262 = .ok (.i2l, 1) := dk_133 (dk_at dksX3_note_11 7 rfl rfl)
theorem dX3_note_263 : decode cX3_note 263 = .ok (.ladd, 1) := dk_97 (dk_at dksX3_note_11 8 rfl rfl)
theorem dX3_note_264 : decode cX3_note 264 = .ok (.lastore, 1) := dk_80 (dk_at dksX3_note_11 9 rfl rfl)
theorem dX3_note_265 : decode cX3_note 265 = .ok (.aload_n 0, 1) := dk_42 (dk_at dksX3_note_11 10 rfl rfl)
theorem dX3_note_266 : decode cX3_note 266 = .ok (.getfield 13, 3) := dk_180 0 13 (dk_at dksX3_note_11 11 rfl rfl)
theorem dX3_note_269 : decode cX3_note 269 = .ok (.bipush 9, 2) := dk_16 9 (dk_at dksX3_note_11 14 rfl rfl)
theorem dX3_note_271 : decode cX3_note 271 = .ok (.dup2, 1) := dk_92 (dk_at dksX3_note_11 16 rfl rfl)
theorem dX3_note_272 : decode cX3_note 272 = .ok (.laload, 1) := dk_47 (dk_at dksX3_note_11 17 rfl rfl)
theorem dX3_note_273 : decode cX3_note 273 = .ok (.lconst 1, 1) := dk_10 (dk_at dksX3_note_11 18 rfl rfl)
theorem dX3_note_274 : decode cX3_note 274 = .ok (.ladd, 1) := dk_97 (dk_at dksX3_note_11 19 rfl rfl)
theorem dX3_note_275 : decode cX3_note 275 = .ok (.lastore, 1) := dk_80 (dk_at dksX3_note_11 20 rfl rfl)
theorem dX3_note_276 : decode cX3_note 276 = .ok (.aload_n 0, 1) := dk_42 (dk_at dksX3_note_11 21 rfl rfl)
theorem dX3_note_277 : decode cX3_note 277 = .ok (.iconst 5, 1) := dk_8 (dk_at dksX3_note_11 22 rfl rfl)
theorem dX3_note_278 : decode cX3_note 278 = .ok (.iload_n 1, 1) := dk_27 (dk_at dksX3_note_11 23 rfl rfl)
theorem dX3_note_279 : decode cX3_note 279 = .ok (.iload 4, 2) := dk_21 4 (dk_at dksX3_note_12 0 rfl rfl)
theorem dX3_note_281 : decode cX3_note 281 = .ok (.invokevirtual 131, 3) := dk_182 0 131 (dk_at dksX3_note_12 2 rfl rfl)
theorem dX3_note_284 : decode cX3_note 284 = .ok (.aload_n 0, 1) := dk_42 (dk_at dksX3_note_12 5 rfl rfl)
theorem dX3_note_285 : decode cX3_note 285 = .ok (.iload_n 1, 1) := dk_27 (dk_at dksX3_note_12 6 rfl rfl)
theorem dX3_note_286 : decode cX3_note 286 = .ok (.invokevirtual 184, 3) := dk_182 0 184 (dk_at dksX3_note_12 7 rfl rfl)
theorem dX3_note_289 : decode cX3_note 289 = .ok (.aload_n 0, 1) := dk_42 (dk_at dksX3_note_12 10 rfl rfl)
theorem dX3_note_290 : decode cX3_note 290 = .ok (.iload 4, 2) := dk_21 4 (dk_at dksX3_note_12 11 rfl rfl)
theorem dX3_note_292 : decode cX3_note 292 = .ok (.invokevirtual 84, 3) := dk_182 0 84 (dk_at dksX3_note_12 13 rfl rfl)
theorem dX3_note_295 : decode cX3_note 295 = .ok (.ireturn, 1) := dk_172 (dk_at dksX3_note_12 16 rfl rfl)
abbrev cX3_reject : ByteArray := prog_14_method_55_code
def yX3_reject : MethodName := ⟨RX3, "reject", "(I)I"⟩
def dkwX3_reject_2 : List UInt8 := [182, 0, 131, 42, 42, 27, 182, 0, 146, 182, 0, 84, 172]
abbrev dktX3_reject_2 : List UInt8 := dkwX3_reject_2 ++ []
def dkwX3_reject_1 : List UInt8 := [172, 42, 180, 0, 13, 27, 7, 184, 0, 45, 20, 0, 188, 80, 42, 16, 7, 27, 42, 27, 182, 0, 146]
abbrev dktX3_reject_1 : List UInt8 := dkwX3_reject_1 ++ dktX3_reject_2
def dkwX3_reject_0 : List UInt8 := [42, 182, 0, 74, 42, 27, 182, 0, 175, 154, 0, 5, 2, 172, 42, 27, 182, 0, 178, 154, 0, 6, 16, 252]
abbrev dktX3_reject_0 : List UInt8 := dkwX3_reject_0 ++ dktX3_reject_1
theorem dksX3_reject_0 : cX3_reject.data.toList.drop 0 = dktX3_reject_0 := by decide +kernel
theorem dksX3_reject_1 : cX3_reject.data.toList.drop 24 = dktX3_reject_1 := dk_seg dksX3_reject_0 24 rfl rfl
theorem dksX3_reject_2 : cX3_reject.data.toList.drop 47 = dktX3_reject_2 := dk_seg dksX3_reject_1 23 rfl rfl
theorem dX3_reject_0 : decode cX3_reject 0 = .ok (.aload_n 0, 1) := dk_42 (dk_at dksX3_reject_0 0 rfl rfl)
theorem dX3_reject_1 : decode cX3_reject 1 = .ok (.invokevirtual 74, 3) := dk_182 0 74 (dk_at dksX3_reject_0 1 rfl rfl)
theorem dX3_reject_4 : decode cX3_reject 4 = .ok (.aload_n 0, 1) := dk_42 (dk_at dksX3_reject_0 4 rfl rfl)
theorem dX3_reject_5 : decode cX3_reject 5 = .ok (.iload_n 1, 1) := dk_27 (dk_at dksX3_reject_0 5 rfl rfl)
theorem dX3_reject_6 : decode cX3_reject 6 = .ok (.invokevirtual 175, 3) := dk_182 0 175 (dk_at dksX3_reject_0 6 rfl rfl)
theorem dX3_reject_9 : decode cX3_reject 9 = .ok (.ifCond .ne 5, 3) := dk_154 0 5 (dk_at dksX3_reject_0 9 rfl rfl)
theorem dX3_reject_12 : decode cX3_reject 12 = .ok (.iconst (-1), 1) := dk_2 (dk_at dksX3_reject_0 12 rfl rfl)
theorem dX3_reject_13 : decode cX3_reject 13 = .ok (.ireturn, 1) := dk_172 (dk_at dksX3_reject_0 13 rfl rfl)
theorem dX3_reject_14 : decode cX3_reject 14 = .ok (.aload_n 0, 1) := dk_42 (dk_at dksX3_reject_0 14 rfl rfl)
theorem dX3_reject_15 : decode cX3_reject 15 = .ok (.iload_n 1, 1) := dk_27 (dk_at dksX3_reject_0 15 rfl rfl)
theorem dX3_reject_16 : decode cX3_reject 16 = .ok (.invokevirtual 178, 3) := dk_182 0 178 (dk_at dksX3_reject_0 16 rfl rfl)
theorem dX3_reject_19 : decode cX3_reject 19 = .ok (.ifCond .ne 6, 3) := dk_154 0 6 (dk_at dksX3_reject_0 19 rfl rfl)
theorem dX3_reject_22 : decode cX3_reject 22 = .ok (.bipush (-4), 2) := dk_16 252 (dk_at dksX3_reject_0 22 rfl rfl)
theorem dX3_reject_24 : decode cX3_reject 24 = .ok (.ireturn, 1) := dk_172 (dk_at dksX3_reject_1 0 rfl rfl)
theorem dX3_reject_25 : decode cX3_reject 25 = .ok (.aload_n 0, 1) := dk_42 (dk_at dksX3_reject_1 1 rfl rfl)
theorem dX3_reject_26 : decode cX3_reject 26 = .ok (.getfield 13, 3) := dk_180 0 13 (dk_at dksX3_reject_1 2 rfl rfl)
theorem dX3_reject_29 : decode cX3_reject 29 = .ok (.iload_n 1, 1) := dk_27 (dk_at dksX3_reject_1 5 rfl rfl)
theorem dX3_reject_30 : decode cX3_reject 30 = .ok (.iconst 4, 1) := dk_7 (dk_at dksX3_reject_1 6 rfl rfl)
theorem dX3_reject_31 : decode cX3_reject 31 = .ok (.invokestatic 45, 3) := dk_184 0 45 (dk_at dksX3_reject_1 7 rfl rfl)
theorem dX3_reject_34 : decode cX3_reject 34 = .ok (.ldc2_w 188, 3) := dk_20 0 188 (dk_at dksX3_reject_1 10 rfl rfl)
theorem dX3_reject_37 : decode cX3_reject 37 = .ok (.lastore, 1) := dk_80 (dk_at dksX3_reject_1 13 rfl rfl)
theorem dX3_reject_38 : decode cX3_reject 38 = .ok (.aload_n 0, 1) := dk_42 (dk_at dksX3_reject_1 14 rfl rfl)
theorem dX3_reject_39 : decode cX3_reject 39 = .ok (.bipush 7, 2) := dk_16 7 (dk_at dksX3_reject_1 15 rfl rfl)
theorem dX3_reject_41 : decode cX3_reject 41 = .ok (.iload_n 1, 1) := dk_27 (dk_at dksX3_reject_1 17 rfl rfl)
theorem dX3_reject_42 : decode cX3_reject 42 = .ok (.aload_n 0, 1) := dk_42 (dk_at dksX3_reject_1 18 rfl rfl)
theorem dX3_reject_43 : decode cX3_reject 43 = .ok (.iload_n 1, 1) := dk_27 (dk_at dksX3_reject_1 19 rfl rfl)
theorem dX3_reject_44 : decode cX3_reject 44 = .ok (.invokevirtual 146, 3) := dk_182 0 146 (dk_at dksX3_reject_1 20 rfl rfl)
theorem dX3_reject_47 : decode cX3_reject 47 = .ok (.invokevirtual 131, 3) := dk_182 0 131 (dk_at dksX3_reject_2 0 rfl rfl)
theorem dX3_reject_50 : decode cX3_reject 50 = .ok (.aload_n 0, 1) := dk_42 (dk_at dksX3_reject_2 3 rfl rfl)
theorem dX3_reject_51 : decode cX3_reject 51 = .ok (.aload_n 0, 1) := dk_42 (dk_at dksX3_reject_2 4 rfl rfl)
theorem dX3_reject_52 : decode cX3_reject 52 = .ok (.iload_n 1, 1) := dk_27 (dk_at dksX3_reject_2 5 rfl rfl)
theorem dX3_reject_53 : decode cX3_reject 53 = .ok (.invokevirtual 146, 3) := dk_182 0 146 (dk_at dksX3_reject_2 6 rfl rfl)
theorem dX3_reject_56 : decode cX3_reject 56 = .ok (.invokevirtual 84, 3) := dk_182 0 84 (dk_at dksX3_reject_2 9 rfl rfl)
theorem dX3_reject_59 : decode cX3_reject 59 = .ok (.ireturn, 1) := dk_172 (dk_at dksX3_reject_2 12 rfl rfl)
abbrev cX3_pay : ByteArray := prog_14_method_58_code
def yX3_pay : MethodName := ⟨RX3, "pay", "(I)I"⟩
def dkwX3_pay_1 : List UInt8 := [27, 182, 0, 195, 182, 0, 84, 167, 0, 5, 16, 252, 172]
abbrev dktX3_pay_1 : List UInt8 := dkwX3_pay_1 ++ []
def dkwX3_pay_0 : List UInt8 := [42, 182, 0, 74, 42, 27, 182, 0, 175, 154, 0, 5, 2, 172, 42, 27, 182, 0, 192, 153, 0, 15, 42, 42]
abbrev dktX3_pay_0 : List UInt8 := dkwX3_pay_0 ++ dktX3_pay_1
theorem dksX3_pay_0 : cX3_pay.data.toList.drop 0 = dktX3_pay_0 := by decide +kernel
theorem dksX3_pay_1 : cX3_pay.data.toList.drop 24 = dktX3_pay_1 := dk_seg dksX3_pay_0 24 rfl rfl
theorem dX3_pay_0 : decode cX3_pay 0 = .ok (.aload_n 0, 1) := dk_42 (dk_at dksX3_pay_0 0 rfl rfl)
theorem dX3_pay_1 : decode cX3_pay 1 = .ok (.invokevirtual 74, 3) := dk_182 0 74 (dk_at dksX3_pay_0 1 rfl rfl)
theorem dX3_pay_4 : decode cX3_pay 4 = .ok (.aload_n 0, 1) := dk_42 (dk_at dksX3_pay_0 4 rfl rfl)
theorem dX3_pay_5 : decode cX3_pay 5 = .ok (.iload_n 1, 1) := dk_27 (dk_at dksX3_pay_0 5 rfl rfl)
theorem dX3_pay_6 : decode cX3_pay 6 = .ok (.invokevirtual 175, 3) := dk_182 0 175 (dk_at dksX3_pay_0 6 rfl rfl)
theorem dX3_pay_9 : decode cX3_pay 9 = .ok (.ifCond .ne 5, 3) := dk_154 0 5 (dk_at dksX3_pay_0 9 rfl rfl)
theorem dX3_pay_12 : decode cX3_pay 12 = .ok (.iconst (-1), 1) := dk_2 (dk_at dksX3_pay_0 12 rfl rfl)
theorem dX3_pay_13 : decode cX3_pay 13 = .ok (.ireturn, 1) := dk_172 (dk_at dksX3_pay_0 13 rfl rfl)
theorem dX3_pay_14 : decode cX3_pay 14 = .ok (.aload_n 0, 1) := dk_42 (dk_at dksX3_pay_0 14 rfl rfl)
theorem dX3_pay_15 : decode cX3_pay 15 = .ok (.iload_n 1, 1) := dk_27 (dk_at dksX3_pay_0 15 rfl rfl)
theorem dX3_pay_16 : decode cX3_pay 16 = .ok (.invokevirtual 192, 3) := dk_182 0 192 (dk_at dksX3_pay_0 16 rfl rfl)
theorem dX3_pay_19 : decode cX3_pay 19 = .ok (.ifCond .eq 15, 3) := dk_153 0 15 (dk_at dksX3_pay_0 19 rfl rfl)
theorem dX3_pay_22 : decode cX3_pay 22 = .ok (.aload_n 0, 1) := dk_42 (dk_at dksX3_pay_0 22 rfl rfl)
theorem dX3_pay_23 : decode cX3_pay 23 = .ok (.aload_n 0, 1) := dk_42 (dk_at dksX3_pay_0 23 rfl rfl)
theorem dX3_pay_24 : decode cX3_pay 24 = .ok (.iload_n 1, 1) := dk_27 (dk_at dksX3_pay_1 0 rfl rfl)
theorem dX3_pay_25 : decode cX3_pay 25 = .ok (.invokevirtual 195, 3) := dk_182 0 195 (dk_at dksX3_pay_1 1 rfl rfl)
theorem dX3_pay_28 : decode cX3_pay 28 = .ok (.invokevirtual 84, 3) := dk_182 0 84 (dk_at dksX3_pay_1 4 rfl rfl)
theorem dX3_pay_31 : decode cX3_pay 31 = .ok (.goto 5, 3) := dk_167 0 5 (dk_at dksX3_pay_1 7 rfl rfl)
theorem dX3_pay_34 : decode cX3_pay 34 = .ok (.bipush (-4), 2) := dk_16 252 (dk_at dksX3_pay_1 10 rfl rfl)
theorem dX3_pay_36 : decode cX3_pay 36 = .ok (.ireturn, 1) := dk_172 (dk_at dksX3_pay_1 12 rfl rfl)
abbrev cX3_canBePaid : ByteArray := prog_14_method_57_code
def yX3_canBePaid : MethodName := ⟨RX3, "canBePaid", "(I)Z"⟩
def dkwX3_canBePaid_1 : List UInt8 := [154, 0, 7, 4, 167, 0, 4, 3, 172]
abbrev dktX3_canBePaid_1 : List UInt8 := dkwX3_canBePaid_1 ++ []
def dkwX3_canBePaid_0 : List UInt8 := [42, 27, 7, 184, 0, 45, 182, 0, 49, 4, 160, 0, 19, 42, 42, 27, 182, 0, 101, 182, 0, 98]
abbrev dktX3_canBePaid_0 : List UInt8 := dkwX3_canBePaid_0 ++ dktX3_canBePaid_1
theorem dksX3_canBePaid_0 : cX3_canBePaid.data.toList.drop 0 = dktX3_canBePaid_0 := by decide +kernel
theorem dksX3_canBePaid_1 : cX3_canBePaid.data.toList.drop 22 = dktX3_canBePaid_1 := dk_seg dksX3_canBePaid_0 22 rfl rfl
theorem dX3_canBePaid_0 : decode cX3_canBePaid 0 = .ok (.aload_n 0, 1) := dk_42 (dk_at dksX3_canBePaid_0 0 rfl rfl)
theorem dX3_canBePaid_1 : decode cX3_canBePaid 1 = .ok (.iload_n 1, 1) := dk_27 (dk_at dksX3_canBePaid_0 1 rfl rfl)
theorem dX3_canBePaid_2 : decode cX3_canBePaid 2 = .ok (.iconst 4, 1) := dk_7 (dk_at dksX3_canBePaid_0 2 rfl rfl)
theorem dX3_canBePaid_3 : decode cX3_canBePaid 3 = .ok (.invokestatic 45, 3) := dk_184 0 45 (dk_at dksX3_canBePaid_0 3 rfl rfl)
theorem dX3_canBePaid_6 : decode cX3_canBePaid 6 = .ok (.invokevirtual 49, 3) := dk_182 0 49 (dk_at dksX3_canBePaid_0 6 rfl rfl)
theorem dX3_canBePaid_9 : decode cX3_canBePaid 9 = .ok (.iconst 1, 1) := dk_4 (dk_at dksX3_canBePaid_0 9 rfl rfl)
theorem dX3_canBePaid_10 : decode cX3_canBePaid 10 = .ok (.if_icmp .ne 19, 3) := dk_160 0 19 (dk_at dksX3_canBePaid_0 10 rfl rfl)
theorem dX3_canBePaid_13 : decode cX3_canBePaid 13 = .ok (.aload_n 0, 1) := dk_42 (dk_at dksX3_canBePaid_0 13 rfl rfl)
theorem dX3_canBePaid_14 : decode cX3_canBePaid 14 = .ok (.aload_n 0, 1) := dk_42 (dk_at dksX3_canBePaid_0 14 rfl rfl)
theorem dX3_canBePaid_15 : decode cX3_canBePaid 15 = .ok (.iload_n 1, 1) := dk_27 (dk_at dksX3_canBePaid_0 15 rfl rfl)
theorem dX3_canBePaid_16 : decode cX3_canBePaid 16 = .ok (.invokevirtual 101, 3) := dk_182 0 101 (dk_at dksX3_canBePaid_0 16 rfl rfl)
theorem dX3_canBePaid_19 : decode cX3_canBePaid 19 = .ok (.invokevirtual 98, 3) := dk_182 0 98 (dk_at dksX3_canBePaid_0 19 rfl rfl)
theorem dX3_canBePaid_22 : decode cX3_canBePaid 22 = .ok (.ifCond .ne 7, 3) := dk_154 0 7 (dk_at dksX3_canBePaid_1 0 rfl rfl)
theorem dX3_canBePaid_25 : decode cX3_canBePaid 25 = .ok (.iconst 1, 1) := dk_4 (dk_at dksX3_canBePaid_1 3 rfl rfl)
theorem dX3_canBePaid_26 : decode cX3_canBePaid 26 = .ok (.goto 4, 3) := dk_167 0 4 (dk_at dksX3_canBePaid_1 4 rfl rfl)
theorem dX3_canBePaid_29 : decode cX3_canBePaid 29 = .ok (.iconst 0, 1) := dk_3 (dk_at dksX3_canBePaid_1 7 rfl rfl)
theorem dX3_canBePaid_30 : decode cX3_canBePaid 30 = .ok (.ireturn, 1) := dk_172 (dk_at dksX3_canBePaid_1 8 rfl rfl)
abbrev cX3_pays : ByteArray := prog_14_method_56_code
def yX3_pays : MethodName := ⟨RX3, "pays", "(I)I"⟩
def dkwX3_pays_12 : List UInt8 := [16, 6, 27, 21, 6, 21, 7, 100, 182, 0, 131, 21, 6, 21, 7, 100, 172]
abbrev dktX3_pays_12 : List UInt8 := dkwX3_pays_12 ++ []
def dkwX3_pays_11 : List UInt8 := [133, 97, 80, 42, 28, 42, 27, 21, 8, 3, 182, 0, 141, 182, 0, 138, 87, 132, 8, 1, 167, 255, 194, 42]
abbrev dktX3_pays_11 : List UInt8 := dkwX3_pays_11 ++ dktX3_pays_12
def dkwX3_pays_10 : List UInt8 := [28, 42, 27, 21, 8, 3, 182, 0, 141, 16, 6, 184, 0, 109, 92, 47, 42, 27, 21, 8, 4, 182, 0, 141]
abbrev dktX3_pays_10 : List UInt8 := dkwX3_pays_10 ++ dktX3_pays_11
def dkwX3_pays_9 : List UInt8 := [133, 97, 80, 3, 54, 8, 21, 8, 42, 27, 6, 184, 0, 45, 182, 0, 49, 162, 0, 54, 42, 180, 0, 13]
abbrev dktX3_pays_9 : List UInt8 := dkwX3_pays_9 ++ dktX3_pays_10
def dkwX3_pays_8 : List UInt8 := [92, 47, 21, 6, 21, 7, 100, 133, 97, 80, 42, 180, 0, 13, 29, 16, 7, 184, 0, 77, 92, 47, 21, 5]
abbrev dktX3_pays_8 : List UInt8 := dkwX3_pays_8 ++ dktX3_pays_9
def dkwX3_pays_7 : List UInt8 := [180, 0, 13, 29, 6, 184, 0, 77, 92, 47, 21, 7, 133, 101, 80, 42, 180, 0, 13, 29, 8, 184, 0, 77]
abbrev dktX3_pays_7 : List UInt8 := dkwX3_pays_7 ++ dktX3_pays_8
def dkwX3_pays_6 : List UInt8 := [184, 0, 45, 21, 5, 133, 80, 42, 180, 0, 13, 27, 16, 9, 184, 0, 45, 21, 7, 133, 80, 42]
abbrev dktX3_pays_6 : List UInt8 := dkwX3_pays_6 ++ dktX3_pays_7
def dkwX3_pays_5 : List UInt8 := [180, 0, 13, 27, 16, 7, 184, 0, 45, 21, 6, 21, 7, 100, 133, 80, 42, 180, 0, 13, 27, 16, 8]
abbrev dktX3_pays_5 : List UInt8 := dkwX3_pays_5 ++ dktX3_pays_6
def dkwX3_pays_4 : List UInt8 := [182, 0, 49, 167, 0, 5, 21, 6, 54, 7, 42, 180, 0, 13, 27, 7, 184, 0, 45, 20, 0, 190, 80, 42]
abbrev dktX3_pays_4 : List UInt8 := dkwX3_pays_4 ++ dktX3_pays_5
def dkwX3_pays_3 : List UInt8 := [54, 6, 42, 29, 6, 184, 0, 77, 182, 0, 49, 21, 6, 162, 0, 15, 42, 29, 6, 184, 0, 77]
abbrev dktX3_pays_3 : List UInt8 := dkwX3_pays_3 ++ dktX3_pays_4
def dkwX3_pays_2 : List UInt8 := [135, 42, 7, 182, 0, 119, 107, 20, 0, 123, 111, 142, 167, 0, 4, 3, 54, 5, 21, 4, 21, 5, 100]
abbrev dktX3_pays_2 : List UInt8 := dkwX3_pays_2 ++ dktX3_pays_3
def dkwX3_pays_1 : List UInt8 := [3, 182, 0, 49, 42, 27, 5, 184, 0, 45, 182, 0, 49, 42, 8, 182, 0, 49, 96, 163, 0, 20, 21, 4]
abbrev dktX3_pays_1 : List UInt8 := dkwX3_pays_1 ++ dktX3_pays_2
def dkwX3_pays_0 : List UInt8 := [42, 27, 4, 184, 0, 45, 182, 0, 49, 61, 42, 28, 182, 0, 64, 62, 42, 27, 182, 0, 146, 54, 4, 42]
abbrev dktX3_pays_0 : List UInt8 := dkwX3_pays_0 ++ dktX3_pays_1
theorem dksX3_pays_0 : cX3_pays.data.toList.drop 0 = dktX3_pays_0 := by decide +kernel
theorem dksX3_pays_1 : cX3_pays.data.toList.drop 24 = dktX3_pays_1 := dk_seg dksX3_pays_0 24 rfl rfl
theorem dksX3_pays_2 : cX3_pays.data.toList.drop 48 = dktX3_pays_2 := dk_seg dksX3_pays_1 24 rfl rfl
theorem dksX3_pays_3 : cX3_pays.data.toList.drop 71 = dktX3_pays_3 := dk_seg dksX3_pays_2 23 rfl rfl
theorem dksX3_pays_4 : cX3_pays.data.toList.drop 93 = dktX3_pays_4 := dk_seg dksX3_pays_3 22 rfl rfl
theorem dksX3_pays_5 : cX3_pays.data.toList.drop 117 = dktX3_pays_5 := dk_seg dksX3_pays_4 24 rfl rfl
theorem dksX3_pays_6 : cX3_pays.data.toList.drop 140 = dktX3_pays_6 := dk_seg dksX3_pays_5 23 rfl rfl
theorem dksX3_pays_7 : cX3_pays.data.toList.drop 162 = dktX3_pays_7 := dk_seg dksX3_pays_6 22 rfl rfl
theorem dksX3_pays_8 : cX3_pays.data.toList.drop 186 = dktX3_pays_8 := dk_seg dksX3_pays_7 24 rfl rfl
theorem dksX3_pays_9 : cX3_pays.data.toList.drop 210 = dktX3_pays_9 := dk_seg dksX3_pays_8 24 rfl rfl
theorem dksX3_pays_10 : cX3_pays.data.toList.drop 234 = dktX3_pays_10 := dk_seg dksX3_pays_9 24 rfl rfl
theorem dksX3_pays_11 : cX3_pays.data.toList.drop 258 = dktX3_pays_11 := dk_seg dksX3_pays_10 24 rfl rfl
theorem dksX3_pays_12 : cX3_pays.data.toList.drop 282 = dktX3_pays_12 := dk_seg dksX3_pays_11 24 rfl rfl
theorem dX3_pays_0 : decode cX3_pays 0 = .ok (.aload_n 0, 1) := dk_42 (dk_at dksX3_pays_0 0 rfl rfl)
theorem dX3_pays_1 : decode cX3_pays 1 = .ok (.iload_n 1, 1) := dk_27 (dk_at dksX3_pays_0 1 rfl rfl)
theorem dX3_pays_2 : decode cX3_pays 2 = .ok (.iconst 1, 1) := dk_4 (dk_at dksX3_pays_0 2 rfl rfl)
theorem dX3_pays_3 : decode cX3_pays 3 = .ok (.invokestatic 45, 3) := dk_184 0 45 (dk_at dksX3_pays_0 3 rfl rfl)
theorem dX3_pays_6 : decode cX3_pays 6 = .ok (.invokevirtual 49, 3) := dk_182 0 49 (dk_at dksX3_pays_0 6 rfl rfl)
theorem dX3_pays_9 : decode cX3_pays 9 = .ok (.istore_n 2, 1) := dk_61 (dk_at dksX3_pays_0 9 rfl rfl)
theorem dX3_pays_10 : decode cX3_pays 10 = .ok (.aload_n 0, 1) := dk_42 (dk_at dksX3_pays_0 10 rfl rfl)
theorem dX3_pays_11 : decode cX3_pays 11 = .ok (.iload_n 2, 1) := dk_28 (dk_at dksX3_pays_0 11 rfl rfl)
theorem dX3_pays_12 : decode cX3_pays 12 = .ok (.invokevirtual 64, 3) := dk_182 0 64 (dk_at dksX3_pays_0 12 rfl rfl)
theorem dX3_pays_15 : decode cX3_pays 15 = .ok (.istore_n 3, 1) := dk_62 (dk_at dksX3_pays_0 15 rfl rfl)
theorem dX3_pays_16 : decode cX3_pays 16 = .ok (.aload_n 0, 1) := dk_42 (dk_at dksX3_pays_0 16 rfl rfl)
theorem dX3_pays_17 : decode cX3_pays 17 = .ok (.iload_n 1, 1) := dk_27 (dk_at dksX3_pays_0 17 rfl rfl)
theorem dX3_pays_18 : decode cX3_pays 18 = .ok (.invokevirtual 146, 3) := dk_182 0 146 (dk_at dksX3_pays_0 18 rfl rfl)
theorem dX3_pays_21 : decode cX3_pays 21 = .ok (.istore 4, 2) := dk_54 4 (dk_at dksX3_pays_0 21 rfl rfl)
theorem dX3_pays_23 : decode cX3_pays 23 = .ok (.aload_n 0, 1) := dk_42 (dk_at dksX3_pays_0 23 rfl rfl)
theorem dX3_pays_24 : decode cX3_pays 24 = .ok (.iconst 0, 1) := dk_3 (dk_at dksX3_pays_1 0 rfl rfl)
theorem dX3_pays_25 : decode cX3_pays 25 = .ok (.invokevirtual 49, 3) := dk_182 0 49 (dk_at dksX3_pays_1 1 rfl rfl)
theorem dX3_pays_28 : decode cX3_pays 28 = .ok (.aload_n 0, 1) := dk_42 (dk_at dksX3_pays_1 4 rfl rfl)
theorem dX3_pays_29 : decode cX3_pays 29 = .ok (.iload_n 1, 1) := dk_27 (dk_at dksX3_pays_1 5 rfl rfl)
theorem dX3_pays_30 : decode cX3_pays 30 = .ok (.iconst 2, 1) := dk_5 (dk_at dksX3_pays_1 6 rfl rfl)
theorem dX3_pays_31 : decode cX3_pays 31 = .ok (.invokestatic 45, 3) := dk_184 0 45 (dk_at dksX3_pays_1 7 rfl rfl)
theorem dX3_pays_34 : decode cX3_pays 34 = .ok (.invokevirtual 49, 3) := dk_182 0 49 (dk_at dksX3_pays_1 10 rfl rfl)
theorem dX3_pays_37 : decode cX3_pays 37 = .ok (.aload_n 0, 1) := dk_42 (dk_at dksX3_pays_1 13 rfl rfl)
theorem dX3_pays_38 : decode cX3_pays 38 = .ok (.iconst 5, 1) := dk_8 (dk_at dksX3_pays_1 14 rfl rfl)
theorem dX3_pays_39 : decode cX3_pays 39 = .ok (.invokevirtual 49, 3) := dk_182 0 49 (dk_at dksX3_pays_1 15 rfl rfl)
theorem dX3_pays_42 : decode cX3_pays 42 = .ok (.iadd, 1) := dk_96 (dk_at dksX3_pays_1 18 rfl rfl)
theorem dX3_pays_43 : decode cX3_pays 43 = .ok (.if_icmp .gt 20, 3) := dk_163 0 20 (dk_at dksX3_pays_1 19 rfl rfl)
theorem dX3_pays_46 : decode cX3_pays 46 = .ok (.iload 4, 2) := dk_21 4 (dk_at dksX3_pays_1 22 rfl rfl)
theorem dX3_pays_48 : decode cX3_pays 48 = .ok (.i2d, 1) := dk_135 (dk_at dksX3_pays_2 0 rfl rfl)
theorem dX3_pays_49 : decode cX3_pays 49 = .ok (.aload_n 0, 1) := dk_42 (dk_at dksX3_pays_2 1 rfl rfl)
theorem dX3_pays_50 : decode cX3_pays 50 = .ok (.iconst 4, 1) := dk_7 (dk_at dksX3_pays_2 2 rfl rfl)
theorem dX3_pays_51 : decode cX3_pays 51 = .ok (.invokevirtual 119, 3) := dk_182 0 119 (dk_at dksX3_pays_2 3 rfl rfl)
theorem dX3_pays_54 : decode cX3_pays 54 = .ok (.dmul, 1) := dk_107 (dk_at dksX3_pays_2 6 rfl rfl)
theorem dX3_pays_55 : decode cX3_pays 55 = .ok (.ldc2_w 123, 3) := dk_20 0 123 (dk_at dksX3_pays_2 7 rfl rfl)
theorem dX3_pays_58 : decode cX3_pays 58 = .ok (.ddiv, 1) := dk_111 (dk_at dksX3_pays_2 10 rfl rfl)
theorem dX3_pays_59 : decode cX3_pays 59 = .ok (.d2i, 1) := dk_142 (dk_at dksX3_pays_2 11 rfl rfl)
theorem dX3_pays_60 : decode cX3_pays 60 = .ok (.goto 4, 3) := dk_167 0 4 (dk_at dksX3_pays_2 12 rfl rfl)
theorem dX3_pays_63 : decode cX3_pays 63 = .ok (.iconst 0, 1) := dk_3 (dk_at dksX3_pays_2 15 rfl rfl)
theorem dX3_pays_64 : decode cX3_pays 64 = .ok (.istore 5, 2) := dk_54 5 (dk_at dksX3_pays_2 16 rfl rfl)
theorem dX3_pays_66 : decode cX3_pays 66 = .ok (.iload 4, 2) := dk_21 4 (dk_at dksX3_pays_2 18 rfl rfl)
theorem dX3_pays_68 : decode cX3_pays 68 = .ok (.iload 5, 2) := dk_21 5 (dk_at dksX3_pays_2 20 rfl rfl)
theorem dX3_pays_70 : decode cX3_pays 70 = .ok (.isub, 1) := dk_100 (dk_at dksX3_pays_2 22 rfl rfl)
theorem dX3_pays_71 : decode cX3_pays 71 = .ok (.istore 6, 2) := dk_54 6 (dk_at dksX3_pays_3 0 rfl rfl)
theorem dX3_pays_73 : decode cX3_pays 73 = .ok (.aload_n 0, 1) := dk_42 (dk_at dksX3_pays_3 2 rfl rfl)
theorem dX3_pays_74 : decode cX3_pays 74 = .ok (.iload_n 3, 1) := dk_29 (dk_at dksX3_pays_3 3 rfl rfl)
theorem dX3_pays_75 : decode cX3_pays 75 = .ok (.iconst 3, 1) := dk_6 (dk_at dksX3_pays_3 4 rfl rfl)
theorem dX3_pays_76 : decode cX3_pays 76 = .ok (.invokestatic 77, 3) := dk_184 0 77 (dk_at dksX3_pays_3 5 rfl rfl)
theorem dX3_pays_79 : decode cX3_pays 79 = .ok (.invokevirtual 49, 3) := dk_182 0 49 (dk_at dksX3_pays_3 8 rfl rfl)
theorem dX3_pays_82 : decode cX3_pays 82 = .ok (.iload 6, 2) := dk_21 6 (dk_at dksX3_pays_3 11 rfl rfl)
theorem dX3_pays_84 : decode cX3_pays 84 = .ok (.if_icmp .ge 15, 3) := dk_162 0 15 (dk_at dksX3_pays_3 13 rfl rfl)
theorem dX3_pays_87 : decode cX3_pays 87 = .ok (.aload_n 0, 1) := dk_42 (dk_at dksX3_pays_3 16 rfl rfl)
theorem dX3_pays_88 : decode cX3_pays 88 = .ok (.iload_n 3, 1) := dk_29 (dk_at dksX3_pays_3 17 rfl rfl)
theorem dX3_pays_89 : decode cX3_pays 89 = .ok (.iconst 3, 1) := dk_6 (dk_at dksX3_pays_3 18 rfl rfl)
theorem dX3_pays_90 : decode cX3_pays 90 = .ok (.invokestatic 77, 3) := dk_184 0 77 (dk_at dksX3_pays_3 19 rfl rfl)
theorem dX3_pays_93 : decode cX3_pays 93 = .ok (.invokevirtual 49, 3) := dk_182 0 49 (dk_at dksX3_pays_4 0 rfl rfl)
theorem dX3_pays_96 : decode cX3_pays 96 = .ok (.goto 5, 3) := dk_167 0 5 (dk_at dksX3_pays_4 3 rfl rfl)
theorem dX3_pays_99 : decode cX3_pays 99 = .ok (.iload 6, 2) := dk_21 6 (dk_at dksX3_pays_4 6 rfl rfl)
theorem dX3_pays_101 : decode cX3_pays 101 = .ok (.istore 7, 2) := dk_54 7 (dk_at dksX3_pays_4 8 rfl rfl)
theorem dX3_pays_103 : decode cX3_pays 103 = .ok (.aload_n 0, 1) := dk_42 (dk_at dksX3_pays_4 10 rfl rfl)
theorem dX3_pays_104 : decode cX3_pays 104 = .ok (.getfield 13, 3) := dk_180 0 13 (dk_at dksX3_pays_4 11 rfl rfl)
theorem dX3_pays_107 : decode cX3_pays 107 = .ok (.iload_n 1, 1) := dk_27 (dk_at dksX3_pays_4 14 rfl rfl)
theorem dX3_pays_108 : decode cX3_pays 108 = .ok (.iconst 4, 1) := dk_7 (dk_at dksX3_pays_4 15 rfl rfl)
theorem dX3_pays_109 : decode cX3_pays 109 = .ok (.invokestatic 45, 3) := dk_184 0 45 (dk_at dksX3_pays_4 16 rfl rfl)
theorem dX3_pays_112 : decode cX3_pays 112 = .ok (.ldc2_w 190, 3) := dk_20 0 190 (dk_at dksX3_pays_4 19 rfl rfl)
theorem dX3_pays_115 : decode cX3_pays 115 = .ok (.lastore, 1) := dk_80 (dk_at dksX3_pays_4 22 rfl rfl)
theorem dX3_pays_116 : decode cX3_pays 116 = .ok (.aload_n 0, 1) := dk_42 (dk_at dksX3_pays_4 23 rfl rfl)
theorem dX3_pays_117 : decode cX3_pays 117 = .ok (.getfield 13, 3) := dk_180 0 13 (dk_at dksX3_pays_5 0 rfl rfl)
theorem dX3_pays_120 : decode cX3_pays 120 = .ok (.iload_n 1, 1) := dk_27 (dk_at dksX3_pays_5 3 rfl rfl)
theorem dX3_pays_121 : decode cX3_pays 121 = .ok (.bipush 7, 2) := dk_16 7 (dk_at dksX3_pays_5 4 rfl rfl)
theorem dX3_pays_123 : decode cX3_pays 123 = .ok (.invokestatic 45, 3) := dk_184 0 45 (dk_at dksX3_pays_5 6 rfl rfl)
theorem dX3_pays_126 : decode cX3_pays 126 = .ok (.iload 6, 2) := dk_21 6 (dk_at dksX3_pays_5 9 rfl rfl)
theorem dX3_pays_128 : decode cX3_pays 128 = .ok (.iload 7, 2) := dk_21 7 (dk_at dksX3_pays_5 11 rfl rfl)
theorem dX3_pays_130 : decode cX3_pays 130 = .ok (.isub, 1) := dk_100 (dk_at dksX3_pays_5 13 rfl rfl)
theorem dX3_pays_131 : decode cX3_pays 131 = .ok (.i2l, 1) := dk_133 (dk_at dksX3_pays_5 14 rfl rfl)
theorem dX3_pays_132 : decode cX3_pays 132 = .ok (.lastore, 1) := dk_80 (dk_at dksX3_pays_5 15 rfl rfl)
theorem dX3_pays_133 : decode cX3_pays 133 = .ok (.aload_n 0, 1) := dk_42 (dk_at dksX3_pays_5 16 rfl rfl)
theorem dX3_pays_134 : decode cX3_pays 134 = .ok (.getfield 13, 3) := dk_180 0 13 (dk_at dksX3_pays_5 17 rfl rfl)
theorem dX3_pays_137 : decode cX3_pays 137 = .ok (.iload_n 1, 1) := dk_27 (dk_at dksX3_pays_5 20 rfl rfl)
theorem dX3_pays_138 : decode cX3_pays 138 = .ok (.bipush 8, 2) := dk_16 8 (dk_at dksX3_pays_5 21 rfl rfl)
theorem dX3_pays_140 : decode cX3_pays 140 = .ok (.invokestatic 45, 3) := dk_184 0 45 (dk_at dksX3_pays_6 0 rfl rfl)
theorem dX3_pays_143 : decode cX3_pays 143 = .ok (.iload 5, 2) := dk_21 5 (dk_at dksX3_pays_6 3 rfl rfl)
theorem dX3_pays_145 : decode cX3_pays 145 = .ok (.i2l, 1) := dk_133 (dk_at dksX3_pays_6 5 rfl rfl)
theorem dX3_pays_146 : decode cX3_pays 146 = .ok (.lastore, 1) := dk_80 (dk_at dksX3_pays_6 6 rfl rfl)
theorem dX3_pays_147 : decode cX3_pays 147 = .ok (.aload_n 0, 1) := dk_42 (dk_at dksX3_pays_6 7 rfl rfl)
theorem dX3_pays_148 : decode cX3_pays 148 = .ok (.getfield 13, 3) := dk_180 0 13 (dk_at dksX3_pays_6 8 rfl rfl)
theorem dX3_pays_151 : decode cX3_pays 151 = .ok (.iload_n 1, 1) := dk_27 (dk_at dksX3_pays_6 11 rfl rfl)
theorem dX3_pays_152 : decode cX3_pays 152 = .ok (.bipush 9, 2) := dk_16 9 (dk_at dksX3_pays_6 12 rfl rfl)
theorem dX3_pays_154 : decode cX3_pays 154 = .ok (.invokestatic 45, 3) := dk_184 0 45 (dk_at dksX3_pays_6 14 rfl rfl)
theorem dX3_pays_157 : decode cX3_pays 157 = .ok (.iload 7, 2) := dk_21 7 (dk_at dksX3_pays_6 17 rfl rfl)
theorem dX3_pays_159 : decode cX3_pays 159 = .ok (.i2l, 1) := dk_133 (dk_at dksX3_pays_6 19 rfl rfl)
theorem dX3_pays_160 : decode cX3_pays 160 = .ok (.lastore, 1) := dk_80 (dk_at dksX3_pays_6 20 rfl rfl)
theorem dX3_pays_161 : decode cX3_pays 161 = .ok (.aload_n 0, 1) := dk_42 (dk_at dksX3_pays_6 21 rfl rfl)
theorem dX3_pays_162 : decode cX3_pays 162 = .ok (.getfield 13, 3) := dk_180 0 13 (dk_at dksX3_pays_7 0 rfl rfl)
theorem dX3_pays_165 : decode cX3_pays 165 = .ok (.iload_n 3, 1) := dk_29 (dk_at dksX3_pays_7 3 rfl rfl)
theorem dX3_pays_166 : decode cX3_pays 166 = .ok (.iconst 3, 1) := dk_6 (dk_at dksX3_pays_7 4 rfl rfl)
theorem dX3_pays_167 : decode cX3_pays 167 = .ok (.invokestatic 77, 3) := dk_184 0 77 (dk_at dksX3_pays_7 5 rfl rfl)
theorem dX3_pays_170 : decode cX3_pays 170 = .ok (.dup2, 1) := dk_92 (dk_at dksX3_pays_7 8 rfl rfl)
theorem dX3_pays_171 : decode cX3_pays 171 = .ok (.laload, 1) := dk_47 (dk_at dksX3_pays_7 9 rfl rfl)
theorem dX3_pays_172 : decode cX3_pays 172 = .ok (.iload 7, 2) := dk_21 7 (dk_at dksX3_pays_7 10 rfl rfl)
theorem dX3_pays_174 : decode cX3_pays 174 = .ok (.i2l, 1) := dk_133 (dk_at dksX3_pays_7 12 rfl rfl)
theorem dX3_pays_175 : decode cX3_pays 175 = .ok (.lsub, 1) := dk_101 (dk_at dksX3_pays_7 13 rfl rfl)
theorem dX3_pays_176 : decode cX3_pays 176 = .ok (.lastore, 1) := dk_80 (dk_at dksX3_pays_7 14 rfl rfl)
theorem dX3_pays_177 : decode cX3_pays 177 = .ok (.aload_n 0, 1) := dk_42 (dk_at dksX3_pays_7 15 rfl rfl)
theorem dX3_pays_178 : decode cX3_pays 178 = .ok (.getfield 13, 3) := dk_180 0 13 (dk_at dksX3_pays_7 16 rfl rfl)
theorem dX3_pays_181 : decode cX3_pays 181 = .ok (.iload_n 3, 1) := dk_29 (dk_at dksX3_pays_7 19 rfl rfl)
theorem dX3_pays_182 : decode cX3_pays 182 = .ok (.iconst 5, 1) := dk_8 (dk_at dksX3_pays_7 20 rfl rfl)
theorem dX3_pays_183 : decode cX3_pays 183 = .ok (.invokestatic 77, 3) := dk_184 0 77 (dk_at dksX3_pays_7 21 rfl rfl)
theorem dX3_pays_186 : decode cX3_pays 186 = .ok (.dup2, 1) := dk_92 (dk_at dksX3_pays_8 0 rfl rfl)
theorem dX3_pays_187 : decode cX3_pays 187 = .ok (.laload, 1) := dk_47 (dk_at dksX3_pays_8 1 rfl rfl)
theorem dX3_pays_188 : decode cX3_pays 188 = .ok (.iload 6, 2) := dk_21 6 (dk_at dksX3_pays_8 2 rfl rfl)
theorem dX3_pays_190 : decode cX3_pays 190 = .ok (.iload 7, 2) := dk_21 7 (dk_at dksX3_pays_8 4 rfl rfl)
theorem dX3_pays_192 : decode cX3_pays 192 = .ok (.isub, 1) := dk_100 (dk_at dksX3_pays_8 6 rfl rfl)
theorem dX3_pays_193 : decode cX3_pays 193 = .ok (.i2l, 1) := dk_133 (dk_at dksX3_pays_8 7 rfl rfl)
theorem dX3_pays_194 : decode cX3_pays 194 = .ok (.ladd, 1) := dk_97 (dk_at dksX3_pays_8 8 rfl rfl)
theorem dX3_pays_195 : decode cX3_pays 195 = .ok (.lastore, 1) := dk_80 (dk_at dksX3_pays_8 9 rfl rfl)
theorem dX3_pays_196 : decode cX3_pays 196 = .ok (.aload_n 0, 1) := dk_42 (dk_at dksX3_pays_8 10 rfl rfl)
theorem dX3_pays_197 : decode cX3_pays 197 = .ok (.getfield 13, 3) := dk_180 0 13 (dk_at dksX3_pays_8 11 rfl rfl)
theorem dX3_pays_200 : decode cX3_pays 200 = .ok (.iload_n 3, 1) := dk_29 (dk_at dksX3_pays_8 14 rfl rfl)
theorem dX3_pays_201 : decode cX3_pays 201 = .ok (.bipush 7, 2) := dk_16 7 (dk_at dksX3_pays_8 15 rfl rfl)
theorem dX3_pays_203 : decode cX3_pays 203 = .ok (.invokestatic 77, 3) := dk_184 0 77 (dk_at dksX3_pays_8 17 rfl rfl)
theorem dX3_pays_206 : decode cX3_pays 206 = .ok (.dup2, 1) := dk_92 (dk_at dksX3_pays_8 20 rfl rfl)
theorem dX3_pays_207 : decode cX3_pays 207 = .ok (.laload, 1) := dk_47 (dk_at dksX3_pays_8 21 rfl rfl)
theorem dX3_pays_208 : decode cX3_pays 208 = .ok (.iload 5, 2) := dk_21 5 (dk_at dksX3_pays_8 22 rfl rfl)
theorem dX3_pays_210 : decode cX3_pays 210 = .ok (.i2l, 1) := dk_133 (dk_at dksX3_pays_9 0 rfl rfl)
theorem dX3_pays_211 : decode cX3_pays 211 = .ok (.ladd, 1) := dk_97 (dk_at dksX3_pays_9 1 rfl rfl)
theorem dX3_pays_212 : decode cX3_pays 212 = .ok (.lastore, 1) := dk_80 (dk_at dksX3_pays_9 2 rfl rfl)
theorem dX3_pays_213 : decode cX3_pays 213 = .ok (.iconst 0, 1) := dk_3 (dk_at dksX3_pays_9 3 rfl rfl)
theorem dX3_pays_214 : decode cX3_pays 214 = .ok (.istore 8, 2) := dk_54 8 (dk_at dksX3_pays_9 4 rfl rfl)
theorem dX3_pays_216 : decode cX3_pays 216 = .ok (.iload 8, 2) := dk_21 8 (dk_at dksX3_pays_9 6 rfl rfl)
theorem dX3_pays_218 : decode cX3_pays 218 = .ok (.aload_n 0, 1) := dk_42 (dk_at dksX3_pays_9 8 rfl rfl)
theorem dX3_pays_219 : decode cX3_pays 219 = .ok (.iload_n 1, 1) := dk_27 (dk_at dksX3_pays_9 9 rfl rfl)
theorem dX3_pays_220 : decode cX3_pays 220 = .ok (.iconst 3, 1) := dk_6 (dk_at dksX3_pays_9 10 rfl rfl)
theorem dX3_pays_221 : decode cX3_pays 221 = .ok (.invokestatic 45, 3) := dk_184 0 45 (dk_at dksX3_pays_9 11 rfl rfl)
theorem dX3_pays_224 : decode cX3_pays 224 = .ok (.invokevirtual 49, 3) := dk_182 0 49 (dk_at dksX3_pays_9 14 rfl rfl)
theorem dX3_pays_227 : decode cX3_pays 227 = .ok (.if_icmp .ge 54, 3) := dk_162 0 54 (dk_at dksX3_pays_9 17 rfl rfl)
theorem dX3_pays_230 : decode cX3_pays 230 = .ok (.aload_n 0, 1) := dk_42 (dk_at dksX3_pays_9 20 rfl rfl)
theorem dX3_pays_231 : decode cX3_pays 231 = .ok (.getfield 13, 3) := dk_180 0 13 (dk_at dksX3_pays_9 21 rfl rfl)
theorem dX3_pays_234 : decode cX3_pays 234 = .ok (.iload_n 2, 1) := dk_28 (dk_at dksX3_pays_10 0 rfl rfl)
theorem dX3_pays_235 : decode cX3_pays 235 = .ok (.aload_n 0, 1) := dk_42 (dk_at dksX3_pays_10 1 rfl rfl)
theorem dX3_pays_236 : decode cX3_pays 236 = .ok (.iload_n 1, 1) := dk_27 (dk_at dksX3_pays_10 2 rfl rfl)
theorem dX3_pays_237 : decode cX3_pays 237 = .ok (.iload 8, 2) := dk_21 8 (dk_at dksX3_pays_10 3 rfl rfl)
theorem dX3_pays_239 : decode cX3_pays 239 = .ok (.iconst 0, 1) := dk_3 (dk_at dksX3_pays_10 5 rfl rfl)
theorem dX3_pays_240 : decode cX3_pays 240 = .ok (.invokevirtual 141, 3) := dk_182 0 141 (dk_at dksX3_pays_10 6 rfl rfl)
theorem dX3_pays_243 : decode cX3_pays 243 = .ok (.bipush 6, 2) := dk_16 6 (dk_at dksX3_pays_10 9 rfl rfl)
theorem dX3_pays_245 : decode cX3_pays 245 = .ok (.invokestatic 109, 3) := dk_184 0 109 (dk_at dksX3_pays_10 11 rfl rfl)
theorem dX3_pays_248 : decode cX3_pays 248 = .ok (.dup2, 1) := dk_92 (dk_at dksX3_pays_10 14 rfl rfl)
theorem dX3_pays_249 : decode cX3_pays 249 = .ok (.laload, 1) := dk_47 (dk_at dksX3_pays_10 15 rfl rfl)
theorem dX3_pays_250 : decode cX3_pays 250 = .ok (.aload_n 0, 1) := dk_42 (dk_at dksX3_pays_10 16 rfl rfl)
theorem dX3_pays_251 : decode cX3_pays 251 = .ok (.iload_n 1, 1) := dk_27 (dk_at dksX3_pays_10 17 rfl rfl)
theorem dX3_pays_252 : decode cX3_pays 252 = .ok (.iload 8, 2) := dk_21 8 (dk_at dksX3_pays_10 18 rfl rfl)
theorem dX3_pays_254 : decode cX3_pays 254 = .ok (.iconst 1, 1) := dk_4 (dk_at dksX3_pays_10 20 rfl rfl)
theorem dX3_pays_255 : decode cX3_pays 255 = .ok (.invokevirtual 141, 3) := dk_182 0 141 (dk_at dksX3_pays_10 21 rfl rfl)
theorem dX3_pays_258 : decode cX3_pays 258 = .ok (.i2l, 1) := dk_133 (dk_at dksX3_pays_11 0 rfl rfl)
theorem dX3_pays_259 : decode cX3_pays 259 = .ok (.ladd, 1) := dk_97 (dk_at dksX3_pays_11 1 rfl rfl)
theorem dX3_pays_260 : decode cX3_pays 260 = .ok (.lastore, 1) := dk_80 (dk_at dksX3_pays_11 2 rfl rfl)
theorem dX3_pays_261 : decode cX3_pays 261 = .ok (.aload_n 0, 1) := dk_42 (dk_at dksX3_pays_11 3 rfl rfl)
theorem dX3_pays_262 : decode cX3_pays 262 = .ok (.iload_n 2, 1) := dk_28 (dk_at dksX3_pays_11 4 rfl rfl)
theorem dX3_pays_263 : decode cX3_pays 263 = .ok (.aload_n 0, 1) := dk_42 (dk_at dksX3_pays_11 5 rfl rfl)
theorem dX3_pays_264 : decode cX3_pays 264 = .ok (.iload_n 1, 1) := dk_27 (dk_at dksX3_pays_11 6 rfl rfl)
theorem dX3_pays_265 : decode cX3_pays 265 = .ok (.iload 8, 2) := dk_21 8 (dk_at dksX3_pays_11 7 rfl rfl)
theorem dX3_pays_267 : decode cX3_pays 267 = .ok (.iconst 0, 1) := dk_3 (dk_at dksX3_pays_11 9 rfl rfl)
theorem dX3_pays_268 : decode cX3_pays 268 = .ok (.invokevirtual 141, 3) := dk_182 0 141 (dk_at dksX3_pays_11 10 rfl rfl)
theorem dX3_pays_271 : decode cX3_pays 271 = .ok (.invokevirtual 138, 3) := dk_182 0 138 (dk_at dksX3_pays_11 13 rfl rfl)
theorem dX3_pays_274 : decode cX3_pays 274 = .ok (.pop, 1) := dk_87 (dk_at dksX3_pays_11 16 rfl rfl)
theorem dX3_pays_275 : decode cX3_pays 275 = .ok (.iinc 8 1, 3) := dk_132 8 1 (dk_at dksX3_pays_11 17 rfl rfl)
theorem dX3_pays_278 : decode cX3_pays 278 = .ok (.goto (-62), 3) := dk_167 255 194 (dk_at dksX3_pays_11 20 rfl rfl)
theorem dX3_pays_281 : decode cX3_pays 281 = .ok (.aload_n 0, 1) := dk_42 (dk_at dksX3_pays_11 23 rfl rfl)
theorem dX3_pays_282 : decode cX3_pays 282 = .ok (.bipush 6, 2) := dk_16 6 (dk_at dksX3_pays_12 0 rfl rfl)
theorem dX3_pays_284 : decode cX3_pays 284 = .ok (.iload_n 1, 1) := dk_27 (dk_at dksX3_pays_12 2 rfl rfl)
theorem dX3_pays_285 : decode cX3_pays 285 = .ok (.iload 6, 2) := dk_21 6 (dk_at dksX3_pays_12 3 rfl rfl)
theorem dX3_pays_287 : decode cX3_pays 287 = .ok (.iload 7, 2) := dk_21 7 (dk_at dksX3_pays_12 5 rfl rfl)
theorem dX3_pays_289 : decode cX3_pays 289 = .ok (.isub, 1) := dk_100 (dk_at dksX3_pays_12 7 rfl rfl)
theorem dX3_pays_290 : decode cX3_pays 290 = .ok (.invokevirtual 131, 3) := dk_182 0 131 (dk_at dksX3_pays_12 8 rfl rfl)
theorem dX3_pays_293 : decode cX3_pays 293 = .ok (.iload 6, 2) := dk_21 6 (dk_at dksX3_pays_12 11 rfl rfl)
theorem dX3_pays_295 : decode cX3_pays 295 = .ok (.iload 7, 2) := dk_21 7 (dk_at dksX3_pays_12 13 rfl rfl)
theorem dX3_pays_297 : decode cX3_pays 297 = .ok (.isub, 1) := dk_100 (dk_at dksX3_pays_12 15 rfl rfl)
theorem dX3_pays_298 : decode cX3_pays 298 = .ok (.ireturn, 1) := dk_172 (dk_at dksX3_pays_12 16 rfl rfl)
abbrev cX3_pass : ByteArray := prog_14_method_59_code
def yX3_pass : MethodName := ⟨RX3, "pass", "(I)I"⟩
def dkwX3_pass_5 : List UInt8 := [132, 3, 1, 167, 255, 175, 42, 28, 182, 0, 84, 172]
abbrev dktX3_pass_5 : List UInt8 := dkwX3_pass_5 ++ []
def dkwX3_pass_4 : List UInt8 := [182, 0, 49, 161, 0, 13, 42, 21, 4, 182, 0, 195, 87, 132, 2, 1, 132, 4, 1, 167, 255, 199]
abbrev dktX3_pass_4 : List UInt8 := dkwX3_pass_4 ++ dktX3_pass_5
def dkwX3_pass_3 : List UInt8 := [153, 0, 38, 42, 3, 182, 0, 49, 42, 21, 4, 5, 184, 0, 45, 182, 0, 49, 100, 42, 16, 6]
abbrev dktX3_pass_3 : List UInt8 := dkwX3_pass_3 ++ dktX3_pass_4
def dkwX3_pass_2 : List UInt8 := [47, 10, 97, 80, 3, 54, 4, 21, 4, 42, 6, 182, 0, 49, 162, 0, 53, 42, 21, 4, 182, 0, 192]
abbrev dktX3_pass_2 : List UInt8 := dkwX3_pass_2 ++ dktX3_pass_3
def dkwX3_pass_1 : List UInt8 := [17, 39, 15, 164, 0, 6, 16, 252, 172, 3, 61, 3, 62, 29, 27, 162, 0, 82, 42, 180, 0, 13, 3, 92]
abbrev dktX3_pass_1 : List UInt8 := dkwX3_pass_1 ++ dktX3_pass_2
def dkwX3_pass_0 : List UInt8 := [42, 182, 0, 74, 27, 4, 16, 60, 184, 0, 53, 154, 0, 6, 16, 254, 172, 42, 3, 182, 0, 49, 27, 96]
abbrev dktX3_pass_0 : List UInt8 := dkwX3_pass_0 ++ dktX3_pass_1
theorem dksX3_pass_0 : cX3_pass.data.toList.drop 0 = dktX3_pass_0 := by decide +kernel
theorem dksX3_pass_1 : cX3_pass.data.toList.drop 24 = dktX3_pass_1 := dk_seg dksX3_pass_0 24 rfl rfl
theorem dksX3_pass_2 : cX3_pass.data.toList.drop 48 = dktX3_pass_2 := dk_seg dksX3_pass_1 24 rfl rfl
theorem dksX3_pass_3 : cX3_pass.data.toList.drop 71 = dktX3_pass_3 := dk_seg dksX3_pass_2 23 rfl rfl
theorem dksX3_pass_4 : cX3_pass.data.toList.drop 93 = dktX3_pass_4 := dk_seg dksX3_pass_3 22 rfl rfl
theorem dksX3_pass_5 : cX3_pass.data.toList.drop 115 = dktX3_pass_5 := dk_seg dksX3_pass_4 22 rfl rfl
theorem dX3_pass_0 : decode cX3_pass 0 = .ok (.aload_n 0, 1) := dk_42 (dk_at dksX3_pass_0 0 rfl rfl)
theorem dX3_pass_1 : decode cX3_pass 1 = .ok (.invokevirtual 74, 3) := dk_182 0 74 (dk_at dksX3_pass_0 1 rfl rfl)
theorem dX3_pass_4 : decode cX3_pass 4 = .ok (.iload_n 1, 1) := dk_27 (dk_at dksX3_pass_0 4 rfl rfl)
theorem dX3_pass_5 : decode cX3_pass 5 = .ok (.iconst 1, 1) := dk_4 (dk_at dksX3_pass_0 5 rfl rfl)
theorem dX3_pass_6 : decode cX3_pass 6 = .ok (.bipush 60, 2) := dk_16 60 (dk_at dksX3_pass_0 6 rfl rfl)
theorem dX3_pass_8 : decode cX3_pass 8 = .ok (.invokestatic 53, 3) := dk_184 0 53 (dk_at dksX3_pass_0 8 rfl rfl)
theorem dX3_pass_11 : decode cX3_pass 11 = .ok (.ifCond .ne 6, 3) := dk_154 0 6 (dk_at dksX3_pass_0 11 rfl rfl)
theorem dX3_pass_14 : decode cX3_pass 14 = .ok (.bipush (-2), 2) := dk_16 254 (dk_at dksX3_pass_0 14 rfl rfl)
theorem dX3_pass_16 : decode cX3_pass 16 = .ok (.ireturn, 1) := dk_172 (dk_at dksX3_pass_0 16 rfl rfl)
theorem dX3_pass_17 : decode cX3_pass 17 = .ok (.aload_n 0, 1) := dk_42 (dk_at dksX3_pass_0 17 rfl rfl)
theorem dX3_pass_18 : decode cX3_pass 18 = .ok (.iconst 0, 1) := dk_3 (dk_at dksX3_pass_0 18 rfl rfl)
theorem dX3_pass_19 : decode cX3_pass 19 = .ok (.invokevirtual 49, 3) := dk_182 0 49 (dk_at dksX3_pass_0 19 rfl rfl)
theorem dX3_pass_22 : decode cX3_pass 22 = .ok (.iload_n 1, 1) := dk_27 (dk_at dksX3_pass_0 22 rfl rfl)
theorem dX3_pass_23 : decode cX3_pass 23 = .ok (.iadd, 1) := dk_96 (dk_at dksX3_pass_0 23 rfl rfl)
theorem dX3_pass_24 : decode cX3_pass 24 = .ok (.sipush 9999, 3) := dk_17 39 15 (dk_at dksX3_pass_1 0 rfl rfl)
theorem dX3_pass_27 : decode cX3_pass 27 = .ok (.if_icmp .le 6, 3) := dk_164 0 6 (dk_at dksX3_pass_1 3 rfl rfl)
theorem dX3_pass_30 : decode cX3_pass 30 = .ok (.bipush (-4), 2) := dk_16 252 (dk_at dksX3_pass_1 6 rfl rfl)
theorem dX3_pass_32 : decode cX3_pass 32 = .ok (.ireturn, 1) := dk_172 (dk_at dksX3_pass_1 8 rfl rfl)
theorem dX3_pass_33 : decode cX3_pass 33 = .ok (.iconst 0, 1) := dk_3 (dk_at dksX3_pass_1 9 rfl rfl)
theorem dX3_pass_34 : decode cX3_pass 34 = .ok (.istore_n 2, 1) := dk_61 (dk_at dksX3_pass_1 10 rfl rfl)
theorem dX3_pass_35 : decode cX3_pass 35 = .ok (.iconst 0, 1) := dk_3 (dk_at dksX3_pass_1 11 rfl rfl)
theorem dX3_pass_36 : decode cX3_pass 36 = .ok (.istore_n 3, 1) := dk_62 (dk_at dksX3_pass_1 12 rfl rfl)
theorem dX3_pass_37 : decode cX3_pass 37 = .ok (.iload_n 3, 1) := dk_29 (dk_at dksX3_pass_1 13 rfl rfl)
theorem dX3_pass_38 : decode cX3_pass 38 = .ok (.iload_n 1, 1) := dk_27 (dk_at dksX3_pass_1 14 rfl rfl)
theorem dX3_pass_39 : decode cX3_pass 39 = .ok (.if_icmp .ge 82, 3) := dk_162 0 82 (dk_at dksX3_pass_1 15 rfl rfl)
theorem dX3_pass_42 : decode cX3_pass 42 = .ok (.aload_n 0, 1) := dk_42 (dk_at dksX3_pass_1 18 rfl rfl)
theorem dX3_pass_43 : decode cX3_pass 43 = .ok (.getfield 13, 3) := dk_180 0 13 (dk_at dksX3_pass_1 19 rfl rfl)
theorem dX3_pass_46 : decode cX3_pass 46 = .ok (.iconst 0, 1) := dk_3 (dk_at dksX3_pass_1 22 rfl rfl)
theorem dX3_pass_47 : decode cX3_pass 47 = .ok (.dup2, 1) := dk_92 (dk_at dksX3_pass_1 23 rfl rfl)
theorem dX3_pass_48 : decode cX3_pass 48 = .ok (.laload, 1) := dk_47 (dk_at dksX3_pass_2 0 rfl rfl)
theorem dX3_pass_49 : decode cX3_pass 49 = .ok (.lconst 1, 1) := dk_10 (dk_at dksX3_pass_2 1 rfl rfl)
theorem dX3_pass_50 : decode cX3_pass 50 = .ok (.ladd, 1) := dk_97 (dk_at dksX3_pass_2 2 rfl rfl)
theorem dX3_pass_51 : decode cX3_pass 51 = .ok (.lastore, 1) := dk_80 (dk_at dksX3_pass_2 3 rfl rfl)
theorem dX3_pass_52 : decode cX3_pass 52 = .ok (.iconst 0, 1) := dk_3 (dk_at dksX3_pass_2 4 rfl rfl)
theorem dX3_pass_53 : decode cX3_pass 53 = .ok (.istore 4, 2) := dk_54 4 (dk_at dksX3_pass_2 5 rfl rfl)
theorem dX3_pass_55 : decode cX3_pass 55 = .ok (.iload 4, 2) := dk_21 4 (dk_at dksX3_pass_2 7 rfl rfl)
theorem dX3_pass_57 : decode cX3_pass 57 = .ok (.aload_n 0, 1) := dk_42 (dk_at dksX3_pass_2 9 rfl rfl)
theorem dX3_pass_58 : decode cX3_pass 58 = .ok (.iconst 3, 1) := dk_6 (dk_at dksX3_pass_2 10 rfl rfl)
theorem dX3_pass_59 : decode cX3_pass 59 = .ok (.invokevirtual 49, 3) := dk_182 0 49 (dk_at dksX3_pass_2 11 rfl rfl)
theorem dX3_pass_62 : decode cX3_pass 62 = .ok (.if_icmp .ge 53, 3) := dk_162 0 53 (dk_at dksX3_pass_2 14 rfl rfl)
theorem dX3_pass_65 : decode cX3_pass 65 = .ok (.aload_n 0, 1) := dk_42 (dk_at dksX3_pass_2 17 rfl rfl)
theorem dX3_pass_66 : decode cX3_pass 66 = .ok (.iload 4, 2) := dk_21 4 (dk_at dksX3_pass_2 18 rfl rfl)
theorem dX3_pass_68 : decode cX3_pass 68 = .ok (.invokevirtual 192, 3) := dk_182 0 192 (dk_at dksX3_pass_2 20 rfl rfl)
theorem dX3_pass_71 : decode cX3_pass 71 = .ok (.ifCond .eq 38, 3) := dk_153 0 38 (dk_at dksX3_pass_3 0 rfl rfl)
theorem dX3_pass_74 : decode cX3_pass 74 = .ok (.aload_n 0, 1) := dk_42 (dk_at dksX3_pass_3 3 rfl rfl)
theorem dX3_pass_75 : decode cX3_pass 75 = .ok (.iconst 0, 1) := dk_3 (dk_at dksX3_pass_3 4 rfl rfl)
theorem dX3_pass_76 : decode cX3_pass 76 = .ok (.invokevirtual 49, 3) := dk_182 0 49 (dk_at dksX3_pass_3 5 rfl rfl)
theorem dX3_pass_79 : decode cX3_pass 79 = .ok (.aload_n 0, 1) := dk_42 (dk_at dksX3_pass_3 8 rfl rfl)
theorem dX3_pass_80 : decode cX3_pass 80 = .ok (.iload 4, 2) := dk_21 4 (dk_at dksX3_pass_3 9 rfl rfl)
theorem dX3_pass_82 : decode cX3_pass 82 = .ok (.iconst 2, 1) := dk_5 (dk_at dksX3_pass_3 11 rfl rfl)
theorem dX3_pass_83 : decode cX3_pass 83 = .ok (.invokestatic 45, 3) := dk_184 0 45 (dk_at dksX3_pass_3 12 rfl rfl)
theorem dX3_pass_86 : decode cX3_pass 86 = .ok (.invokevirtual 49, 3) := dk_182 0 49 (dk_at dksX3_pass_3 15 rfl rfl)
theorem dX3_pass_89 : decode cX3_pass 89 = .ok (.isub, 1) := dk_100 (dk_at dksX3_pass_3 18 rfl rfl)
theorem dX3_pass_90 : decode cX3_pass 90 = .ok (.aload_n 0, 1) := dk_42 (dk_at dksX3_pass_3 19 rfl rfl)
theorem dX3_pass_91 : decode cX3_pass 91 = .ok (.bipush 6, 2) := dk_16 6 (dk_at dksX3_pass_3 20 rfl rfl)
theorem dX3_pass_93 : decode cX3_pass 93 = .ok (.invokevirtual 49, 3) := dk_182 0 49 (dk_at dksX3_pass_4 0 rfl rfl)
theorem dX3_pass_96 : decode cX3_pass 96 = .ok (.if_icmp .lt 13, 3) := dk_161 0 13 (dk_at dksX3_pass_4 3 rfl rfl)
theorem dX3_pass_99 : decode cX3_pass 99 = .ok (.aload_n 0, 1) := dk_42 (dk_at dksX3_pass_4 6 rfl rfl)
theorem dX3_pass_100 : decode cX3_pass 100 = .ok (.iload 4, 2) := dk_21 4 (dk_at dksX3_pass_4 7 rfl rfl)
theorem dX3_pass_102 : decode cX3_pass 102 = .ok (.invokevirtual 195, 3) := dk_182 0 195 (dk_at dksX3_pass_4 9 rfl rfl)
theorem dX3_pass_105 : decode cX3_pass 105 = .ok (.pop, 1) := dk_87 (dk_at dksX3_pass_4 12 rfl rfl)
theorem dX3_pass_106 : decode cX3_pass 106 = .ok (.iinc 2 1, 3) := dk_132 2 1 (dk_at dksX3_pass_4 13 rfl rfl)
theorem dX3_pass_109 : decode cX3_pass 109 = .ok (.iinc 4 1, 3) := dk_132 4 1 (dk_at dksX3_pass_4 16 rfl rfl)
theorem dX3_pass_112 : decode cX3_pass 112 = .ok (.goto (-57), 3) := dk_167 255 199 (dk_at dksX3_pass_4 19 rfl rfl)
theorem dX3_pass_115 : decode cX3_pass 115 = .ok (.iinc 3 1, 3) := dk_132 3 1 (dk_at dksX3_pass_5 0 rfl rfl)
theorem dX3_pass_118 : decode cX3_pass 118 = .ok (.goto (-81), 3) := dk_167 255 175 (dk_at dksX3_pass_5 3 rfl rfl)
theorem dX3_pass_121 : decode cX3_pass 121 = .ok (.aload_n 0, 1) := dk_42 (dk_at dksX3_pass_5 6 rfl rfl)
theorem dX3_pass_122 : decode cX3_pass 122 = .ok (.iload_n 2, 1) := dk_28 (dk_at dksX3_pass_5 7 rfl rfl)
theorem dX3_pass_123 : decode cX3_pass 123 = .ok (.invokevirtual 84, 3) := dk_182 0 84 (dk_at dksX3_pass_5 8 rfl rfl)
theorem dX3_pass_126 : decode cX3_pass 126 = .ok (.ireturn, 1) := dk_172 (dk_at dksX3_pass_5 11 rfl rfl)
abbrev cX3_type : ByteArray := prog_14_method_60_code
def yX3_type : MethodName := ⟨RX3, "type", "(C)I"⟩
def dkwX3_type_1 : List UInt8 := [180, 0, 198, 27, 79, 42, 89, 180, 0, 198, 4, 96, 181, 0, 198, 42, 180, 0, 198, 172]
abbrev dktX3_type_1 : List UInt8 := dkwX3_type_1 ++ []
def dkwX3_type_0 : List UInt8 := [42, 3, 181, 0, 1, 42, 180, 0, 198, 16, 60, 160, 0, 6, 16, 253, 172, 42, 180, 0, 26, 42]
abbrev dktX3_type_0 : List UInt8 := dkwX3_type_0 ++ dktX3_type_1
theorem dksX3_type_0 : cX3_type.data.toList.drop 0 = dktX3_type_0 := by decide +kernel
theorem dksX3_type_1 : cX3_type.data.toList.drop 22 = dktX3_type_1 := dk_seg dksX3_type_0 22 rfl rfl
theorem dX3_type_0 : decode cX3_type 0 = .ok (.aload_n 0, 1) := dk_42 (dk_at dksX3_type_0 0 rfl rfl)
theorem dX3_type_1 : decode cX3_type 1 = .ok (.iconst 0, 1) := dk_3 (dk_at dksX3_type_0 1 rfl rfl)
theorem dX3_type_2 : decode cX3_type 2 = .ok (.putfield 1, 3) := dk_181 0 1 (dk_at dksX3_type_0 2 rfl rfl)
theorem dX3_type_5 : decode cX3_type 5 = .ok (.aload_n 0, 1) := dk_42 (dk_at dksX3_type_0 5 rfl rfl)
theorem dX3_type_6 : decode cX3_type 6 = .ok (.getfield 198, 3) := dk_180 0 198 (dk_at dksX3_type_0 6 rfl rfl)
theorem dX3_type_9 : decode cX3_type 9 = .ok (.bipush 60, 2) := dk_16 60 (dk_at dksX3_type_0 9 rfl rfl)
theorem dX3_type_11 : decode cX3_type 11 = .ok (.if_icmp .ne 6, 3) := dk_160 0 6 (dk_at dksX3_type_0 11 rfl rfl)
theorem dX3_type_14 : decode cX3_type 14 = .ok (.bipush (-3), 2) := dk_16 253 (dk_at dksX3_type_0 14 rfl rfl)
theorem dX3_type_16 : decode cX3_type 16 = .ok (.ireturn, 1) := dk_172 (dk_at dksX3_type_0 16 rfl rfl)
theorem dX3_type_17 : decode cX3_type 17 = .ok (.aload_n 0, 1) := dk_42 (dk_at dksX3_type_0 17 rfl rfl)
theorem dX3_type_18 : decode cX3_type 18 = .ok (.getfield 26, 3) := dk_180 0 26 (dk_at dksX3_type_0 18 rfl rfl)
theorem dX3_type_21 : decode cX3_type 21 = .ok (.aload_n 0, 1) := dk_42 (dk_at dksX3_type_0 21 rfl rfl)
theorem dX3_type_22 : decode cX3_type 22 = .ok (.getfield 198, 3) := dk_180 0 198 (dk_at dksX3_type_1 0 rfl rfl)
theorem dX3_type_25 : decode cX3_type 25 = .ok (.iload_n 1, 1) := dk_27 (dk_at dksX3_type_1 3 rfl rfl)
theorem dX3_type_26 : decode cX3_type 26 = .ok (.iastore, 1) := dk_79 (dk_at dksX3_type_1 4 rfl rfl)
theorem dX3_type_27 : decode cX3_type 27 = .ok (.aload_n 0, 1) := dk_42 (dk_at dksX3_type_1 5 rfl rfl)
theorem dX3_type_28 : decode cX3_type 28 = .ok (.dup, 1) := dk_89 (dk_at dksX3_type_1 6 rfl rfl)
theorem dX3_type_29 : decode cX3_type 29 = .ok (.getfield 198, 3) := dk_180 0 198 (dk_at dksX3_type_1 7 rfl rfl)
theorem dX3_type_32 : decode cX3_type 32 = .ok (.iconst 1, 1) := dk_4 (dk_at dksX3_type_1 10 rfl rfl)
theorem dX3_type_33 : decode cX3_type 33 = .ok (.iadd, 1) := dk_96 (dk_at dksX3_type_1 11 rfl rfl)
theorem dX3_type_34 : decode cX3_type 34 = .ok (.putfield 198, 3) := dk_181 0 198 (dk_at dksX3_type_1 12 rfl rfl)
theorem dX3_type_37 : decode cX3_type 37 = .ok (.aload_n 0, 1) := dk_42 (dk_at dksX3_type_1 15 rfl rfl)
theorem dX3_type_38 : decode cX3_type 38 = .ok (.getfield 198, 3) := dk_180 0 198 (dk_at dksX3_type_1 16 rfl rfl)
theorem dX3_type_41 : decode cX3_type 41 = .ok (.ireturn, 1) := dk_172 (dk_at dksX3_type_1 19 rfl rfl)
abbrev cX3_clearText : ByteArray := prog_14_method_61_code
def yX3_clearText : MethodName := ⟨RX3, "clearText", "()I"⟩
def dkwX3_clearText_0 : List UInt8 := [42, 3, 181, 0, 1, 42, 180, 0, 198, 60, 42, 3, 181, 0, 198, 27, 172]
abbrev dktX3_clearText_0 : List UInt8 := dkwX3_clearText_0 ++ []
theorem dksX3_clearText_0 : cX3_clearText.data.toList.drop 0 = dktX3_clearText_0 := by decide +kernel
theorem dX3_clearText_0 : decode cX3_clearText 0 = .ok (.aload_n 0, 1) := dk_42 (dk_at dksX3_clearText_0 0 rfl rfl)
theorem dX3_clearText_1 : decode cX3_clearText 1 = .ok (.iconst 0, 1) := dk_3 (dk_at dksX3_clearText_0 1 rfl rfl)
theorem dX3_clearText_2 : decode cX3_clearText 2 = .ok (.putfield 1, 3) := dk_181 0 1 (dk_at dksX3_clearText_0 2 rfl rfl)
theorem dX3_clearText_5 : decode cX3_clearText 5 = .ok (.aload_n 0, 1) := dk_42 (dk_at dksX3_clearText_0 5 rfl rfl)
theorem dX3_clearText_6 : decode cX3_clearText 6 = .ok (.getfield 198, 3) := dk_180 0 198 (dk_at dksX3_clearText_0 6 rfl rfl)
theorem dX3_clearText_9 : decode cX3_clearText 9 = .ok (.istore_n 1, 1) := dk_60 (dk_at dksX3_clearText_0 9 rfl rfl)
theorem dX3_clearText_10 : decode cX3_clearText 10 = .ok (.aload_n 0, 1) := dk_42 (dk_at dksX3_clearText_0 10 rfl rfl)
theorem dX3_clearText_11 : decode cX3_clearText 11 = .ok (.iconst 0, 1) := dk_3 (dk_at dksX3_clearText_0 11 rfl rfl)
theorem dX3_clearText_12 : decode cX3_clearText 12 = .ok (.putfield 198, 3) := dk_181 0 198 (dk_at dksX3_clearText_0 12 rfl rfl)
theorem dX3_clearText_15 : decode cX3_clearText 15 = .ok (.iload_n 1, 1) := dk_27 (dk_at dksX3_clearText_0 15 rfl rfl)
theorem dX3_clearText_16 : decode cX3_clearText 16 = .ok (.ireturn, 1) := dk_172 (dk_at dksX3_clearText_0 16 rfl rfl)
abbrev cX3_readInvoice : ByteArray := prog_14_method_68_code
def yX3_readInvoice : MethodName := ⟨RX3, "readInvoice", "()I"⟩
def dkwX3_readInvoice_11 : List UInt8 := [21, 5, 182, 0, 156, 172]
abbrev dktX3_readInvoice_11 : List UInt8 := dkwX3_readInvoice_11 ++ []
def dkwX3_readInvoice_10 : List UInt8 := [96, 46, 42, 180, 0, 30, 6, 21, 6, 104, 5, 96, 46, 182, 0, 152, 132, 6, 1, 167, 255, 210, 42]
abbrev dktX3_readInvoice_10 : List UInt8 := dkwX3_readInvoice_10 ++ dktX3_readInvoice_11
def dkwX3_readInvoice_9 : List UInt8 := [162, 0, 46, 42, 21, 5, 42, 180, 0, 30, 6, 21, 6, 104, 46, 42, 180, 0, 30, 6, 21, 6, 104, 4]
abbrev dktX3_readInvoice_9 : List UInt8 := dkwX3_readInvoice_9 ++ dktX3_readInvoice_10
def dkwX3_readInvoice_8 : List UInt8 := [16, 24, 160, 0, 6, 16, 253, 172, 42, 27, 28, 182, 0, 149, 54, 5, 3, 54, 6, 21, 6, 29]
abbrev dktX3_readInvoice_8 : List UInt8 := dkwX3_readInvoice_8 ++ dktX3_readInvoice_9
def dkwX3_readInvoice_7 : List UInt8 := [182, 0, 222, 154, 0, 5, 2, 172, 42, 29, 182, 0, 225, 154, 0, 6, 16, 254, 172, 42, 6, 182, 0, 49]
abbrev dktX3_readInvoice_7 : List UInt8 := dkwX3_readInvoice_7 ++ dktX3_readInvoice_8
def dkwX3_readInvoice_6 : List UInt8 := [3, 54, 4, 167, 255, 181, 42, 180, 0, 204, 153, 0, 11, 16, 156, 42, 180, 0, 201, 100, 172, 42, 28, 29]
abbrev dktX3_readInvoice_6 : List UInt8 := dkwX3_readInvoice_6 ++ dktX3_readInvoice_7
def dkwX3_readInvoice_5 : List UInt8 := [16, 44, 160, 0, 7, 4, 167, 0, 4, 3, 182, 0, 212, 42, 180, 0, 204, 154, 0, 7, 4, 167, 0, 4]
abbrev dktX3_readInvoice_5 : List UInt8 := dkwX3_readInvoice_5 ++ dktX3_readInvoice_6
def dkwX3_readInvoice_4 : List UInt8 := [180, 0, 198, 162, 0, 7, 4, 167, 0, 4, 3, 54, 4, 21, 4, 153, 255, 216, 42, 42, 182, 0, 208]
abbrev dktX3_readInvoice_4 : List UInt8 := dkwX3_readInvoice_4 ++ dktX3_readInvoice_5
def dkwX3_readInvoice_3 : List UInt8 := [153, 0, 76, 42, 29, 182, 0, 219, 132, 3, 1, 42, 180, 0, 204, 154, 0, 18, 42, 180, 0, 201, 42]
abbrev dktX3_readInvoice_3 : List UInt8 := dkwX3_readInvoice_3 ++ dktX3_readInvoice_4
def dkwX3_readInvoice_2 : List UInt8 := [182, 0, 208, 16, 58, 160, 0, 7, 4, 167, 0, 4, 3, 182, 0, 212, 3, 62, 4, 54, 4, 21, 4]
abbrev dktX3_readInvoice_2 : List UInt8 := dkwX3_readInvoice_2 ++ dktX3_readInvoice_3
def dkwX3_readInvoice_1 : List UInt8 := [182, 0, 208, 16, 47, 160, 0, 7, 4, 167, 0, 4, 3, 182, 0, 212, 42, 6, 182, 0, 216, 61, 42, 42]
abbrev dktX3_readInvoice_1 : List UInt8 := dkwX3_readInvoice_1 ++ dktX3_readInvoice_2
def dkwX3_readInvoice_0 : List UInt8 := [42, 182, 0, 74, 42, 3, 181, 0, 201, 42, 3, 181, 0, 204, 42, 6, 182, 0, 216, 60, 42, 42]
abbrev dktX3_readInvoice_0 : List UInt8 := dkwX3_readInvoice_0 ++ dktX3_readInvoice_1
theorem dksX3_readInvoice_0 : cX3_readInvoice.data.toList.drop 0 = dktX3_readInvoice_0 := by decide +kernel
theorem dksX3_readInvoice_1 : cX3_readInvoice.data.toList.drop 22 = dktX3_readInvoice_1 := dk_seg dksX3_readInvoice_0 22 rfl rfl
theorem dksX3_readInvoice_2 : cX3_readInvoice.data.toList.drop 46 = dktX3_readInvoice_2 := dk_seg dksX3_readInvoice_1 24 rfl rfl
theorem dksX3_readInvoice_3 : cX3_readInvoice.data.toList.drop 69 = dktX3_readInvoice_3 := dk_seg dksX3_readInvoice_2 23 rfl rfl
theorem dksX3_readInvoice_4 : cX3_readInvoice.data.toList.drop 92 = dktX3_readInvoice_4 := dk_seg dksX3_readInvoice_3 23 rfl rfl
theorem dksX3_readInvoice_5 : cX3_readInvoice.data.toList.drop 115 = dktX3_readInvoice_5 := dk_seg dksX3_readInvoice_4 23 rfl rfl
theorem dksX3_readInvoice_6 : cX3_readInvoice.data.toList.drop 139 = dktX3_readInvoice_6 := dk_seg dksX3_readInvoice_5 24 rfl rfl
theorem dksX3_readInvoice_7 : cX3_readInvoice.data.toList.drop 163 = dktX3_readInvoice_7 := dk_seg dksX3_readInvoice_6 24 rfl rfl
theorem dksX3_readInvoice_8 : cX3_readInvoice.data.toList.drop 187 = dktX3_readInvoice_8 := dk_seg dksX3_readInvoice_7 24 rfl rfl
theorem dksX3_readInvoice_9 : cX3_readInvoice.data.toList.drop 209 = dktX3_readInvoice_9 := dk_seg dksX3_readInvoice_8 22 rfl rfl
theorem dksX3_readInvoice_10 : cX3_readInvoice.data.toList.drop 233 = dktX3_readInvoice_10 := dk_seg dksX3_readInvoice_9 24 rfl rfl
theorem dksX3_readInvoice_11 : cX3_readInvoice.data.toList.drop 256 = dktX3_readInvoice_11 := dk_seg dksX3_readInvoice_10 23 rfl rfl
theorem dX3_readInvoice_0 : decode cX3_readInvoice 0 = .ok (.aload_n 0, 1) := dk_42 (dk_at dksX3_readInvoice_0 0 rfl rfl)
theorem dX3_readInvoice_1 : decode cX3_readInvoice 1 = .ok (.invokevirtual 74, 3) := dk_182 0 74 (dk_at dksX3_readInvoice_0 1 rfl rfl)
theorem dX3_readInvoice_4 : decode cX3_readInvoice 4 = .ok (.aload_n 0, 1) := dk_42 (dk_at dksX3_readInvoice_0 4 rfl rfl)
theorem dX3_readInvoice_5 : decode cX3_readInvoice 5 = .ok (.iconst 0, 1) := dk_3 (dk_at dksX3_readInvoice_0 5 rfl rfl)
theorem dX3_readInvoice_6 : decode cX3_readInvoice 6 = .ok (.putfield 201, 3) := dk_181 0 201 (dk_at dksX3_readInvoice_0 6 rfl rfl)
theorem dX3_readInvoice_9 : decode cX3_readInvoice 9 = .ok (.aload_n 0, 1) := dk_42 (dk_at dksX3_readInvoice_0 9 rfl rfl)
theorem dX3_readInvoice_10 : decode cX3_readInvoice 10 = .ok (.iconst 0, 1) := dk_3 (dk_at dksX3_readInvoice_0 10 rfl rfl)
theorem dX3_readInvoice_11 : decode cX3_readInvoice 11 = .ok (.putfield 204, 3) := dk_181 0 204 (dk_at dksX3_readInvoice_0 11 rfl rfl)
theorem dX3_readInvoice_14 : decode cX3_readInvoice 14 = .ok (.aload_n 0, 1) := dk_42 (dk_at dksX3_readInvoice_0 14 rfl rfl)
theorem dX3_readInvoice_15 : decode cX3_readInvoice 15 = .ok (.iconst 3, 1) := dk_6 (dk_at dksX3_readInvoice_0 15 rfl rfl)
theorem dX3_readInvoice_16 : decode cX3_readInvoice 16 = .ok (.invokevirtual 216, 3) := dk_182 0 216 (dk_at dksX3_readInvoice_0 16 rfl rfl)
theorem dX3_readInvoice_19 : decode cX3_readInvoice 19 = .ok (.istore_n 1, 1) := dk_60 (dk_at dksX3_readInvoice_0 19 rfl rfl)
theorem dX3_readInvoice_20 : decode cX3_readInvoice 20 = .ok (.aload_n 0, 1) := dk_42 (dk_at dksX3_readInvoice_0 20 rfl rfl)
theorem dX3_readInvoice_21 : decode cX3_readInvoice 21 = .ok (.aload_n 0, 1) := dk_42 (dk_at dksX3_readInvoice_0 21 rfl rfl)
theorem dX3_readInvoice_22 : decode cX3_readInvoice 22 = .ok (.invokevirtual 208, 3) := dk_182 0 208 (dk_at dksX3_readInvoice_1 0 rfl rfl)
theorem dX3_readInvoice_25 : decode cX3_readInvoice 25 = .ok (.bipush 47, 2) := dk_16 47 (dk_at dksX3_readInvoice_1 3 rfl rfl)
theorem dX3_readInvoice_27 : decode cX3_readInvoice 27 = .ok (.if_icmp .ne 7, 3) := dk_160 0 7 (dk_at dksX3_readInvoice_1 5 rfl rfl)
theorem dX3_readInvoice_30 : decode cX3_readInvoice 30 = .ok (.iconst 1, 1) := dk_4 (dk_at dksX3_readInvoice_1 8 rfl rfl)
theorem dX3_readInvoice_31 : decode cX3_readInvoice 31 = .ok (.goto 4, 3) := dk_167 0 4 (dk_at dksX3_readInvoice_1 9 rfl rfl)
theorem dX3_readInvoice_34 : decode cX3_readInvoice 34 = .ok (.iconst 0, 1) := dk_3 (dk_at dksX3_readInvoice_1 12 rfl rfl)
theorem dX3_readInvoice_35 : decode cX3_readInvoice 35 = .ok (.invokevirtual 212, 3) := dk_182 0 212 (dk_at dksX3_readInvoice_1 13 rfl rfl)
theorem dX3_readInvoice_38 : decode cX3_readInvoice 38 = .ok (.aload_n 0, 1) := dk_42 (dk_at dksX3_readInvoice_1 16 rfl rfl)
theorem dX3_readInvoice_39 : decode cX3_readInvoice 39 = .ok (.iconst 3, 1) := dk_6 (dk_at dksX3_readInvoice_1 17 rfl rfl)
theorem dX3_readInvoice_40 : decode cX3_readInvoice 40 = .ok (.invokevirtual 216, 3) := dk_182 0 216 (dk_at dksX3_readInvoice_1 18 rfl rfl)
theorem dX3_readInvoice_43 : decode cX3_readInvoice 43 = .ok (.istore_n 2, 1) := dk_61 (dk_at dksX3_readInvoice_1 21 rfl rfl)
theorem dX3_readInvoice_44 : decode cX3_readInvoice 44 = .ok (.aload_n 0, 1) := dk_42 (dk_at dksX3_readInvoice_1 22 rfl rfl)
theorem dX3_readInvoice_45 : decode cX3_readInvoice 45 = .ok (.aload_n 0, 1) := dk_42 (dk_at dksX3_readInvoice_1 23 rfl rfl)
theorem dX3_readInvoice_46 : decode cX3_readInvoice 46 = .ok (.invokevirtual 208, 3) := dk_182 0 208 (dk_at dksX3_readInvoice_2 0 rfl rfl)
theorem dX3_readInvoice_49 : decode cX3_readInvoice 49 = .ok (.bipush 58, 2) := dk_16 58 (dk_at dksX3_readInvoice_2 3 rfl rfl)
theorem dX3_readInvoice_51 : decode cX3_readInvoice 51 = .ok (.if_icmp .ne 7, 3) := dk_160 0 7 (dk_at dksX3_readInvoice_2 5 rfl rfl)
theorem dX3_readInvoice_54 : decode cX3_readInvoice 54 = .ok (.iconst 1, 1) := dk_4 (dk_at dksX3_readInvoice_2 8 rfl rfl)
theorem dX3_readInvoice_55 : decode cX3_readInvoice 55 = .ok (.goto 4, 3) := dk_167 0 4 (dk_at dksX3_readInvoice_2 9 rfl rfl)
theorem dX3_readInvoice_58 : decode cX3_readInvoice 58 = .ok (.iconst 0, 1) := dk_3 (dk_at dksX3_readInvoice_2 12 rfl rfl)
theorem dX3_readInvoice_59 : decode cX3_readInvoice 59 = .ok (.invokevirtual 212, 3) := dk_182 0 212 (dk_at dksX3_readInvoice_2 13 rfl rfl)
theorem dX3_readInvoice_62 : decode cX3_readInvoice 62 = .ok (.iconst 0, 1) := dk_3 (dk_at dksX3_readInvoice_2 16 rfl rfl)
theorem dX3_readInvoice_63 : decode cX3_readInvoice 63 = .ok (.istore_n 3, 1) := dk_62 (dk_at dksX3_readInvoice_2 17 rfl rfl)
theorem dX3_readInvoice_64 : decode cX3_readInvoice 64 = .ok (.iconst 1, 1) := dk_4 (dk_at dksX3_readInvoice_2 18 rfl rfl)
theorem dX3_readInvoice_65 : decode cX3_readInvoice 65 = .ok (.istore 4, 2) := dk_54 4 (dk_at dksX3_readInvoice_2 19 rfl rfl)
theorem dX3_readInvoice_67 : decode cX3_readInvoice 67 = .ok (.iload 4, 2) := dk_21 4 (dk_at dksX3_readInvoice_2 21 rfl rfl)
theorem dX3_readInvoice_69 : decode cX3_readInvoice 69 = .ok (.ifCond .eq 76, 3) := dk_153 0 76 (dk_at dksX3_readInvoice_3 0 rfl rfl)
theorem dX3_readInvoice_72 : decode cX3_readInvoice 72 = .ok (.aload_n 0, 1) := dk_42 (dk_at dksX3_readInvoice_3 3 rfl rfl)
theorem dX3_readInvoice_73 : decode cX3_readInvoice 73 = .ok (.iload_n 3, 1) := dk_29 (dk_at dksX3_readInvoice_3 4 rfl rfl)
theorem dX3_readInvoice_74 : decode cX3_readInvoice 74 = .ok (.invokevirtual 219, 3) := dk_182 0 219 (dk_at dksX3_readInvoice_3 5 rfl rfl)
theorem dX3_readInvoice_77 : decode cX3_readInvoice 77 = .ok (.iinc 3 1, 3) := dk_132 3 1 (dk_at dksX3_readInvoice_3 8 rfl rfl)
theorem dX3_readInvoice_80 : decode cX3_readInvoice 80 = .ok (.aload_n 0, 1) := dk_42 (dk_at dksX3_readInvoice_3 11 rfl rfl)
theorem dX3_readInvoice_81 : decode cX3_readInvoice 81 = .ok (.getfield 204, 3) := dk_180 0 204 (dk_at dksX3_readInvoice_3 12 rfl rfl)
theorem dX3_readInvoice_84 : decode cX3_readInvoice 84 = .ok (.ifCond .ne 18, 3) := dk_154 0 18 (dk_at dksX3_readInvoice_3 15 rfl rfl)
theorem dX3_readInvoice_87 : decode cX3_readInvoice 87 = .ok (.aload_n 0, 1) := dk_42 (dk_at dksX3_readInvoice_3 18 rfl rfl)
theorem dX3_readInvoice_88 : decode cX3_readInvoice 88 = .ok (.getfield 201, 3) := dk_180 0 201 (dk_at dksX3_readInvoice_3 19 rfl rfl)
theorem dX3_readInvoice_91 : decode cX3_readInvoice 91 = .ok (.aload_n 0, 1) := dk_42 (dk_at dksX3_readInvoice_3 22 rfl rfl)
theorem dX3_readInvoice_92 : decode cX3_readInvoice 92 = .ok (.getfield 198, 3) := dk_180 0 198 (dk_at dksX3_readInvoice_4 0 rfl rfl)
theorem dX3_readInvoice_95 : decode cX3_readInvoice 95 = .ok (.if_icmp .ge 7, 3) := dk_162 0 7 (dk_at dksX3_readInvoice_4 3 rfl rfl)
theorem dX3_readInvoice_98 : decode cX3_readInvoice 98 = .ok (.iconst 1, 1) := dk_4 (dk_at dksX3_readInvoice_4 6 rfl rfl)
theorem dX3_readInvoice_99 : decode cX3_readInvoice 99 = .ok (.goto 4, 3) := dk_167 0 4 (dk_at dksX3_readInvoice_4 7 rfl rfl)
theorem dX3_readInvoice_102 : decode cX3_readInvoice 102 = .ok (.iconst 0, 1) := dk_3 (dk_at dksX3_readInvoice_4 10 rfl rfl)
theorem dX3_readInvoice_103 : decode cX3_readInvoice 103 = .ok (.istore 4, 2) := dk_54 4 (dk_at dksX3_readInvoice_4 11 rfl rfl)
theorem dX3_readInvoice_105 : decode cX3_readInvoice 105 = .ok (.iload 4, 2) := dk_21 4 (dk_at dksX3_readInvoice_4 13 rfl rfl)
theorem dX3_readInvoice_107 : decode cX3_readInvoice 107 = .ok (.ifCond .eq (-40), 3) := dk_153 255 216 (dk_at dksX3_readInvoice_4 15 rfl rfl)
theorem dX3_readInvoice_110 : decode cX3_readInvoice 110 = .ok (.aload_n 0, 1) := dk_42 (dk_at dksX3_readInvoice_4 18 rfl rfl)
theorem dX3_readInvoice_111 : decode cX3_readInvoice 111 = .ok (.aload_n 0, 1) := dk_42 (dk_at dksX3_readInvoice_4 19 rfl rfl)
theorem dX3_readInvoice_112 : decode cX3_readInvoice 112 = .ok (.invokevirtual 208, 3) := dk_182 0 208 (dk_at dksX3_readInvoice_4 20 rfl rfl)
theorem dX3_readInvoice_115 : decode cX3_readInvoice 115 = .ok (.bipush 44, 2) := dk_16 44 (dk_at dksX3_readInvoice_5 0 rfl rfl)
theorem dX3_readInvoice_117 : decode cX3_readInvoice 117 = .ok (.if_icmp .ne 7, 3) := dk_160 0 7 (dk_at dksX3_readInvoice_5 2 rfl rfl)
theorem dX3_readInvoice_120 : decode cX3_readInvoice 120 = .ok (.iconst 1, 1) := dk_4 (dk_at dksX3_readInvoice_5 5 rfl rfl)
theorem dX3_readInvoice_121 : decode cX3_readInvoice 121 = .ok (.goto 4, 3) := dk_167 0 4 (dk_at dksX3_readInvoice_5 6 rfl rfl)
theorem dX3_readInvoice_124 : decode cX3_readInvoice 124 = .ok (.iconst 0, 1) := dk_3 (dk_at dksX3_readInvoice_5 9 rfl rfl)
theorem dX3_readInvoice_125 : decode cX3_readInvoice 125 = .ok (.invokevirtual 212, 3) := dk_182 0 212 (dk_at dksX3_readInvoice_5 10 rfl rfl)
theorem dX3_readInvoice_128 : decode cX3_readInvoice 128 = .ok (.aload_n 0, 1) := dk_42 (dk_at dksX3_readInvoice_5 13 rfl rfl)
theorem dX3_readInvoice_129 : decode cX3_readInvoice 129 = .ok (.getfield 204, 3) := dk_180 0 204 (dk_at dksX3_readInvoice_5 14 rfl rfl)
theorem dX3_readInvoice_132 : decode cX3_readInvoice 132 = .ok (.ifCond .ne 7, 3) := dk_154 0 7 (dk_at dksX3_readInvoice_5 17 rfl rfl)
theorem dX3_readInvoice_135 : decode cX3_readInvoice 135 = .ok (.iconst 1, 1) := dk_4 (dk_at dksX3_readInvoice_5 20 rfl rfl)
theorem dX3_readInvoice_136 : decode cX3_readInvoice 136 = .ok (.goto 4, 3) := dk_167 0 4 (dk_at dksX3_readInvoice_5 21 rfl rfl)
theorem dX3_readInvoice_139 : decode cX3_readInvoice 139 = .ok (.iconst 0, 1) := dk_3 (dk_at dksX3_readInvoice_6 0 rfl rfl)
theorem dX3_readInvoice_140 : decode cX3_readInvoice 140 = .ok (.istore 4, 2) := dk_54 4 (dk_at dksX3_readInvoice_6 1 rfl rfl)
theorem dX3_readInvoice_142 : decode cX3_readInvoice 142 = .ok (.goto (-75), 3) := dk_167 255 181 (dk_at dksX3_readInvoice_6 3 rfl rfl)
theorem dX3_readInvoice_145 : decode cX3_readInvoice 145 = .ok (.aload_n 0, 1) := dk_42 (dk_at dksX3_readInvoice_6 6 rfl rfl)
theorem dX3_readInvoice_146 : decode cX3_readInvoice 146 = .ok (.getfield 204, 3) := dk_180 0 204 (dk_at dksX3_readInvoice_6 7 rfl rfl)
theorem dX3_readInvoice_149 : decode cX3_readInvoice 149 = .ok (.ifCond .eq 11, 3) := dk_153 0 11 (dk_at dksX3_readInvoice_6 10 rfl rfl)
theorem dX3_readInvoice_152 : decode cX3_readInvoice 152 = .ok (.bipush (-100), 2) := dk_16 156 (dk_at dksX3_readInvoice_6 13 rfl rfl)
theorem dX3_readInvoice_154 : decode cX3_readInvoice 154 = .ok (.aload_n 0, 1) := dk_42 (dk_at dksX3_readInvoice_6 15 rfl rfl)
theorem dX3_readInvoice_155 : decode cX3_readInvoice 155 = .ok (.getfield 201, 3) := dk_180 0 201 (dk_at dksX3_readInvoice_6 16 rfl rfl)
theorem dX3_readInvoice_158 : decode cX3_readInvoice 158 = .ok (.isub, 1) := dk_100 (dk_at dksX3_readInvoice_6 19 rfl rfl)
theorem dX3_readInvoice_159 : decode cX3_readInvoice 159 = .ok (.ireturn, 1) := dk_172 (dk_at dksX3_readInvoice_6 20 rfl rfl)
theorem dX3_readInvoice_160 : decode cX3_readInvoice 160 = .ok (.aload_n 0, 1) := dk_42 (dk_at dksX3_readInvoice_6 21 rfl rfl)
theorem dX3_readInvoice_161 : decode cX3_readInvoice 161 = .ok (.iload_n 2, 1) := dk_28 (dk_at dksX3_readInvoice_6 22 rfl rfl)
theorem dX3_readInvoice_162 : decode cX3_readInvoice 162 = .ok (.iload_n 3, 1) := dk_29 (dk_at dksX3_readInvoice_6 23 rfl rfl)
theorem dX3_readInvoice_163 : decode cX3_readInvoice 163 = .ok (.invokevirtual 222, 3) := dk_182 0 222 (dk_at dksX3_readInvoice_7 0 rfl rfl)
theorem dX3_readInvoice_166 : decode cX3_readInvoice 166 = .ok (.ifCond .ne 5, 3) := dk_154 0 5 (dk_at dksX3_readInvoice_7 3 rfl rfl)
theorem dX3_readInvoice_169 : decode cX3_readInvoice 169 = .ok (.iconst (-1), 1) := dk_2 (dk_at dksX3_readInvoice_7 6 rfl rfl)
theorem dX3_readInvoice_170 : decode cX3_readInvoice 170 = .ok (.ireturn, 1) := dk_172 (dk_at dksX3_readInvoice_7 7 rfl rfl)
theorem dX3_readInvoice_171 : decode cX3_readInvoice 171 = .ok (.aload_n 0, 1) := dk_42 (dk_at dksX3_readInvoice_7 8 rfl rfl)
theorem dX3_readInvoice_172 : decode cX3_readInvoice 172 = .ok (.iload_n 3, 1) := dk_29 (dk_at dksX3_readInvoice_7 9 rfl rfl)
theorem dX3_readInvoice_173 : decode cX3_readInvoice 173 = .ok (.invokevirtual 225, 3) := dk_182 0 225 (dk_at dksX3_readInvoice_7 10 rfl rfl)
theorem dX3_readInvoice_176 : decode cX3_readInvoice 176 = .ok (.ifCond .ne 6, 3) := dk_154 0 6 (dk_at dksX3_readInvoice_7 13 rfl rfl)
theorem dX3_readInvoice_179 : decode cX3_readInvoice 179 = .ok (.bipush (-2), 2) := dk_16 254 (dk_at dksX3_readInvoice_7 16 rfl rfl)
theorem dX3_readInvoice_181 : decode cX3_readInvoice 181 = .ok (.ireturn, 1) := dk_172 (dk_at dksX3_readInvoice_7 18 rfl rfl)
theorem dX3_readInvoice_182 : decode cX3_readInvoice 182 = .ok (.aload_n 0, 1) := dk_42 (dk_at dksX3_readInvoice_7 19 rfl rfl)
theorem dX3_readInvoice_183 : decode cX3_readInvoice 183 = .ok (.iconst 3, 1) := dk_6 (dk_at dksX3_readInvoice_7 20 rfl rfl)
theorem dX3_readInvoice_184 : decode cX3_readInvoice 184 = .ok (.invokevirtual 49, 3) := dk_182 0 49 (dk_at dksX3_readInvoice_7 21 rfl rfl)
theorem dX3_readInvoice_187 : decode cX3_readInvoice 187 = .ok (.bipush 24, 2) := dk_16 24 (dk_at dksX3_readInvoice_8 0 rfl rfl)
theorem dX3_readInvoice_189 : decode cX3_readInvoice 189 = .ok (.if_icmp .ne 6, 3) := dk_160 0 6 (dk_at dksX3_readInvoice_8 2 rfl rfl)
theorem dX3_readInvoice_192 : decode cX3_readInvoice 192 = .ok (.bipush (-3), 2) := dk_16 253 (dk_at dksX3_readInvoice_8 5 rfl rfl)
theorem dX3_readInvoice_194 : decode cX3_readInvoice 194 = .ok (.ireturn, 1) := dk_172 (dk_at dksX3_readInvoice_8 7 rfl rfl)
theorem dX3_readInvoice_195 : decode cX3_readInvoice 195 = .ok (.aload_n 0, 1) := dk_42 (dk_at dksX3_readInvoice_8 8 rfl rfl)
theorem dX3_readInvoice_196 : decode cX3_readInvoice 196 = .ok (.iload_n 1, 1) := dk_27 (dk_at dksX3_readInvoice_8 9 rfl rfl)
theorem dX3_readInvoice_197 : decode cX3_readInvoice 197 = .ok (.iload_n 2, 1) := dk_28 (dk_at dksX3_readInvoice_8 10 rfl rfl)
theorem dX3_readInvoice_198 : decode cX3_readInvoice 198 = .ok (.invokevirtual 149, 3) := dk_182 0 149 (dk_at dksX3_readInvoice_8 11 rfl rfl)
theorem dX3_readInvoice_201 : decode cX3_readInvoice 201 = .ok (.istore 5, 2) := dk_54 5 (dk_at dksX3_readInvoice_8 14 rfl rfl)
theorem dX3_readInvoice_203 : decode cX3_readInvoice 203 = .ok (.iconst 0, 1) := dk_3 (dk_at dksX3_readInvoice_8 16 rfl rfl)
theorem dX3_readInvoice_204 : decode cX3_readInvoice 204 = .ok (.istore 6, 2) := dk_54 6 (dk_at dksX3_readInvoice_8 17 rfl rfl)
theorem dX3_readInvoice_206 : decode cX3_readInvoice 206 = .ok (.iload 6, 2) := dk_21 6 (dk_at dksX3_readInvoice_8 19 rfl rfl)
theorem dX3_readInvoice_208 : decode cX3_readInvoice 208 = .ok (.iload_n 3, 1) := dk_29 (dk_at dksX3_readInvoice_8 21 rfl rfl)
theorem dX3_readInvoice_209 : decode cX3_readInvoice 209 = .ok (.if_icmp .ge 46, 3) := dk_162 0 46 (dk_at dksX3_readInvoice_9 0 rfl rfl)
theorem dX3_readInvoice_212 : decode cX3_readInvoice 212 = .ok (.aload_n 0, 1) := dk_42 (dk_at dksX3_readInvoice_9 3 rfl rfl)
theorem dX3_readInvoice_213 : decode cX3_readInvoice 213 = .ok (.iload 5, 2) := dk_21 5 (dk_at dksX3_readInvoice_9 4 rfl rfl)
theorem dX3_readInvoice_215 : decode cX3_readInvoice 215 = .ok (.aload_n 0, 1) := dk_42 (dk_at dksX3_readInvoice_9 6 rfl rfl)
theorem dX3_readInvoice_216 : decode cX3_readInvoice 216 = .ok (.getfield 30, 3) := dk_180 0 30 (dk_at dksX3_readInvoice_9 7 rfl rfl)
theorem dX3_readInvoice_219 : decode cX3_readInvoice 219 = .ok (.iconst 3, 1) := dk_6 (dk_at dksX3_readInvoice_9 10 rfl rfl)
theorem dX3_readInvoice_220 : decode cX3_readInvoice 220 = .ok (.iload 6, 2) := dk_21 6 (dk_at dksX3_readInvoice_9 11 rfl rfl)
theorem dX3_readInvoice_222 : decode cX3_readInvoice 222 = .ok (.imul, 1) := dk_104 (dk_at dksX3_readInvoice_9 13 rfl rfl)
theorem dX3_readInvoice_223 : decode cX3_readInvoice 223 = .ok (.iaload, 1) := dk_46 (dk_at dksX3_readInvoice_9 14 rfl rfl)
theorem dX3_readInvoice_224 : decode cX3_readInvoice 224 = .ok (.aload_n 0, 1) := dk_42 (dk_at dksX3_readInvoice_9 15 rfl rfl)
theorem dX3_readInvoice_225 : decode cX3_readInvoice 225 = .ok (.getfield 30, 3) := dk_180 0 30 (dk_at dksX3_readInvoice_9 16 rfl rfl)
theorem dX3_readInvoice_228 : decode cX3_readInvoice 228 = .ok (.iconst 3, 1) := dk_6 (dk_at dksX3_readInvoice_9 19 rfl rfl)
theorem dX3_readInvoice_229 : decode cX3_readInvoice 229 = .ok (.iload 6, 2) := dk_21 6 (dk_at dksX3_readInvoice_9 20 rfl rfl)
theorem dX3_readInvoice_231 : decode cX3_readInvoice 231 = .ok (.imul, 1) := dk_104 (dk_at dksX3_readInvoice_9 22 rfl rfl)
theorem dX3_readInvoice_232 : decode cX3_readInvoice 232 = .ok (.iconst 1, 1) := dk_4 (dk_at dksX3_readInvoice_9 23 rfl rfl)
theorem dX3_readInvoice_233 : decode cX3_readInvoice 233 = .ok (.iadd, 1) := dk_96 (dk_at dksX3_readInvoice_10 0 rfl rfl)
theorem dX3_readInvoice_234 : decode cX3_readInvoice 234 = .ok (.iaload, 1) := dk_46 (dk_at dksX3_readInvoice_10 1 rfl rfl)
theorem dX3_readInvoice_235 : decode cX3_readInvoice 235 = .ok (.aload_n 0, 1) := dk_42 (dk_at dksX3_readInvoice_10 2 rfl rfl)
theorem dX3_readInvoice_236 : decode cX3_readInvoice 236 = .ok (.getfield 30, 3) := dk_180 0 30 (dk_at dksX3_readInvoice_10 3 rfl rfl)
theorem dX3_readInvoice_239 : decode cX3_readInvoice 239 = .ok (.iconst 3, 1) := dk_6 (dk_at dksX3_readInvoice_10 6 rfl rfl)
theorem dX3_readInvoice_240 : decode cX3_readInvoice 240 = .ok (.iload 6, 2) := dk_21 6 (dk_at dksX3_readInvoice_10 7 rfl rfl)
theorem dX3_readInvoice_242 : decode cX3_readInvoice 242 = .ok (.imul, 1) := dk_104 (dk_at dksX3_readInvoice_10 9 rfl rfl)
theorem dX3_readInvoice_243 : decode cX3_readInvoice 243 = .ok (.iconst 2, 1) := dk_5 (dk_at dksX3_readInvoice_10 10 rfl rfl)
theorem dX3_readInvoice_244 : decode cX3_readInvoice 244 = .ok (.iadd, 1) := dk_96 (dk_at dksX3_readInvoice_10 11 rfl rfl)
theorem dX3_readInvoice_245 : decode cX3_readInvoice 245 = .ok (.iaload, 1) := dk_46 (dk_at dksX3_readInvoice_10 12 rfl rfl)
theorem dX3_readInvoice_246 : decode cX3_readInvoice 246 = .ok (.invokevirtual 152, 3) := dk_182 0 152 (dk_at dksX3_readInvoice_10 13 rfl rfl)
theorem dX3_readInvoice_249 : decode cX3_readInvoice 249 = .ok (.iinc 6 1, 3) := dk_132 6 1 (dk_at dksX3_readInvoice_10 16 rfl rfl)
theorem dX3_readInvoice_252 : decode cX3_readInvoice 252 = .ok (.goto (-46), 3) := dk_167 255 210 (dk_at dksX3_readInvoice_10 19 rfl rfl)
theorem dX3_readInvoice_255 : decode cX3_readInvoice 255 = .ok (.aload_n 0, 1) := dk_42 (dk_at dksX3_readInvoice_10 22 rfl rfl)
theorem dX3_readInvoice_256 : decode cX3_readInvoice 256 = .ok (.iload 5, 2) := dk_21 5 (dk_at dksX3_readInvoice_11 0 rfl rfl)
theorem dX3_readInvoice_258 : decode cX3_readInvoice 258 = .ok (.invokevirtual 156, 3) := dk_182 0 156 (dk_at dksX3_readInvoice_11 2 rfl rfl)
theorem dX3_readInvoice_261 : decode cX3_readInvoice 261 = .ok (.ireturn, 1) := dk_172 (dk_at dksX3_readInvoice_11 5 rfl rfl)
abbrev cX3_number : ByteArray := prog_14_method_64_code
def yX3_number : MethodName := ⟨RX3, "number", "(I)I"⟩
def dkwX3_number_3 : List UInt8 := [180, 0, 201, 4, 96, 181, 0, 201, 132, 3, 1, 167, 255, 200, 28, 172]
abbrev dktX3_number_3 : List UInt8 := dkwX3_number_3 ++ []
def dkwX3_number_2 : List UInt8 := [16, 57, 184, 0, 53, 153, 0, 32, 16, 10, 28, 104, 42, 182, 0, 208, 96, 16, 48, 100, 61, 42, 89]
abbrev dktX3_number_2 : List UInt8 := dkwX3_number_2 ++ dktX3_number_3
def dkwX3_number_1 : List UInt8 := [62, 29, 27, 162, 0, 57, 42, 180, 0, 204, 154, 0, 50, 28, 158, 0, 46, 42, 182, 0, 208, 16, 48]
abbrev dktX3_number_1 : List UInt8 := dkwX3_number_1 ++ dktX3_number_2
def dkwX3_number_0 : List UInt8 := [42, 182, 0, 208, 16, 48, 100, 61, 42, 42, 182, 0, 208, 16, 48, 16, 57, 184, 0, 53, 182, 0, 212, 4]
abbrev dktX3_number_0 : List UInt8 := dkwX3_number_0 ++ dktX3_number_1
theorem dksX3_number_0 : cX3_number.data.toList.drop 0 = dktX3_number_0 := by decide +kernel
theorem dksX3_number_1 : cX3_number.data.toList.drop 24 = dktX3_number_1 := dk_seg dksX3_number_0 24 rfl rfl
theorem dksX3_number_2 : cX3_number.data.toList.drop 47 = dktX3_number_2 := dk_seg dksX3_number_1 23 rfl rfl
theorem dksX3_number_3 : cX3_number.data.toList.drop 70 = dktX3_number_3 := dk_seg dksX3_number_2 23 rfl rfl
theorem dX3_number_0 : decode cX3_number 0 = .ok (.aload_n 0, 1) := dk_42 (dk_at dksX3_number_0 0 rfl rfl)
theorem dX3_number_1 : decode cX3_number 1 = .ok (.invokevirtual 208, 3) := dk_182 0 208 (dk_at dksX3_number_0 1 rfl rfl)
theorem dX3_number_4 : decode cX3_number 4 = .ok (.bipush 48, 2) := dk_16 48 (dk_at dksX3_number_0 4 rfl rfl)
theorem dX3_number_6 : decode cX3_number 6 = .ok (.isub, 1) := dk_100 (dk_at dksX3_number_0 6 rfl rfl)
theorem dX3_number_7 : decode cX3_number 7 = .ok (.istore_n 2, 1) := dk_61 (dk_at dksX3_number_0 7 rfl rfl)
theorem dX3_number_8 : decode cX3_number 8 = .ok (.aload_n 0, 1) := dk_42 (dk_at dksX3_number_0 8 rfl rfl)
theorem dX3_number_9 : decode cX3_number 9 = .ok (.aload_n 0, 1) := dk_42 (dk_at dksX3_number_0 9 rfl rfl)
theorem dX3_number_10 : decode cX3_number 10 = .ok (.invokevirtual 208, 3) := dk_182 0 208 (dk_at dksX3_number_0 10 rfl rfl)
theorem dX3_number_13 : decode cX3_number 13 = .ok (.bipush 48, 2) := dk_16 48 (dk_at dksX3_number_0 13 rfl rfl)
theorem dX3_number_15 : decode cX3_number 15 = .ok (.bipush 57, 2) := dk_16 57 (dk_at dksX3_number_0 15 rfl rfl)
theorem dX3_number_17 : decode cX3_number 17 = .ok (.invokestatic 53, 3) := dk_184 0 53 (dk_at dksX3_number_0 17 rfl rfl)
theorem dX3_number_20 : decode cX3_number 20 = .ok (.invokevirtual 212, 3) := dk_182 0 212 (dk_at dksX3_number_0 20 rfl rfl)
theorem dX3_number_23 : decode cX3_number 23 = .ok (.iconst 1, 1) := dk_4 (dk_at dksX3_number_0 23 rfl rfl)
theorem dX3_number_24 : decode cX3_number 24 = .ok (.istore_n 3, 1) := dk_62 (dk_at dksX3_number_1 0 rfl rfl)
theorem dX3_number_25 : decode cX3_number 25 = .ok (.iload_n 3, 1) := dk_29 (dk_at dksX3_number_1 1 rfl rfl)
theorem dX3_number_26 : decode cX3_number 26 = .ok (.iload_n 1, 1) := dk_27 (dk_at dksX3_number_1 2 rfl rfl)
theorem dX3_number_27 : decode cX3_number 27 = .ok (.if_icmp .ge 57, 3) := dk_162 0 57 (dk_at dksX3_number_1 3 rfl rfl)
theorem dX3_number_30 : decode cX3_number 30 = .ok (.aload_n 0, 1) := dk_42 (dk_at dksX3_number_1 6 rfl rfl)
theorem dX3_number_31 : decode cX3_number 31 = .ok (.getfield 204, 3) := dk_180 0 204 (dk_at dksX3_number_1 7 rfl rfl)
theorem dX3_number_34 : decode cX3_number 34 = .ok (.ifCond .ne 50, 3) := dk_154 0 50 (dk_at dksX3_number_1 10 rfl rfl)
theorem dX3_number_37 : decode cX3_number 37 = .ok (.iload_n 2, 1) := dk_28 (dk_at dksX3_number_1 13 rfl rfl)
theorem dX3_number_38 : decode cX3_number 38 = .ok (.ifCond .le 46, 3) := dk_158 0 46 (dk_at dksX3_number_1 14 rfl rfl)
theorem dX3_number_41 : decode cX3_number 41 = .ok (.aload_n 0, 1) := dk_42 (dk_at dksX3_number_1 17 rfl rfl)
theorem dX3_number_42 : decode cX3_number 42 = .ok (.invokevirtual 208, 3) := dk_182 0 208 (dk_at dksX3_number_1 18 rfl rfl)
theorem dX3_number_45 : decode cX3_number 45 = .ok (.bipush 48, 2) := dk_16 48 (dk_at dksX3_number_1 21 rfl rfl)
theorem dX3_number_47 : decode cX3_number 47 = .ok (.bipush 57, 2) := dk_16 57 (dk_at dksX3_number_2 0 rfl rfl)
theorem dX3_number_49 : decode cX3_number 49 = .ok (.invokestatic 53, 3) := dk_184 0 53 (dk_at dksX3_number_2 2 rfl rfl)
theorem dX3_number_52 : decode cX3_number 52 = .ok (.ifCond .eq 32, 3) := dk_153 0 32 (dk_at dksX3_number_2 5 rfl rfl)
theorem dX3_number_55 : decode cX3_number 55 = .ok (.bipush 10, 2) := dk_16 10 (dk_at dksX3_number_2 8 rfl rfl)
theorem dX3_number_57 : decode cX3_number 57 = .ok (.iload_n 2, 1) := dk_28 (dk_at dksX3_number_2 10 rfl rfl)
theorem dX3_number_58 : decode cX3_number 58 = .ok (.imul, 1) := dk_104 (dk_at dksX3_number_2 11 rfl rfl)
theorem dX3_number_59 : decode cX3_number 59 = .ok (.aload_n 0, 1) := dk_42 (dk_at dksX3_number_2 12 rfl rfl)
theorem dX3_number_60 : decode cX3_number 60 = .ok (.invokevirtual 208, 3) := dk_182 0 208 (dk_at dksX3_number_2 13 rfl rfl)
theorem dX3_number_63 : decode cX3_number 63 = .ok (.iadd, 1) := dk_96 (dk_at dksX3_number_2 16 rfl rfl)
theorem dX3_number_64 : decode cX3_number 64 = .ok (.bipush 48, 2) := dk_16 48 (dk_at dksX3_number_2 17 rfl rfl)
theorem dX3_number_66 : decode cX3_number 66 = .ok (.isub, 1) := dk_100 (dk_at dksX3_number_2 19 rfl rfl)
theorem dX3_number_67 : decode cX3_number 67 = .ok (.istore_n 2, 1) := dk_61 (dk_at dksX3_number_2 20 rfl rfl)
theorem dX3_number_68 : decode cX3_number 68 = .ok (.aload_n 0, 1) := dk_42 (dk_at dksX3_number_2 21 rfl rfl)
theorem dX3_number_69 : decode cX3_number 69 = .ok (.dup, 1) := dk_89 (dk_at dksX3_number_2 22 rfl rfl)
theorem dX3_number_70 : decode cX3_number 70 = .ok (.getfield 201, 3) := dk_180 0 201 (dk_at dksX3_number_3 0 rfl rfl)
theorem dX3_number_73 : decode cX3_number 73 = .ok (.iconst 1, 1) := dk_4 (dk_at dksX3_number_3 3 rfl rfl)
theorem dX3_number_74 : decode cX3_number 74 = .ok (.iadd, 1) := dk_96 (dk_at dksX3_number_3 4 rfl rfl)
theorem dX3_number_75 : decode cX3_number 75 = .ok (.putfield 201, 3) := dk_181 0 201 (dk_at dksX3_number_3 5 rfl rfl)
theorem dX3_number_78 : decode cX3_number 78 = .ok (.iinc 3 1, 3) := dk_132 3 1 (dk_at dksX3_number_3 8 rfl rfl)
theorem dX3_number_81 : decode cX3_number 81 = .ok (.goto (-56), 3) := dk_167 255 200 (dk_at dksX3_number_3 11 rfl rfl)
theorem dX3_number_84 : decode cX3_number 84 = .ok (.iload_n 2, 1) := dk_28 (dk_at dksX3_number_3 14 rfl rfl)
theorem dX3_number_85 : decode cX3_number 85 = .ok (.ireturn, 1) := dk_172 (dk_at dksX3_number_3 15 rfl rfl)
abbrev cX3_look : ByteArray := prog_14_method_62_code
def yX3_look : MethodName := ⟨RX3, "look", "()I"⟩
def dkwX3_look_1 : List UInt8 := [172]
abbrev dktX3_look_1 : List UInt8 := dkwX3_look_1 ++ []
def dkwX3_look_0 : List UInt8 := [42, 180, 0, 201, 42, 180, 0, 198, 162, 0, 15, 42, 180, 0, 26, 42, 180, 0, 201, 46, 167, 0, 4, 2]
abbrev dktX3_look_0 : List UInt8 := dkwX3_look_0 ++ dktX3_look_1
theorem dksX3_look_0 : cX3_look.data.toList.drop 0 = dktX3_look_0 := by decide +kernel
theorem dksX3_look_1 : cX3_look.data.toList.drop 24 = dktX3_look_1 := dk_seg dksX3_look_0 24 rfl rfl
theorem dX3_look_0 : decode cX3_look 0 = .ok (.aload_n 0, 1) := dk_42 (dk_at dksX3_look_0 0 rfl rfl)
theorem dX3_look_1 : decode cX3_look 1 = .ok (.getfield 201, 3) := dk_180 0 201 (dk_at dksX3_look_0 1 rfl rfl)
theorem dX3_look_4 : decode cX3_look 4 = .ok (.aload_n 0, 1) := dk_42 (dk_at dksX3_look_0 4 rfl rfl)
theorem dX3_look_5 : decode cX3_look 5 = .ok (.getfield 198, 3) := dk_180 0 198 (dk_at dksX3_look_0 5 rfl rfl)
theorem dX3_look_8 : decode cX3_look 8 = .ok (.if_icmp .ge 15, 3) := dk_162 0 15 (dk_at dksX3_look_0 8 rfl rfl)
theorem dX3_look_11 : decode cX3_look 11 = .ok (.aload_n 0, 1) := dk_42 (dk_at dksX3_look_0 11 rfl rfl)
theorem dX3_look_12 : decode cX3_look 12 = .ok (.getfield 26, 3) := dk_180 0 26 (dk_at dksX3_look_0 12 rfl rfl)
theorem dX3_look_15 : decode cX3_look 15 = .ok (.aload_n 0, 1) := dk_42 (dk_at dksX3_look_0 15 rfl rfl)
theorem dX3_look_16 : decode cX3_look 16 = .ok (.getfield 201, 3) := dk_180 0 201 (dk_at dksX3_look_0 16 rfl rfl)
theorem dX3_look_19 : decode cX3_look 19 = .ok (.iaload, 1) := dk_46 (dk_at dksX3_look_0 19 rfl rfl)
theorem dX3_look_20 : decode cX3_look 20 = .ok (.goto 4, 3) := dk_167 0 4 (dk_at dksX3_look_0 20 rfl rfl)
theorem dX3_look_23 : decode cX3_look 23 = .ok (.iconst (-1), 1) := dk_2 (dk_at dksX3_look_0 23 rfl rfl)
theorem dX3_look_24 : decode cX3_look 24 = .ok (.ireturn, 1) := dk_172 (dk_at dksX3_look_1 0 rfl rfl)
abbrev cX3_must : ByteArray := prog_14_method_63_code
def yX3_must : MethodName := ⟨RX3, "must", "(Z)V"⟩
def dkwX3_must_1 : List UInt8 := [180, 0, 201, 42, 180, 0, 204, 153, 0, 7, 3, 167, 0, 4, 4, 96, 181, 0, 201, 177]
abbrev dktX3_must_1 : List UInt8 := dkwX3_must_1 ++ []
def dkwX3_must_0 : List UInt8 := [42, 42, 180, 0, 204, 154, 0, 7, 27, 154, 0, 7, 4, 167, 0, 4, 3, 181, 0, 204, 42, 89]
abbrev dktX3_must_0 : List UInt8 := dkwX3_must_0 ++ dktX3_must_1
theorem dksX3_must_0 : cX3_must.data.toList.drop 0 = dktX3_must_0 := by decide +kernel
theorem dksX3_must_1 : cX3_must.data.toList.drop 22 = dktX3_must_1 := dk_seg dksX3_must_0 22 rfl rfl
theorem dX3_must_0 : decode cX3_must 0 = .ok (.aload_n 0, 1) := dk_42 (dk_at dksX3_must_0 0 rfl rfl)
theorem dX3_must_1 : decode cX3_must 1 = .ok (.aload_n 0, 1) := dk_42 (dk_at dksX3_must_0 1 rfl rfl)
theorem dX3_must_2 : decode cX3_must 2 = .ok (.getfield 204, 3) := dk_180 0 204 (dk_at dksX3_must_0 2 rfl rfl)
theorem dX3_must_5 : decode cX3_must 5 = .ok (.ifCond .ne 7, 3) := dk_154 0 7 (dk_at dksX3_must_0 5 rfl rfl)
theorem dX3_must_8 : decode cX3_must 8 = .ok (.iload_n 1, 1) := dk_27 (dk_at dksX3_must_0 8 rfl rfl)
theorem dX3_must_9 : decode cX3_must 9 = .ok (.ifCond .ne 7, 3) := dk_154 0 7 (dk_at dksX3_must_0 9 rfl rfl)
theorem dX3_must_12 : decode cX3_must 12 = .ok (.iconst 1, 1) := dk_4 (dk_at dksX3_must_0 12 rfl rfl)
theorem dX3_must_13 : decode cX3_must 13 = .ok (.goto 4, 3) := dk_167 0 4 (dk_at dksX3_must_0 13 rfl rfl)
theorem dX3_must_16 : decode cX3_must 16 = .ok (.iconst 0, 1) := dk_3 (dk_at dksX3_must_0 16 rfl rfl)
theorem dX3_must_17 : decode cX3_must 17 = .ok (.putfield 204, 3) := dk_181 0 204 (dk_at dksX3_must_0 17 rfl rfl)
theorem dX3_must_20 : decode cX3_must 20 = .ok (.aload_n 0, 1) := dk_42 (dk_at dksX3_must_0 20 rfl rfl)
theorem dX3_must_21 : decode cX3_must 21 = .ok (.dup, 1) := dk_89 (dk_at dksX3_must_0 21 rfl rfl)
theorem dX3_must_22 : decode cX3_must 22 = .ok (.getfield 201, 3) := dk_180 0 201 (dk_at dksX3_must_1 0 rfl rfl)
theorem dX3_must_25 : decode cX3_must 25 = .ok (.aload_n 0, 1) := dk_42 (dk_at dksX3_must_1 3 rfl rfl)
theorem dX3_must_26 : decode cX3_must 26 = .ok (.getfield 204, 3) := dk_180 0 204 (dk_at dksX3_must_1 4 rfl rfl)
theorem dX3_must_29 : decode cX3_must 29 = .ok (.ifCond .eq 7, 3) := dk_153 0 7 (dk_at dksX3_must_1 7 rfl rfl)
theorem dX3_must_32 : decode cX3_must 32 = .ok (.iconst 0, 1) := dk_3 (dk_at dksX3_must_1 10 rfl rfl)
theorem dX3_must_33 : decode cX3_must 33 = .ok (.goto 4, 3) := dk_167 0 4 (dk_at dksX3_must_1 11 rfl rfl)
theorem dX3_must_36 : decode cX3_must 36 = .ok (.iconst 1, 1) := dk_4 (dk_at dksX3_must_1 14 rfl rfl)
theorem dX3_must_37 : decode cX3_must 37 = .ok (.iadd, 1) := dk_96 (dk_at dksX3_must_1 15 rfl rfl)
theorem dX3_must_38 : decode cX3_must 38 = .ok (.putfield 201, 3) := dk_181 0 201 (dk_at dksX3_must_1 16 rfl rfl)
theorem dX3_must_41 : decode cX3_must 41 = .ok (.return_, 1) := dk_177 (dk_at dksX3_must_1 19 rfl rfl)
abbrev cX3_tell : ByteArray := prog_14_method_65_code
def yX3_tell : MethodName := ⟨RX3, "tell", "(I)V"⟩
def dkwX3_tell_3 : List UInt8 := [96, 42, 7, 182, 0, 216, 79, 177]
abbrev dktX3_tell_3 : List UInt8 := dkwX3_tell_3 ++ []
def dkwX3_tell_2 : List UInt8 := [182, 0, 208, 16, 64, 160, 0, 7, 4, 167, 0, 4, 3, 182, 0, 212, 42, 180, 0, 30, 6, 27, 104, 5]
abbrev dktX3_tell_2 : List UInt8 := dkwX3_tell_2 ++ dktX3_tell_3
def dkwX3_tell_1 : List UInt8 := [167, 0, 4, 3, 182, 0, 212, 42, 180, 0, 30, 6, 27, 104, 4, 96, 42, 6, 182, 0, 216, 79, 42, 42]
abbrev dktX3_tell_1 : List UInt8 := dkwX3_tell_1 ++ dktX3_tell_2
def dkwX3_tell_0 : List UInt8 := [42, 180, 0, 30, 6, 27, 104, 42, 6, 182, 0, 216, 79, 42, 42, 182, 0, 208, 16, 120, 160, 0, 7, 4]
abbrev dktX3_tell_0 : List UInt8 := dkwX3_tell_0 ++ dktX3_tell_1
theorem dksX3_tell_0 : cX3_tell.data.toList.drop 0 = dktX3_tell_0 := by decide +kernel
theorem dksX3_tell_1 : cX3_tell.data.toList.drop 24 = dktX3_tell_1 := dk_seg dksX3_tell_0 24 rfl rfl
theorem dksX3_tell_2 : cX3_tell.data.toList.drop 48 = dktX3_tell_2 := dk_seg dksX3_tell_1 24 rfl rfl
theorem dksX3_tell_3 : cX3_tell.data.toList.drop 72 = dktX3_tell_3 := dk_seg dksX3_tell_2 24 rfl rfl
theorem dX3_tell_0 : decode cX3_tell 0 = .ok (.aload_n 0, 1) := dk_42 (dk_at dksX3_tell_0 0 rfl rfl)
theorem dX3_tell_1 : decode cX3_tell 1 = .ok (.getfield 30, 3) := dk_180 0 30 (dk_at dksX3_tell_0 1 rfl rfl)
theorem dX3_tell_4 : decode cX3_tell 4 = .ok (.iconst 3, 1) := dk_6 (dk_at dksX3_tell_0 4 rfl rfl)
theorem dX3_tell_5 : decode cX3_tell 5 = .ok (.iload_n 1, 1) := dk_27 (dk_at dksX3_tell_0 5 rfl rfl)
theorem dX3_tell_6 : decode cX3_tell 6 = .ok (.imul, 1) := dk_104 (dk_at dksX3_tell_0 6 rfl rfl)
theorem dX3_tell_7 : decode cX3_tell 7 = .ok (.aload_n 0, 1) := dk_42 (dk_at dksX3_tell_0 7 rfl rfl)
theorem dX3_tell_8 : decode cX3_tell 8 = .ok (.iconst 3, 1) := dk_6 (dk_at dksX3_tell_0 8 rfl rfl)
theorem dX3_tell_9 : decode cX3_tell 9 = .ok (.invokevirtual 216, 3) := dk_182 0 216 (dk_at dksX3_tell_0 9 rfl rfl)
theorem dX3_tell_12 : decode cX3_tell 12 = .ok (.iastore, 1) := dk_79 (dk_at dksX3_tell_0 12 rfl rfl)
theorem dX3_tell_13 : decode cX3_tell 13 = .ok (.aload_n 0, 1) := dk_42 (dk_at dksX3_tell_0 13 rfl rfl)
theorem dX3_tell_14 : decode cX3_tell 14 = .ok (.aload_n 0, 1) := dk_42 (dk_at dksX3_tell_0 14 rfl rfl)
theorem dX3_tell_15 : decode cX3_tell 15 = .ok (.invokevirtual 208, 3) := dk_182 0 208 (dk_at dksX3_tell_0 15 rfl rfl)
theorem dX3_tell_18 : decode cX3_tell 18 = .ok (.bipush 120, 2) := dk_16 120 (dk_at dksX3_tell_0 18 rfl rfl)
theorem dX3_tell_20 : decode cX3_tell 20 = .ok (.if_icmp .ne 7, 3) := dk_160 0 7 (dk_at dksX3_tell_0 20 rfl rfl)
theorem dX3_tell_23 : decode cX3_tell 23 = .ok (.iconst 1, 1) := dk_4 (dk_at dksX3_tell_0 23 rfl rfl)
theorem dX3_tell_24 : decode cX3_tell 24 = .ok (.goto 4, 3) := dk_167 0 4 (dk_at dksX3_tell_1 0 rfl rfl)
theorem dX3_tell_27 : decode cX3_tell 27 = .ok (.iconst 0, 1) := dk_3 (dk_at dksX3_tell_1 3 rfl rfl)
theorem dX3_tell_28 : decode cX3_tell 28 = .ok (.invokevirtual 212, 3) := dk_182 0 212 (dk_at dksX3_tell_1 4 rfl rfl)
theorem dX3_tell_31 : decode cX3_tell 31 = .ok (.aload_n 0, 1) := dk_42 (dk_at dksX3_tell_1 7 rfl rfl)
theorem dX3_tell_32 : decode cX3_tell 32 = .ok (.getfield 30, 3) := dk_180 0 30 (dk_at dksX3_tell_1 8 rfl rfl)
theorem dX3_tell_35 : decode cX3_tell 35 = .ok (.iconst 3, 1) := dk_6 (dk_at dksX3_tell_1 11 rfl rfl)
theorem dX3_tell_36 : decode cX3_tell 36 = .ok (.iload_n 1, 1) := dk_27 (dk_at dksX3_tell_1 12 rfl rfl)
theorem dX3_tell_37 : decode cX3_tell 37 = .ok (.imul, 1) := dk_104 (dk_at dksX3_tell_1 13 rfl rfl)
theorem dX3_tell_38 : decode cX3_tell 38 = .ok (.iconst 1, 1) := dk_4 (dk_at dksX3_tell_1 14 rfl rfl)
theorem dX3_tell_39 : decode cX3_tell 39 = .ok (.iadd, 1) := dk_96 (dk_at dksX3_tell_1 15 rfl rfl)
theorem dX3_tell_40 : decode cX3_tell 40 = .ok (.aload_n 0, 1) := dk_42 (dk_at dksX3_tell_1 16 rfl rfl)
theorem dX3_tell_41 : decode cX3_tell 41 = .ok (.iconst 3, 1) := dk_6 (dk_at dksX3_tell_1 17 rfl rfl)
theorem dX3_tell_42 : decode cX3_tell 42 = .ok (.invokevirtual 216, 3) := dk_182 0 216 (dk_at dksX3_tell_1 18 rfl rfl)
theorem dX3_tell_45 : decode cX3_tell 45 = .ok (.iastore, 1) := dk_79 (dk_at dksX3_tell_1 21 rfl rfl)
theorem dX3_tell_46 : decode cX3_tell 46 = .ok (.aload_n 0, 1) := dk_42 (dk_at dksX3_tell_1 22 rfl rfl)
theorem dX3_tell_47 : decode cX3_tell 47 = .ok (.aload_n 0, 1) := dk_42 (dk_at dksX3_tell_1 23 rfl rfl)
theorem dX3_tell_48 : decode cX3_tell 48 = .ok (.invokevirtual 208, 3) := dk_182 0 208 (dk_at dksX3_tell_2 0 rfl rfl)
theorem dX3_tell_51 : decode cX3_tell 51 = .ok (.bipush 64, 2) := dk_16 64 (dk_at dksX3_tell_2 3 rfl rfl)
theorem dX3_tell_53 : decode cX3_tell 53 = .ok (.if_icmp .ne 7, 3) := dk_160 0 7 (dk_at dksX3_tell_2 5 rfl rfl)
theorem dX3_tell_56 : decode cX3_tell 56 = .ok (.iconst 1, 1) := dk_4 (dk_at dksX3_tell_2 8 rfl rfl)
theorem dX3_tell_57 : decode cX3_tell 57 = .ok (.goto 4, 3) := dk_167 0 4 (dk_at dksX3_tell_2 9 rfl rfl)
theorem dX3_tell_60 : decode cX3_tell 60 = .ok (.iconst 0, 1) := dk_3 (dk_at dksX3_tell_2 12 rfl rfl)
theorem dX3_tell_61 : decode cX3_tell 61 = .ok (.invokevirtual 212, 3) := dk_182 0 212 (dk_at dksX3_tell_2 13 rfl rfl)
theorem dX3_tell_64 : decode cX3_tell 64 = .ok (.aload_n 0, 1) := dk_42 (dk_at dksX3_tell_2 16 rfl rfl)
theorem dX3_tell_65 : decode cX3_tell 65 = .ok (.getfield 30, 3) := dk_180 0 30 (dk_at dksX3_tell_2 17 rfl rfl)
theorem dX3_tell_68 : decode cX3_tell 68 = .ok (.iconst 3, 1) := dk_6 (dk_at dksX3_tell_2 20 rfl rfl)
theorem dX3_tell_69 : decode cX3_tell 69 = .ok (.iload_n 1, 1) := dk_27 (dk_at dksX3_tell_2 21 rfl rfl)
theorem dX3_tell_70 : decode cX3_tell 70 = .ok (.imul, 1) := dk_104 (dk_at dksX3_tell_2 22 rfl rfl)
theorem dX3_tell_71 : decode cX3_tell 71 = .ok (.iconst 2, 1) := dk_5 (dk_at dksX3_tell_2 23 rfl rfl)
theorem dX3_tell_72 : decode cX3_tell 72 = .ok (.iadd, 1) := dk_96 (dk_at dksX3_tell_3 0 rfl rfl)
theorem dX3_tell_73 : decode cX3_tell 73 = .ok (.aload_n 0, 1) := dk_42 (dk_at dksX3_tell_3 1 rfl rfl)
theorem dX3_tell_74 : decode cX3_tell 74 = .ok (.iconst 4, 1) := dk_7 (dk_at dksX3_tell_3 2 rfl rfl)
theorem dX3_tell_75 : decode cX3_tell 75 = .ok (.invokevirtual 216, 3) := dk_182 0 216 (dk_at dksX3_tell_3 3 rfl rfl)
theorem dX3_tell_78 : decode cX3_tell 78 = .ok (.iastore, 1) := dk_79 (dk_at dksX3_tell_3 6 rfl rfl)
theorem dX3_tell_79 : decode cX3_tell 79 = .ok (.return_, 1) := dk_177 (dk_at dksX3_tell_3 7 rfl rfl)
abbrev cX3_areLines : ByteArray := prog_14_method_66_code
def yX3_areLines : MethodName := ⟨RX3, "areLines", "(II)Z"⟩
def dkwX3_areLines_2 : List UInt8 := [167, 255, 220, 29, 172]
abbrev dktX3_areLines_2 : List UInt8 := dkwX3_areLines_2 ++ []
def dkwX3_areLines_1 : List UInt8 := [180, 0, 30, 6, 21, 4, 104, 46, 182, 0, 113, 153, 0, 7, 4, 167, 0, 4, 3, 62, 132, 4, 1]
abbrev dktX3_areLines_1 : List UInt8 := dkwX3_areLines_1 ++ dktX3_areLines_2
def dkwX3_areLines_0 : List UInt8 := [42, 27, 182, 0, 57, 62, 3, 54, 4, 21, 4, 28, 162, 0, 36, 29, 153, 0, 24, 42, 27, 42]
abbrev dktX3_areLines_0 : List UInt8 := dkwX3_areLines_0 ++ dktX3_areLines_1
theorem dksX3_areLines_0 : cX3_areLines.data.toList.drop 0 = dktX3_areLines_0 := by decide +kernel
theorem dksX3_areLines_1 : cX3_areLines.data.toList.drop 22 = dktX3_areLines_1 := dk_seg dksX3_areLines_0 22 rfl rfl
theorem dksX3_areLines_2 : cX3_areLines.data.toList.drop 45 = dktX3_areLines_2 := dk_seg dksX3_areLines_1 23 rfl rfl
theorem dX3_areLines_0 : decode cX3_areLines 0 = .ok (.aload_n 0, 1) := dk_42 (dk_at dksX3_areLines_0 0 rfl rfl)
theorem dX3_areLines_1 : decode cX3_areLines 1 = .ok (.iload_n 1, 1) := dk_27 (dk_at dksX3_areLines_0 1 rfl rfl)
theorem dX3_areLines_2 : decode cX3_areLines 2 = .ok (.invokevirtual 57, 3) := dk_182 0 57 (dk_at dksX3_areLines_0 2 rfl rfl)
theorem dX3_areLines_5 : decode cX3_areLines 5 = .ok (.istore_n 3, 1) := dk_62 (dk_at dksX3_areLines_0 5 rfl rfl)
theorem dX3_areLines_6 : decode cX3_areLines 6 = .ok (.iconst 0, 1) := dk_3 (dk_at dksX3_areLines_0 6 rfl rfl)
theorem dX3_areLines_7 : decode cX3_areLines 7 = .ok (.istore 4, 2) := dk_54 4 (dk_at dksX3_areLines_0 7 rfl rfl)
theorem dX3_areLines_9 : decode cX3_areLines 9 = .ok (.iload 4, 2) := dk_21 4 (dk_at dksX3_areLines_0 9 rfl rfl)
theorem dX3_areLines_11 : decode cX3_areLines 11 = .ok (.iload_n 2, 1) := dk_28 (dk_at dksX3_areLines_0 11 rfl rfl)
theorem dX3_areLines_12 : decode cX3_areLines 12 = .ok (.if_icmp .ge 36, 3) := dk_162 0 36 (dk_at dksX3_areLines_0 12 rfl rfl)
theorem dX3_areLines_15 : decode cX3_areLines 15 = .ok (.iload_n 3, 1) := dk_29 (dk_at dksX3_areLines_0 15 rfl rfl)
theorem dX3_areLines_16 : decode cX3_areLines 16 = .ok (.ifCond .eq 24, 3) := dk_153 0 24 (dk_at dksX3_areLines_0 16 rfl rfl)
theorem dX3_areLines_19 : decode cX3_areLines 19 = .ok (.aload_n 0, 1) := dk_42 (dk_at dksX3_areLines_0 19 rfl rfl)
theorem dX3_areLines_20 : decode cX3_areLines 20 = .ok (.iload_n 1, 1) := dk_27 (dk_at dksX3_areLines_0 20 rfl rfl)
theorem dX3_areLines_21 : decode cX3_areLines 21 = .ok (.aload_n 0, 1) := dk_42 (dk_at dksX3_areLines_0 21 rfl rfl)
theorem dX3_areLines_22 : decode cX3_areLines 22 = .ok (.getfield 30, 3) := dk_180 0 30 (dk_at dksX3_areLines_1 0 rfl rfl)
theorem dX3_areLines_25 : decode cX3_areLines 25 = .ok (.iconst 3, 1) := dk_6 (dk_at dksX3_areLines_1 3 rfl rfl)
theorem dX3_areLines_26 : decode cX3_areLines 26 = .ok (.iload 4, 2) := dk_21 4 (dk_at dksX3_areLines_1 4 rfl rfl)
theorem dX3_areLines_28 : decode cX3_areLines 28 = .ok (.imul, 1) := dk_104 (dk_at dksX3_areLines_1 6 rfl rfl)
theorem dX3_areLines_29 : decode cX3_areLines 29 = .ok (.iaload, 1) := dk_46 (dk_at dksX3_areLines_1 7 rfl rfl)
theorem dX3_areLines_30 : decode cX3_areLines 30 = .ok (.invokevirtual 113, 3) := dk_182 0 113 (dk_at dksX3_areLines_1 8 rfl rfl)
theorem dX3_areLines_33 : decode cX3_areLines 33 = .ok (.ifCond .eq 7, 3) := dk_153 0 7 (dk_at dksX3_areLines_1 11 rfl rfl)
theorem dX3_areLines_36 : decode cX3_areLines 36 = .ok (.iconst 1, 1) := dk_4 (dk_at dksX3_areLines_1 14 rfl rfl)
theorem dX3_areLines_37 : decode cX3_areLines 37 = .ok (.goto 4, 3) := dk_167 0 4 (dk_at dksX3_areLines_1 15 rfl rfl)
theorem dX3_areLines_40 : decode cX3_areLines 40 = .ok (.iconst 0, 1) := dk_3 (dk_at dksX3_areLines_1 18 rfl rfl)
theorem dX3_areLines_41 : decode cX3_areLines 41 = .ok (.istore_n 3, 1) := dk_62 (dk_at dksX3_areLines_1 19 rfl rfl)
theorem dX3_areLines_42 : decode cX3_areLines 42 = .ok (.iinc 4 1, 3) := dk_132 4 1 (dk_at dksX3_areLines_1 20 rfl rfl)
theorem dX3_areLines_45 : decode cX3_areLines 45 = .ok (.goto (-36), 3) := dk_167 255 220 (dk_at dksX3_areLines_2 0 rfl rfl)
theorem dX3_areLines_48 : decode cX3_areLines 48 = .ok (.iload_n 3, 1) := dk_29 (dk_at dksX3_areLines_2 3 rfl rfl)
theorem dX3_areLines_49 : decode cX3_areLines 49 = .ok (.ireturn, 1) := dk_172 (dk_at dksX3_areLines_2 4 rfl rfl)
abbrev cX3_areEntries : ByteArray := prog_14_method_67_code
def yX3_areEntries : MethodName := ⟨RX3, "areEntries", "(I)Z"⟩
def dkwX3_areEntries_4 : List UInt8 := [132, 3, 1, 167, 255, 167, 28, 172]
abbrev dktX3_areEntries_4 : List UInt8 := dkwX3_areEntries_4 ++ []
def dkwX3_areEntries_3 : List UInt8 := [180, 0, 30, 6, 29, 104, 46, 159, 0, 7, 4, 167, 0, 4, 3, 61, 132, 4, 1, 167, 255, 217]
abbrev dktX3_areEntries_3 : List UInt8 := dkwX3_areEntries_3 ++ dktX3_areEntries_4
def dkwX3_areEntries_2 : List UInt8 := [54, 4, 21, 4, 29, 162, 0, 39, 28, 153, 0, 27, 42, 180, 0, 30, 6, 21, 4, 104, 46, 42]
abbrev dktX3_areEntries_2 : List UInt8 := dkwX3_areEntries_2 ++ dktX3_areEntries_3
def dkwX3_areEntries_1 : List UInt8 := [158, 0, 20, 42, 180, 0, 30, 6, 29, 104, 5, 96, 46, 158, 0, 7, 4, 167, 0, 4, 3, 61, 3]
abbrev dktX3_areEntries_1 : List UInt8 := dkwX3_areEntries_1 ++ dktX3_areEntries_2
def dkwX3_areEntries_0 : List UInt8 := [4, 61, 3, 62, 29, 27, 162, 0, 90, 28, 153, 0, 33, 42, 180, 0, 30, 6, 29, 104, 4, 96, 46]
abbrev dktX3_areEntries_0 : List UInt8 := dkwX3_areEntries_0 ++ dktX3_areEntries_1
theorem dksX3_areEntries_0 : cX3_areEntries.data.toList.drop 0 = dktX3_areEntries_0 := by decide +kernel
theorem dksX3_areEntries_1 : cX3_areEntries.data.toList.drop 23 = dktX3_areEntries_1 := dk_seg dksX3_areEntries_0 23 rfl rfl
theorem dksX3_areEntries_2 : cX3_areEntries.data.toList.drop 46 = dktX3_areEntries_2 := dk_seg dksX3_areEntries_1 23 rfl rfl
theorem dksX3_areEntries_3 : cX3_areEntries.data.toList.drop 68 = dktX3_areEntries_3 := dk_seg dksX3_areEntries_2 22 rfl rfl
theorem dksX3_areEntries_4 : cX3_areEntries.data.toList.drop 90 = dktX3_areEntries_4 := dk_seg dksX3_areEntries_3 22 rfl rfl
theorem dX3_areEntries_0 : decode cX3_areEntries 0 = .ok (.iconst 1, 1) := dk_4 (dk_at dksX3_areEntries_0 0 rfl rfl)
theorem dX3_areEntries_1 : decode cX3_areEntries 1 = .ok (.istore_n 2, 1) := dk_61 (dk_at dksX3_areEntries_0 1 rfl rfl)
theorem dX3_areEntries_2 : decode cX3_areEntries 2 = .ok (.iconst 0, 1) := dk_3 (dk_at dksX3_areEntries_0 2 rfl rfl)
theorem dX3_areEntries_3 : decode cX3_areEntries 3 = .ok (.istore_n 3, 1) := dk_62 (dk_at dksX3_areEntries_0 3 rfl rfl)
theorem dX3_areEntries_4 : decode cX3_areEntries 4 = .ok (.iload_n 3, 1) := dk_29 (dk_at dksX3_areEntries_0 4 rfl rfl)
theorem dX3_areEntries_5 : decode cX3_areEntries 5 = .ok (.iload_n 1, 1) := dk_27 (dk_at dksX3_areEntries_0 5 rfl rfl)
theorem dX3_areEntries_6 : decode cX3_areEntries 6 = .ok (.if_icmp .ge 90, 3) := dk_162 0 90 (dk_at dksX3_areEntries_0 6 rfl rfl)
theorem dX3_areEntries_9 : decode cX3_areEntries 9 = .ok (.iload_n 2, 1) := dk_28 (dk_at dksX3_areEntries_0 9 rfl rfl)
theorem dX3_areEntries_10 : decode cX3_areEntries 10 = .ok (.ifCond .eq 33, 3) := dk_153 0 33 (dk_at dksX3_areEntries_0 10 rfl rfl)
theorem dX3_areEntries_13 : decode cX3_areEntries 13 = .ok (.aload_n 0, 1) := dk_42 (dk_at dksX3_areEntries_0 13 rfl rfl)
theorem dX3_areEntries_14 : decode cX3_areEntries 14 = .ok (.getfield 30, 3) := dk_180 0 30 (dk_at dksX3_areEntries_0 14 rfl rfl)
theorem dX3_areEntries_17 : decode cX3_areEntries 17 = .ok (.iconst 3, 1) := dk_6 (dk_at dksX3_areEntries_0 17 rfl rfl)
theorem dX3_areEntries_18 : decode cX3_areEntries 18 = .ok (.iload_n 3, 1) := dk_29 (dk_at dksX3_areEntries_0 18 rfl rfl)
theorem dX3_areEntries_19 : decode cX3_areEntries 19 = .ok (.imul, 1) := dk_104 (dk_at dksX3_areEntries_0 19 rfl rfl)
theorem dX3_areEntries_20 : decode cX3_areEntries 20 = .ok (.iconst 1, 1) := dk_4 (dk_at dksX3_areEntries_0 20 rfl rfl)
theorem dX3_areEntries_21 : decode cX3_areEntries 21 = .ok (.iadd, 1) := dk_96 (dk_at dksX3_areEntries_0 21 rfl rfl)
theorem dX3_areEntries_22 : decode cX3_areEntries 22 = .ok (.iaload, 1) := dk_46 (dk_at dksX3_areEntries_0 22 rfl rfl)
theorem dX3_areEntries_23 : decode cX3_areEntries 23 = .ok (.ifCond .le 20, 3) := dk_158 0 20 (dk_at dksX3_areEntries_1 0 rfl rfl)
theorem dX3_areEntries_26 : decode cX3_areEntries 26 = .ok (.aload_n 0, 1) := dk_42 (dk_at dksX3_areEntries_1 3 rfl rfl)
theorem dX3_areEntries_27 : decode cX3_areEntries 27 = .ok (.getfield 30, 3) := dk_180 0 30 (dk_at dksX3_areEntries_1 4 rfl rfl)
theorem dX3_areEntries_30 : decode cX3_areEntries 30 = .ok (.iconst 3, 1) := dk_6 (dk_at dksX3_areEntries_1 7 rfl rfl)
theorem dX3_areEntries_31 : decode cX3_areEntries 31 = .ok (.iload_n 3, 1) := dk_29 (dk_at dksX3_areEntries_1 8 rfl rfl)
theorem dX3_areEntries_32 : decode cX3_areEntries 32 = .ok (.imul, 1) := dk_104 (dk_at dksX3_areEntries_1 9 rfl rfl)
theorem dX3_areEntries_33 : decode cX3_areEntries 33 = .ok (.iconst 2, 1) := dk_5 (dk_at dksX3_areEntries_1 10 rfl rfl)
theorem dX3_areEntries_34 : decode cX3_areEntries 34 = .ok (.iadd, 1) := dk_96 (dk_at dksX3_areEntries_1 11 rfl rfl)
theorem dX3_areEntries_35 : decode cX3_areEntries 35 = .ok (.iaload, 1) := dk_46 (dk_at dksX3_areEntries_1 12 rfl rfl)
theorem dX3_areEntries_36 : decode cX3_areEntries 36 = .ok (.ifCond .le 7, 3) := dk_158 0 7 (dk_at dksX3_areEntries_1 13 rfl rfl)
theorem dX3_areEntries_39 : decode cX3_areEntries 39 = .ok (.iconst 1, 1) := dk_4 (dk_at dksX3_areEntries_1 16 rfl rfl)
theorem dX3_areEntries_40 : decode cX3_areEntries 40 = .ok (.goto 4, 3) := dk_167 0 4 (dk_at dksX3_areEntries_1 17 rfl rfl)
theorem dX3_areEntries_43 : decode cX3_areEntries 43 = .ok (.iconst 0, 1) := dk_3 (dk_at dksX3_areEntries_1 20 rfl rfl)
theorem dX3_areEntries_44 : decode cX3_areEntries 44 = .ok (.istore_n 2, 1) := dk_61 (dk_at dksX3_areEntries_1 21 rfl rfl)
theorem dX3_areEntries_45 : decode cX3_areEntries 45 = .ok (.iconst 0, 1) := dk_3 (dk_at dksX3_areEntries_1 22 rfl rfl)
theorem dX3_areEntries_46 : decode cX3_areEntries 46 = .ok (.istore 4, 2) := dk_54 4 (dk_at dksX3_areEntries_2 0 rfl rfl)
theorem dX3_areEntries_48 : decode cX3_areEntries 48 = .ok (.iload 4, 2) := dk_21 4 (dk_at dksX3_areEntries_2 2 rfl rfl)
theorem dX3_areEntries_50 : decode cX3_areEntries 50 = .ok (.iload_n 3, 1) := dk_29 (dk_at dksX3_areEntries_2 4 rfl rfl)
theorem dX3_areEntries_51 : decode cX3_areEntries 51 = .ok (.if_icmp .ge 39, 3) := dk_162 0 39 (dk_at dksX3_areEntries_2 5 rfl rfl)
theorem dX3_areEntries_54 : decode cX3_areEntries 54 = .ok (.iload_n 2, 1) := dk_28 (dk_at dksX3_areEntries_2 8 rfl rfl)
theorem dX3_areEntries_55 : decode cX3_areEntries 55 = .ok (.ifCond .eq 27, 3) := dk_153 0 27 (dk_at dksX3_areEntries_2 9 rfl rfl)
theorem dX3_areEntries_58 : decode cX3_areEntries 58 = .ok (.aload_n 0, 1) := dk_42 (dk_at dksX3_areEntries_2 12 rfl rfl)
theorem dX3_areEntries_59 : decode cX3_areEntries 59 = .ok (.getfield 30, 3) := dk_180 0 30 (dk_at dksX3_areEntries_2 13 rfl rfl)
theorem dX3_areEntries_62 : decode cX3_areEntries 62 = .ok (.iconst 3, 1) := dk_6 (dk_at dksX3_areEntries_2 16 rfl rfl)
theorem dX3_areEntries_63 : decode cX3_areEntries 63 = .ok (.iload 4, 2) := dk_21 4 (dk_at dksX3_areEntries_2 17 rfl rfl)
theorem dX3_areEntries_65 : decode cX3_areEntries 65 = .ok (.imul, 1) := dk_104 (dk_at dksX3_areEntries_2 19 rfl rfl)
theorem dX3_areEntries_66 : decode cX3_areEntries 66 = .ok (.iaload, 1) := dk_46 (dk_at dksX3_areEntries_2 20 rfl rfl)
theorem dX3_areEntries_67 : decode cX3_areEntries 67 = .ok (.aload_n 0, 1) := dk_42 (dk_at dksX3_areEntries_2 21 rfl rfl)
theorem dX3_areEntries_68 : decode cX3_areEntries 68 = .ok (.getfield 30, 3) := dk_180 0 30 (dk_at dksX3_areEntries_3 0 rfl rfl)
theorem dX3_areEntries_71 : decode cX3_areEntries 71 = .ok (.iconst 3, 1) := dk_6 (dk_at dksX3_areEntries_3 3 rfl rfl)
theorem dX3_areEntries_72 : decode cX3_areEntries 72 = .ok (.iload_n 3, 1) := dk_29 (dk_at dksX3_areEntries_3 4 rfl rfl)
theorem dX3_areEntries_73 : decode cX3_areEntries 73 = .ok (.imul, 1) := dk_104 (dk_at dksX3_areEntries_3 5 rfl rfl)
theorem dX3_areEntries_74 : decode cX3_areEntries 74 = .ok (.iaload, 1) := dk_46 (dk_at dksX3_areEntries_3 6 rfl rfl)
theorem dX3_areEntries_75 : decode cX3_areEntries 75 = .ok (.if_icmp .eq 7, 3) := dk_159 0 7 (dk_at dksX3_areEntries_3 7 rfl rfl)
theorem dX3_areEntries_78 : decode cX3_areEntries 78 = .ok (.iconst 1, 1) := dk_4 (dk_at dksX3_areEntries_3 10 rfl rfl)
theorem dX3_areEntries_79 : decode cX3_areEntries 79 = .ok (.goto 4, 3) := dk_167 0 4 (dk_at dksX3_areEntries_3 11 rfl rfl)
theorem dX3_areEntries_82 : decode cX3_areEntries 82 = .ok (.iconst 0, 1) := dk_3 (dk_at dksX3_areEntries_3 14 rfl rfl)
theorem dX3_areEntries_83 : decode cX3_areEntries 83 = .ok (.istore_n 2, 1) := dk_61 (dk_at dksX3_areEntries_3 15 rfl rfl)
theorem dX3_areEntries_84 : decode cX3_areEntries 84 = .ok (.iinc 4 1, 3) := dk_132 4 1 (dk_at dksX3_areEntries_3 16 rfl rfl)
theorem dX3_areEntries_87 : decode cX3_areEntries 87 = .ok (.goto (-39), 3) := dk_167 255 217 (dk_at dksX3_areEntries_3 19 rfl rfl)
theorem dX3_areEntries_90 : decode cX3_areEntries 90 = .ok (.iinc 3 1, 3) := dk_132 3 1 (dk_at dksX3_areEntries_4 0 rfl rfl)
theorem dX3_areEntries_93 : decode cX3_areEntries 93 = .ok (.goto (-89), 3) := dk_167 255 167 (dk_at dksX3_areEntries_4 3 rfl rfl)
theorem dX3_areEntries_96 : decode cX3_areEntries 96 = .ok (.iload_n 2, 1) := dk_28 (dk_at dksX3_areEntries_4 6 rfl rfl)
theorem dX3_areEntries_97 : decode cX3_areEntries 97 = .ok (.ireturn, 1) := dk_172 (dk_at dksX3_areEntries_4 7 rfl rfl)
abbrev cX3_undo : ByteArray := prog_14_method_69_code
def yX3_undo : MethodName := ⟨RX3, "undo", "()I"⟩
def dkwX3_undo_2 : List UInt8 := [42, 180, 0, 71, 104, 27, 96, 47, 80, 132, 1, 1, 167, 255, 225, 42, 180, 0, 71, 172]
abbrev dktX3_undo_2 : List UInt8 := dkwX3_undo_2 ++ []
def dkwX3_undo_1 : List UInt8 := [181, 0, 71, 3, 60, 27, 17, 5, 131, 162, 0, 30, 42, 180, 0, 13, 27, 42, 180, 0, 23, 17, 5, 131]
abbrev dktX3_undo_1 : List UInt8 := dkwX3_undo_1 ++ dktX3_undo_2
def dkwX3_undo_0 : List UInt8 := [42, 3, 181, 0, 1, 42, 180, 0, 71, 154, 0, 6, 16, 251, 172, 42, 89, 180, 0, 71, 4, 100]
abbrev dktX3_undo_0 : List UInt8 := dkwX3_undo_0 ++ dktX3_undo_1
theorem dksX3_undo_0 : cX3_undo.data.toList.drop 0 = dktX3_undo_0 := by decide +kernel
theorem dksX3_undo_1 : cX3_undo.data.toList.drop 22 = dktX3_undo_1 := dk_seg dksX3_undo_0 22 rfl rfl
theorem dksX3_undo_2 : cX3_undo.data.toList.drop 46 = dktX3_undo_2 := dk_seg dksX3_undo_1 24 rfl rfl
theorem dX3_undo_0 : decode cX3_undo 0 = .ok (.aload_n 0, 1) := dk_42 (dk_at dksX3_undo_0 0 rfl rfl)
theorem dX3_undo_1 : decode cX3_undo 1 = .ok (.iconst 0, 1) := dk_3 (dk_at dksX3_undo_0 1 rfl rfl)
theorem dX3_undo_2 : decode cX3_undo 2 = .ok (.putfield 1, 3) := dk_181 0 1 (dk_at dksX3_undo_0 2 rfl rfl)
theorem dX3_undo_5 : decode cX3_undo 5 = .ok (.aload_n 0, 1) := dk_42 (dk_at dksX3_undo_0 5 rfl rfl)
theorem dX3_undo_6 : decode cX3_undo 6 = .ok (.getfield 71, 3) := dk_180 0 71 (dk_at dksX3_undo_0 6 rfl rfl)
theorem dX3_undo_9 : decode cX3_undo 9 = .ok (.ifCond .ne 6, 3) := dk_154 0 6 (dk_at dksX3_undo_0 9 rfl rfl)
theorem dX3_undo_12 : decode cX3_undo 12 = .ok (.bipush (-5), 2) := dk_16 251 (dk_at dksX3_undo_0 12 rfl rfl)
theorem dX3_undo_14 : decode cX3_undo 14 = .ok (.ireturn, 1) := dk_172 (dk_at dksX3_undo_0 14 rfl rfl)
theorem dX3_undo_15 : decode cX3_undo 15 = .ok (.aload_n 0, 1) := dk_42 (dk_at dksX3_undo_0 15 rfl rfl)
theorem dX3_undo_16 : decode cX3_undo 16 = .ok (.dup, 1) := dk_89 (dk_at dksX3_undo_0 16 rfl rfl)
theorem dX3_undo_17 : decode cX3_undo 17 = .ok (.getfield 71, 3) := dk_180 0 71 (dk_at dksX3_undo_0 17 rfl rfl)
theorem dX3_undo_20 : decode cX3_undo 20 = .ok (.iconst 1, 1) := dk_4 (dk_at dksX3_undo_0 20 rfl rfl)
theorem dX3_undo_21 : decode cX3_undo 21 = .ok (.isub, 1) := dk_100 (dk_at dksX3_undo_0 21 rfl rfl)
theorem dX3_undo_22 : decode cX3_undo 22 = .ok (.putfield 71, 3) := dk_181 0 71 (dk_at dksX3_undo_1 0 rfl rfl)
theorem dX3_undo_25 : decode cX3_undo 25 = .ok (.iconst 0, 1) := dk_3 (dk_at dksX3_undo_1 3 rfl rfl)
theorem dX3_undo_26 : decode cX3_undo 26 = .ok (.istore_n 1, 1) := dk_60 (dk_at dksX3_undo_1 4 rfl rfl)
theorem dX3_undo_27 : decode cX3_undo 27 = .ok (.iload_n 1, 1) := dk_27 (dk_at dksX3_undo_1 5 rfl rfl)
theorem dX3_undo_28 : decode cX3_undo 28 = .ok (.sipush 1411, 3) := dk_17 5 131 (dk_at dksX3_undo_1 6 rfl rfl)
theorem dX3_undo_31 : decode cX3_undo 31 = .ok (.if_icmp .ge 30, 3) := dk_162 0 30 (dk_at dksX3_undo_1 9 rfl rfl)
theorem dX3_undo_34 : decode cX3_undo 34 = .ok (.aload_n 0, 1) := dk_42 (dk_at dksX3_undo_1 12 rfl rfl)
theorem dX3_undo_35 : decode cX3_undo 35 = .ok (.getfield 13, 3) := dk_180 0 13 (dk_at dksX3_undo_1 13 rfl rfl)
theorem dX3_undo_38 : decode cX3_undo 38 = .ok (.iload_n 1, 1) := dk_27 (dk_at dksX3_undo_1 16 rfl rfl)
theorem dX3_undo_39 : decode cX3_undo 39 = .ok (.aload_n 0, 1) := dk_42 (dk_at dksX3_undo_1 17 rfl rfl)
theorem dX3_undo_40 : decode cX3_undo 40 = .ok (.getfield 23, 3) := dk_180 0 23 (dk_at dksX3_undo_1 18 rfl rfl)
theorem dX3_undo_43 : decode cX3_undo 43 = .ok (.sipush 1411, 3) := dk_17 5 131 (dk_at dksX3_undo_1 21 rfl rfl)
theorem dX3_undo_46 : decode cX3_undo 46 = .ok (.aload_n 0, 1) := dk_42 (dk_at dksX3_undo_2 0 rfl rfl)
theorem dX3_undo_47 : decode cX3_undo 47 = .ok (.getfield 71, 3) := dk_180 0 71 (dk_at dksX3_undo_2 1 rfl rfl)
theorem dX3_undo_50 : decode cX3_undo 50 = .ok (.imul, 1) := dk_104 (dk_at dksX3_undo_2 4 rfl rfl)
theorem dX3_undo_51 : decode cX3_undo 51 = .ok (.iload_n 1, 1) := dk_27 (dk_at dksX3_undo_2 5 rfl rfl)
theorem dX3_undo_52 : decode cX3_undo 52 = .ok (.iadd, 1) := dk_96 (dk_at dksX3_undo_2 6 rfl rfl)
theorem dX3_undo_53 : decode cX3_undo 53 = .ok (.laload, 1) := dk_47 (dk_at dksX3_undo_2 7 rfl rfl)
theorem dX3_undo_54 : decode cX3_undo 54 = .ok (.lastore, 1) := dk_80 (dk_at dksX3_undo_2 8 rfl rfl)
theorem dX3_undo_55 : decode cX3_undo 55 = .ok (.iinc 1 1, 3) := dk_132 1 1 (dk_at dksX3_undo_2 9 rfl rfl)
theorem dX3_undo_58 : decode cX3_undo 58 = .ok (.goto (-31), 3) := dk_167 255 225 (dk_at dksX3_undo_2 12 rfl rfl)
theorem dX3_undo_61 : decode cX3_undo 61 = .ok (.aload_n 0, 1) := dk_42 (dk_at dksX3_undo_2 15 rfl rfl)
theorem dX3_undo_62 : decode cX3_undo 62 = .ok (.getfield 71, 3) := dk_180 0 71 (dk_at dksX3_undo_2 16 rfl rfl)
theorem dX3_undo_65 : decode cX3_undo 65 = .ok (.ireturn, 1) := dk_172 (dk_at dksX3_undo_2 19 rfl rfl)
abbrev cX3_keep : ByteArray := prog_14_method_70_code
def yX3_keep : MethodName := ⟨RX3, "keep", "()I"⟩
def dkwX3_keep_1 : List UInt8 := [47, 80, 132, 1, 1, 167, 255, 234, 42, 4, 181, 0, 228, 42, 3, 182, 0, 49, 172]
abbrev dktX3_keep_1 : List UInt8 := dkwX3_keep_1 ++ []
def dkwX3_keep_0 : List UInt8 := [42, 3, 181, 0, 1, 3, 60, 27, 17, 5, 131, 162, 0, 21, 42, 180, 0, 20, 27, 42, 180, 0, 13, 27]
abbrev dktX3_keep_0 : List UInt8 := dkwX3_keep_0 ++ dktX3_keep_1
theorem dksX3_keep_0 : cX3_keep.data.toList.drop 0 = dktX3_keep_0 := by decide +kernel
theorem dksX3_keep_1 : cX3_keep.data.toList.drop 24 = dktX3_keep_1 := dk_seg dksX3_keep_0 24 rfl rfl
theorem dX3_keep_0 : decode cX3_keep 0 = .ok (.aload_n 0, 1) := dk_42 (dk_at dksX3_keep_0 0 rfl rfl)
theorem dX3_keep_1 : decode cX3_keep 1 = .ok (.iconst 0, 1) := dk_3 (dk_at dksX3_keep_0 1 rfl rfl)
theorem dX3_keep_2 : decode cX3_keep 2 = .ok (.putfield 1, 3) := dk_181 0 1 (dk_at dksX3_keep_0 2 rfl rfl)
theorem dX3_keep_5 : decode cX3_keep 5 = .ok (.iconst 0, 1) := dk_3 (dk_at dksX3_keep_0 5 rfl rfl)
theorem dX3_keep_6 : decode cX3_keep 6 = .ok (.istore_n 1, 1) := dk_60 (dk_at dksX3_keep_0 6 rfl rfl)
theorem dX3_keep_7 : decode cX3_keep 7 = .ok (.iload_n 1, 1) := dk_27 (dk_at dksX3_keep_0 7 rfl rfl)
theorem dX3_keep_8 : decode cX3_keep 8 = .ok (.sipush 1411, 3) := dk_17 5 131 (dk_at dksX3_keep_0 8 rfl rfl)
theorem dX3_keep_11 : decode cX3_keep 11 = .ok (.if_icmp .ge 21, 3) := dk_162 0 21 (dk_at dksX3_keep_0 11 rfl rfl)
theorem dX3_keep_14 : decode cX3_keep 14 = .ok (.aload_n 0, 1) := dk_42 (dk_at dksX3_keep_0 14 rfl rfl)
theorem dX3_keep_15 : decode cX3_keep 15 = .ok (.getfield 20, 3) := dk_180 0 20 (dk_at dksX3_keep_0 15 rfl rfl)
theorem dX3_keep_18 : decode cX3_keep 18 = .ok (.iload_n 1, 1) := dk_27 (dk_at dksX3_keep_0 18 rfl rfl)
theorem dX3_keep_19 : decode cX3_keep 19 = .ok (.aload_n 0, 1) := dk_42 (dk_at dksX3_keep_0 19 rfl rfl)
theorem dX3_keep_20 : decode cX3_keep 20 = .ok (.getfield 13, 3) := dk_180 0 13 (dk_at dksX3_keep_0 20 rfl rfl)
theorem dX3_keep_23 : decode cX3_keep 23 = .ok (.iload_n 1, 1) := dk_27 (dk_at dksX3_keep_0 23 rfl rfl)
theorem dX3_keep_24 : decode cX3_keep 24 = .ok (.laload, 1) := dk_47 (dk_at dksX3_keep_1 0 rfl rfl)
theorem dX3_keep_25 : decode cX3_keep 25 = .ok (.lastore, 1) := dk_80 (dk_at dksX3_keep_1 1 rfl rfl)
theorem dX3_keep_26 : decode cX3_keep 26 = .ok (.iinc 1 1, 3) := dk_132 1 1 (dk_at dksX3_keep_1 2 rfl rfl)
theorem dX3_keep_29 : decode cX3_keep 29 = .ok (.goto (-22), 3) := dk_167 255 234 (dk_at dksX3_keep_1 5 rfl rfl)
theorem dX3_keep_32 : decode cX3_keep 32 = .ok (.aload_n 0, 1) := dk_42 (dk_at dksX3_keep_1 8 rfl rfl)
theorem dX3_keep_33 : decode cX3_keep 33 = .ok (.iconst 1, 1) := dk_4 (dk_at dksX3_keep_1 9 rfl rfl)
theorem dX3_keep_34 : decode cX3_keep 34 = .ok (.putfield 228, 3) := dk_181 0 228 (dk_at dksX3_keep_1 10 rfl rfl)
theorem dX3_keep_37 : decode cX3_keep 37 = .ok (.aload_n 0, 1) := dk_42 (dk_at dksX3_keep_1 13 rfl rfl)
theorem dX3_keep_38 : decode cX3_keep 38 = .ok (.iconst 0, 1) := dk_3 (dk_at dksX3_keep_1 14 rfl rfl)
theorem dX3_keep_39 : decode cX3_keep 39 = .ok (.invokevirtual 49, 3) := dk_182 0 49 (dk_at dksX3_keep_1 15 rfl rfl)
theorem dX3_keep_42 : decode cX3_keep 42 = .ok (.ireturn, 1) := dk_172 (dk_at dksX3_keep_1 18 rfl rfl)
abbrev cX3_restore : ByteArray := prog_14_method_71_code
def yX3_restore : MethodName := ⟨RX3, "restore", "()I"⟩
def dkwX3_restore_2 : List UInt8 := [182, 0, 84, 172]
abbrev dktX3_restore_2 : List UInt8 := dkwX3_restore_2 ++ []
def dkwX3_restore_1 : List UInt8 := [180, 0, 13, 27, 42, 180, 0, 20, 27, 47, 80, 132, 1, 1, 167, 255, 234, 42, 42, 3, 182, 0, 49]
abbrev dktX3_restore_1 : List UInt8 := dkwX3_restore_1 ++ dktX3_restore_2
def dkwX3_restore_0 : List UInt8 := [42, 182, 0, 74, 42, 180, 0, 228, 154, 0, 6, 16, 251, 172, 3, 60, 27, 17, 5, 131, 162, 0, 21, 42]
abbrev dktX3_restore_0 : List UInt8 := dkwX3_restore_0 ++ dktX3_restore_1
theorem dksX3_restore_0 : cX3_restore.data.toList.drop 0 = dktX3_restore_0 := by decide +kernel
theorem dksX3_restore_1 : cX3_restore.data.toList.drop 24 = dktX3_restore_1 := dk_seg dksX3_restore_0 24 rfl rfl
theorem dksX3_restore_2 : cX3_restore.data.toList.drop 47 = dktX3_restore_2 := dk_seg dksX3_restore_1 23 rfl rfl
theorem dX3_restore_0 : decode cX3_restore 0 = .ok (.aload_n 0, 1) := dk_42 (dk_at dksX3_restore_0 0 rfl rfl)
theorem dX3_restore_1 : decode cX3_restore 1 = .ok (.invokevirtual 74, 3) := dk_182 0 74 (dk_at dksX3_restore_0 1 rfl rfl)
theorem dX3_restore_4 : decode cX3_restore 4 = .ok (.aload_n 0, 1) := dk_42 (dk_at dksX3_restore_0 4 rfl rfl)
theorem dX3_restore_5 : decode cX3_restore 5 = .ok (.getfield 228, 3) := dk_180 0 228 (dk_at dksX3_restore_0 5 rfl rfl)
theorem dX3_restore_8 : decode cX3_restore 8 = .ok (.ifCond .ne 6, 3) := dk_154 0 6 (dk_at dksX3_restore_0 8 rfl rfl)
theorem dX3_restore_11 : decode cX3_restore 11 = .ok (.bipush (-5), 2) := dk_16 251 (dk_at dksX3_restore_0 11 rfl rfl)
theorem dX3_restore_13 : decode cX3_restore 13 = .ok (.ireturn, 1) := dk_172 (dk_at dksX3_restore_0 13 rfl rfl)
theorem dX3_restore_14 : decode cX3_restore 14 = .ok (.iconst 0, 1) := dk_3 (dk_at dksX3_restore_0 14 rfl rfl)
theorem dX3_restore_15 : decode cX3_restore 15 = .ok (.istore_n 1, 1) := dk_60 (dk_at dksX3_restore_0 15 rfl rfl)
theorem dX3_restore_16 : decode cX3_restore 16 = .ok (.iload_n 1, 1) := dk_27 (dk_at dksX3_restore_0 16 rfl rfl)
theorem dX3_restore_17 : decode cX3_restore 17 = .ok (.sipush 1411, 3) := dk_17 5 131 (dk_at dksX3_restore_0 17 rfl rfl)
theorem dX3_restore_20 : decode cX3_restore 20 = .ok (.if_icmp .ge 21, 3) := dk_162 0 21 (dk_at dksX3_restore_0 20 rfl rfl)
theorem dX3_restore_23 : decode cX3_restore 23 = .ok (.aload_n 0, 1) := dk_42 (dk_at dksX3_restore_0 23 rfl rfl)
theorem dX3_restore_24 : decode cX3_restore 24 = .ok (.getfield 13, 3) := dk_180 0 13 (dk_at dksX3_restore_1 0 rfl rfl)
theorem dX3_restore_27 : decode cX3_restore 27 = .ok (.iload_n 1, 1) := dk_27 (dk_at dksX3_restore_1 3 rfl rfl)
theorem dX3_restore_28 : decode cX3_restore 28 = .ok (.aload_n 0, 1) := dk_42 (dk_at dksX3_restore_1 4 rfl rfl)
theorem dX3_restore_29 : decode cX3_restore 29 = .ok (.getfield 20, 3) := dk_180 0 20 (dk_at dksX3_restore_1 5 rfl rfl)
theorem dX3_restore_32 : decode cX3_restore 32 = .ok (.iload_n 1, 1) := dk_27 (dk_at dksX3_restore_1 8 rfl rfl)
theorem dX3_restore_33 : decode cX3_restore 33 = .ok (.laload, 1) := dk_47 (dk_at dksX3_restore_1 9 rfl rfl)
theorem dX3_restore_34 : decode cX3_restore 34 = .ok (.lastore, 1) := dk_80 (dk_at dksX3_restore_1 10 rfl rfl)
theorem dX3_restore_35 : decode cX3_restore 35 = .ok (.iinc 1 1, 3) := dk_132 1 1 (dk_at dksX3_restore_1 11 rfl rfl)
theorem dX3_restore_38 : decode cX3_restore 38 = .ok (.goto (-22), 3) := dk_167 255 234 (dk_at dksX3_restore_1 14 rfl rfl)
theorem dX3_restore_41 : decode cX3_restore 41 = .ok (.aload_n 0, 1) := dk_42 (dk_at dksX3_restore_1 17 rfl rfl)
theorem dX3_restore_42 : decode cX3_restore 42 = .ok (.aload_n 0, 1) := dk_42 (dk_at dksX3_restore_1 18 rfl rfl)
theorem dX3_restore_43 : decode cX3_restore 43 = .ok (.iconst 0, 1) := dk_3 (dk_at dksX3_restore_1 19 rfl rfl)
theorem dX3_restore_44 : decode cX3_restore 44 = .ok (.invokevirtual 49, 3) := dk_182 0 49 (dk_at dksX3_restore_1 20 rfl rfl)
theorem dX3_restore_47 : decode cX3_restore 47 = .ok (.invokevirtual 84, 3) := dk_182 0 84 (dk_at dksX3_restore_2 0 rfl rfl)
theorem dX3_restore_50 : decode cX3_restore 50 = .ok (.ireturn, 1) := dk_172 (dk_at dksX3_restore_2 3 rfl rfl)
abbrev cX3_supplier : ByteArray := prog_14_method_73_code
def yX3_supplier : MethodName := ⟨RX3, "supplier", "(II)I"⟩
def dkwX3_supplier_5 : List UInt8 := [184, 0, 77, 182, 0, 49, 172, 16, 254, 172]
abbrev dktX3_supplier_5 : List UInt8 := dkwX3_supplier_5 ++ []
def dkwX3_supplier_4 : List UInt8 := [184, 0, 77, 182, 0, 49, 172, 42, 27, 16, 6, 184, 0, 77, 182, 0, 49, 172, 42, 27, 16, 7]
abbrev dktX3_supplier_4 : List UInt8 := dkwX3_supplier_4 ++ dktX3_supplier_5
def dkwX3_supplier_3 : List UInt8 := [184, 0, 77, 182, 0, 49, 172, 42, 27, 3, 182, 0, 231, 172, 42, 27, 4, 182, 0, 231, 172, 42, 27, 8]
abbrev dktX3_supplier_3 : List UInt8 := dkwX3_supplier_3 ++ dktX3_supplier_4
def dkwX3_supplier_2 : List UInt8 := [42, 27, 5, 184, 0, 77, 182, 0, 49, 172, 42, 27, 6, 184, 0, 77, 182, 0, 49, 172, 42, 27, 7]
abbrev dktX3_supplier_2 : List UInt8 := dkwX3_supplier_2 ++ dktX3_supplier_3
def dkwX3_supplier_1 : List UInt8 := [170, 0, 0, 0, 0, 0, 0, 124, 0, 0, 0, 0, 0, 0, 0, 7, 0, 0, 0, 48, 0, 0, 0, 58, 0, 0, 0, 68, 0, 0, 0, 78, 0, 0, 0, 85, 0, 0, 0, 92, 0, 0, 0, 102, 0, 0, 0, 113]
abbrev dktX3_supplier_1 : List UInt8 := dkwX3_supplier_1 ++ dktX3_supplier_2
def dkwX3_supplier_0 : List UInt8 := [42, 3, 181, 0, 1, 42, 27, 182, 0, 89, 154, 0, 5, 2, 172, 28]
abbrev dktX3_supplier_0 : List UInt8 := dkwX3_supplier_0 ++ dktX3_supplier_1
theorem dksX3_supplier_0 : cX3_supplier.data.toList.drop 0 = dktX3_supplier_0 := by decide +kernel
theorem dksX3_supplier_1 : cX3_supplier.data.toList.drop 16 = dktX3_supplier_1 := dk_seg dksX3_supplier_0 16 rfl rfl
theorem dksX3_supplier_2 : cX3_supplier.data.toList.drop 64 = dktX3_supplier_2 := dk_seg dksX3_supplier_1 48 rfl rfl
theorem dksX3_supplier_3 : cX3_supplier.data.toList.drop 87 = dktX3_supplier_3 := dk_seg dksX3_supplier_2 23 rfl rfl
theorem dksX3_supplier_4 : cX3_supplier.data.toList.drop 111 = dktX3_supplier_4 := dk_seg dksX3_supplier_3 24 rfl rfl
theorem dksX3_supplier_5 : cX3_supplier.data.toList.drop 133 = dktX3_supplier_5 := dk_seg dksX3_supplier_4 22 rfl rfl
theorem dX3_supplier_0 : decode cX3_supplier 0 = .ok (.aload_n 0, 1) := dk_42 (dk_at dksX3_supplier_0 0 rfl rfl)
theorem dX3_supplier_1 : decode cX3_supplier 1 = .ok (.iconst 0, 1) := dk_3 (dk_at dksX3_supplier_0 1 rfl rfl)
theorem dX3_supplier_2 : decode cX3_supplier 2 = .ok (.putfield 1, 3) := dk_181 0 1 (dk_at dksX3_supplier_0 2 rfl rfl)
theorem dX3_supplier_5 : decode cX3_supplier 5 = .ok (.aload_n 0, 1) := dk_42 (dk_at dksX3_supplier_0 5 rfl rfl)
theorem dX3_supplier_6 : decode cX3_supplier 6 = .ok (.iload_n 1, 1) := dk_27 (dk_at dksX3_supplier_0 6 rfl rfl)
theorem dX3_supplier_7 : decode cX3_supplier 7 = .ok (.invokevirtual 89, 3) := dk_182 0 89 (dk_at dksX3_supplier_0 7 rfl rfl)
theorem dX3_supplier_10 : decode cX3_supplier 10 = .ok (.ifCond .ne 5, 3) := dk_154 0 5 (dk_at dksX3_supplier_0 10 rfl rfl)
theorem dX3_supplier_13 : decode cX3_supplier 13 = .ok (.iconst (-1), 1) := dk_2 (dk_at dksX3_supplier_0 13 rfl rfl)
theorem dX3_supplier_14 : decode cX3_supplier 14 = .ok (.ireturn, 1) := dk_172 (dk_at dksX3_supplier_0 14 rfl rfl)
theorem dX3_supplier_15 : decode cX3_supplier 15 = .ok (.iload_n 2, 1) := dk_28 (dk_at dksX3_supplier_0 15 rfl rfl)
theorem dX3_supplier_16 : decode cX3_supplier 16 = .ok (.tableswitch 124 0 7 #[48, 58, 68, 78, 85, 92, 102, 113], 48) := by decide +kernel
theorem dX3_supplier_64 : decode cX3_supplier 64 = .ok (.aload_n 0, 1) := dk_42 (dk_at dksX3_supplier_2 0 rfl rfl)
theorem dX3_supplier_65 : decode cX3_supplier 65 = .ok (.iload_n 1, 1) := dk_27 (dk_at dksX3_supplier_2 1 rfl rfl)
theorem dX3_supplier_66 : decode cX3_supplier 66 = .ok (.iconst 2, 1) := dk_5 (dk_at dksX3_supplier_2 2 rfl rfl)
theorem dX3_supplier_67 : decode cX3_supplier 67 = .ok (.invokestatic 77, 3) := dk_184 0 77 (dk_at dksX3_supplier_2 3 rfl rfl)
theorem dX3_supplier_70 : decode cX3_supplier 70 = .ok (.invokevirtual 49, 3) := dk_182 0 49 (dk_at dksX3_supplier_2 6 rfl rfl)
theorem dX3_supplier_73 : decode cX3_supplier 73 = .ok (.ireturn, 1) := dk_172 (dk_at dksX3_supplier_2 9 rfl rfl)
theorem dX3_supplier_74 : decode cX3_supplier 74 = .ok (.aload_n 0, 1) := dk_42 (dk_at dksX3_supplier_2 10 rfl rfl)
theorem dX3_supplier_75 : decode cX3_supplier 75 = .ok (.iload_n 1, 1) := dk_27 (dk_at dksX3_supplier_2 11 rfl rfl)
theorem dX3_supplier_76 : decode cX3_supplier 76 = .ok (.iconst 3, 1) := dk_6 (dk_at dksX3_supplier_2 12 rfl rfl)
theorem dX3_supplier_77 : decode cX3_supplier 77 = .ok (.invokestatic 77, 3) := dk_184 0 77 (dk_at dksX3_supplier_2 13 rfl rfl)
theorem dX3_supplier_80 : decode cX3_supplier 80 = .ok (.invokevirtual 49, 3) := dk_182 0 49 (dk_at dksX3_supplier_2 16 rfl rfl)
theorem dX3_supplier_83 : decode cX3_supplier 83 = .ok (.ireturn, 1) := dk_172 (dk_at dksX3_supplier_2 19 rfl rfl)
theorem dX3_supplier_84 : decode cX3_supplier 84 = .ok (.aload_n 0, 1) := dk_42 (dk_at dksX3_supplier_2 20 rfl rfl)
theorem dX3_supplier_85 : decode cX3_supplier 85 = .ok (.iload_n 1, 1) := dk_27 (dk_at dksX3_supplier_2 21 rfl rfl)
theorem dX3_supplier_86 : decode cX3_supplier 86 = .ok (.iconst 4, 1) := dk_7 (dk_at dksX3_supplier_2 22 rfl rfl)
theorem dX3_supplier_87 : decode cX3_supplier 87 = .ok (.invokestatic 77, 3) := dk_184 0 77 (dk_at dksX3_supplier_3 0 rfl rfl)
theorem dX3_supplier_90 : decode cX3_supplier 90 = .ok (.invokevirtual 49, 3) := dk_182 0 49 (dk_at dksX3_supplier_3 3 rfl rfl)
theorem dX3_supplier_93 : decode cX3_supplier 93 = .ok (.ireturn, 1) := dk_172 (dk_at dksX3_supplier_3 6 rfl rfl)
theorem dX3_supplier_94 : decode cX3_supplier 94 = .ok (.aload_n 0, 1) := dk_42 (dk_at dksX3_supplier_3 7 rfl rfl)
theorem dX3_supplier_95 : decode cX3_supplier 95 = .ok (.iload_n 1, 1) := dk_27 (dk_at dksX3_supplier_3 8 rfl rfl)
theorem dX3_supplier_96 : decode cX3_supplier 96 = .ok (.iconst 0, 1) := dk_3 (dk_at dksX3_supplier_3 9 rfl rfl)
theorem dX3_supplier_97 : decode cX3_supplier 97 = .ok (.invokevirtual 231, 3) := dk_182 0 231 (dk_at dksX3_supplier_3 10 rfl rfl)
theorem dX3_supplier_100 : decode cX3_supplier 100 = .ok (.ireturn, 1) := dk_172 (dk_at dksX3_supplier_3 13 rfl rfl)
theorem dX3_supplier_101 : decode cX3_supplier 101 = .ok (.aload_n 0, 1) := dk_42 (dk_at dksX3_supplier_3 14 rfl rfl)
theorem dX3_supplier_102 : decode cX3_supplier 102 = .ok (.iload_n 1, 1) := dk_27 (dk_at dksX3_supplier_3 15 rfl rfl)
theorem dX3_supplier_103 : decode cX3_supplier 103 = .ok (.iconst 1, 1) := dk_4 (dk_at dksX3_supplier_3 16 rfl rfl)
theorem dX3_supplier_104 : decode cX3_supplier 104 = .ok (.invokevirtual 231, 3) := dk_182 0 231 (dk_at dksX3_supplier_3 17 rfl rfl)
theorem dX3_supplier_107 : decode cX3_supplier 107 = .ok (.ireturn, 1) := dk_172 (dk_at dksX3_supplier_3 20 rfl rfl)
theorem dX3_supplier_108 : decode cX3_supplier 108 = .ok (.aload_n 0, 1) := dk_42 (dk_at dksX3_supplier_3 21 rfl rfl)
theorem dX3_supplier_109 : decode cX3_supplier 109 = .ok (.iload_n 1, 1) := dk_27 (dk_at dksX3_supplier_3 22 rfl rfl)
theorem dX3_supplier_110 : decode cX3_supplier 110 = .ok (.iconst 5, 1) := dk_8 (dk_at dksX3_supplier_3 23 rfl rfl)
theorem dX3_supplier_111 : decode cX3_supplier 111 = .ok (.invokestatic 77, 3) := dk_184 0 77 (dk_at dksX3_supplier_4 0 rfl rfl)
theorem dX3_supplier_114 : decode cX3_supplier 114 = .ok (.invokevirtual 49, 3) := dk_182 0 49 (dk_at dksX3_supplier_4 3 rfl rfl)
theorem dX3_supplier_117 : decode cX3_supplier 117 = .ok (.ireturn, 1) := dk_172 (dk_at dksX3_supplier_4 6 rfl rfl)
theorem dX3_supplier_118 : decode cX3_supplier 118 = .ok (.aload_n 0, 1) := dk_42 (dk_at dksX3_supplier_4 7 rfl rfl)
theorem dX3_supplier_119 : decode cX3_supplier 119 = .ok (.iload_n 1, 1) := dk_27 (dk_at dksX3_supplier_4 8 rfl rfl)
theorem dX3_supplier_120 : decode cX3_supplier 120 = .ok (.bipush 6, 2) := dk_16 6 (dk_at dksX3_supplier_4 9 rfl rfl)
theorem dX3_supplier_122 : decode cX3_supplier 122 = .ok (.invokestatic 77, 3) := dk_184 0 77 (dk_at dksX3_supplier_4 11 rfl rfl)
theorem dX3_supplier_125 : decode cX3_supplier 125 = .ok (.invokevirtual 49, 3) := dk_182 0 49 (dk_at dksX3_supplier_4 14 rfl rfl)
theorem dX3_supplier_128 : decode cX3_supplier 128 = .ok (.ireturn, 1) := dk_172 (dk_at dksX3_supplier_4 17 rfl rfl)
theorem dX3_supplier_129 : decode cX3_supplier 129 = .ok (.aload_n 0, 1) := dk_42 (dk_at dksX3_supplier_4 18 rfl rfl)
theorem dX3_supplier_130 : decode cX3_supplier 130 = .ok (.iload_n 1, 1) := dk_27 (dk_at dksX3_supplier_4 19 rfl rfl)
theorem dX3_supplier_131 : decode cX3_supplier 131 = .ok (.bipush 7, 2) := dk_16 7 (dk_at dksX3_supplier_4 20 rfl rfl)
theorem dX3_supplier_133 : decode cX3_supplier 133 = .ok (.invokestatic 77, 3) := dk_184 0 77 (dk_at dksX3_supplier_5 0 rfl rfl)
theorem dX3_supplier_136 : decode cX3_supplier 136 = .ok (.invokevirtual 49, 3) := dk_182 0 49 (dk_at dksX3_supplier_5 3 rfl rfl)
theorem dX3_supplier_139 : decode cX3_supplier 139 = .ok (.ireturn, 1) := dk_172 (dk_at dksX3_supplier_5 6 rfl rfl)
theorem dX3_supplier_140 : decode cX3_supplier 140 = .ok (.bipush (-2), 2) := dk_16 254 (dk_at dksX3_supplier_5 7 rfl rfl)
theorem dX3_supplier_142 : decode cX3_supplier 142 = .ok (.ireturn, 1) := dk_172 (dk_at dksX3_supplier_5 9 rfl rfl)
abbrev cX3_papersOf : ByteArray := prog_14_method_72_code
def yX3_papersOf : MethodName := ⟨RX3, "papersOf", "(IZ)I"⟩
def dkwX3_papersOf_2 : List UInt8 := [167, 0, 4, 3, 96, 62, 132, 4, 1, 167, 255, 204, 29, 172]
abbrev dktX3_papersOf_2 : List UInt8 := dkwX3_papersOf_2 ++ []
def dkwX3_papersOf_1 : List UInt8 := [28, 153, 0, 12, 42, 21, 4, 182, 0, 101, 167, 0, 9, 42, 21, 4, 182, 0, 64, 27, 160, 0, 7, 4]
abbrev dktX3_papersOf_1 : List UInt8 := dkwX3_papersOf_1 ++ dktX3_papersOf_2
def dkwX3_papersOf_0 : List UInt8 := [3, 62, 3, 54, 4, 21, 4, 42, 28, 153, 0, 7, 6, 167, 0, 4, 5, 182, 0, 49, 162, 0, 40, 29]
abbrev dktX3_papersOf_0 : List UInt8 := dkwX3_papersOf_0 ++ dktX3_papersOf_1
theorem dksX3_papersOf_0 : cX3_papersOf.data.toList.drop 0 = dktX3_papersOf_0 := by decide +kernel
theorem dksX3_papersOf_1 : cX3_papersOf.data.toList.drop 24 = dktX3_papersOf_1 := dk_seg dksX3_papersOf_0 24 rfl rfl
theorem dksX3_papersOf_2 : cX3_papersOf.data.toList.drop 48 = dktX3_papersOf_2 := dk_seg dksX3_papersOf_1 24 rfl rfl
theorem dX3_papersOf_0 : decode cX3_papersOf 0 = .ok (.iconst 0, 1) := dk_3 (dk_at dksX3_papersOf_0 0 rfl rfl)
theorem dX3_papersOf_1 : decode cX3_papersOf 1 = .ok (.istore_n 3, 1) := dk_62 (dk_at dksX3_papersOf_0 1 rfl rfl)
theorem dX3_papersOf_2 : decode cX3_papersOf 2 = .ok (.iconst 0, 1) := dk_3 (dk_at dksX3_papersOf_0 2 rfl rfl)
theorem dX3_papersOf_3 : decode cX3_papersOf 3 = .ok (.istore 4, 2) := dk_54 4 (dk_at dksX3_papersOf_0 3 rfl rfl)
theorem dX3_papersOf_5 : decode cX3_papersOf 5 = .ok (.iload 4, 2) := dk_21 4 (dk_at dksX3_papersOf_0 5 rfl rfl)
theorem dX3_papersOf_7 : decode cX3_papersOf 7 = .ok (.aload_n 0, 1) := dk_42 (dk_at dksX3_papersOf_0 7 rfl rfl)
theorem dX3_papersOf_8 : decode cX3_papersOf 8 = .ok (.iload_n 2, 1) := dk_28 (dk_at dksX3_papersOf_0 8 rfl rfl)
theorem dX3_papersOf_9 : decode cX3_papersOf 9 = .ok (.ifCond .eq 7, 3) := dk_153 0 7 (dk_at dksX3_papersOf_0 9 rfl rfl)
theorem dX3_papersOf_12 : decode cX3_papersOf 12 = .ok (.iconst 3, 1) := dk_6 (dk_at dksX3_papersOf_0 12 rfl rfl)
theorem dX3_papersOf_13 : decode cX3_papersOf 13 = .ok (.goto 4, 3) := dk_167 0 4 (dk_at dksX3_papersOf_0 13 rfl rfl)
theorem dX3_papersOf_16 : decode cX3_papersOf 16 = .ok (.iconst 2, 1) := dk_5 (dk_at dksX3_papersOf_0 16 rfl rfl)
theorem dX3_papersOf_17 : decode cX3_papersOf 17 = .ok (.invokevirtual 49, 3) := dk_182 0 49 (dk_at dksX3_papersOf_0 17 rfl rfl)
theorem dX3_papersOf_20 : decode cX3_papersOf 20 = .ok (.if_icmp .ge 40, 3) := dk_162 0 40 (dk_at dksX3_papersOf_0 20 rfl rfl)
theorem dX3_papersOf_23 : decode cX3_papersOf 23 = .ok (.iload_n 3, 1) := dk_29 (dk_at dksX3_papersOf_0 23 rfl rfl)
theorem dX3_papersOf_24 : decode cX3_papersOf 24 = .ok (.iload_n 2, 1) := dk_28 (dk_at dksX3_papersOf_1 0 rfl rfl)
theorem dX3_papersOf_25 : decode cX3_papersOf 25 = .ok (.ifCond .eq 12, 3) := dk_153 0 12 (dk_at dksX3_papersOf_1 1 rfl rfl)
theorem dX3_papersOf_28 : decode cX3_papersOf 28 = .ok (.aload_n 0, 1) := dk_42 (dk_at dksX3_papersOf_1 4 rfl rfl)
theorem dX3_papersOf_29 : decode cX3_papersOf 29 = .ok (.iload 4, 2) := dk_21 4 (dk_at dksX3_papersOf_1 5 rfl rfl)
theorem dX3_papersOf_31 : decode cX3_papersOf 31 = .ok (.invokevirtual 101, 3) := dk_182 0 101 (dk_at dksX3_papersOf_1 7 rfl rfl)
theorem dX3_papersOf_34 : decode cX3_papersOf 34 = .ok (.goto 9, 3) := dk_167 0 9 (dk_at dksX3_papersOf_1 10 rfl rfl)
theorem dX3_papersOf_37 : decode cX3_papersOf 37 = .ok (.aload_n 0, 1) := dk_42 (dk_at dksX3_papersOf_1 13 rfl rfl)
theorem dX3_papersOf_38 : decode cX3_papersOf 38 = .ok (.iload 4, 2) := dk_21 4 (dk_at dksX3_papersOf_1 14 rfl rfl)
theorem dX3_papersOf_40 : decode cX3_papersOf 40 = .ok (.invokevirtual 64, 3) := dk_182 0 64 (dk_at dksX3_papersOf_1 16 rfl rfl)
theorem dX3_papersOf_43 : decode cX3_papersOf 43 = .ok (.iload_n 1, 1) := dk_27 (dk_at dksX3_papersOf_1 19 rfl rfl)
theorem dX3_papersOf_44 : decode cX3_papersOf 44 = .ok (.if_icmp .ne 7, 3) := dk_160 0 7 (dk_at dksX3_papersOf_1 20 rfl rfl)
theorem dX3_papersOf_47 : decode cX3_papersOf 47 = .ok (.iconst 1, 1) := dk_4 (dk_at dksX3_papersOf_1 23 rfl rfl)
theorem dX3_papersOf_48 : decode cX3_papersOf 48 = .ok (.goto 4, 3) := dk_167 0 4 (dk_at dksX3_papersOf_2 0 rfl rfl)
theorem dX3_papersOf_51 : decode cX3_papersOf 51 = .ok (.iconst 0, 1) := dk_3 (dk_at dksX3_papersOf_2 3 rfl rfl)
theorem dX3_papersOf_52 : decode cX3_papersOf 52 = .ok (.iadd, 1) := dk_96 (dk_at dksX3_papersOf_2 4 rfl rfl)
theorem dX3_papersOf_53 : decode cX3_papersOf 53 = .ok (.istore_n 3, 1) := dk_62 (dk_at dksX3_papersOf_2 5 rfl rfl)
theorem dX3_papersOf_54 : decode cX3_papersOf 54 = .ok (.iinc 4 1, 3) := dk_132 4 1 (dk_at dksX3_papersOf_2 6 rfl rfl)
theorem dX3_papersOf_57 : decode cX3_papersOf 57 = .ok (.goto (-52), 3) := dk_167 255 204 (dk_at dksX3_papersOf_2 9 rfl rfl)
theorem dX3_papersOf_60 : decode cX3_papersOf 60 = .ok (.iload_n 3, 1) := dk_29 (dk_at dksX3_papersOf_2 12 rfl rfl)
theorem dX3_papersOf_61 : decode cX3_papersOf 61 = .ok (.ireturn, 1) := dk_172 (dk_at dksX3_papersOf_2 13 rfl rfl)
abbrev cX3_tolerance : ByteArray := prog_14_method_74_code
def yX3_tolerance : MethodName := ⟨RX3, "tolerance", "(IZ)D"⟩
def dkwX3_tolerance_1 : List UInt8 := [184, 0, 77, 182, 0, 119, 167, 0, 6, 20, 0, 235, 175]
abbrev dktX3_tolerance_1 : List UInt8 := dkwX3_tolerance_1 ++ []
def dkwX3_tolerance_0 : List UInt8 := [42, 3, 181, 0, 1, 42, 27, 182, 0, 89, 153, 0, 23, 42, 27, 28, 153, 0, 7, 4, 167, 0, 4, 3]
abbrev dktX3_tolerance_0 : List UInt8 := dkwX3_tolerance_0 ++ dktX3_tolerance_1
theorem dksX3_tolerance_0 : cX3_tolerance.data.toList.drop 0 = dktX3_tolerance_0 := by decide +kernel
theorem dksX3_tolerance_1 : cX3_tolerance.data.toList.drop 24 = dktX3_tolerance_1 := dk_seg dksX3_tolerance_0 24 rfl rfl
theorem dX3_tolerance_0 : decode cX3_tolerance 0 = .ok (.aload_n 0, 1) := dk_42 (dk_at dksX3_tolerance_0 0 rfl rfl)
theorem dX3_tolerance_1 : decode cX3_tolerance 1 = .ok (.iconst 0, 1) := dk_3 (dk_at dksX3_tolerance_0 1 rfl rfl)
theorem dX3_tolerance_2 : decode cX3_tolerance 2 = .ok (.putfield 1, 3) := dk_181 0 1 (dk_at dksX3_tolerance_0 2 rfl rfl)
theorem dX3_tolerance_5 : decode cX3_tolerance 5 = .ok (.aload_n 0, 1) := dk_42 (dk_at dksX3_tolerance_0 5 rfl rfl)
theorem dX3_tolerance_6 : decode cX3_tolerance 6 = .ok (.iload_n 1, 1) := dk_27 (dk_at dksX3_tolerance_0 6 rfl rfl)
theorem dX3_tolerance_7 : decode cX3_tolerance 7 = .ok (.invokevirtual 89, 3) := dk_182 0 89 (dk_at dksX3_tolerance_0 7 rfl rfl)
theorem dX3_tolerance_10 : decode cX3_tolerance 10 = .ok (.ifCond .eq 23, 3) := dk_153 0 23 (dk_at dksX3_tolerance_0 10 rfl rfl)
theorem dX3_tolerance_13 : decode cX3_tolerance 13 = .ok (.aload_n 0, 1) := dk_42 (dk_at dksX3_tolerance_0 13 rfl rfl)
theorem dX3_tolerance_14 : decode cX3_tolerance 14 = .ok (.iload_n 1, 1) := dk_27 (dk_at dksX3_tolerance_0 14 rfl rfl)
theorem dX3_tolerance_15 : decode cX3_tolerance 15 = .ok (.iload_n 2, 1) := dk_28 (dk_at dksX3_tolerance_0 15 rfl rfl)
theorem dX3_tolerance_16 : decode cX3_tolerance 16 = .ok (.ifCond .eq 7, 3) := dk_153 0 7 (dk_at dksX3_tolerance_0 16 rfl rfl)
theorem dX3_tolerance_19 : decode cX3_tolerance 19 = .ok (.iconst 1, 1) := dk_4 (dk_at dksX3_tolerance_0 19 rfl rfl)
theorem dX3_tolerance_20 : decode cX3_tolerance 20 = .ok (.goto 4, 3) := dk_167 0 4 (dk_at dksX3_tolerance_0 20 rfl rfl)
theorem dX3_tolerance_23 : decode cX3_tolerance 23 = .ok (.iconst 0, 1) := dk_3 (dk_at dksX3_tolerance_0 23 rfl rfl)
theorem dX3_tolerance_24 : decode cX3_tolerance 24 = .ok (.invokestatic 77, 3) := dk_184 0 77 (dk_at dksX3_tolerance_1 0 rfl rfl)
theorem dX3_tolerance_27 : decode cX3_tolerance 27 = .ok (.invokevirtual 119, 3) := dk_182 0 119 (dk_at dksX3_tolerance_1 3 rfl rfl)
theorem dX3_tolerance_30 : decode cX3_tolerance 30 = .ok (.goto 6, 3) := dk_167 0 6 (dk_at dksX3_tolerance_1 6 rfl rfl)
theorem dX3_tolerance_33 : decode cX3_tolerance 33 = .ok (.ldc2_w 235, 3) := dk_20 0 235 (dk_at dksX3_tolerance_1 9 rfl rfl)
theorem dX3_tolerance_36 : decode cX3_tolerance 36 = .ok (.dreturn, 1) := dk_175 (dk_at dksX3_tolerance_1 12 rfl rfl)
abbrev cX3_order : ByteArray := prog_14_method_76_code
def yX3_order : MethodName := ⟨RX3, "order", "(II)I"⟩
def dkwX3_order_2 : List UInt8 := [182, 0, 237, 172]
abbrev dktX3_order_2 : List UInt8 := dkwX3_order_2 ++ []
def dkwX3_order_1 : List UInt8 := [16, 254, 167, 0, 25, 28, 7, 162, 0, 15, 42, 27, 28, 184, 0, 61, 182, 0, 49, 167, 0, 8, 42, 27]
abbrev dktX3_order_1 : List UInt8 := dkwX3_order_1 ++ dktX3_order_2
def dkwX3_order_0 : List UInt8 := [42, 3, 181, 0, 1, 42, 27, 182, 0, 57, 154, 0, 5, 2, 172, 28, 3, 7, 184, 0, 53, 154, 0, 8]
abbrev dktX3_order_0 : List UInt8 := dkwX3_order_0 ++ dktX3_order_1
theorem dksX3_order_0 : cX3_order.data.toList.drop 0 = dktX3_order_0 := by decide +kernel
theorem dksX3_order_1 : cX3_order.data.toList.drop 24 = dktX3_order_1 := dk_seg dksX3_order_0 24 rfl rfl
theorem dksX3_order_2 : cX3_order.data.toList.drop 48 = dktX3_order_2 := dk_seg dksX3_order_1 24 rfl rfl
theorem dX3_order_0 : decode cX3_order 0 = .ok (.aload_n 0, 1) := dk_42 (dk_at dksX3_order_0 0 rfl rfl)
theorem dX3_order_1 : decode cX3_order 1 = .ok (.iconst 0, 1) := dk_3 (dk_at dksX3_order_0 1 rfl rfl)
theorem dX3_order_2 : decode cX3_order 2 = .ok (.putfield 1, 3) := dk_181 0 1 (dk_at dksX3_order_0 2 rfl rfl)
theorem dX3_order_5 : decode cX3_order 5 = .ok (.aload_n 0, 1) := dk_42 (dk_at dksX3_order_0 5 rfl rfl)
theorem dX3_order_6 : decode cX3_order 6 = .ok (.iload_n 1, 1) := dk_27 (dk_at dksX3_order_0 6 rfl rfl)
theorem dX3_order_7 : decode cX3_order 7 = .ok (.invokevirtual 57, 3) := dk_182 0 57 (dk_at dksX3_order_0 7 rfl rfl)
theorem dX3_order_10 : decode cX3_order 10 = .ok (.ifCond .ne 5, 3) := dk_154 0 5 (dk_at dksX3_order_0 10 rfl rfl)
theorem dX3_order_13 : decode cX3_order 13 = .ok (.iconst (-1), 1) := dk_2 (dk_at dksX3_order_0 13 rfl rfl)
theorem dX3_order_14 : decode cX3_order 14 = .ok (.ireturn, 1) := dk_172 (dk_at dksX3_order_0 14 rfl rfl)
theorem dX3_order_15 : decode cX3_order 15 = .ok (.iload_n 2, 1) := dk_28 (dk_at dksX3_order_0 15 rfl rfl)
theorem dX3_order_16 : decode cX3_order 16 = .ok (.iconst 0, 1) := dk_3 (dk_at dksX3_order_0 16 rfl rfl)
theorem dX3_order_17 : decode cX3_order 17 = .ok (.iconst 4, 1) := dk_7 (dk_at dksX3_order_0 17 rfl rfl)
theorem dX3_order_18 : decode cX3_order 18 = .ok (.invokestatic 53, 3) := dk_184 0 53 (dk_at dksX3_order_0 18 rfl rfl)
theorem dX3_order_21 : decode cX3_order 21 = .ok (.ifCond .ne 8, 3) := dk_154 0 8 (dk_at dksX3_order_0 21 rfl rfl)
theorem dX3_order_24 : decode cX3_order 24 = .ok (.bipush (-2), 2) := dk_16 254 (dk_at dksX3_order_1 0 rfl rfl)
theorem dX3_order_26 : decode cX3_order 26 = .ok (.goto 25, 3) := dk_167 0 25 (dk_at dksX3_order_1 2 rfl rfl)
theorem dX3_order_29 : decode cX3_order 29 = .ok (.iload_n 2, 1) := dk_28 (dk_at dksX3_order_1 5 rfl rfl)
theorem dX3_order_30 : decode cX3_order 30 = .ok (.iconst 4, 1) := dk_7 (dk_at dksX3_order_1 6 rfl rfl)
theorem dX3_order_31 : decode cX3_order 31 = .ok (.if_icmp .ge 15, 3) := dk_162 0 15 (dk_at dksX3_order_1 7 rfl rfl)
theorem dX3_order_34 : decode cX3_order 34 = .ok (.aload_n 0, 1) := dk_42 (dk_at dksX3_order_1 10 rfl rfl)
theorem dX3_order_35 : decode cX3_order 35 = .ok (.iload_n 1, 1) := dk_27 (dk_at dksX3_order_1 11 rfl rfl)
theorem dX3_order_36 : decode cX3_order 36 = .ok (.iload_n 2, 1) := dk_28 (dk_at dksX3_order_1 12 rfl rfl)
theorem dX3_order_37 : decode cX3_order 37 = .ok (.invokestatic 61, 3) := dk_184 0 61 (dk_at dksX3_order_1 13 rfl rfl)
theorem dX3_order_40 : decode cX3_order 40 = .ok (.invokevirtual 49, 3) := dk_182 0 49 (dk_at dksX3_order_1 16 rfl rfl)
theorem dX3_order_43 : decode cX3_order 43 = .ok (.goto 8, 3) := dk_167 0 8 (dk_at dksX3_order_1 19 rfl rfl)
theorem dX3_order_46 : decode cX3_order 46 = .ok (.aload_n 0, 1) := dk_42 (dk_at dksX3_order_1 22 rfl rfl)
theorem dX3_order_47 : decode cX3_order 47 = .ok (.iload_n 1, 1) := dk_27 (dk_at dksX3_order_1 23 rfl rfl)
theorem dX3_order_48 : decode cX3_order 48 = .ok (.invokevirtual 237, 3) := dk_182 0 237 (dk_at dksX3_order_2 0 rfl rfl)
theorem dX3_order_51 : decode cX3_order 51 = .ok (.ireturn, 1) := dk_172 (dk_at dksX3_order_2 3 rfl rfl)
abbrev cX3_billsOf : ByteArray := prog_14_method_75_code
def yX3_billsOf : MethodName := ⟨RX3, "billsOf", "(I)I"⟩
def dkwX3_billsOf_1 : List UInt8 := [160, 0, 7, 4, 167, 0, 4, 3, 96, 61, 132, 3, 1, 167, 255, 223, 28, 172]
abbrev dktX3_billsOf_1 : List UInt8 := dkwX3_billsOf_1 ++ []
def dkwX3_billsOf_0 : List UInt8 := [3, 61, 3, 62, 29, 42, 6, 182, 0, 49, 162, 0, 30, 28, 42, 29, 4, 184, 0, 45, 182, 0, 49, 27]
abbrev dktX3_billsOf_0 : List UInt8 := dkwX3_billsOf_0 ++ dktX3_billsOf_1
theorem dksX3_billsOf_0 : cX3_billsOf.data.toList.drop 0 = dktX3_billsOf_0 := by decide +kernel
theorem dksX3_billsOf_1 : cX3_billsOf.data.toList.drop 24 = dktX3_billsOf_1 := dk_seg dksX3_billsOf_0 24 rfl rfl
theorem dX3_billsOf_0 : decode cX3_billsOf 0 = .ok (.iconst 0, 1) := dk_3 (dk_at dksX3_billsOf_0 0 rfl rfl)
theorem dX3_billsOf_1 : decode cX3_billsOf 1 = .ok (.istore_n 2, 1) := dk_61 (dk_at dksX3_billsOf_0 1 rfl rfl)
theorem dX3_billsOf_2 : decode cX3_billsOf 2 = .ok (.iconst 0, 1) := dk_3 (dk_at dksX3_billsOf_0 2 rfl rfl)
theorem dX3_billsOf_3 : decode cX3_billsOf 3 = .ok (.istore_n 3, 1) := dk_62 (dk_at dksX3_billsOf_0 3 rfl rfl)
theorem dX3_billsOf_4 : decode cX3_billsOf 4 = .ok (.iload_n 3, 1) := dk_29 (dk_at dksX3_billsOf_0 4 rfl rfl)
theorem dX3_billsOf_5 : decode cX3_billsOf 5 = .ok (.aload_n 0, 1) := dk_42 (dk_at dksX3_billsOf_0 5 rfl rfl)
theorem dX3_billsOf_6 : decode cX3_billsOf 6 = .ok (.iconst 3, 1) := dk_6 (dk_at dksX3_billsOf_0 6 rfl rfl)
theorem dX3_billsOf_7 : decode cX3_billsOf 7 = .ok (.invokevirtual 49, 3) := dk_182 0 49 (dk_at dksX3_billsOf_0 7 rfl rfl)
theorem dX3_billsOf_10 : decode cX3_billsOf 10 = .ok (.if_icmp .ge 30, 3) := dk_162 0 30 (dk_at dksX3_billsOf_0 10 rfl rfl)
theorem dX3_billsOf_13 : decode cX3_billsOf 13 = .ok (.iload_n 2, 1) := dk_28 (dk_at dksX3_billsOf_0 13 rfl rfl)
theorem dX3_billsOf_14 : decode cX3_billsOf 14 = .ok (.aload_n 0, 1) := dk_42 (dk_at dksX3_billsOf_0 14 rfl rfl)
theorem dX3_billsOf_15 : decode cX3_billsOf 15 = .ok (.iload_n 3, 1) := dk_29 (dk_at dksX3_billsOf_0 15 rfl rfl)
theorem dX3_billsOf_16 : decode cX3_billsOf 16 = .ok (.iconst 1, 1) := dk_4 (dk_at dksX3_billsOf_0 16 rfl rfl)
theorem dX3_billsOf_17 : decode cX3_billsOf 17 = .ok (.invokestatic 45, 3) := dk_184 0 45 (dk_at dksX3_billsOf_0 17 rfl rfl)
theorem dX3_billsOf_20 : decode cX3_billsOf 20 = .ok (.invokevirtual 49, 3) := dk_182 0 49 (dk_at dksX3_billsOf_0 20 rfl rfl)
theorem dX3_billsOf_23 : decode cX3_billsOf 23 = .ok (.iload_n 1, 1) := dk_27 (dk_at dksX3_billsOf_0 23 rfl rfl)
theorem dX3_billsOf_24 : decode cX3_billsOf 24 = .ok (.if_icmp .ne 7, 3) := dk_160 0 7 (dk_at dksX3_billsOf_1 0 rfl rfl)
theorem dX3_billsOf_27 : decode cX3_billsOf 27 = .ok (.iconst 1, 1) := dk_4 (dk_at dksX3_billsOf_1 3 rfl rfl)
theorem dX3_billsOf_28 : decode cX3_billsOf 28 = .ok (.goto 4, 3) := dk_167 0 4 (dk_at dksX3_billsOf_1 4 rfl rfl)
theorem dX3_billsOf_31 : decode cX3_billsOf 31 = .ok (.iconst 0, 1) := dk_3 (dk_at dksX3_billsOf_1 7 rfl rfl)
theorem dX3_billsOf_32 : decode cX3_billsOf 32 = .ok (.iadd, 1) := dk_96 (dk_at dksX3_billsOf_1 8 rfl rfl)
theorem dX3_billsOf_33 : decode cX3_billsOf 33 = .ok (.istore_n 2, 1) := dk_61 (dk_at dksX3_billsOf_1 9 rfl rfl)
theorem dX3_billsOf_34 : decode cX3_billsOf 34 = .ok (.iinc 3 1, 3) := dk_132 3 1 (dk_at dksX3_billsOf_1 10 rfl rfl)
theorem dX3_billsOf_37 : decode cX3_billsOf 37 = .ok (.goto (-33), 3) := dk_167 255 223 (dk_at dksX3_billsOf_1 13 rfl rfl)
theorem dX3_billsOf_40 : decode cX3_billsOf 40 = .ok (.iload_n 2, 1) := dk_28 (dk_at dksX3_billsOf_1 16 rfl rfl)
theorem dX3_billsOf_41 : decode cX3_billsOf 41 = .ok (.ireturn, 1) := dk_172 (dk_at dksX3_billsOf_1 17 rfl rfl)
abbrev cX3_line : ByteArray := prog_14_method_78_code
def yX3_line : MethodName := ⟨RX3, "line", "(III)I"⟩
def dkwX3_line_4 : List UInt8 := [182, 0, 135, 42, 27, 28, 8, 184, 0, 109, 182, 0, 49, 100, 184, 0, 240, 172]
abbrev dktX3_line_4 : List UInt8 := dkwX3_line_4 ++ []
def dkwX3_line_3 : List UInt8 := [184, 0, 109, 182, 0, 49, 167, 0, 34, 29, 16, 8, 160, 0, 8, 21, 4, 167, 0, 20, 42, 27, 28]
abbrev dktX3_line_3 : List UInt8 := dkwX3_line_3 ++ dktX3_line_4
def dkwX3_line_2 : List UInt8 := [184, 0, 109, 182, 0, 49, 100, 167, 0, 4, 3, 54, 4, 29, 16, 8, 162, 0, 16, 42, 27, 28, 29]
abbrev dktX3_line_2 : List UInt8 := dkwX3_line_2 ++ dktX3_line_3
def dkwX3_line_1 : List UInt8 := [154, 0, 6, 16, 254, 172, 42, 27, 182, 0, 106, 153, 0, 23, 42, 27, 28, 182, 0, 128, 42, 27, 28, 6]
abbrev dktX3_line_1 : List UInt8 := dkwX3_line_1 ++ dktX3_line_2
def dkwX3_line_0 : List UInt8 := [42, 3, 181, 0, 1, 42, 27, 28, 182, 0, 113, 154, 0, 5, 2, 172, 29, 3, 16, 9, 184, 0, 53]
abbrev dktX3_line_0 : List UInt8 := dkwX3_line_0 ++ dktX3_line_1
theorem dksX3_line_0 : cX3_line.data.toList.drop 0 = dktX3_line_0 := by decide +kernel
theorem dksX3_line_1 : cX3_line.data.toList.drop 23 = dktX3_line_1 := dk_seg dksX3_line_0 23 rfl rfl
theorem dksX3_line_2 : cX3_line.data.toList.drop 47 = dktX3_line_2 := dk_seg dksX3_line_1 24 rfl rfl
theorem dksX3_line_3 : cX3_line.data.toList.drop 70 = dktX3_line_3 := dk_seg dksX3_line_2 23 rfl rfl
theorem dksX3_line_4 : cX3_line.data.toList.drop 93 = dktX3_line_4 := dk_seg dksX3_line_3 23 rfl rfl
theorem dX3_line_0 : decode cX3_line 0 = .ok (.aload_n 0, 1) := dk_42 (dk_at dksX3_line_0 0 rfl rfl)
theorem dX3_line_1 : decode cX3_line 1 = .ok (.iconst 0, 1) := dk_3 (dk_at dksX3_line_0 1 rfl rfl)
theorem dX3_line_2 : decode cX3_line 2 = .ok (.putfield 1, 3) := dk_181 0 1 (dk_at dksX3_line_0 2 rfl rfl)
theorem dX3_line_5 : decode cX3_line 5 = .ok (.aload_n 0, 1) := dk_42 (dk_at dksX3_line_0 5 rfl rfl)
theorem dX3_line_6 : decode cX3_line 6 = .ok (.iload_n 1, 1) := dk_27 (dk_at dksX3_line_0 6 rfl rfl)
theorem dX3_line_7 : decode cX3_line 7 = .ok (.iload_n 2, 1) := dk_28 (dk_at dksX3_line_0 7 rfl rfl)
theorem dX3_line_8 : decode cX3_line 8 = .ok (.invokevirtual 113, 3) := dk_182 0 113 (dk_at dksX3_line_0 8 rfl rfl)
theorem dX3_line_11 : decode cX3_line 11 = .ok (.ifCond .ne 5, 3) := dk_154 0 5 (dk_at dksX3_line_0 11 rfl rfl)
theorem dX3_line_14 : decode cX3_line 14 = .ok (.iconst (-1), 1) := dk_2 (dk_at dksX3_line_0 14 rfl rfl)
theorem dX3_line_15 : decode cX3_line 15 = .ok (.ireturn, 1) := dk_172 (dk_at dksX3_line_0 15 rfl rfl)
theorem dX3_line_16 : decode cX3_line 16 = .ok (.iload_n 3, 1) := dk_29 (dk_at dksX3_line_0 16 rfl rfl)
theorem dX3_line_17 : decode cX3_line 17 = .ok (.iconst 0, 1) := dk_3 (dk_at dksX3_line_0 17 rfl rfl)
theorem dX3_line_18 : decode cX3_line 18 = .ok (.bipush 9, 2) := dk_16 9 (dk_at dksX3_line_0 18 rfl rfl)
theorem dX3_line_20 : decode cX3_line 20 = .ok (.invokestatic 53, 3) := dk_184 0 53 (dk_at dksX3_line_0 20 rfl rfl)
theorem dX3_line_23 : decode cX3_line 23 = .ok (.ifCond .ne 6, 3) := dk_154 0 6 (dk_at dksX3_line_1 0 rfl rfl)
theorem dX3_line_26 : decode cX3_line 26 = .ok (.bipush (-2), 2) := dk_16 254 (dk_at dksX3_line_1 3 rfl rfl)
theorem dX3_line_28 : decode cX3_line 28 = .ok (.ireturn, 1) := dk_172 (dk_at dksX3_line_1 5 rfl rfl)
theorem dX3_line_29 : decode cX3_line 29 = .ok (.aload_n 0, 1) := dk_42 (dk_at dksX3_line_1 6 rfl rfl)
theorem dX3_line_30 : decode cX3_line 30 = .ok (.iload_n 1, 1) := dk_27 (dk_at dksX3_line_1 7 rfl rfl)
theorem dX3_line_31 : decode cX3_line 31 = .ok (.invokevirtual 106, 3) := dk_182 0 106 (dk_at dksX3_line_1 8 rfl rfl)
theorem dX3_line_34 : decode cX3_line 34 = .ok (.ifCond .eq 23, 3) := dk_153 0 23 (dk_at dksX3_line_1 11 rfl rfl)
theorem dX3_line_37 : decode cX3_line 37 = .ok (.aload_n 0, 1) := dk_42 (dk_at dksX3_line_1 14 rfl rfl)
theorem dX3_line_38 : decode cX3_line 38 = .ok (.iload_n 1, 1) := dk_27 (dk_at dksX3_line_1 15 rfl rfl)
theorem dX3_line_39 : decode cX3_line 39 = .ok (.iload_n 2, 1) := dk_28 (dk_at dksX3_line_1 16 rfl rfl)
theorem dX3_line_40 : decode cX3_line 40 = .ok (.invokevirtual 128, 3) := dk_182 0 128 (dk_at dksX3_line_1 17 rfl rfl)
theorem dX3_line_43 : decode cX3_line 43 = .ok (.aload_n 0, 1) := dk_42 (dk_at dksX3_line_1 20 rfl rfl)
theorem dX3_line_44 : decode cX3_line 44 = .ok (.iload_n 1, 1) := dk_27 (dk_at dksX3_line_1 21 rfl rfl)
theorem dX3_line_45 : decode cX3_line 45 = .ok (.iload_n 2, 1) := dk_28 (dk_at dksX3_line_1 22 rfl rfl)
theorem dX3_line_46 : decode cX3_line 46 = .ok (.iconst 3, 1) := dk_6 (dk_at dksX3_line_1 23 rfl rfl)
theorem dX3_line_47 : decode cX3_line 47 = .ok (.invokestatic 109, 3) := dk_184 0 109 (dk_at dksX3_line_2 0 rfl rfl)
theorem dX3_line_50 : decode cX3_line 50 = .ok (.invokevirtual 49, 3) := dk_182 0 49 (dk_at dksX3_line_2 3 rfl rfl)
theorem dX3_line_53 : decode cX3_line 53 = .ok (.isub, 1) := dk_100 (dk_at dksX3_line_2 6 rfl rfl)
theorem dX3_line_54 : decode cX3_line 54 = .ok (.goto 4, 3) := dk_167 0 4 (dk_at dksX3_line_2 7 rfl rfl)
theorem dX3_line_57 : decode cX3_line 57 = .ok (.iconst 0, 1) := dk_3 (dk_at dksX3_line_2 10 rfl rfl)
theorem dX3_line_58 : decode cX3_line 58 = .ok (.istore 4, 2) := dk_54 4 (dk_at dksX3_line_2 11 rfl rfl)
theorem dX3_line_60 : decode cX3_line 60 = .ok (.iload_n 3, 1) := dk_29 (dk_at dksX3_line_2 13 rfl rfl)
theorem dX3_line_61 : decode cX3_line 61 = .ok (.bipush 8, 2) := dk_16 8 (dk_at dksX3_line_2 14 rfl rfl)
theorem dX3_line_63 : decode cX3_line 63 = .ok (.if_icmp .ge 16, 3) := dk_162 0 16 (dk_at dksX3_line_2 16 rfl rfl)
theorem dX3_line_66 : decode cX3_line 66 = .ok (.aload_n 0, 1) := dk_42 (dk_at dksX3_line_2 19 rfl rfl)
theorem dX3_line_67 : decode cX3_line 67 = .ok (.iload_n 1, 1) := dk_27 (dk_at dksX3_line_2 20 rfl rfl)
theorem dX3_line_68 : decode cX3_line 68 = .ok (.iload_n 2, 1) := dk_28 (dk_at dksX3_line_2 21 rfl rfl)
theorem dX3_line_69 : decode cX3_line 69 = .ok (.iload_n 3, 1) := dk_29 (dk_at dksX3_line_2 22 rfl rfl)
theorem dX3_line_70 : decode cX3_line 70 = .ok (.invokestatic 109, 3) := dk_184 0 109 (dk_at dksX3_line_3 0 rfl rfl)
theorem dX3_line_73 : decode cX3_line 73 = .ok (.invokevirtual 49, 3) := dk_182 0 49 (dk_at dksX3_line_3 3 rfl rfl)
theorem dX3_line_76 : decode cX3_line 76 = .ok (.goto 34, 3) := dk_167 0 34 (dk_at dksX3_line_3 6 rfl rfl)
theorem dX3_line_79 : decode cX3_line 79 = .ok (.iload_n 3, 1) := dk_29 (dk_at dksX3_line_3 9 rfl rfl)
theorem dX3_line_80 : decode cX3_line 80 = .ok (.bipush 8, 2) := dk_16 8 (dk_at dksX3_line_3 10 rfl rfl)
theorem dX3_line_82 : decode cX3_line 82 = .ok (.if_icmp .ne 8, 3) := dk_160 0 8 (dk_at dksX3_line_3 12 rfl rfl)
theorem dX3_line_85 : decode cX3_line 85 = .ok (.iload 4, 2) := dk_21 4 (dk_at dksX3_line_3 15 rfl rfl)
theorem dX3_line_87 : decode cX3_line 87 = .ok (.goto 20, 3) := dk_167 0 20 (dk_at dksX3_line_3 17 rfl rfl)
theorem dX3_line_90 : decode cX3_line 90 = .ok (.aload_n 0, 1) := dk_42 (dk_at dksX3_line_3 20 rfl rfl)
theorem dX3_line_91 : decode cX3_line 91 = .ok (.iload_n 1, 1) := dk_27 (dk_at dksX3_line_3 21 rfl rfl)
theorem dX3_line_92 : decode cX3_line 92 = .ok (.iload_n 2, 1) := dk_28 (dk_at dksX3_line_3 22 rfl rfl)
theorem dX3_line_93 : decode cX3_line 93 = .ok (.invokevirtual 135, 3) := dk_182 0 135 (dk_at dksX3_line_4 0 rfl rfl)
theorem dX3_line_96 : decode cX3_line 96 = .ok (.aload_n 0, 1) := dk_42 (dk_at dksX3_line_4 3 rfl rfl)
theorem dX3_line_97 : decode cX3_line 97 = .ok (.iload_n 1, 1) := dk_27 (dk_at dksX3_line_4 4 rfl rfl)
theorem dX3_line_98 : decode cX3_line 98 = .ok (.iload_n 2, 1) := dk_28 (dk_at dksX3_line_4 5 rfl rfl)
theorem dX3_line_99 : decode cX3_line 99 = .ok (.iconst 5, 1) := dk_8 (dk_at dksX3_line_4 6 rfl rfl)
theorem dX3_line_100 : decode cX3_line 100 = .ok (.invokestatic 109, 3) := dk_184 0 109 (dk_at dksX3_line_4 7 rfl rfl)
theorem dX3_line_103 : decode cX3_line 103 = .ok (.invokevirtual 49, 3) := dk_182 0 49 (dk_at dksX3_line_4 10 rfl rfl)
theorem dX3_line_106 : decode cX3_line 106 = .ok (.isub, 1) := dk_100 (dk_at dksX3_line_4 13 rfl rfl)
theorem dX3_line_107 : decode cX3_line 107 = .ok (.invokestatic 240, 3) := dk_184 0 240 (dk_at dksX3_line_4 14 rfl rfl)
theorem dX3_line_110 : decode cX3_line 110 = .ok (.ireturn, 1) := dk_172 (dk_at dksX3_line_4 17 rfl rfl)
abbrev cX3_atLeast0 : ByteArray := prog_14_method_77_code
def yX3_atLeast0 : MethodName := ⟨RX3, "atLeast0", "(I)I"⟩
def dkwX3_atLeast0_0 : List UInt8 := [26, 158, 0, 7, 26, 167, 0, 4, 3, 172]
abbrev dktX3_atLeast0_0 : List UInt8 := dkwX3_atLeast0_0 ++ []
theorem dksX3_atLeast0_0 : cX3_atLeast0.data.toList.drop 0 = dktX3_atLeast0_0 := by decide +kernel
theorem dX3_atLeast0_0 : decode cX3_atLeast0 0 = .ok (.iload_n 0, 1) := dk_26 (dk_at dksX3_atLeast0_0 0 rfl rfl)
theorem dX3_atLeast0_1 : decode cX3_atLeast0 1 = .ok (.ifCond .le 7, 3) := dk_158 0 7 (dk_at dksX3_atLeast0_0 1 rfl rfl)
theorem dX3_atLeast0_4 : decode cX3_atLeast0 4 = .ok (.iload_n 0, 1) := dk_26 (dk_at dksX3_atLeast0_0 4 rfl rfl)
theorem dX3_atLeast0_5 : decode cX3_atLeast0 5 = .ok (.goto 4, 3) := dk_167 0 4 (dk_at dksX3_atLeast0_0 5 rfl rfl)
theorem dX3_atLeast0_8 : decode cX3_atLeast0 8 = .ok (.iconst 0, 1) := dk_3 (dk_at dksX3_atLeast0_0 8 rfl rfl)
theorem dX3_atLeast0_9 : decode cX3_atLeast0 9 = .ok (.ireturn, 1) := dk_172 (dk_at dksX3_atLeast0_0 9 rfl rfl)
abbrev cX3_invoice : ByteArray := prog_14_method_79_code
def yX3_invoice : MethodName := ⟨RX3, "invoice", "(II)I"⟩
def dkwX3_invoice_3 : List UInt8 := [182, 0, 49, 172, 42, 27, 182, 0, 181, 172, 16, 254, 172]
abbrev dktX3_invoice_3 : List UInt8 := dkwX3_invoice_3 ++ []
def dkwX3_invoice_2 : List UInt8 := [42, 27, 28, 184, 0, 45, 182, 0, 49, 172, 42, 27, 182, 0, 146, 172, 42, 27, 28, 4, 100, 184, 0, 45]
abbrev dktX3_invoice_2 : List UInt8 := dkwX3_invoice_2 ++ dktX3_invoice_3
def dkwX3_invoice_1 : List UInt8 := [170, 0, 0, 0, 0, 0, 0, 98, 0, 0, 0, 0, 0, 0, 0, 11, 0, 0, 0, 64, 0, 0, 0, 64, 0, 0, 0, 64, 0, 0, 0, 64, 0, 0, 0, 64, 0, 0, 0, 64, 0, 0, 0, 74, 0, 0, 0, 80, 0, 0, 0, 80, 0, 0, 0, 80, 0, 0, 0, 80, 0, 0, 0, 92]
abbrev dktX3_invoice_1 : List UInt8 := dkwX3_invoice_1 ++ dktX3_invoice_2
def dkwX3_invoice_0 : List UInt8 := [42, 3, 181, 0, 1, 42, 27, 182, 0, 175, 154, 0, 5, 2, 172, 28]
abbrev dktX3_invoice_0 : List UInt8 := dkwX3_invoice_0 ++ dktX3_invoice_1
theorem dksX3_invoice_0 : cX3_invoice.data.toList.drop 0 = dktX3_invoice_0 := by decide +kernel
theorem dksX3_invoice_1 : cX3_invoice.data.toList.drop 16 = dktX3_invoice_1 := dk_seg dksX3_invoice_0 16 rfl rfl
theorem dksX3_invoice_2 : cX3_invoice.data.toList.drop 80 = dktX3_invoice_2 := dk_seg dksX3_invoice_1 64 rfl rfl
theorem dksX3_invoice_3 : cX3_invoice.data.toList.drop 104 = dktX3_invoice_3 := dk_seg dksX3_invoice_2 24 rfl rfl
theorem dX3_invoice_0 : decode cX3_invoice 0 = .ok (.aload_n 0, 1) := dk_42 (dk_at dksX3_invoice_0 0 rfl rfl)
theorem dX3_invoice_1 : decode cX3_invoice 1 = .ok (.iconst 0, 1) := dk_3 (dk_at dksX3_invoice_0 1 rfl rfl)
theorem dX3_invoice_2 : decode cX3_invoice 2 = .ok (.putfield 1, 3) := dk_181 0 1 (dk_at dksX3_invoice_0 2 rfl rfl)
theorem dX3_invoice_5 : decode cX3_invoice 5 = .ok (.aload_n 0, 1) := dk_42 (dk_at dksX3_invoice_0 5 rfl rfl)
theorem dX3_invoice_6 : decode cX3_invoice 6 = .ok (.iload_n 1, 1) := dk_27 (dk_at dksX3_invoice_0 6 rfl rfl)
theorem dX3_invoice_7 : decode cX3_invoice 7 = .ok (.invokevirtual 175, 3) := dk_182 0 175 (dk_at dksX3_invoice_0 7 rfl rfl)
theorem dX3_invoice_10 : decode cX3_invoice 10 = .ok (.ifCond .ne 5, 3) := dk_154 0 5 (dk_at dksX3_invoice_0 10 rfl rfl)
theorem dX3_invoice_13 : decode cX3_invoice 13 = .ok (.iconst (-1), 1) := dk_2 (dk_at dksX3_invoice_0 13 rfl rfl)
theorem dX3_invoice_14 : decode cX3_invoice 14 = .ok (.ireturn, 1) := dk_172 (dk_at dksX3_invoice_0 14 rfl rfl)
theorem dX3_invoice_15 : decode cX3_invoice 15 = .ok (.iload_n 2, 1) := dk_28 (dk_at dksX3_invoice_0 15 rfl rfl)
theorem dX3_invoice_16 : decode cX3_invoice 16 = .ok (.tableswitch 98 0 11 #[64, 64, 64, 64, 64, 64, 74, 80, 80, 80, 80, 92], 64) := by decide +kernel
theorem dX3_invoice_80 : decode cX3_invoice 80 = .ok (.aload_n 0, 1) := dk_42 (dk_at dksX3_invoice_2 0 rfl rfl)
theorem dX3_invoice_81 : decode cX3_invoice 81 = .ok (.iload_n 1, 1) := dk_27 (dk_at dksX3_invoice_2 1 rfl rfl)
theorem dX3_invoice_82 : decode cX3_invoice 82 = .ok (.iload_n 2, 1) := dk_28 (dk_at dksX3_invoice_2 2 rfl rfl)
theorem dX3_invoice_83 : decode cX3_invoice 83 = .ok (.invokestatic 45, 3) := dk_184 0 45 (dk_at dksX3_invoice_2 3 rfl rfl)
theorem dX3_invoice_86 : decode cX3_invoice 86 = .ok (.invokevirtual 49, 3) := dk_182 0 49 (dk_at dksX3_invoice_2 6 rfl rfl)
theorem dX3_invoice_89 : decode cX3_invoice 89 = .ok (.ireturn, 1) := dk_172 (dk_at dksX3_invoice_2 9 rfl rfl)
theorem dX3_invoice_90 : decode cX3_invoice 90 = .ok (.aload_n 0, 1) := dk_42 (dk_at dksX3_invoice_2 10 rfl rfl)
theorem dX3_invoice_91 : decode cX3_invoice 91 = .ok (.iload_n 1, 1) := dk_27 (dk_at dksX3_invoice_2 11 rfl rfl)
theorem dX3_invoice_92 : decode cX3_invoice 92 = .ok (.invokevirtual 146, 3) := dk_182 0 146 (dk_at dksX3_invoice_2 12 rfl rfl)
theorem dX3_invoice_95 : decode cX3_invoice 95 = .ok (.ireturn, 1) := dk_172 (dk_at dksX3_invoice_2 15 rfl rfl)
theorem dX3_invoice_96 : decode cX3_invoice 96 = .ok (.aload_n 0, 1) := dk_42 (dk_at dksX3_invoice_2 16 rfl rfl)
theorem dX3_invoice_97 : decode cX3_invoice 97 = .ok (.iload_n 1, 1) := dk_27 (dk_at dksX3_invoice_2 17 rfl rfl)
theorem dX3_invoice_98 : decode cX3_invoice 98 = .ok (.iload_n 2, 1) := dk_28 (dk_at dksX3_invoice_2 18 rfl rfl)
theorem dX3_invoice_99 : decode cX3_invoice 99 = .ok (.iconst 1, 1) := dk_4 (dk_at dksX3_invoice_2 19 rfl rfl)
theorem dX3_invoice_100 : decode cX3_invoice 100 = .ok (.isub, 1) := dk_100 (dk_at dksX3_invoice_2 20 rfl rfl)
theorem dX3_invoice_101 : decode cX3_invoice 101 = .ok (.invokestatic 45, 3) := dk_184 0 45 (dk_at dksX3_invoice_2 21 rfl rfl)
theorem dX3_invoice_104 : decode cX3_invoice 104 = .ok (.invokevirtual 49, 3) := dk_182 0 49 (dk_at dksX3_invoice_3 0 rfl rfl)
theorem dX3_invoice_107 : decode cX3_invoice 107 = .ok (.ireturn, 1) := dk_172 (dk_at dksX3_invoice_3 3 rfl rfl)
theorem dX3_invoice_108 : decode cX3_invoice 108 = .ok (.aload_n 0, 1) := dk_42 (dk_at dksX3_invoice_3 4 rfl rfl)
theorem dX3_invoice_109 : decode cX3_invoice 109 = .ok (.iload_n 1, 1) := dk_27 (dk_at dksX3_invoice_3 5 rfl rfl)
theorem dX3_invoice_110 : decode cX3_invoice 110 = .ok (.invokevirtual 181, 3) := dk_182 0 181 (dk_at dksX3_invoice_3 6 rfl rfl)
theorem dX3_invoice_113 : decode cX3_invoice 113 = .ok (.ireturn, 1) := dk_172 (dk_at dksX3_invoice_3 9 rfl rfl)
theorem dX3_invoice_114 : decode cX3_invoice 114 = .ok (.bipush (-2), 2) := dk_16 254 (dk_at dksX3_invoice_3 10 rfl rfl)
theorem dX3_invoice_116 : decode cX3_invoice 116 = .ok (.ireturn, 1) := dk_172 (dk_at dksX3_invoice_3 12 rfl rfl)
abbrev cX3_entry : ByteArray := prog_14_method_80_code
def yX3_entry : MethodName := ⟨RX3, "entry", "(III)I"⟩
def dkwX3_entry_2 : List UInt8 := [182, 0, 141, 167, 0, 5, 16, 254, 172]
abbrev dktX3_entry_2 : List UInt8 := dkwX3_entry_2 ++ []
def dkwX3_entry_1 : List UInt8 := [4, 100, 184, 0, 53, 154, 0, 5, 2, 172, 29, 3, 5, 184, 0, 53, 153, 0, 13, 42, 27, 28, 29]
abbrev dktX3_entry_1 : List UInt8 := dkwX3_entry_1 ++ dktX3_entry_2
def dkwX3_entry_0 : List UInt8 := [42, 3, 181, 0, 1, 42, 27, 182, 0, 175, 153, 0, 22, 28, 3, 42, 27, 6, 184, 0, 45, 182, 0, 49]
abbrev dktX3_entry_0 : List UInt8 := dkwX3_entry_0 ++ dktX3_entry_1
theorem dksX3_entry_0 : cX3_entry.data.toList.drop 0 = dktX3_entry_0 := by decide +kernel
theorem dksX3_entry_1 : cX3_entry.data.toList.drop 24 = dktX3_entry_1 := dk_seg dksX3_entry_0 24 rfl rfl
theorem dksX3_entry_2 : cX3_entry.data.toList.drop 47 = dktX3_entry_2 := dk_seg dksX3_entry_1 23 rfl rfl
theorem dX3_entry_0 : decode cX3_entry 0 = .ok (.aload_n 0, 1) := dk_42 (dk_at dksX3_entry_0 0 rfl rfl)
theorem dX3_entry_1 : decode cX3_entry 1 = .ok (.iconst 0, 1) := dk_3 (dk_at dksX3_entry_0 1 rfl rfl)
theorem dX3_entry_2 : decode cX3_entry 2 = .ok (.putfield 1, 3) := dk_181 0 1 (dk_at dksX3_entry_0 2 rfl rfl)
theorem dX3_entry_5 : decode cX3_entry 5 = .ok (.aload_n 0, 1) := dk_42 (dk_at dksX3_entry_0 5 rfl rfl)
theorem dX3_entry_6 : decode cX3_entry 6 = .ok (.iload_n 1, 1) := dk_27 (dk_at dksX3_entry_0 6 rfl rfl)
theorem dX3_entry_7 : decode cX3_entry 7 = .ok (.invokevirtual 175, 3) := dk_182 0 175 (dk_at dksX3_entry_0 7 rfl rfl)
theorem dX3_entry_10 : decode cX3_entry 10 = .ok (.ifCond .eq 22, 3) := dk_153 0 22 (dk_at dksX3_entry_0 10 rfl rfl)
theorem dX3_entry_13 : decode cX3_entry 13 = .ok (.iload_n 2, 1) := dk_28 (dk_at dksX3_entry_0 13 rfl rfl)
theorem dX3_entry_14 : decode cX3_entry 14 = .ok (.iconst 0, 1) := dk_3 (dk_at dksX3_entry_0 14 rfl rfl)
theorem dX3_entry_15 : decode cX3_entry 15 = .ok (.aload_n 0, 1) := dk_42 (dk_at dksX3_entry_0 15 rfl rfl)
theorem dX3_entry_16 : decode cX3_entry 16 = .ok (.iload_n 1, 1) := dk_27 (dk_at dksX3_entry_0 16 rfl rfl)
theorem dX3_entry_17 : decode cX3_entry 17 = .ok (.iconst 3, 1) := dk_6 (dk_at dksX3_entry_0 17 rfl rfl)
theorem dX3_entry_18 : decode cX3_entry 18 = .ok (.invokestatic 45, 3) := dk_184 0 45 (dk_at dksX3_entry_0 18 rfl rfl)
theorem dX3_entry_21 : decode cX3_entry 21 = .ok (.invokevirtual 49, 3) := dk_182 0 49 (dk_at dksX3_entry_0 21 rfl rfl)
theorem dX3_entry_24 : decode cX3_entry 24 = .ok (.iconst 1, 1) := dk_4 (dk_at dksX3_entry_1 0 rfl rfl)
theorem dX3_entry_25 : decode cX3_entry 25 = .ok (.isub, 1) := dk_100 (dk_at dksX3_entry_1 1 rfl rfl)
theorem dX3_entry_26 : decode cX3_entry 26 = .ok (.invokestatic 53, 3) := dk_184 0 53 (dk_at dksX3_entry_1 2 rfl rfl)
theorem dX3_entry_29 : decode cX3_entry 29 = .ok (.ifCond .ne 5, 3) := dk_154 0 5 (dk_at dksX3_entry_1 5 rfl rfl)
theorem dX3_entry_32 : decode cX3_entry 32 = .ok (.iconst (-1), 1) := dk_2 (dk_at dksX3_entry_1 8 rfl rfl)
theorem dX3_entry_33 : decode cX3_entry 33 = .ok (.ireturn, 1) := dk_172 (dk_at dksX3_entry_1 9 rfl rfl)
theorem dX3_entry_34 : decode cX3_entry 34 = .ok (.iload_n 3, 1) := dk_29 (dk_at dksX3_entry_1 10 rfl rfl)
theorem dX3_entry_35 : decode cX3_entry 35 = .ok (.iconst 0, 1) := dk_3 (dk_at dksX3_entry_1 11 rfl rfl)
theorem dX3_entry_36 : decode cX3_entry 36 = .ok (.iconst 2, 1) := dk_5 (dk_at dksX3_entry_1 12 rfl rfl)
theorem dX3_entry_37 : decode cX3_entry 37 = .ok (.invokestatic 53, 3) := dk_184 0 53 (dk_at dksX3_entry_1 13 rfl rfl)
theorem dX3_entry_40 : decode cX3_entry 40 = .ok (.ifCond .eq 13, 3) := dk_153 0 13 (dk_at dksX3_entry_1 16 rfl rfl)
theorem dX3_entry_43 : decode cX3_entry 43 = .ok (.aload_n 0, 1) := dk_42 (dk_at dksX3_entry_1 19 rfl rfl)
theorem dX3_entry_44 : decode cX3_entry 44 = .ok (.iload_n 1, 1) := dk_27 (dk_at dksX3_entry_1 20 rfl rfl)
theorem dX3_entry_45 : decode cX3_entry 45 = .ok (.iload_n 2, 1) := dk_28 (dk_at dksX3_entry_1 21 rfl rfl)
theorem dX3_entry_46 : decode cX3_entry 46 = .ok (.iload_n 3, 1) := dk_29 (dk_at dksX3_entry_1 22 rfl rfl)
theorem dX3_entry_47 : decode cX3_entry 47 = .ok (.invokevirtual 141, 3) := dk_182 0 141 (dk_at dksX3_entry_2 0 rfl rfl)
theorem dX3_entry_50 : decode cX3_entry 50 = .ok (.goto 5, 3) := dk_167 0 5 (dk_at dksX3_entry_2 3 rfl rfl)
theorem dX3_entry_53 : decode cX3_entry 53 = .ok (.bipush (-2), 2) := dk_16 254 (dk_at dksX3_entry_2 6 rfl rfl)
theorem dX3_entry_55 : decode cX3_entry 55 = .ok (.ireturn, 1) := dk_172 (dk_at dksX3_entry_2 8 rfl rfl)
abbrev cX3_wouldMatch : ByteArray := prog_14_method_81_code
def yX3_wouldMatch : MethodName := ⟨RX3, "wouldMatch", "(IIII)I"⟩
def dkwX3_wouldMatch_3 : List UInt8 := [8, 184, 0, 109, 182, 0, 49, 29, 182, 0, 166, 153, 0, 8, 16, 16, 167, 0, 4, 3, 96, 172]
abbrev dktX3_wouldMatch_3 : List UInt8 := dkwX3_wouldMatch_3 ++ []
def dkwX3_wouldMatch_2 : List UInt8 := [27, 28, 29, 21, 4, 182, 0, 159, 153, 0, 8, 16, 8, 167, 0, 4, 3, 96, 42, 27, 28, 42, 27, 28]
abbrev dktX3_wouldMatch_2 : List UInt8 := dkwX3_wouldMatch_2 ++ dktX3_wouldMatch_3
def dkwX3_wouldMatch_1 : List UInt8 := [153, 0, 15, 21, 4, 4, 17, 39, 15, 184, 0, 53, 154, 0, 6, 16, 254, 172, 42, 27, 182, 0, 169, 42]
abbrev dktX3_wouldMatch_1 : List UInt8 := dkwX3_wouldMatch_1 ++ dktX3_wouldMatch_2
def dkwX3_wouldMatch_0 : List UInt8 := [42, 3, 181, 0, 1, 42, 27, 28, 182, 0, 113, 154, 0, 5, 2, 172, 29, 4, 17, 3, 231, 184, 0, 53]
abbrev dktX3_wouldMatch_0 : List UInt8 := dkwX3_wouldMatch_0 ++ dktX3_wouldMatch_1
theorem dksX3_wouldMatch_0 : cX3_wouldMatch.data.toList.drop 0 = dktX3_wouldMatch_0 := by decide +kernel
theorem dksX3_wouldMatch_1 : cX3_wouldMatch.data.toList.drop 24 = dktX3_wouldMatch_1 := dk_seg dksX3_wouldMatch_0 24 rfl rfl
theorem dksX3_wouldMatch_2 : cX3_wouldMatch.data.toList.drop 48 = dktX3_wouldMatch_2 := dk_seg dksX3_wouldMatch_1 24 rfl rfl
theorem dksX3_wouldMatch_3 : cX3_wouldMatch.data.toList.drop 72 = dktX3_wouldMatch_3 := dk_seg dksX3_wouldMatch_2 24 rfl rfl
theorem dX3_wouldMatch_0 : decode cX3_wouldMatch 0 = .ok (.aload_n 0, 1) := dk_42 (dk_at dksX3_wouldMatch_0 0 rfl rfl)
theorem dX3_wouldMatch_1 : decode cX3_wouldMatch 1 = .ok (.iconst 0, 1) := dk_3 (dk_at dksX3_wouldMatch_0 1 rfl rfl)
theorem dX3_wouldMatch_2 : decode cX3_wouldMatch 2 = .ok (.putfield 1, 3) := dk_181 0 1 (dk_at dksX3_wouldMatch_0 2 rfl rfl)
theorem dX3_wouldMatch_5 : decode cX3_wouldMatch 5 = .ok (.aload_n 0, 1) := dk_42 (dk_at dksX3_wouldMatch_0 5 rfl rfl)
theorem dX3_wouldMatch_6 : decode cX3_wouldMatch 6 = .ok (.iload_n 1, 1) := dk_27 (dk_at dksX3_wouldMatch_0 6 rfl rfl)
theorem dX3_wouldMatch_7 : decode cX3_wouldMatch 7 = .ok (.iload_n 2, 1) := dk_28 (dk_at dksX3_wouldMatch_0 7 rfl rfl)
theorem dX3_wouldMatch_8 : decode cX3_wouldMatch 8 = .ok (.invokevirtual 113, 3) := dk_182 0 113 (dk_at dksX3_wouldMatch_0 8 rfl rfl)
theorem dX3_wouldMatch_11 : decode cX3_wouldMatch 11 = .ok (.ifCond .ne 5, 3) := dk_154 0 5 (dk_at dksX3_wouldMatch_0 11 rfl rfl)
theorem dX3_wouldMatch_14 : decode cX3_wouldMatch 14 = .ok (.iconst (-1), 1) := dk_2 (dk_at dksX3_wouldMatch_0 14 rfl rfl)
theorem dX3_wouldMatch_15 : decode cX3_wouldMatch 15 = .ok (.ireturn, 1) := dk_172 (dk_at dksX3_wouldMatch_0 15 rfl rfl)
theorem dX3_wouldMatch_16 : decode cX3_wouldMatch 16 = .ok (.iload_n 3, 1) := dk_29 (dk_at dksX3_wouldMatch_0 16 rfl rfl)
theorem dX3_wouldMatch_17 : decode cX3_wouldMatch 17 = .ok (.iconst 1, 1) := dk_4 (dk_at dksX3_wouldMatch_0 17 rfl rfl)
theorem dX3_wouldMatch_18 : decode cX3_wouldMatch 18 = .ok (.sipush 999, 3) := dk_17 3 231 (dk_at dksX3_wouldMatch_0 18 rfl rfl)
theorem dX3_wouldMatch_21 : decode cX3_wouldMatch 21 = .ok (.invokestatic 53, 3) := dk_184 0 53 (dk_at dksX3_wouldMatch_0 21 rfl rfl)
theorem dX3_wouldMatch_24 : decode cX3_wouldMatch 24 = .ok (.ifCond .eq 15, 3) := dk_153 0 15 (dk_at dksX3_wouldMatch_1 0 rfl rfl)
theorem dX3_wouldMatch_27 : decode cX3_wouldMatch 27 = .ok (.iload 4, 2) := dk_21 4 (dk_at dksX3_wouldMatch_1 3 rfl rfl)
theorem dX3_wouldMatch_29 : decode cX3_wouldMatch 29 = .ok (.iconst 1, 1) := dk_4 (dk_at dksX3_wouldMatch_1 5 rfl rfl)
theorem dX3_wouldMatch_30 : decode cX3_wouldMatch 30 = .ok (.sipush 9999, 3) := dk_17 39 15 (dk_at dksX3_wouldMatch_1 6 rfl rfl)
theorem dX3_wouldMatch_33 : decode cX3_wouldMatch 33 = .ok (.invokestatic 53, 3) := dk_184 0 53 (dk_at dksX3_wouldMatch_1 9 rfl rfl)
theorem dX3_wouldMatch_36 : decode cX3_wouldMatch 36 = .ok (.ifCond .ne 6, 3) := dk_154 0 6 (dk_at dksX3_wouldMatch_1 12 rfl rfl)
theorem dX3_wouldMatch_39 : decode cX3_wouldMatch 39 = .ok (.bipush (-2), 2) := dk_16 254 (dk_at dksX3_wouldMatch_1 15 rfl rfl)
theorem dX3_wouldMatch_41 : decode cX3_wouldMatch 41 = .ok (.ireturn, 1) := dk_172 (dk_at dksX3_wouldMatch_1 17 rfl rfl)
theorem dX3_wouldMatch_42 : decode cX3_wouldMatch 42 = .ok (.aload_n 0, 1) := dk_42 (dk_at dksX3_wouldMatch_1 18 rfl rfl)
theorem dX3_wouldMatch_43 : decode cX3_wouldMatch 43 = .ok (.iload_n 1, 1) := dk_27 (dk_at dksX3_wouldMatch_1 19 rfl rfl)
theorem dX3_wouldMatch_44 : decode cX3_wouldMatch 44 = .ok (.invokevirtual 169, 3) := dk_182 0 169 (dk_at dksX3_wouldMatch_1 20 rfl rfl)
theorem dX3_wouldMatch_47 : decode cX3_wouldMatch 47 = .ok (.aload_n 0, 1) := dk_42 (dk_at dksX3_wouldMatch_1 23 rfl rfl)
theorem dX3_wouldMatch_48 : decode cX3_wouldMatch 48 = .ok (.iload_n 1, 1) := dk_27 (dk_at dksX3_wouldMatch_2 0 rfl rfl)
theorem dX3_wouldMatch_49 : decode cX3_wouldMatch 49 = .ok (.iload_n 2, 1) := dk_28 (dk_at dksX3_wouldMatch_2 1 rfl rfl)
theorem dX3_wouldMatch_50 : decode cX3_wouldMatch 50 = .ok (.iload_n 3, 1) := dk_29 (dk_at dksX3_wouldMatch_2 2 rfl rfl)
theorem dX3_wouldMatch_51 : decode cX3_wouldMatch 51 = .ok (.iload 4, 2) := dk_21 4 (dk_at dksX3_wouldMatch_2 3 rfl rfl)
theorem dX3_wouldMatch_53 : decode cX3_wouldMatch 53 = .ok (.invokevirtual 159, 3) := dk_182 0 159 (dk_at dksX3_wouldMatch_2 5 rfl rfl)
theorem dX3_wouldMatch_56 : decode cX3_wouldMatch 56 = .ok (.ifCond .eq 8, 3) := dk_153 0 8 (dk_at dksX3_wouldMatch_2 8 rfl rfl)
theorem dX3_wouldMatch_59 : decode cX3_wouldMatch 59 = .ok (.bipush 8, 2) := dk_16 8 (dk_at dksX3_wouldMatch_2 11 rfl rfl)
theorem dX3_wouldMatch_61 : decode cX3_wouldMatch 61 = .ok (.goto 4, 3) := dk_167 0 4 (dk_at dksX3_wouldMatch_2 13 rfl rfl)
theorem dX3_wouldMatch_64 : decode cX3_wouldMatch 64 = .ok (.iconst 0, 1) := dk_3 (dk_at dksX3_wouldMatch_2 16 rfl rfl)
theorem dX3_wouldMatch_65 : decode cX3_wouldMatch 65 = .ok (.iadd, 1) := dk_96 (dk_at dksX3_wouldMatch_2 17 rfl rfl)
theorem dX3_wouldMatch_66 : decode cX3_wouldMatch 66 = .ok (.aload_n 0, 1) := dk_42 (dk_at dksX3_wouldMatch_2 18 rfl rfl)
theorem dX3_wouldMatch_67 : decode cX3_wouldMatch 67 = .ok (.iload_n 1, 1) := dk_27 (dk_at dksX3_wouldMatch_2 19 rfl rfl)
theorem dX3_wouldMatch_68 : decode cX3_wouldMatch 68 = .ok (.iload_n 2, 1) := dk_28 (dk_at dksX3_wouldMatch_2 20 rfl rfl)
theorem dX3_wouldMatch_69 : decode cX3_wouldMatch 69 = .ok (.aload_n 0, 1) := dk_42 (dk_at dksX3_wouldMatch_2 21 rfl rfl)
theorem dX3_wouldMatch_70 : decode cX3_wouldMatch 70 = .ok (.iload_n 1, 1) := dk_27 (dk_at dksX3_wouldMatch_2 22 rfl rfl)
theorem dX3_wouldMatch_71 : decode cX3_wouldMatch 71 = .ok (.iload_n 2, 1) := dk_28 (dk_at dksX3_wouldMatch_2 23 rfl rfl)
theorem dX3_wouldMatch_72 : decode cX3_wouldMatch 72 = .ok (.iconst 5, 1) := dk_8 (dk_at dksX3_wouldMatch_3 0 rfl rfl)
theorem dX3_wouldMatch_73 : decode cX3_wouldMatch 73 = .ok (.invokestatic 109, 3) := dk_184 0 109 (dk_at dksX3_wouldMatch_3 1 rfl rfl)
theorem dX3_wouldMatch_76 : decode cX3_wouldMatch 76 = .ok (.invokevirtual 49, 3) := dk_182 0 49 (dk_at dksX3_wouldMatch_3 4 rfl rfl)
theorem dX3_wouldMatch_79 : decode cX3_wouldMatch 79 = .ok (.iload_n 3, 1) := dk_29 (dk_at dksX3_wouldMatch_3 7 rfl rfl)
theorem dX3_wouldMatch_80 : decode cX3_wouldMatch 80 = .ok (.invokevirtual 166, 3) := dk_182 0 166 (dk_at dksX3_wouldMatch_3 8 rfl rfl)
theorem dX3_wouldMatch_83 : decode cX3_wouldMatch 83 = .ok (.ifCond .eq 8, 3) := dk_153 0 8 (dk_at dksX3_wouldMatch_3 11 rfl rfl)
theorem dX3_wouldMatch_86 : decode cX3_wouldMatch 86 = .ok (.bipush 16, 2) := dk_16 16 (dk_at dksX3_wouldMatch_3 14 rfl rfl)
theorem dX3_wouldMatch_88 : decode cX3_wouldMatch 88 = .ok (.goto 4, 3) := dk_167 0 4 (dk_at dksX3_wouldMatch_3 16 rfl rfl)
theorem dX3_wouldMatch_91 : decode cX3_wouldMatch 91 = .ok (.iconst 0, 1) := dk_3 (dk_at dksX3_wouldMatch_3 19 rfl rfl)
theorem dX3_wouldMatch_92 : decode cX3_wouldMatch 92 = .ok (.iadd, 1) := dk_96 (dk_at dksX3_wouldMatch_3 20 rfl rfl)
theorem dX3_wouldMatch_93 : decode cX3_wouldMatch 93 = .ok (.ireturn, 1) := dk_172 (dk_at dksX3_wouldMatch_3 21 rfl rfl)
abbrev cX3_greatestPrice : ByteArray := prog_14_method_82_code
def yX3_greatestPrice : MethodName := ⟨RX3, "greatestPrice", "(III)I"⟩
def dkwX3_greatestPrice_2 : List UInt8 := [132, 4, 255, 167, 255, 241, 21, 4, 172]
abbrev dktX3_greatestPrice_2 : List UInt8 := dkwX3_greatestPrice_2 ++ []
def dkwX3_greatestPrice_1 : List UInt8 := [154, 0, 6, 16, 254, 172, 17, 39, 15, 54, 4, 42, 27, 28, 29, 21, 4, 182, 0, 159, 153, 0, 9]
abbrev dktX3_greatestPrice_1 : List UInt8 := dkwX3_greatestPrice_1 ++ dktX3_greatestPrice_2
def dkwX3_greatestPrice_0 : List UInt8 := [42, 3, 181, 0, 1, 42, 27, 28, 182, 0, 113, 154, 0, 5, 2, 172, 29, 4, 17, 3, 231, 184, 0, 53]
abbrev dktX3_greatestPrice_0 : List UInt8 := dkwX3_greatestPrice_0 ++ dktX3_greatestPrice_1
theorem dksX3_greatestPrice_0 : cX3_greatestPrice.data.toList.drop 0 = dktX3_greatestPrice_0 := by decide +kernel
theorem dksX3_greatestPrice_1 : cX3_greatestPrice.data.toList.drop 24 = dktX3_greatestPrice_1 := dk_seg dksX3_greatestPrice_0 24 rfl rfl
theorem dksX3_greatestPrice_2 : cX3_greatestPrice.data.toList.drop 47 = dktX3_greatestPrice_2 := dk_seg dksX3_greatestPrice_1 23 rfl rfl
theorem dX3_greatestPrice_0 : decode cX3_greatestPrice 0 = .ok (.aload_n 0, 1) := dk_42 (dk_at dksX3_greatestPrice_0 0 rfl rfl)
theorem dX3_greatestPrice_1 : decode cX3_greatestPrice 1 = .ok (.iconst 0, 1) := dk_3 (dk_at dksX3_greatestPrice_0 1 rfl rfl)
theorem dX3_greatestPrice_2 : decode cX3_greatestPrice 2 = .ok (.putfield 1, 3) := dk_181 0 1 (dk_at dksX3_greatestPrice_0 2 rfl rfl)
theorem dX3_greatestPrice_5 : decode cX3_greatestPrice 5 = .ok (.aload_n 0, 1) := dk_42 (dk_at dksX3_greatestPrice_0 5 rfl rfl)
theorem dX3_greatestPrice_6 : decode cX3_greatestPrice 6 = .ok (.iload_n 1, 1) := dk_27 (dk_at dksX3_greatestPrice_0 6 rfl rfl)
theorem dX3_greatestPrice_7 : decode cX3_greatestPrice 7 = .ok (.iload_n 2, 1) := dk_28 (dk_at dksX3_greatestPrice_0 7 rfl rfl)
theorem dX3_greatestPrice_8 : decode cX3_greatestPrice 8 = .ok (.invokevirtual 113, 3) := dk_182 0 113 (dk_at dksX3_greatestPrice_0 8 rfl rfl)
theorem dX3_greatestPrice_11 : decode cX3_greatestPrice 11 = .ok (.ifCond .ne 5, 3) := dk_154 0 5 (dk_at dksX3_greatestPrice_0 11 rfl rfl)
theorem dX3_greatestPrice_14 : decode cX3_greatestPrice 14 = .ok (.iconst (-1), 1) := dk_2 (dk_at dksX3_greatestPrice_0 14 rfl rfl)
theorem dX3_greatestPrice_15 : decode cX3_greatestPrice 15 = .ok (.ireturn, 1) := dk_172 (dk_at dksX3_greatestPrice_0 15 rfl rfl)
theorem dX3_greatestPrice_16 : decode cX3_greatestPrice 16 = .ok (.iload_n 3, 1) := dk_29 (dk_at dksX3_greatestPrice_0 16 rfl rfl)
theorem dX3_greatestPrice_17 : decode cX3_greatestPrice 17 = .ok (.iconst 1, 1) := dk_4 (dk_at dksX3_greatestPrice_0 17 rfl rfl)
theorem dX3_greatestPrice_18 : decode cX3_greatestPrice 18 = .ok (.sipush 999, 3) := dk_17 3 231 (dk_at dksX3_greatestPrice_0 18 rfl rfl)
theorem dX3_greatestPrice_21 : decode cX3_greatestPrice 21 = .ok (.invokestatic 53, 3) := dk_184 0 53 (dk_at dksX3_greatestPrice_0 21 rfl rfl)
theorem dX3_greatestPrice_24 : decode cX3_greatestPrice 24 = .ok (.ifCond .ne 6, 3) := dk_154 0 6 (dk_at dksX3_greatestPrice_1 0 rfl rfl)
theorem dX3_greatestPrice_27 : decode cX3_greatestPrice 27 = .ok (.bipush (-2), 2) := dk_16 254 (dk_at dksX3_greatestPrice_1 3 rfl rfl)
theorem dX3_greatestPrice_29 : decode cX3_greatestPrice 29 = .ok (.ireturn, 1) := dk_172 (dk_at dksX3_greatestPrice_1 5 rfl rfl)
theorem dX3_greatestPrice_30 : decode cX3_greatestPrice 30 = .ok (.sipush 9999, 3) := dk_17 39 15 (dk_at dksX3_greatestPrice_1 6 rfl rfl)
theorem dX3_greatestPrice_33 : decode cX3_greatestPrice 33 = .ok (.istore 4, 2) := dk_54 4 (dk_at dksX3_greatestPrice_1 9 rfl rfl)
theorem dX3_greatestPrice_35 : decode cX3_greatestPrice 35 = .ok (.aload_n 0, 1) := dk_42 (dk_at dksX3_greatestPrice_1 11 rfl rfl)
theorem dX3_greatestPrice_36 : decode cX3_greatestPrice 36 = .ok (.iload_n 1, 1) := dk_27 (dk_at dksX3_greatestPrice_1 12 rfl rfl)
theorem dX3_greatestPrice_37 : decode cX3_greatestPrice 37 = .ok (.iload_n 2, 1) := dk_28 (dk_at dksX3_greatestPrice_1 13 rfl rfl)
theorem dX3_greatestPrice_38 : decode cX3_greatestPrice 38 = .ok (.iload_n 3, 1) := dk_29 (dk_at dksX3_greatestPrice_1 14 rfl rfl)
theorem dX3_greatestPrice_39 : decode cX3_greatestPrice 39 = .ok (.iload 4, 2) := dk_21 4 (dk_at dksX3_greatestPrice_1 15 rfl rfl)
theorem dX3_greatestPrice_41 : decode cX3_greatestPrice 41 = .ok (.invokevirtual 159, 3) := dk_182 0 159 (dk_at dksX3_greatestPrice_1 17 rfl rfl)
theorem dX3_greatestPrice_44 : decode cX3_greatestPrice 44 = .ok (.ifCond .eq 9, 3) := dk_153 0 9 (dk_at dksX3_greatestPrice_1 20 rfl rfl)
theorem dX3_greatestPrice_47 : decode cX3_greatestPrice 47 = .ok (.iinc 4 (-1), 3) := dk_132 4 255 (dk_at dksX3_greatestPrice_2 0 rfl rfl)
theorem dX3_greatestPrice_50 : decode cX3_greatestPrice 50 = .ok (.goto (-15), 3) := dk_167 255 241 (dk_at dksX3_greatestPrice_2 3 rfl rfl)
theorem dX3_greatestPrice_53 : decode cX3_greatestPrice 53 = .ok (.iload 4, 2) := dk_21 4 (dk_at dksX3_greatestPrice_2 6 rfl rfl)
theorem dX3_greatestPrice_55 : decode cX3_greatestPrice 55 = .ok (.ireturn, 1) := dk_172 (dk_at dksX3_greatestPrice_2 8 rfl rfl)
abbrev cX3_value : ByteArray := prog_14_method_84_code
def yX3_value : MethodName := ⟨RX3, "value", "(I)D"⟩
def dkwX3_value_4 : List UInt8 := [182, 0, 49, 135, 111, 175, 20, 0, 235, 175]
abbrev dktX3_value_4 : List UInt8 := dkwX3_value_4 ++ []
def dkwX3_value_3 : List UInt8 := [16, 8, 182, 0, 49, 154, 0, 7, 14, 167, 0, 18, 42, 16, 7, 182, 0, 49, 135, 42, 16, 8]
abbrev dktX3_value_3 : List UInt8 := dkwX3_value_3 ++ dktX3_value_4
def dkwX3_value_2 : List UInt8 := [42, 7, 182, 0, 119, 175, 42, 3, 6, 8, 182, 0, 243, 175, 42, 4, 4, 6, 182, 0, 243, 175, 42]
abbrev dktX3_value_2 : List UInt8 := dkwX3_value_2 ++ dktX3_value_3
def dkwX3_value_1 : List UInt8 := [170, 0, 0, 0, 0, 81, 0, 0, 0, 0, 0, 0, 0, 3, 0, 0, 0, 30, 0, 0, 0, 36, 0, 0, 0, 44, 0, 0, 0, 52]
abbrev dktX3_value_1 : List UInt8 := dkwX3_value_1 ++ dktX3_value_2
def dkwX3_value_0 : List UInt8 := [42, 3, 181, 0, 1, 27]
abbrev dktX3_value_0 : List UInt8 := dkwX3_value_0 ++ dktX3_value_1
theorem dksX3_value_0 : cX3_value.data.toList.drop 0 = dktX3_value_0 := by decide +kernel
theorem dksX3_value_1 : cX3_value.data.toList.drop 6 = dktX3_value_1 := dk_seg dksX3_value_0 6 rfl rfl
theorem dksX3_value_2 : cX3_value.data.toList.drop 36 = dktX3_value_2 := dk_seg dksX3_value_1 30 rfl rfl
theorem dksX3_value_3 : cX3_value.data.toList.drop 59 = dktX3_value_3 := dk_seg dksX3_value_2 23 rfl rfl
theorem dksX3_value_4 : cX3_value.data.toList.drop 81 = dktX3_value_4 := dk_seg dksX3_value_3 22 rfl rfl
theorem dX3_value_0 : decode cX3_value 0 = .ok (.aload_n 0, 1) := dk_42 (dk_at dksX3_value_0 0 rfl rfl)
theorem dX3_value_1 : decode cX3_value 1 = .ok (.iconst 0, 1) := dk_3 (dk_at dksX3_value_0 1 rfl rfl)
theorem dX3_value_2 : decode cX3_value 2 = .ok (.putfield 1, 3) := dk_181 0 1 (dk_at dksX3_value_0 2 rfl rfl)
theorem dX3_value_5 : decode cX3_value 5 = .ok (.iload_n 1, 1) := dk_27 (dk_at dksX3_value_0 5 rfl rfl)
theorem dX3_value_6 : decode cX3_value 6 = .ok (.tableswitch 81 0 3 #[30, 36, 44, 52], 30) := by decide +kernel
theorem dX3_value_36 : decode cX3_value 36 = .ok (.aload_n 0, 1) := dk_42 (dk_at dksX3_value_2 0 rfl rfl)
theorem dX3_value_37 : decode cX3_value 37 = .ok (.iconst 4, 1) := dk_7 (dk_at dksX3_value_2 1 rfl rfl)
theorem dX3_value_38 : decode cX3_value 38 = .ok (.invokevirtual 119, 3) := dk_182 0 119 (dk_at dksX3_value_2 2 rfl rfl)
theorem dX3_value_41 : decode cX3_value 41 = .ok (.dreturn, 1) := dk_175 (dk_at dksX3_value_2 5 rfl rfl)
theorem dX3_value_42 : decode cX3_value 42 = .ok (.aload_n 0, 1) := dk_42 (dk_at dksX3_value_2 6 rfl rfl)
theorem dX3_value_43 : decode cX3_value 43 = .ok (.iconst 0, 1) := dk_3 (dk_at dksX3_value_2 7 rfl rfl)
theorem dX3_value_44 : decode cX3_value 44 = .ok (.iconst 3, 1) := dk_6 (dk_at dksX3_value_2 8 rfl rfl)
theorem dX3_value_45 : decode cX3_value 45 = .ok (.iconst 5, 1) := dk_8 (dk_at dksX3_value_2 9 rfl rfl)
theorem dX3_value_46 : decode cX3_value 46 = .ok (.invokevirtual 243, 3) := dk_182 0 243 (dk_at dksX3_value_2 10 rfl rfl)
theorem dX3_value_49 : decode cX3_value 49 = .ok (.dreturn, 1) := dk_175 (dk_at dksX3_value_2 13 rfl rfl)
theorem dX3_value_50 : decode cX3_value 50 = .ok (.aload_n 0, 1) := dk_42 (dk_at dksX3_value_2 14 rfl rfl)
theorem dX3_value_51 : decode cX3_value 51 = .ok (.iconst 1, 1) := dk_4 (dk_at dksX3_value_2 15 rfl rfl)
theorem dX3_value_52 : decode cX3_value 52 = .ok (.iconst 1, 1) := dk_4 (dk_at dksX3_value_2 16 rfl rfl)
theorem dX3_value_53 : decode cX3_value 53 = .ok (.iconst 3, 1) := dk_6 (dk_at dksX3_value_2 17 rfl rfl)
theorem dX3_value_54 : decode cX3_value 54 = .ok (.invokevirtual 243, 3) := dk_182 0 243 (dk_at dksX3_value_2 18 rfl rfl)
theorem dX3_value_57 : decode cX3_value 57 = .ok (.dreturn, 1) := dk_175 (dk_at dksX3_value_2 21 rfl rfl)
theorem dX3_value_58 : decode cX3_value 58 = .ok (.aload_n 0, 1) := dk_42 (dk_at dksX3_value_2 22 rfl rfl)
theorem dX3_value_59 : decode cX3_value 59 = .ok (.bipush 8, 2) := dk_16 8 (dk_at dksX3_value_3 0 rfl rfl)
theorem dX3_value_61 : decode cX3_value 61 = .ok (.invokevirtual 49, 3) := dk_182 0 49 (dk_at dksX3_value_3 2 rfl rfl)
theorem dX3_value_64 : decode cX3_value 64 = .ok (.ifCond .ne 7, 3) := dk_154 0 7 (dk_at dksX3_value_3 5 rfl rfl)
theorem dX3_value_67 : decode cX3_value 67 = .ok (.dconst 0, 1) := dk_14 (dk_at dksX3_value_3 8 rfl rfl)
theorem dX3_value_68 : decode cX3_value 68 = .ok (.goto 18, 3) := dk_167 0 18 (dk_at dksX3_value_3 9 rfl rfl)
theorem dX3_value_71 : decode cX3_value 71 = .ok (.aload_n 0, 1) := dk_42 (dk_at dksX3_value_3 12 rfl rfl)
theorem dX3_value_72 : decode cX3_value 72 = .ok (.bipush 7, 2) := dk_16 7 (dk_at dksX3_value_3 13 rfl rfl)
theorem dX3_value_74 : decode cX3_value 74 = .ok (.invokevirtual 49, 3) := dk_182 0 49 (dk_at dksX3_value_3 15 rfl rfl)
theorem dX3_value_77 : decode cX3_value 77 = .ok (.i2d, 1) := dk_135 (dk_at dksX3_value_3 18 rfl rfl)
theorem dX3_value_78 : decode cX3_value 78 = .ok (.aload_n 0, 1) := dk_42 (dk_at dksX3_value_3 19 rfl rfl)
theorem dX3_value_79 : decode cX3_value 79 = .ok (.bipush 8, 2) := dk_16 8 (dk_at dksX3_value_3 20 rfl rfl)
theorem dX3_value_81 : decode cX3_value 81 = .ok (.invokevirtual 49, 3) := dk_182 0 49 (dk_at dksX3_value_4 0 rfl rfl)
theorem dX3_value_84 : decode cX3_value 84 = .ok (.i2d, 1) := dk_135 (dk_at dksX3_value_4 3 rfl rfl)
theorem dX3_value_85 : decode cX3_value 85 = .ok (.ddiv, 1) := dk_111 (dk_at dksX3_value_4 4 rfl rfl)
theorem dX3_value_86 : decode cX3_value 86 = .ok (.dreturn, 1) := dk_175 (dk_at dksX3_value_4 5 rfl rfl)
theorem dX3_value_87 : decode cX3_value 87 = .ok (.ldc2_w 235, 3) := dk_20 0 235 (dk_at dksX3_value_4 6 rfl rfl)
theorem dX3_value_90 : decode cX3_value 90 = .ok (.dreturn, 1) := dk_175 (dk_at dksX3_value_4 9 rfl rfl)
abbrev cX3_worth : ByteArray := prog_14_method_83_code
def yX3_worth : MethodName := ⟨RX3, "worth", "(ZII)D"⟩
def dkwX3_worth_4 : List UInt8 := [104, 135, 99, 57, 4, 132, 7, 1, 167, 255, 172, 132, 6, 1, 167, 255, 153, 24, 4, 175]
abbrev dktX3_worth_4 : List UInt8 := dkwX3_worth_4 ++ []
def dkwX3_worth_3 : List UInt8 := [21, 6, 182, 0, 106, 153, 0, 24, 24, 4, 21, 8, 42, 21, 6, 21, 7, 5, 184, 0, 109, 182, 0, 49]
abbrev dktX3_worth_3 : List UInt8 := dkwX3_worth_3 ++ dktX3_worth_4
def dkwX3_worth_2 : List UInt8 := [21, 6, 21, 7, 29, 184, 0, 109, 182, 0, 49, 100, 54, 8, 21, 8, 158, 0, 37, 27, 153, 0, 12, 42]
abbrev dktX3_worth_2 : List UInt8 := dkwX3_worth_2 ++ dktX3_worth_3
def dkwX3_worth_1 : List UInt8 := [4, 184, 0, 61, 182, 0, 49, 162, 0, 75, 42, 21, 6, 21, 7, 28, 184, 0, 109, 182, 0, 49, 42]
abbrev dktX3_worth_1 : List UInt8 := dkwX3_worth_1 ++ dktX3_worth_2
def dkwX3_worth_0 : List UInt8 := [14, 57, 4, 3, 54, 6, 21, 6, 42, 5, 182, 0, 49, 162, 0, 99, 3, 54, 7, 21, 7, 42, 21, 6]
abbrev dktX3_worth_0 : List UInt8 := dkwX3_worth_0 ++ dktX3_worth_1
theorem dksX3_worth_0 : cX3_worth.data.toList.drop 0 = dktX3_worth_0 := by decide +kernel
theorem dksX3_worth_1 : cX3_worth.data.toList.drop 24 = dktX3_worth_1 := dk_seg dksX3_worth_0 24 rfl rfl
theorem dksX3_worth_2 : cX3_worth.data.toList.drop 47 = dktX3_worth_2 := dk_seg dksX3_worth_1 23 rfl rfl
theorem dksX3_worth_3 : cX3_worth.data.toList.drop 71 = dktX3_worth_3 := dk_seg dksX3_worth_2 24 rfl rfl
theorem dksX3_worth_4 : cX3_worth.data.toList.drop 95 = dktX3_worth_4 := dk_seg dksX3_worth_3 24 rfl rfl
theorem dX3_worth_0 : decode cX3_worth 0 = .ok (.dconst 0, 1) := dk_14 (dk_at dksX3_worth_0 0 rfl rfl)
theorem dX3_worth_1 : decode cX3_worth 1 = .ok (.dstore 4, 2) := dk_57 4 (dk_at dksX3_worth_0 1 rfl rfl)
theorem dX3_worth_3 : decode cX3_worth 3 = .ok (.iconst 0, 1) := dk_3 (dk_at dksX3_worth_0 3 rfl rfl)
theorem dX3_worth_4 : decode cX3_worth 4 = .ok (.istore 6, 2) := dk_54 6 (dk_at dksX3_worth_0 4 rfl rfl)
theorem dX3_worth_6 : decode cX3_worth 6 = .ok (.iload 6, 2) := dk_21 6 (dk_at dksX3_worth_0 6 rfl rfl)
theorem dX3_worth_8 : decode cX3_worth 8 = .ok (.aload_n 0, 1) := dk_42 (dk_at dksX3_worth_0 8 rfl rfl)
theorem dX3_worth_9 : decode cX3_worth 9 = .ok (.iconst 2, 1) := dk_5 (dk_at dksX3_worth_0 9 rfl rfl)
theorem dX3_worth_10 : decode cX3_worth 10 = .ok (.invokevirtual 49, 3) := dk_182 0 49 (dk_at dksX3_worth_0 10 rfl rfl)
theorem dX3_worth_13 : decode cX3_worth 13 = .ok (.if_icmp .ge 99, 3) := dk_162 0 99 (dk_at dksX3_worth_0 13 rfl rfl)
theorem dX3_worth_16 : decode cX3_worth 16 = .ok (.iconst 0, 1) := dk_3 (dk_at dksX3_worth_0 16 rfl rfl)
theorem dX3_worth_17 : decode cX3_worth 17 = .ok (.istore 7, 2) := dk_54 7 (dk_at dksX3_worth_0 17 rfl rfl)
theorem dX3_worth_19 : decode cX3_worth 19 = .ok (.iload 7, 2) := dk_21 7 (dk_at dksX3_worth_0 19 rfl rfl)
theorem dX3_worth_21 : decode cX3_worth 21 = .ok (.aload_n 0, 1) := dk_42 (dk_at dksX3_worth_0 21 rfl rfl)
theorem dX3_worth_22 : decode cX3_worth 22 = .ok (.iload 6, 2) := dk_21 6 (dk_at dksX3_worth_0 22 rfl rfl)
theorem dX3_worth_24 : decode cX3_worth 24 = .ok (.iconst 1, 1) := dk_4 (dk_at dksX3_worth_1 0 rfl rfl)
theorem dX3_worth_25 : decode cX3_worth 25 = .ok (.invokestatic 61, 3) := dk_184 0 61 (dk_at dksX3_worth_1 1 rfl rfl)
theorem dX3_worth_28 : decode cX3_worth 28 = .ok (.invokevirtual 49, 3) := dk_182 0 49 (dk_at dksX3_worth_1 4 rfl rfl)
theorem dX3_worth_31 : decode cX3_worth 31 = .ok (.if_icmp .ge 75, 3) := dk_162 0 75 (dk_at dksX3_worth_1 7 rfl rfl)
theorem dX3_worth_34 : decode cX3_worth 34 = .ok (.aload_n 0, 1) := dk_42 (dk_at dksX3_worth_1 10 rfl rfl)
theorem dX3_worth_35 : decode cX3_worth 35 = .ok (.iload 6, 2) := dk_21 6 (dk_at dksX3_worth_1 11 rfl rfl)
theorem dX3_worth_37 : decode cX3_worth 37 = .ok (.iload 7, 2) := dk_21 7 (dk_at dksX3_worth_1 13 rfl rfl)
theorem dX3_worth_39 : decode cX3_worth 39 = .ok (.iload_n 2, 1) := dk_28 (dk_at dksX3_worth_1 15 rfl rfl)
theorem dX3_worth_40 : decode cX3_worth 40 = .ok (.invokestatic 109, 3) := dk_184 0 109 (dk_at dksX3_worth_1 16 rfl rfl)
theorem dX3_worth_43 : decode cX3_worth 43 = .ok (.invokevirtual 49, 3) := dk_182 0 49 (dk_at dksX3_worth_1 19 rfl rfl)
theorem dX3_worth_46 : decode cX3_worth 46 = .ok (.aload_n 0, 1) := dk_42 (dk_at dksX3_worth_1 22 rfl rfl)
theorem dX3_worth_47 : decode cX3_worth 47 = .ok (.iload 6, 2) := dk_21 6 (dk_at dksX3_worth_2 0 rfl rfl)
theorem dX3_worth_49 : decode cX3_worth 49 = .ok (.iload 7, 2) := dk_21 7 (dk_at dksX3_worth_2 2 rfl rfl)
theorem dX3_worth_51 : decode cX3_worth 51 = .ok (.iload_n 3, 1) := dk_29 (dk_at dksX3_worth_2 4 rfl rfl)
theorem dX3_worth_52 : decode cX3_worth 52 = .ok (.invokestatic 109, 3) := dk_184 0 109 (dk_at dksX3_worth_2 5 rfl rfl)
theorem dX3_worth_55 : decode cX3_worth 55 = .ok (.invokevirtual 49, 3) := dk_182 0 49 (dk_at dksX3_worth_2 8 rfl rfl)
theorem dX3_worth_58 : decode cX3_worth 58 = .ok (.isub, 1) := dk_100 (dk_at dksX3_worth_2 11 rfl rfl)
theorem dX3_worth_59 : decode cX3_worth 59 = .ok (.istore 8, 2) := dk_54 8 (dk_at dksX3_worth_2 12 rfl rfl)
theorem dX3_worth_61 : decode cX3_worth 61 = .ok (.iload 8, 2) := dk_21 8 (dk_at dksX3_worth_2 14 rfl rfl)
theorem dX3_worth_63 : decode cX3_worth 63 = .ok (.ifCond .le 37, 3) := dk_158 0 37 (dk_at dksX3_worth_2 16 rfl rfl)
theorem dX3_worth_66 : decode cX3_worth 66 = .ok (.iload_n 1, 1) := dk_27 (dk_at dksX3_worth_2 19 rfl rfl)
theorem dX3_worth_67 : decode cX3_worth 67 = .ok (.ifCond .eq 12, 3) := dk_153 0 12 (dk_at dksX3_worth_2 20 rfl rfl)
theorem dX3_worth_70 : decode cX3_worth 70 = .ok (.aload_n 0, 1) := dk_42 (dk_at dksX3_worth_2 23 rfl rfl)
theorem dX3_worth_71 : decode cX3_worth 71 = .ok (.iload 6, 2) := dk_21 6 (dk_at dksX3_worth_3 0 rfl rfl)
theorem dX3_worth_73 : decode cX3_worth 73 = .ok (.invokevirtual 106, 3) := dk_182 0 106 (dk_at dksX3_worth_3 2 rfl rfl)
theorem dX3_worth_76 : decode cX3_worth 76 = .ok (.ifCond .eq 24, 3) := dk_153 0 24 (dk_at dksX3_worth_3 5 rfl rfl)
theorem dX3_worth_79 : decode cX3_worth 79 = .ok (.dload 4, 2) := dk_24 4 (dk_at dksX3_worth_3 8 rfl rfl)
theorem dX3_worth_81 : decode cX3_worth 81 = .ok (.iload 8, 2) := dk_21 8 (dk_at dksX3_worth_3 10 rfl rfl)
theorem dX3_worth_83 : decode cX3_worth 83 = .ok (.aload_n 0, 1) := dk_42 (dk_at dksX3_worth_3 12 rfl rfl)
theorem dX3_worth_84 : decode cX3_worth 84 = .ok (.iload 6, 2) := dk_21 6 (dk_at dksX3_worth_3 13 rfl rfl)
theorem dX3_worth_86 : decode cX3_worth 86 = .ok (.iload 7, 2) := dk_21 7 (dk_at dksX3_worth_3 15 rfl rfl)
theorem dX3_worth_88 : decode cX3_worth 88 = .ok (.iconst 2, 1) := dk_5 (dk_at dksX3_worth_3 17 rfl rfl)
theorem dX3_worth_89 : decode cX3_worth 89 = .ok (.invokestatic 109, 3) := dk_184 0 109 (dk_at dksX3_worth_3 18 rfl rfl)
theorem dX3_worth_92 : decode cX3_worth 92 = .ok (.invokevirtual 49, 3) := dk_182 0 49 (dk_at dksX3_worth_3 21 rfl rfl)
theorem dX3_worth_95 : decode cX3_worth 95 = .ok (.imul, 1) := dk_104 (dk_at dksX3_worth_4 0 rfl rfl)
theorem dX3_worth_96 : decode cX3_worth 96 = .ok (.i2d, 1) := dk_135 (dk_at dksX3_worth_4 1 rfl rfl)
theorem dX3_worth_97 : decode cX3_worth 97 = .ok (.dadd, 1) := dk_99 (dk_at dksX3_worth_4 2 rfl rfl)
theorem dX3_worth_98 : decode cX3_worth 98 = .ok (.dstore 4, 2) := dk_57 4 (dk_at dksX3_worth_4 3 rfl rfl)
theorem dX3_worth_100 : decode cX3_worth 100 = .ok (.iinc 7 1, 3) := dk_132 7 1 (dk_at dksX3_worth_4 5 rfl rfl)
theorem dX3_worth_103 : decode cX3_worth 103 = .ok (.goto (-84), 3) := dk_167 255 172 (dk_at dksX3_worth_4 8 rfl rfl)
theorem dX3_worth_106 : decode cX3_worth 106 = .ok (.iinc 6 1, 3) := dk_132 6 1 (dk_at dksX3_worth_4 11 rfl rfl)
theorem dX3_worth_109 : decode cX3_worth 109 = .ok (.goto (-103), 3) := dk_167 255 153 (dk_at dksX3_worth_4 14 rfl rfl)
theorem dX3_worth_112 : decode cX3_worth 112 = .ok (.dload 4, 2) := dk_24 4 (dk_at dksX3_worth_4 17 rfl rfl)
theorem dX3_worth_114 : decode cX3_worth 114 = .ok (.dreturn, 1) := dk_175 (dk_at dksX3_worth_4 19 rfl rfl)
abbrev cX3_takes : ByteArray := prog_14_method_85_code
def yX3_takes : MethodName := ⟨RX3, "takes", "(IZI)I"⟩
def dkwX3_takes_2 : List UInt8 := [160, 0, 7, 4, 167, 0, 4, 3, 28, 160, 0, 7, 4, 167, 0, 4, 3, 172]
abbrev dktX3_takes_2 : List UInt8 := dkwX3_takes_2 ++ []
def dkwX3_takes_1 : List UInt8 := [182, 0, 57, 154, 0, 5, 2, 172, 27, 3, 4, 184, 0, 53, 154, 0, 8, 16, 254, 167, 0, 22, 27, 4]
abbrev dktX3_takes_1 : List UInt8 := dkwX3_takes_1 ++ dktX3_takes_2
def dkwX3_takes_0 : List UInt8 := [42, 3, 181, 0, 1, 28, 153, 0, 14, 42, 29, 182, 0, 175, 154, 0, 16, 167, 0, 11, 42, 29]
abbrev dktX3_takes_0 : List UInt8 := dkwX3_takes_0 ++ dktX3_takes_1
theorem dksX3_takes_0 : cX3_takes.data.toList.drop 0 = dktX3_takes_0 := by decide +kernel
theorem dksX3_takes_1 : cX3_takes.data.toList.drop 22 = dktX3_takes_1 := dk_seg dksX3_takes_0 22 rfl rfl
theorem dksX3_takes_2 : cX3_takes.data.toList.drop 46 = dktX3_takes_2 := dk_seg dksX3_takes_1 24 rfl rfl
theorem dX3_takes_0 : decode cX3_takes 0 = .ok (.aload_n 0, 1) := dk_42 (dk_at dksX3_takes_0 0 rfl rfl)
theorem dX3_takes_1 : decode cX3_takes 1 = .ok (.iconst 0, 1) := dk_3 (dk_at dksX3_takes_0 1 rfl rfl)
theorem dX3_takes_2 : decode cX3_takes 2 = .ok (.putfield 1, 3) := dk_181 0 1 (dk_at dksX3_takes_0 2 rfl rfl)
theorem dX3_takes_5 : decode cX3_takes 5 = .ok (.iload_n 2, 1) := dk_28 (dk_at dksX3_takes_0 5 rfl rfl)
theorem dX3_takes_6 : decode cX3_takes 6 = .ok (.ifCond .eq 14, 3) := dk_153 0 14 (dk_at dksX3_takes_0 6 rfl rfl)
theorem dX3_takes_9 : decode cX3_takes 9 = .ok (.aload_n 0, 1) := dk_42 (dk_at dksX3_takes_0 9 rfl rfl)
theorem dX3_takes_10 : decode cX3_takes 10 = .ok (.iload_n 3, 1) := dk_29 (dk_at dksX3_takes_0 10 rfl rfl)
theorem dX3_takes_11 : decode cX3_takes 11 = .ok (.invokevirtual 175, 3) := dk_182 0 175 (dk_at dksX3_takes_0 11 rfl rfl)
theorem dX3_takes_14 : decode cX3_takes 14 = .ok (.ifCond .ne 16, 3) := dk_154 0 16 (dk_at dksX3_takes_0 14 rfl rfl)
theorem dX3_takes_17 : decode cX3_takes 17 = .ok (.goto 11, 3) := dk_167 0 11 (dk_at dksX3_takes_0 17 rfl rfl)
theorem dX3_takes_20 : decode cX3_takes 20 = .ok (.aload_n 0, 1) := dk_42 (dk_at dksX3_takes_0 20 rfl rfl)
theorem dX3_takes_21 : decode cX3_takes 21 = .ok (.iload_n 3, 1) := dk_29 (dk_at dksX3_takes_0 21 rfl rfl)
theorem dX3_takes_22 : decode cX3_takes 22 = .ok (.invokevirtual 57, 3) := dk_182 0 57 (dk_at dksX3_takes_1 0 rfl rfl)
theorem dX3_takes_25 : decode cX3_takes 25 = .ok (.ifCond .ne 5, 3) := dk_154 0 5 (dk_at dksX3_takes_1 3 rfl rfl)
theorem dX3_takes_28 : decode cX3_takes 28 = .ok (.iconst (-1), 1) := dk_2 (dk_at dksX3_takes_1 6 rfl rfl)
theorem dX3_takes_29 : decode cX3_takes 29 = .ok (.ireturn, 1) := dk_172 (dk_at dksX3_takes_1 7 rfl rfl)
theorem dX3_takes_30 : decode cX3_takes 30 = .ok (.iload_n 1, 1) := dk_27 (dk_at dksX3_takes_1 8 rfl rfl)
theorem dX3_takes_31 : decode cX3_takes 31 = .ok (.iconst 0, 1) := dk_3 (dk_at dksX3_takes_1 9 rfl rfl)
theorem dX3_takes_32 : decode cX3_takes 32 = .ok (.iconst 1, 1) := dk_4 (dk_at dksX3_takes_1 10 rfl rfl)
theorem dX3_takes_33 : decode cX3_takes 33 = .ok (.invokestatic 53, 3) := dk_184 0 53 (dk_at dksX3_takes_1 11 rfl rfl)
theorem dX3_takes_36 : decode cX3_takes 36 = .ok (.ifCond .ne 8, 3) := dk_154 0 8 (dk_at dksX3_takes_1 14 rfl rfl)
theorem dX3_takes_39 : decode cX3_takes 39 = .ok (.bipush (-2), 2) := dk_16 254 (dk_at dksX3_takes_1 17 rfl rfl)
theorem dX3_takes_41 : decode cX3_takes 41 = .ok (.goto 22, 3) := dk_167 0 22 (dk_at dksX3_takes_1 19 rfl rfl)
theorem dX3_takes_44 : decode cX3_takes 44 = .ok (.iload_n 1, 1) := dk_27 (dk_at dksX3_takes_1 22 rfl rfl)
theorem dX3_takes_45 : decode cX3_takes 45 = .ok (.iconst 1, 1) := dk_4 (dk_at dksX3_takes_1 23 rfl rfl)
theorem dX3_takes_46 : decode cX3_takes 46 = .ok (.if_icmp .ne 7, 3) := dk_160 0 7 (dk_at dksX3_takes_2 0 rfl rfl)
theorem dX3_takes_49 : decode cX3_takes 49 = .ok (.iconst 1, 1) := dk_4 (dk_at dksX3_takes_2 3 rfl rfl)
theorem dX3_takes_50 : decode cX3_takes 50 = .ok (.goto 4, 3) := dk_167 0 4 (dk_at dksX3_takes_2 4 rfl rfl)
theorem dX3_takes_53 : decode cX3_takes 53 = .ok (.iconst 0, 1) := dk_3 (dk_at dksX3_takes_2 7 rfl rfl)
theorem dX3_takes_54 : decode cX3_takes 54 = .ok (.iload_n 2, 1) := dk_28 (dk_at dksX3_takes_2 8 rfl rfl)
theorem dX3_takes_55 : decode cX3_takes 55 = .ok (.if_icmp .ne 7, 3) := dk_160 0 7 (dk_at dksX3_takes_2 9 rfl rfl)
theorem dX3_takes_58 : decode cX3_takes 58 = .ok (.iconst 1, 1) := dk_4 (dk_at dksX3_takes_2 12 rfl rfl)
theorem dX3_takes_59 : decode cX3_takes 59 = .ok (.goto 4, 3) := dk_167 0 4 (dk_at dksX3_takes_2 13 rfl rfl)
theorem dX3_takes_62 : decode cX3_takes 62 = .ok (.iconst 0, 1) := dk_3 (dk_at dksX3_takes_2 16 rfl rfl)
theorem dX3_takes_63 : decode cX3_takes 63 = .ok (.ireturn, 1) := dk_172 (dk_at dksX3_takes_2 17 rfl rfl)
abbrev cX3_event : ByteArray := prog_14_method_86_code
def yX3_event : MethodName := ⟨RX3, "event", "(II)I"⟩
def dkwX3_event_2 : List UInt8 := [182, 0, 49, 167, 0, 5, 16, 251, 172]
abbrev dktX3_event_2 : List UInt8 := dkwX3_event_2 ++ []
def dkwX3_event_1 : List UInt8 := [162, 0, 29, 27, 42, 16, 10, 182, 0, 49, 162, 0, 19, 42, 17, 5, 91, 7, 27, 104, 96, 28, 96]
abbrev dktX3_event_1 : List UInt8 := dkwX3_event_1 ++ dktX3_event_2
def dkwX3_event_0 : List UInt8 := [42, 3, 181, 0, 1, 27, 155, 0, 12, 28, 3, 6, 184, 0, 53, 154, 0, 6, 16, 254, 172, 27, 16, 10]
abbrev dktX3_event_0 : List UInt8 := dkwX3_event_0 ++ dktX3_event_1
theorem dksX3_event_0 : cX3_event.data.toList.drop 0 = dktX3_event_0 := by decide +kernel
theorem dksX3_event_1 : cX3_event.data.toList.drop 24 = dktX3_event_1 := dk_seg dksX3_event_0 24 rfl rfl
theorem dksX3_event_2 : cX3_event.data.toList.drop 47 = dktX3_event_2 := dk_seg dksX3_event_1 23 rfl rfl
theorem dX3_event_0 : decode cX3_event 0 = .ok (.aload_n 0, 1) := dk_42 (dk_at dksX3_event_0 0 rfl rfl)
theorem dX3_event_1 : decode cX3_event 1 = .ok (.iconst 0, 1) := dk_3 (dk_at dksX3_event_0 1 rfl rfl)
theorem dX3_event_2 : decode cX3_event 2 = .ok (.putfield 1, 3) := dk_181 0 1 (dk_at dksX3_event_0 2 rfl rfl)
theorem dX3_event_5 : decode cX3_event 5 = .ok (.iload_n 1, 1) := dk_27 (dk_at dksX3_event_0 5 rfl rfl)
theorem dX3_event_6 : decode cX3_event 6 = .ok (.ifCond .lt 12, 3) := dk_155 0 12 (dk_at dksX3_event_0 6 rfl rfl)
theorem dX3_event_9 : decode cX3_event 9 = .ok (.iload_n 2, 1) := dk_28 (dk_at dksX3_event_0 9 rfl rfl)
theorem dX3_event_10 : decode cX3_event 10 = .ok (.iconst 0, 1) := dk_3 (dk_at dksX3_event_0 10 rfl rfl)
theorem dX3_event_11 : decode cX3_event 11 = .ok (.iconst 3, 1) := dk_6 (dk_at dksX3_event_0 11 rfl rfl)
theorem dX3_event_12 : decode cX3_event 12 = .ok (.invokestatic 53, 3) := dk_184 0 53 (dk_at dksX3_event_0 12 rfl rfl)
theorem dX3_event_15 : decode cX3_event 15 = .ok (.ifCond .ne 6, 3) := dk_154 0 6 (dk_at dksX3_event_0 15 rfl rfl)
theorem dX3_event_18 : decode cX3_event 18 = .ok (.bipush (-2), 2) := dk_16 254 (dk_at dksX3_event_0 18 rfl rfl)
theorem dX3_event_20 : decode cX3_event 20 = .ok (.ireturn, 1) := dk_172 (dk_at dksX3_event_0 20 rfl rfl)
theorem dX3_event_21 : decode cX3_event 21 = .ok (.iload_n 1, 1) := dk_27 (dk_at dksX3_event_0 21 rfl rfl)
theorem dX3_event_22 : decode cX3_event 22 = .ok (.bipush 10, 2) := dk_16 10 (dk_at dksX3_event_0 22 rfl rfl)
theorem dX3_event_24 : decode cX3_event 24 = .ok (.if_icmp .ge 29, 3) := dk_162 0 29 (dk_at dksX3_event_1 0 rfl rfl)
theorem dX3_event_27 : decode cX3_event 27 = .ok (.iload_n 1, 1) := dk_27 (dk_at dksX3_event_1 3 rfl rfl)
theorem dX3_event_28 : decode cX3_event 28 = .ok (.aload_n 0, 1) := dk_42 (dk_at dksX3_event_1 4 rfl rfl)
theorem dX3_event_29 : decode cX3_event 29 = .ok (.bipush 10, 2) := dk_16 10 (dk_at dksX3_event_1 5 rfl rfl)
theorem dX3_event_31 : decode cX3_event 31 = .ok (.invokevirtual 49, 3) := dk_182 0 49 (dk_at dksX3_event_1 7 rfl rfl)
theorem dX3_event_34 : decode cX3_event 34 = .ok (.if_icmp .ge 19, 3) := dk_162 0 19 (dk_at dksX3_event_1 10 rfl rfl)
theorem dX3_event_37 : decode cX3_event 37 = .ok (.aload_n 0, 1) := dk_42 (dk_at dksX3_event_1 13 rfl rfl)
theorem dX3_event_38 : decode cX3_event 38 = .ok (.sipush 1371, 3) := dk_17 5 91 (dk_at dksX3_event_1 14 rfl rfl)
theorem dX3_event_41 : decode cX3_event 41 = .ok (.iconst 4, 1) := dk_7 (dk_at dksX3_event_1 17 rfl rfl)
theorem dX3_event_42 : decode cX3_event 42 = .ok (.iload_n 1, 1) := dk_27 (dk_at dksX3_event_1 18 rfl rfl)
theorem dX3_event_43 : decode cX3_event 43 = .ok (.imul, 1) := dk_104 (dk_at dksX3_event_1 19 rfl rfl)
theorem dX3_event_44 : decode cX3_event 44 = .ok (.iadd, 1) := dk_96 (dk_at dksX3_event_1 20 rfl rfl)
theorem dX3_event_45 : decode cX3_event 45 = .ok (.iload_n 2, 1) := dk_28 (dk_at dksX3_event_1 21 rfl rfl)
theorem dX3_event_46 : decode cX3_event 46 = .ok (.iadd, 1) := dk_96 (dk_at dksX3_event_1 22 rfl rfl)
theorem dX3_event_47 : decode cX3_event 47 = .ok (.invokevirtual 49, 3) := dk_182 0 49 (dk_at dksX3_event_2 0 rfl rfl)
theorem dX3_event_50 : decode cX3_event 50 = .ok (.goto 5, 3) := dk_167 0 5 (dk_at dksX3_event_2 3 rfl rfl)
theorem dX3_event_53 : decode cX3_event 53 = .ok (.bipush (-5), 2) := dk_16 251 (dk_at dksX3_event_2 6 rfl rfl)
theorem dX3_event_55 : decode cX3_event 55 = .ok (.ireturn, 1) := dk_172 (dk_at dksX3_event_2 8 rfl rfl)
abbrev cX3_count : ByteArray := prog_14_method_89_code
def yX3_count : MethodName := ⟨RX3, "count", "(I)I"⟩
def dkwX3_count_5 : List UInt8 := [16, 254, 172]
abbrev dktX3_count_5 : List UInt8 := dkwX3_count_5 ++ []
def dkwX3_count_4 : List UInt8 := [172, 42, 8, 182, 0, 49, 172, 42, 16, 6, 182, 0, 49, 172, 42, 180, 0, 71, 172, 42, 180, 0, 198, 172]
abbrev dktX3_count_4 : List UInt8 := dkwX3_count_4 ++ dktX3_count_5
def dkwX3_count_3 : List UInt8 := [182, 0, 250, 172, 42, 16, 9, 182, 0, 49, 172, 42, 16, 6, 182, 0, 250, 172, 42, 16, 7, 182, 0, 250]
abbrev dktX3_count_3 : List UInt8 := dkwX3_count_3 ++ dktX3_count_4
def dkwX3_count_2 : List UInt8 := [42, 27, 182, 0, 49, 172, 42, 27, 7, 100, 182, 0, 247, 172, 42, 8, 182, 0, 250, 172, 42, 6]
abbrev dktX3_count_2 : List UInt8 := dkwX3_count_2 ++ dktX3_count_3
def dkwX3_count_1 : List UInt8 := [170, 0, 0, 0, 0, 156, 0, 0, 0, 0, 0, 0, 0, 17, 0, 0, 0, 86, 0, 0, 0, 86, 0, 0, 0, 86, 0, 0, 0, 86, 0, 0, 0, 92, 0, 0, 0, 92, 0, 0, 0, 92, 0, 0, 0, 92, 0, 0, 0, 92, 0, 0, 0, 100, 0, 0, 0, 106, 0, 0, 0, 112, 0, 0, 0, 119, 0, 0, 0, 126, 0, 0, 0, 133, 0, 0, 0, 139, 0, 0, 0, 146, 0, 0, 0, 151]
abbrev dktX3_count_1 : List UInt8 := dkwX3_count_1 ++ dktX3_count_2
def dkwX3_count_0 : List UInt8 := [42, 3, 181, 0, 1, 27]
abbrev dktX3_count_0 : List UInt8 := dkwX3_count_0 ++ dktX3_count_1
theorem dksX3_count_0 : cX3_count.data.toList.drop 0 = dktX3_count_0 := by decide +kernel
theorem dksX3_count_1 : cX3_count.data.toList.drop 6 = dktX3_count_1 := dk_seg dksX3_count_0 6 rfl rfl
theorem dksX3_count_2 : cX3_count.data.toList.drop 92 = dktX3_count_2 := dk_seg dksX3_count_1 86 rfl rfl
theorem dksX3_count_3 : cX3_count.data.toList.drop 114 = dktX3_count_3 := dk_seg dksX3_count_2 22 rfl rfl
theorem dksX3_count_4 : cX3_count.data.toList.drop 138 = dktX3_count_4 := dk_seg dksX3_count_3 24 rfl rfl
theorem dksX3_count_5 : cX3_count.data.toList.drop 162 = dktX3_count_5 := dk_seg dksX3_count_4 24 rfl rfl
theorem dX3_count_0 : decode cX3_count 0 = .ok (.aload_n 0, 1) := dk_42 (dk_at dksX3_count_0 0 rfl rfl)
theorem dX3_count_1 : decode cX3_count 1 = .ok (.iconst 0, 1) := dk_3 (dk_at dksX3_count_0 1 rfl rfl)
theorem dX3_count_2 : decode cX3_count 2 = .ok (.putfield 1, 3) := dk_181 0 1 (dk_at dksX3_count_0 2 rfl rfl)
theorem dX3_count_5 : decode cX3_count 5 = .ok (.iload_n 1, 1) := dk_27 (dk_at dksX3_count_0 5 rfl rfl)
theorem dX3_count_6 : decode cX3_count 6 = .ok (.tableswitch 156 0 17 #[86, 86, 86, 86, 92, 92, 92, 92, 92, 100, 106, 112, 119, 126, 133, 139, 146, 151], 86) := by decide +kernel
theorem dX3_count_92 : decode cX3_count 92 = .ok (.aload_n 0, 1) := dk_42 (dk_at dksX3_count_2 0 rfl rfl)
theorem dX3_count_93 : decode cX3_count 93 = .ok (.iload_n 1, 1) := dk_27 (dk_at dksX3_count_2 1 rfl rfl)
theorem dX3_count_94 : decode cX3_count 94 = .ok (.invokevirtual 49, 3) := dk_182 0 49 (dk_at dksX3_count_2 2 rfl rfl)
theorem dX3_count_97 : decode cX3_count 97 = .ok (.ireturn, 1) := dk_172 (dk_at dksX3_count_2 5 rfl rfl)
theorem dX3_count_98 : decode cX3_count 98 = .ok (.aload_n 0, 1) := dk_42 (dk_at dksX3_count_2 6 rfl rfl)
theorem dX3_count_99 : decode cX3_count 99 = .ok (.iload_n 1, 1) := dk_27 (dk_at dksX3_count_2 7 rfl rfl)
theorem dX3_count_100 : decode cX3_count 100 = .ok (.iconst 4, 1) := dk_7 (dk_at dksX3_count_2 8 rfl rfl)
theorem dX3_count_101 : decode cX3_count 101 = .ok (.isub, 1) := dk_100 (dk_at dksX3_count_2 9 rfl rfl)
theorem dX3_count_102 : decode cX3_count 102 = .ok (.invokevirtual 247, 3) := dk_182 0 247 (dk_at dksX3_count_2 10 rfl rfl)
theorem dX3_count_105 : decode cX3_count 105 = .ok (.ireturn, 1) := dk_172 (dk_at dksX3_count_2 13 rfl rfl)
theorem dX3_count_106 : decode cX3_count 106 = .ok (.aload_n 0, 1) := dk_42 (dk_at dksX3_count_2 14 rfl rfl)
theorem dX3_count_107 : decode cX3_count 107 = .ok (.iconst 5, 1) := dk_8 (dk_at dksX3_count_2 15 rfl rfl)
theorem dX3_count_108 : decode cX3_count 108 = .ok (.invokevirtual 250, 3) := dk_182 0 250 (dk_at dksX3_count_2 16 rfl rfl)
theorem dX3_count_111 : decode cX3_count 111 = .ok (.ireturn, 1) := dk_172 (dk_at dksX3_count_2 19 rfl rfl)
theorem dX3_count_112 : decode cX3_count 112 = .ok (.aload_n 0, 1) := dk_42 (dk_at dksX3_count_2 20 rfl rfl)
theorem dX3_count_113 : decode cX3_count 113 = .ok (.iconst 3, 1) := dk_6 (dk_at dksX3_count_2 21 rfl rfl)
theorem dX3_count_114 : decode cX3_count 114 = .ok (.invokevirtual 250, 3) := dk_182 0 250 (dk_at dksX3_count_3 0 rfl rfl)
theorem dX3_count_117 : decode cX3_count 117 = .ok (.ireturn, 1) := dk_172 (dk_at dksX3_count_3 3 rfl rfl)
theorem dX3_count_118 : decode cX3_count 118 = .ok (.aload_n 0, 1) := dk_42 (dk_at dksX3_count_3 4 rfl rfl)
theorem dX3_count_119 : decode cX3_count 119 = .ok (.bipush 9, 2) := dk_16 9 (dk_at dksX3_count_3 5 rfl rfl)
theorem dX3_count_121 : decode cX3_count 121 = .ok (.invokevirtual 49, 3) := dk_182 0 49 (dk_at dksX3_count_3 7 rfl rfl)
theorem dX3_count_124 : decode cX3_count 124 = .ok (.ireturn, 1) := dk_172 (dk_at dksX3_count_3 10 rfl rfl)
theorem dX3_count_125 : decode cX3_count 125 = .ok (.aload_n 0, 1) := dk_42 (dk_at dksX3_count_3 11 rfl rfl)
theorem dX3_count_126 : decode cX3_count 126 = .ok (.bipush 6, 2) := dk_16 6 (dk_at dksX3_count_3 12 rfl rfl)
theorem dX3_count_128 : decode cX3_count 128 = .ok (.invokevirtual 250, 3) := dk_182 0 250 (dk_at dksX3_count_3 14 rfl rfl)
theorem dX3_count_131 : decode cX3_count 131 = .ok (.ireturn, 1) := dk_172 (dk_at dksX3_count_3 17 rfl rfl)
theorem dX3_count_132 : decode cX3_count 132 = .ok (.aload_n 0, 1) := dk_42 (dk_at dksX3_count_3 18 rfl rfl)
theorem dX3_count_133 : decode cX3_count 133 = .ok (.bipush 7, 2) := dk_16 7 (dk_at dksX3_count_3 19 rfl rfl)
theorem dX3_count_135 : decode cX3_count 135 = .ok (.invokevirtual 250, 3) := dk_182 0 250 (dk_at dksX3_count_3 21 rfl rfl)
theorem dX3_count_138 : decode cX3_count 138 = .ok (.ireturn, 1) := dk_172 (dk_at dksX3_count_4 0 rfl rfl)
theorem dX3_count_139 : decode cX3_count 139 = .ok (.aload_n 0, 1) := dk_42 (dk_at dksX3_count_4 1 rfl rfl)
theorem dX3_count_140 : decode cX3_count 140 = .ok (.iconst 5, 1) := dk_8 (dk_at dksX3_count_4 2 rfl rfl)
theorem dX3_count_141 : decode cX3_count 141 = .ok (.invokevirtual 49, 3) := dk_182 0 49 (dk_at dksX3_count_4 3 rfl rfl)
theorem dX3_count_144 : decode cX3_count 144 = .ok (.ireturn, 1) := dk_172 (dk_at dksX3_count_4 6 rfl rfl)
theorem dX3_count_145 : decode cX3_count 145 = .ok (.aload_n 0, 1) := dk_42 (dk_at dksX3_count_4 7 rfl rfl)
theorem dX3_count_146 : decode cX3_count 146 = .ok (.bipush 6, 2) := dk_16 6 (dk_at dksX3_count_4 8 rfl rfl)
theorem dX3_count_148 : decode cX3_count 148 = .ok (.invokevirtual 49, 3) := dk_182 0 49 (dk_at dksX3_count_4 10 rfl rfl)
theorem dX3_count_151 : decode cX3_count 151 = .ok (.ireturn, 1) := dk_172 (dk_at dksX3_count_4 13 rfl rfl)
theorem dX3_count_152 : decode cX3_count 152 = .ok (.aload_n 0, 1) := dk_42 (dk_at dksX3_count_4 14 rfl rfl)
theorem dX3_count_153 : decode cX3_count 153 = .ok (.getfield 71, 3) := dk_180 0 71 (dk_at dksX3_count_4 15 rfl rfl)
theorem dX3_count_156 : decode cX3_count 156 = .ok (.ireturn, 1) := dk_172 (dk_at dksX3_count_4 18 rfl rfl)
theorem dX3_count_157 : decode cX3_count 157 = .ok (.aload_n 0, 1) := dk_42 (dk_at dksX3_count_4 19 rfl rfl)
theorem dX3_count_158 : decode cX3_count 158 = .ok (.getfield 198, 3) := dk_180 0 198 (dk_at dksX3_count_4 20 rfl rfl)
theorem dX3_count_161 : decode cX3_count 161 = .ok (.ireturn, 1) := dk_172 (dk_at dksX3_count_4 23 rfl rfl)
theorem dX3_count_162 : decode cX3_count 162 = .ok (.bipush (-2), 2) := dk_16 254 (dk_at dksX3_count_5 0 rfl rfl)
theorem dX3_count_164 : decode cX3_count 164 = .ok (.ireturn, 1) := dk_172 (dk_at dksX3_count_5 2 rfl rfl)
abbrev cX3_inState : ByteArray := prog_14_method_88_code
def yX3_inState : MethodName := ⟨RX3, "inState", "(I)I"⟩
def dkwX3_inState_1 : List UInt8 := [160, 0, 7, 4, 167, 0, 4, 3, 96, 61, 132, 3, 1, 167, 255, 223, 28, 172]
abbrev dktX3_inState_1 : List UInt8 := dkwX3_inState_1 ++ []
def dkwX3_inState_0 : List UInt8 := [3, 61, 3, 62, 29, 42, 6, 182, 0, 49, 162, 0, 30, 28, 42, 29, 7, 184, 0, 45, 182, 0, 49, 27]
abbrev dktX3_inState_0 : List UInt8 := dkwX3_inState_0 ++ dktX3_inState_1
theorem dksX3_inState_0 : cX3_inState.data.toList.drop 0 = dktX3_inState_0 := by decide +kernel
theorem dksX3_inState_1 : cX3_inState.data.toList.drop 24 = dktX3_inState_1 := dk_seg dksX3_inState_0 24 rfl rfl
theorem dX3_inState_0 : decode cX3_inState 0 = .ok (.iconst 0, 1) := dk_3 (dk_at dksX3_inState_0 0 rfl rfl)
theorem dX3_inState_1 : decode cX3_inState 1 = .ok (.istore_n 2, 1) := dk_61 (dk_at dksX3_inState_0 1 rfl rfl)
theorem dX3_inState_2 : decode cX3_inState 2 = .ok (.iconst 0, 1) := dk_3 (dk_at dksX3_inState_0 2 rfl rfl)
theorem dX3_inState_3 : decode cX3_inState 3 = .ok (.istore_n 3, 1) := dk_62 (dk_at dksX3_inState_0 3 rfl rfl)
theorem dX3_inState_4 : decode cX3_inState 4 = .ok (.iload_n 3, 1) := dk_29 (dk_at dksX3_inState_0 4 rfl rfl)
theorem dX3_inState_5 : decode cX3_inState 5 = .ok (.aload_n 0, 1) := dk_42 (dk_at dksX3_inState_0 5 rfl rfl)
theorem dX3_inState_6 : decode cX3_inState 6 = .ok (.iconst 3, 1) := dk_6 (dk_at dksX3_inState_0 6 rfl rfl)
theorem dX3_inState_7 : decode cX3_inState 7 = .ok (.invokevirtual 49, 3) := dk_182 0 49 (dk_at dksX3_inState_0 7 rfl rfl)
theorem dX3_inState_10 : decode cX3_inState 10 = .ok (.if_icmp .ge 30, 3) := dk_162 0 30 (dk_at dksX3_inState_0 10 rfl rfl)
theorem dX3_inState_13 : decode cX3_inState 13 = .ok (.iload_n 2, 1) := dk_28 (dk_at dksX3_inState_0 13 rfl rfl)
theorem dX3_inState_14 : decode cX3_inState 14 = .ok (.aload_n 0, 1) := dk_42 (dk_at dksX3_inState_0 14 rfl rfl)
theorem dX3_inState_15 : decode cX3_inState 15 = .ok (.iload_n 3, 1) := dk_29 (dk_at dksX3_inState_0 15 rfl rfl)
theorem dX3_inState_16 : decode cX3_inState 16 = .ok (.iconst 4, 1) := dk_7 (dk_at dksX3_inState_0 16 rfl rfl)
theorem dX3_inState_17 : decode cX3_inState 17 = .ok (.invokestatic 45, 3) := dk_184 0 45 (dk_at dksX3_inState_0 17 rfl rfl)
theorem dX3_inState_20 : decode cX3_inState 20 = .ok (.invokevirtual 49, 3) := dk_182 0 49 (dk_at dksX3_inState_0 20 rfl rfl)
theorem dX3_inState_23 : decode cX3_inState 23 = .ok (.iload_n 1, 1) := dk_27 (dk_at dksX3_inState_0 23 rfl rfl)
theorem dX3_inState_24 : decode cX3_inState 24 = .ok (.if_icmp .ne 7, 3) := dk_160 0 7 (dk_at dksX3_inState_1 0 rfl rfl)
theorem dX3_inState_27 : decode cX3_inState 27 = .ok (.iconst 1, 1) := dk_4 (dk_at dksX3_inState_1 3 rfl rfl)
theorem dX3_inState_28 : decode cX3_inState 28 = .ok (.goto 4, 3) := dk_167 0 4 (dk_at dksX3_inState_1 4 rfl rfl)
theorem dX3_inState_31 : decode cX3_inState 31 = .ok (.iconst 0, 1) := dk_3 (dk_at dksX3_inState_1 7 rfl rfl)
theorem dX3_inState_32 : decode cX3_inState 32 = .ok (.iadd, 1) := dk_96 (dk_at dksX3_inState_1 8 rfl rfl)
theorem dX3_inState_33 : decode cX3_inState 33 = .ok (.istore_n 2, 1) := dk_61 (dk_at dksX3_inState_1 9 rfl rfl)
theorem dX3_inState_34 : decode cX3_inState 34 = .ok (.iinc 3 1, 3) := dk_132 3 1 (dk_at dksX3_inState_1 10 rfl rfl)
theorem dX3_inState_37 : decode cX3_inState 37 = .ok (.goto (-33), 3) := dk_167 255 223 (dk_at dksX3_inState_1 13 rfl rfl)
theorem dX3_inState_40 : decode cX3_inState 40 = .ok (.iload_n 2, 1) := dk_28 (dk_at dksX3_inState_1 16 rfl rfl)
theorem dX3_inState_41 : decode cX3_inState 41 = .ok (.ireturn, 1) := dk_172 (dk_at dksX3_inState_1 17 rfl rfl)
abbrev cX3_sumOf : ByteArray := prog_14_method_87_code
def yX3_sumOf : MethodName := ⟨RX3, "sumOf", "(I)I"⟩
def dkwX3_sumOf_1 : List UInt8 := [61, 132, 3, 1, 167, 255, 232, 28, 172]
abbrev dktX3_sumOf_1 : List UInt8 := dkwX3_sumOf_1 ++ []
def dkwX3_sumOf_0 : List UInt8 := [3, 61, 3, 62, 29, 42, 4, 182, 0, 49, 162, 0, 21, 28, 42, 29, 27, 184, 0, 77, 182, 0, 49, 96]
abbrev dktX3_sumOf_0 : List UInt8 := dkwX3_sumOf_0 ++ dktX3_sumOf_1
theorem dksX3_sumOf_0 : cX3_sumOf.data.toList.drop 0 = dktX3_sumOf_0 := by decide +kernel
theorem dksX3_sumOf_1 : cX3_sumOf.data.toList.drop 24 = dktX3_sumOf_1 := dk_seg dksX3_sumOf_0 24 rfl rfl
theorem dX3_sumOf_0 : decode cX3_sumOf 0 = .ok (.iconst 0, 1) := dk_3 (dk_at dksX3_sumOf_0 0 rfl rfl)
theorem dX3_sumOf_1 : decode cX3_sumOf 1 = .ok (.istore_n 2, 1) := dk_61 (dk_at dksX3_sumOf_0 1 rfl rfl)
theorem dX3_sumOf_2 : decode cX3_sumOf 2 = .ok (.iconst 0, 1) := dk_3 (dk_at dksX3_sumOf_0 2 rfl rfl)
theorem dX3_sumOf_3 : decode cX3_sumOf 3 = .ok (.istore_n 3, 1) := dk_62 (dk_at dksX3_sumOf_0 3 rfl rfl)
theorem dX3_sumOf_4 : decode cX3_sumOf 4 = .ok (.iload_n 3, 1) := dk_29 (dk_at dksX3_sumOf_0 4 rfl rfl)
theorem dX3_sumOf_5 : decode cX3_sumOf 5 = .ok (.aload_n 0, 1) := dk_42 (dk_at dksX3_sumOf_0 5 rfl rfl)
theorem dX3_sumOf_6 : decode cX3_sumOf 6 = .ok (.iconst 1, 1) := dk_4 (dk_at dksX3_sumOf_0 6 rfl rfl)
theorem dX3_sumOf_7 : decode cX3_sumOf 7 = .ok (.invokevirtual 49, 3) := dk_182 0 49 (dk_at dksX3_sumOf_0 7 rfl rfl)
theorem dX3_sumOf_10 : decode cX3_sumOf 10 = .ok (.if_icmp .ge 21, 3) := dk_162 0 21 (dk_at dksX3_sumOf_0 10 rfl rfl)
theorem dX3_sumOf_13 : decode cX3_sumOf 13 = .ok (.iload_n 2, 1) := dk_28 (dk_at dksX3_sumOf_0 13 rfl rfl)
theorem dX3_sumOf_14 : decode cX3_sumOf 14 = .ok (.aload_n 0, 1) := dk_42 (dk_at dksX3_sumOf_0 14 rfl rfl)
theorem dX3_sumOf_15 : decode cX3_sumOf 15 = .ok (.iload_n 3, 1) := dk_29 (dk_at dksX3_sumOf_0 15 rfl rfl)
theorem dX3_sumOf_16 : decode cX3_sumOf 16 = .ok (.iload_n 1, 1) := dk_27 (dk_at dksX3_sumOf_0 16 rfl rfl)
theorem dX3_sumOf_17 : decode cX3_sumOf 17 = .ok (.invokestatic 77, 3) := dk_184 0 77 (dk_at dksX3_sumOf_0 17 rfl rfl)
theorem dX3_sumOf_20 : decode cX3_sumOf 20 = .ok (.invokevirtual 49, 3) := dk_182 0 49 (dk_at dksX3_sumOf_0 20 rfl rfl)
theorem dX3_sumOf_23 : decode cX3_sumOf 23 = .ok (.iadd, 1) := dk_96 (dk_at dksX3_sumOf_0 23 rfl rfl)
theorem dX3_sumOf_24 : decode cX3_sumOf 24 = .ok (.istore_n 2, 1) := dk_61 (dk_at dksX3_sumOf_1 0 rfl rfl)
theorem dX3_sumOf_25 : decode cX3_sumOf 25 = .ok (.iinc 3 1, 3) := dk_132 3 1 (dk_at dksX3_sumOf_1 1 rfl rfl)
theorem dX3_sumOf_28 : decode cX3_sumOf 28 = .ok (.goto (-24), 3) := dk_167 255 232 (dk_at dksX3_sumOf_1 4 rfl rfl)
theorem dX3_sumOf_31 : decode cX3_sumOf 31 = .ok (.iload_n 2, 1) := dk_28 (dk_at dksX3_sumOf_1 7 rfl rfl)
theorem dX3_sumOf_32 : decode cX3_sumOf 32 = .ok (.ireturn, 1) := dk_172 (dk_at dksX3_sumOf_1 8 rfl rfl)
theorem q87 : (Jvm.Cond.initialized "PayMatchModel") ∈ lw_all := lw_g (lw_at lw_m1 14 rfl) rfl
theorem q590 : (Jvm.Cond.selects "PayMatchModel" ({ cls := "java/lang/Object", name := "getClass", desc := "()Ljava/lang/Class;" } : Jvm.MethodName) ({ cls := "java/lang/Object", name := "getClass", desc := "()Ljava/lang/Class;" } : Jvm.MethodName)) ∈ lw_all := lw_g (lw_at lw_m3 37 rfl) rfl
theorem q1964 : (Jvm.Cond.instantiable "PayMatchModel" (12 : Nat)) ∈ lw_all := lw_g (lw_at lw_m8 211 rfl) rfl
theorem q1966 : (Jvm.Cond.instanceMethod ({ cls := "PayMatchModel", name := "<init>", desc := "()V" } : Jvm.MethodName)) ∈ lw_all := lw_g (lw_at lw_m8 213 rfl) rfl
theorem q1967 : (Jvm.Cond.code ({ cls := "PayMatchModel", name := "<init>", desc := "()V" } : Jvm.MethodName) prog_14_method_3_code (1 : Nat) (Option.none : Option Jvm.ClassFile.FieldType)) ∈ lw_all := lw_g (lw_at lw_m8 214 rfl) rfl
theorem q1968 : (Jvm.Cond.methodLink "PayMatchModel" (7 : Nat) ({ cls := "java/lang/Object", name := "<init>", desc := "()V" } : Jvm.MethodName)) ∈ lw_all := lw_g (lw_at lw_m8 215 rfl) rfl
theorem q1969 : (Jvm.Cond.constantDouble "PayMatchModel" (33 : Nat) (4611686018427387904 : UInt64)) ∈ lw_all := lw_g (lw_at lw_m8 216 rfl) rfl
theorem q1970 : (Jvm.Cond.methodLink "PayMatchModel" (35 : Nat) ({ cls := "java/lang/Double", name := "doubleToRawLongBits", desc := "(D)J" } : Jvm.MethodName)) ∈ lw_all := lw_g (lw_at lw_m8 217 rfl) rfl
theorem q1973 : (Jvm.Cond.constantLong "PayMatchModel" (41 : Nat) (10 : Int64)) ∈ lw_all := lw_g (lw_at lw_m8 220 rfl) rfl
theorem q1974 : (Jvm.Cond.constantLong "PayMatchModel" (43 : Nat) (30 : Int64)) ∈ lw_all := lw_g (lw_at lw_m8 221 rfl) rfl
theorem q1975 : (Jvm.Cond.fieldLink "PayMatchModel" (1 : Nat) "PayMatchModel" "thrown" "I") ∈ lw_all := lw_g (lw_at lw_m8 222 rfl) rfl
theorem q1976 : (Jvm.Cond.fieldLink "PayMatchModel" (13 : Nat) "PayMatchModel" "now" "[J") ∈ lw_all := lw_g (lw_at lw_m8 223 rfl) rfl
theorem q1977 : (Jvm.Cond.fieldLink "PayMatchModel" (17 : Nat) "PayMatchModel" "put" "[J") ∈ lw_all := lw_g (lw_at lw_m8 224 rfl) rfl
theorem q1978 : (Jvm.Cond.fieldLink "PayMatchModel" (20 : Nat) "PayMatchModel" "kept" "[J") ∈ lw_all := lw_g (lw_at lw_m8 225 rfl) rfl
theorem q1979 : (Jvm.Cond.fieldLink "PayMatchModel" (228 : Nat) "PayMatchModel" "isKept" "Z") ∈ lw_all := lw_g (lw_at lw_m8 226 rfl) rfl
theorem q1980 : (Jvm.Cond.fieldLink "PayMatchModel" (23 : Nat) "PayMatchModel" "was" "[J") ∈ lw_all := lw_g (lw_at lw_m8 227 rfl) rfl
theorem q1981 : (Jvm.Cond.fieldLink "PayMatchModel" (71 : Nat) "PayMatchModel" "acts" "I") ∈ lw_all := lw_g (lw_at lw_m8 228 rfl) rfl
theorem q1982 : (Jvm.Cond.fieldLink "PayMatchModel" (26 : Nat) "PayMatchModel" "text" "[I") ∈ lw_all := lw_g (lw_at lw_m8 229 rfl) rfl
theorem q1983 : (Jvm.Cond.fieldLink "PayMatchModel" (198 : Nat) "PayMatchModel" "typed" "I") ∈ lw_all := lw_g (lw_at lw_m8 230 rfl) rfl
theorem q1984 : (Jvm.Cond.fieldLink "PayMatchModel" (201 : Nat) "PayMatchModel" "place" "I") ∈ lw_all := lw_g (lw_at lw_m8 231 rfl) rfl
theorem q1985 : (Jvm.Cond.fieldLink "PayMatchModel" (204 : Nat) "PayMatchModel" "isWrong" "Z") ∈ lw_all := lw_g (lw_at lw_m8 232 rfl) rfl
theorem q1986 : (Jvm.Cond.fieldLink "PayMatchModel" (30 : Nat) "PayMatchModel" "told" "[I") ∈ lw_all := lw_g (lw_at lw_m8 233 rfl) rfl
theorem q1987 : (Jvm.Cond.lays "PayMatchModel" "PayMatchModel" "thrown" "I") ∈ lw_all := lw_g (lw_at lw_m8 234 rfl) rfl
theorem q1988 : (Jvm.Cond.soleField "PayMatchModel" "thrown") ∈ lw_all := lw_g (lw_at lw_m8 235 rfl) rfl
theorem q1989 : (Jvm.Cond.laysFinal "PayMatchModel" "PayMatchModel" "now" "[J") ∈ lw_all := lw_g (lw_at lw_m8 236 rfl) rfl
theorem q1990 : (Jvm.Cond.soleField "PayMatchModel" "now") ∈ lw_all := lw_g (lw_at lw_m8 237 rfl) rfl
theorem q1991 : (Jvm.Cond.laysFinal "PayMatchModel" "PayMatchModel" "put" "[J") ∈ lw_all := lw_g (lw_at lw_m8 238 rfl) rfl
theorem q1992 : (Jvm.Cond.soleField "PayMatchModel" "put") ∈ lw_all := lw_g (lw_at lw_m8 239 rfl) rfl
theorem q1993 : (Jvm.Cond.laysFinal "PayMatchModel" "PayMatchModel" "kept" "[J") ∈ lw_all := lw_g (lw_at lw_m9 0 rfl) rfl
theorem q1994 : (Jvm.Cond.soleField "PayMatchModel" "kept") ∈ lw_all := lw_g (lw_at lw_m9 1 rfl) rfl
theorem q1995 : (Jvm.Cond.lays "PayMatchModel" "PayMatchModel" "isKept" "Z") ∈ lw_all := lw_g (lw_at lw_m9 2 rfl) rfl
theorem q1996 : (Jvm.Cond.soleField "PayMatchModel" "isKept") ∈ lw_all := lw_g (lw_at lw_m9 3 rfl) rfl
theorem q1997 : (Jvm.Cond.laysFinal "PayMatchModel" "PayMatchModel" "was" "[J") ∈ lw_all := lw_g (lw_at lw_m9 4 rfl) rfl
theorem q1998 : (Jvm.Cond.soleField "PayMatchModel" "was") ∈ lw_all := lw_g (lw_at lw_m9 5 rfl) rfl
theorem q1999 : (Jvm.Cond.lays "PayMatchModel" "PayMatchModel" "acts" "I") ∈ lw_all := lw_g (lw_at lw_m9 6 rfl) rfl
theorem q2000 : (Jvm.Cond.soleField "PayMatchModel" "acts") ∈ lw_all := lw_g (lw_at lw_m9 7 rfl) rfl
theorem q2001 : (Jvm.Cond.laysFinal "PayMatchModel" "PayMatchModel" "text" "[I") ∈ lw_all := lw_g (lw_at lw_m9 8 rfl) rfl
theorem q2002 : (Jvm.Cond.soleField "PayMatchModel" "text") ∈ lw_all := lw_g (lw_at lw_m9 9 rfl) rfl
theorem q2003 : (Jvm.Cond.lays "PayMatchModel" "PayMatchModel" "typed" "I") ∈ lw_all := lw_g (lw_at lw_m9 10 rfl) rfl
theorem q2004 : (Jvm.Cond.soleField "PayMatchModel" "typed") ∈ lw_all := lw_g (lw_at lw_m9 11 rfl) rfl
theorem q2005 : (Jvm.Cond.lays "PayMatchModel" "PayMatchModel" "place" "I") ∈ lw_all := lw_g (lw_at lw_m9 12 rfl) rfl
theorem q2006 : (Jvm.Cond.soleField "PayMatchModel" "place") ∈ lw_all := lw_g (lw_at lw_m9 13 rfl) rfl
theorem q2007 : (Jvm.Cond.lays "PayMatchModel" "PayMatchModel" "isWrong" "Z") ∈ lw_all := lw_g (lw_at lw_m9 14 rfl) rfl
theorem q2008 : (Jvm.Cond.soleField "PayMatchModel" "isWrong") ∈ lw_all := lw_g (lw_at lw_m9 15 rfl) rfl
theorem q2009 : (Jvm.Cond.laysFinal "PayMatchModel" "PayMatchModel" "told" "[I") ∈ lw_all := lw_g (lw_at lw_m9 16 rfl) rfl
theorem q2010 : (Jvm.Cond.soleField "PayMatchModel" "told") ∈ lw_all := lw_g (lw_at lw_m9 17 rfl) rfl
theorem q2011 : (Jvm.Cond.superclass "PayMatchModel" "java/lang/Object") ∈ lw_all := lw_g (lw_at lw_m9 18 rfl) rfl
theorem q2015 : (Jvm.Cond.instanceMethod ({ cls := "PayMatchModel", name := "addSupplier", desc := "()I" } : Jvm.MethodName)) ∈ lw_all := lw_g (lw_at lw_m9 22 rfl) rfl
theorem q2016 : (Jvm.Cond.selects "PayMatchModel" ({ cls := "PayMatchModel", name := "addSupplier", desc := "()I" } : Jvm.MethodName) ({ cls := "PayMatchModel", name := "addSupplier", desc := "()I" } : Jvm.MethodName)) ∈ lw_all := lw_g (lw_at lw_m9 23 rfl) rfl
theorem q2017 : (Jvm.Cond.code ({ cls := "PayMatchModel", name := "addSupplier", desc := "()I" } : Jvm.MethodName) prog_14_method_20_code (2 : Nat) (Option.some Jvm.ClassFile.FieldType.int)) ∈ lw_all := lw_g (lw_at lw_m9 24 rfl) rfl
theorem q2018 : (Jvm.Cond.methodLink "PayMatchModel" (74 : Nat) ({ cls := "PayMatchModel", name := "aside", desc := "()V" } : Jvm.MethodName)) ∈ lw_all := lw_g (lw_at lw_m9 25 rfl) rfl
theorem q2019 : (Jvm.Cond.privateMethod ({ cls := "PayMatchModel", name := "aside", desc := "()V" } : Jvm.MethodName)) ∈ lw_tbl := lw_at lw_m9 26 rfl
theorem q2020 : (Jvm.Cond.instanceMethod ({ cls := "PayMatchModel", name := "aside", desc := "()V" } : Jvm.MethodName)) ∈ lw_all := lw_g (lw_at lw_m9 27 rfl) rfl
theorem q2021 : (Jvm.Cond.code ({ cls := "PayMatchModel", name := "aside", desc := "()V" } : Jvm.MethodName) prog_14_method_17_code (2 : Nat) (Option.none : Option Jvm.ClassFile.FieldType)) ∈ lw_all := lw_g (lw_at lw_m9 28 rfl) rfl
theorem q2022 : (Jvm.Cond.methodLink "PayMatchModel" (49 : Nat) ({ cls := "PayMatchModel", name := "at", desc := "(I)I" } : Jvm.MethodName)) ∈ lw_all := lw_g (lw_at lw_m9 29 rfl) rfl
theorem q2023 : (Jvm.Cond.privateMethod ({ cls := "PayMatchModel", name := "at", desc := "(I)I" } : Jvm.MethodName)) ∈ lw_tbl := lw_at lw_m9 30 rfl
theorem q2024 : (Jvm.Cond.instanceMethod ({ cls := "PayMatchModel", name := "at", desc := "(I)I" } : Jvm.MethodName)) ∈ lw_all := lw_g (lw_at lw_m9 31 rfl) rfl
theorem q2025 : (Jvm.Cond.code ({ cls := "PayMatchModel", name := "at", desc := "(I)I" } : Jvm.MethodName) prog_14_method_4_code (2 : Nat) (Option.some Jvm.ClassFile.FieldType.int)) ∈ lw_all := lw_g (lw_at lw_m9 32 rfl) rfl
theorem q2026 : (Jvm.Cond.methodLink "PayMatchModel" (77 : Nat) ({ cls := "PayMatchModel", name := "ofSupplier", desc := "(II)I" } : Jvm.MethodName)) ∈ lw_all := lw_g (lw_at lw_m9 33 rfl) rfl
theorem q2027 : (Jvm.Cond.static ({ cls := "PayMatchModel", name := "ofSupplier", desc := "(II)I" } : Jvm.MethodName)) ∈ lw_all := lw_g (lw_at lw_m9 34 rfl) rfl
theorem q2028 : (Jvm.Cond.code ({ cls := "PayMatchModel", name := "ofSupplier", desc := "(II)I" } : Jvm.MethodName) prog_14_method_5_code (2 : Nat) (Option.some Jvm.ClassFile.FieldType.int)) ∈ lw_all := lw_g (lw_at lw_m9 35 rfl) rfl
theorem q2029 : (Jvm.Cond.constantDouble "PayMatchModel" (80 : Nat) (4617315517961601024 : UInt64)) ∈ lw_all := lw_g (lw_at lw_m9 36 rfl) rfl
theorem q2030 : (Jvm.Cond.constantLong "PayMatchModel" (82 : Nat) (100 : Int64)) ∈ lw_all := lw_g (lw_at lw_m9 37 rfl) rfl
theorem q2031 : (Jvm.Cond.methodLink "PayMatchModel" (84 : Nat) ({ cls := "PayMatchModel", name := "acted", desc := "(I)I" } : Jvm.MethodName)) ∈ lw_all := lw_g (lw_at lw_m9 38 rfl) rfl
theorem q2032 : (Jvm.Cond.privateMethod ({ cls := "PayMatchModel", name := "acted", desc := "(I)I" } : Jvm.MethodName)) ∈ lw_tbl := lw_at lw_m9 39 rfl
theorem q2033 : (Jvm.Cond.instanceMethod ({ cls := "PayMatchModel", name := "acted", desc := "(I)I" } : Jvm.MethodName)) ∈ lw_all := lw_g (lw_at lw_m9 40 rfl) rfl
theorem q2034 : (Jvm.Cond.code ({ cls := "PayMatchModel", name := "acted", desc := "(I)I" } : Jvm.MethodName) prog_14_method_18_code (3 : Nat) (Option.some Jvm.ClassFile.FieldType.int)) ∈ lw_all := lw_g (lw_at lw_m9 41 rfl) rfl
theorem q2036 : (Jvm.Cond.instanceMethod ({ cls := "PayMatchModel", name := "setTolerance", desc := "(IZJ)I" } : Jvm.MethodName)) ∈ lw_all := lw_g (lw_at lw_m9 43 rfl) rfl
theorem q2037 : (Jvm.Cond.selects "PayMatchModel" ({ cls := "PayMatchModel", name := "setTolerance", desc := "(IZJ)I" } : Jvm.MethodName) ({ cls := "PayMatchModel", name := "setTolerance", desc := "(IZJ)I" } : Jvm.MethodName)) ∈ lw_all := lw_g (lw_at lw_m9 44 rfl) rfl
theorem q2038 : (Jvm.Cond.code ({ cls := "PayMatchModel", name := "setTolerance", desc := "(IZJ)I" } : Jvm.MethodName) prog_14_method_22_code (6 : Nat) (Option.some Jvm.ClassFile.FieldType.int)) ∈ lw_all := lw_g (lw_at lw_m9 45 rfl) rfl
theorem q2039 : (Jvm.Cond.methodLink "PayMatchModel" (89 : Nat) ({ cls := "PayMatchModel", name := "isSupplier", desc := "(I)Z" } : Jvm.MethodName)) ∈ lw_all := lw_g (lw_at lw_m9 46 rfl) rfl
theorem q2040 : (Jvm.Cond.privateMethod ({ cls := "PayMatchModel", name := "isSupplier", desc := "(I)Z" } : Jvm.MethodName)) ∈ lw_tbl := lw_at lw_m9 47 rfl
theorem q2041 : (Jvm.Cond.instanceMethod ({ cls := "PayMatchModel", name := "isSupplier", desc := "(I)Z" } : Jvm.MethodName)) ∈ lw_all := lw_g (lw_at lw_m9 48 rfl) rfl
theorem q2042 : (Jvm.Cond.code ({ cls := "PayMatchModel", name := "isSupplier", desc := "(I)Z" } : Jvm.MethodName) prog_14_method_10_code (2 : Nat) (Option.some Jvm.ClassFile.FieldType.boolean)) ∈ lw_all := lw_g (lw_at lw_m9 49 rfl) rfl
theorem q2043 : (Jvm.Cond.methodLink "PayMatchModel" (53 : Nat) ({ cls := "PayMatchModel", name := "in", desc := "(III)Z" } : Jvm.MethodName)) ∈ lw_all := lw_g (lw_at lw_m9 50 rfl) rfl
theorem q2044 : (Jvm.Cond.static ({ cls := "PayMatchModel", name := "in", desc := "(III)Z" } : Jvm.MethodName)) ∈ lw_all := lw_g (lw_at lw_m9 51 rfl) rfl
theorem q2045 : (Jvm.Cond.code ({ cls := "PayMatchModel", name := "in", desc := "(III)Z" } : Jvm.MethodName) prog_14_method_2_code (3 : Nat) (Option.some Jvm.ClassFile.FieldType.boolean)) ∈ lw_all := lw_g (lw_at lw_m9 52 rfl) rfl
theorem q2046 : (Jvm.Cond.constantDouble "PayMatchModel" (92 : Nat) (4632233691727265792 : UInt64)) ∈ lw_all := lw_g (lw_at lw_m9 53 rfl) rfl
theorem q2047 : (Jvm.Cond.methodLink "PayMatchModel" (94 : Nat) ({ cls := "PayMatchModel", name := "isFrom", desc := "(JD)Z" } : Jvm.MethodName)) ∈ lw_all := lw_g (lw_at lw_m9 54 rfl) rfl
theorem q2048 : (Jvm.Cond.static ({ cls := "PayMatchModel", name := "isFrom", desc := "(JD)Z" } : Jvm.MethodName)) ∈ lw_all := lw_g (lw_at lw_m9 55 rfl) rfl
theorem q2049 : (Jvm.Cond.code ({ cls := "PayMatchModel", name := "isFrom", desc := "(JD)Z" } : Jvm.MethodName) prog_14_method_21_code (4 : Nat) (Option.some Jvm.ClassFile.FieldType.boolean)) ∈ lw_all := lw_g (lw_at lw_m9 56 rfl) rfl
theorem q2050 : (Jvm.Cond.constantLong "PayMatchModel" (87 : Nat) (9218868437227405312 : Int64)) ∈ lw_all := lw_g (lw_at lw_m9 57 rfl) rfl
theorem q2051 : (Jvm.Cond.methodLink "PayMatchModel" (67 : Nat) ({ cls := "java/lang/Double", name := "longBitsToDouble", desc := "(J)D" } : Jvm.MethodName)) ∈ lw_all := lw_g (lw_at lw_m9 58 rfl) rfl
theorem q2053 : (Jvm.Cond.instanceMethod ({ cls := "PayMatchModel", name := "setTrifle", desc := "(II)I" } : Jvm.MethodName)) ∈ lw_all := lw_g (lw_at lw_m9 60 rfl) rfl
theorem q2054 : (Jvm.Cond.selects "PayMatchModel" ({ cls := "PayMatchModel", name := "setTrifle", desc := "(II)I" } : Jvm.MethodName) ({ cls := "PayMatchModel", name := "setTrifle", desc := "(II)I" } : Jvm.MethodName)) ∈ lw_all := lw_g (lw_at lw_m9 61 rfl) rfl
theorem q2055 : (Jvm.Cond.code ({ cls := "PayMatchModel", name := "setTrifle", desc := "(II)I" } : Jvm.MethodName) prog_14_method_23_code (4 : Nat) (Option.some Jvm.ClassFile.FieldType.int)) ∈ lw_all := lw_g (lw_at lw_m9 62 rfl) rfl
theorem q2057 : (Jvm.Cond.instanceMethod ({ cls := "PayMatchModel", name := "block", desc := "(IZ)I" } : Jvm.MethodName)) ∈ lw_all := lw_g (lw_at lw_m9 64 rfl) rfl
theorem q2058 : (Jvm.Cond.selects "PayMatchModel" ({ cls := "PayMatchModel", name := "block", desc := "(IZ)I" } : Jvm.MethodName) ({ cls := "PayMatchModel", name := "block", desc := "(IZ)I" } : Jvm.MethodName)) ∈ lw_all := lw_g (lw_at lw_m9 65 rfl) rfl
theorem q2059 : (Jvm.Cond.code ({ cls := "PayMatchModel", name := "block", desc := "(IZ)I" } : Jvm.MethodName) prog_14_method_25_code (5 : Nat) (Option.some Jvm.ClassFile.FieldType.int)) ∈ lw_all := lw_g (lw_at lw_m9 66 rfl) rfl
theorem q2060 : (Jvm.Cond.methodLink "PayMatchModel" (98 : Nat) ({ cls := "PayMatchModel", name := "isBlocked", desc := "(I)Z" } : Jvm.MethodName)) ∈ lw_all := lw_g (lw_at lw_m9 67 rfl) rfl
theorem q2061 : (Jvm.Cond.privateMethod ({ cls := "PayMatchModel", name := "isBlocked", desc := "(I)Z" } : Jvm.MethodName)) ∈ lw_tbl := lw_at lw_m9 68 rfl
theorem q2062 : (Jvm.Cond.instanceMethod ({ cls := "PayMatchModel", name := "isBlocked", desc := "(I)Z" } : Jvm.MethodName)) ∈ lw_all := lw_g (lw_at lw_m9 69 rfl) rfl
theorem q2063 : (Jvm.Cond.code ({ cls := "PayMatchModel", name := "isBlocked", desc := "(I)Z" } : Jvm.MethodName) prog_14_method_24_code (2 : Nat) (Option.some Jvm.ClassFile.FieldType.boolean)) ∈ lw_all := lw_g (lw_at lw_m9 70 rfl) rfl
theorem q2064 : (Jvm.Cond.methodLink "PayMatchModel" (101 : Nat) ({ cls := "PayMatchModel", name := "payee", desc := "(I)I" } : Jvm.MethodName)) ∈ lw_all := lw_g (lw_at lw_m9 71 rfl) rfl
theorem q2065 : (Jvm.Cond.privateMethod ({ cls := "PayMatchModel", name := "payee", desc := "(I)I" } : Jvm.MethodName)) ∈ lw_tbl := lw_at lw_m9 72 rfl
theorem q2066 : (Jvm.Cond.instanceMethod ({ cls := "PayMatchModel", name := "payee", desc := "(I)I" } : Jvm.MethodName)) ∈ lw_all := lw_g (lw_at lw_m9 73 rfl) rfl
theorem q2067 : (Jvm.Cond.code ({ cls := "PayMatchModel", name := "payee", desc := "(I)I" } : Jvm.MethodName) prog_14_method_15_code (2 : Nat) (Option.some Jvm.ClassFile.FieldType.int)) ∈ lw_all := lw_g (lw_at lw_m9 74 rfl) rfl
theorem q2068 : (Jvm.Cond.methodLink "PayMatchModel" (45 : Nat) ({ cls := "PayMatchModel", name := "ofInvoice", desc := "(II)I" } : Jvm.MethodName)) ∈ lw_all := lw_g (lw_at lw_m9 75 rfl) rfl
theorem q2069 : (Jvm.Cond.static ({ cls := "PayMatchModel", name := "ofInvoice", desc := "(II)I" } : Jvm.MethodName)) ∈ lw_all := lw_g (lw_at lw_m9 76 rfl) rfl
theorem q2070 : (Jvm.Cond.code ({ cls := "PayMatchModel", name := "ofInvoice", desc := "(II)I" } : Jvm.MethodName) prog_14_method_8_code (2 : Nat) (Option.some Jvm.ClassFile.FieldType.int)) ∈ lw_all := lw_g (lw_at lw_m9 77 rfl) rfl
theorem q2071 : (Jvm.Cond.methodLink "PayMatchModel" (64 : Nat) ({ cls := "PayMatchModel", name := "whose", desc := "(I)I" } : Jvm.MethodName)) ∈ lw_all := lw_g (lw_at lw_m9 78 rfl) rfl
theorem q2072 : (Jvm.Cond.privateMethod ({ cls := "PayMatchModel", name := "whose", desc := "(I)I" } : Jvm.MethodName)) ∈ lw_tbl := lw_at lw_m9 79 rfl
theorem q2073 : (Jvm.Cond.instanceMethod ({ cls := "PayMatchModel", name := "whose", desc := "(I)I" } : Jvm.MethodName)) ∈ lw_all := lw_g (lw_at lw_m9 80 rfl) rfl
theorem q2074 : (Jvm.Cond.code ({ cls := "PayMatchModel", name := "whose", desc := "(I)I" } : Jvm.MethodName) prog_14_method_14_code (2 : Nat) (Option.some Jvm.ClassFile.FieldType.int)) ∈ lw_all := lw_g (lw_at lw_m9 81 rfl) rfl
theorem q2075 : (Jvm.Cond.methodLink "PayMatchModel" (61 : Nat) ({ cls := "PayMatchModel", name := "ofOrder", desc := "(II)I" } : Jvm.MethodName)) ∈ lw_all := lw_g (lw_at lw_m9 82 rfl) rfl
theorem q2076 : (Jvm.Cond.static ({ cls := "PayMatchModel", name := "ofOrder", desc := "(II)I" } : Jvm.MethodName)) ∈ lw_all := lw_g (lw_at lw_m9 83 rfl) rfl
theorem q2077 : (Jvm.Cond.code ({ cls := "PayMatchModel", name := "ofOrder", desc := "(II)I" } : Jvm.MethodName) prog_14_method_6_code (2 : Nat) (Option.some Jvm.ClassFile.FieldType.int)) ∈ lw_all := lw_g (lw_at lw_m9 84 rfl) rfl
theorem q2079 : (Jvm.Cond.instanceMethod ({ cls := "PayMatchModel", name := "setDiscount", desc := "(J)I" } : Jvm.MethodName)) ∈ lw_all := lw_g (lw_at lw_m9 86 rfl) rfl
theorem q2080 : (Jvm.Cond.selects "PayMatchModel" ({ cls := "PayMatchModel", name := "setDiscount", desc := "(J)I" } : Jvm.MethodName) ({ cls := "PayMatchModel", name := "setDiscount", desc := "(J)I" } : Jvm.MethodName)) ∈ lw_all := lw_g (lw_at lw_m9 87 rfl) rfl
theorem q2081 : (Jvm.Cond.code ({ cls := "PayMatchModel", name := "setDiscount", desc := "(J)I" } : Jvm.MethodName) prog_14_method_26_code (3 : Nat) (Option.some Jvm.ClassFile.FieldType.int)) ∈ lw_all := lw_g (lw_at lw_m9 88 rfl) rfl
theorem q2082 : (Jvm.Cond.constantDouble "PayMatchModel" (104 : Nat) (4626322717216342016 : UInt64)) ∈ lw_all := lw_g (lw_at lw_m9 89 rfl) rfl
theorem q2084 : (Jvm.Cond.instanceMethod ({ cls := "PayMatchModel", name := "setTerms", desc := "(II)I" } : Jvm.MethodName)) ∈ lw_all := lw_g (lw_at lw_m9 91 rfl) rfl
theorem q2085 : (Jvm.Cond.selects "PayMatchModel" ({ cls := "PayMatchModel", name := "setTerms", desc := "(II)I" } : Jvm.MethodName) ({ cls := "PayMatchModel", name := "setTerms", desc := "(II)I" } : Jvm.MethodName)) ∈ lw_all := lw_g (lw_at lw_m9 92 rfl) rfl
theorem q2086 : (Jvm.Cond.code ({ cls := "PayMatchModel", name := "setTerms", desc := "(II)I" } : Jvm.MethodName) prog_14_method_27_code (4 : Nat) (Option.some Jvm.ClassFile.FieldType.int)) ∈ lw_all := lw_g (lw_at lw_m9 93 rfl) rfl
theorem q2088 : (Jvm.Cond.instanceMethod ({ cls := "PayMatchModel", name := "addOrder", desc := "(I)I" } : Jvm.MethodName)) ∈ lw_all := lw_g (lw_at lw_m9 95 rfl) rfl
theorem q2089 : (Jvm.Cond.selects "PayMatchModel" ({ cls := "PayMatchModel", name := "addOrder", desc := "(I)I" } : Jvm.MethodName) ({ cls := "PayMatchModel", name := "addOrder", desc := "(I)I" } : Jvm.MethodName)) ∈ lw_all := lw_g (lw_at lw_m9 96 rfl) rfl
theorem q2090 : (Jvm.Cond.code ({ cls := "PayMatchModel", name := "addOrder", desc := "(I)I" } : Jvm.MethodName) prog_14_method_28_code (4 : Nat) (Option.some Jvm.ClassFile.FieldType.int)) ∈ lw_all := lw_g (lw_at lw_m9 97 rfl) rfl
theorem q2092 : (Jvm.Cond.instanceMethod ({ cls := "PayMatchModel", name := "addLine", desc := "(IIII)I" } : Jvm.MethodName)) ∈ lw_all := lw_g (lw_at lw_m9 99 rfl) rfl
theorem q2093 : (Jvm.Cond.selects "PayMatchModel" ({ cls := "PayMatchModel", name := "addLine", desc := "(IIII)I" } : Jvm.MethodName) ({ cls := "PayMatchModel", name := "addLine", desc := "(IIII)I" } : Jvm.MethodName)) ∈ lw_all := lw_g (lw_at lw_m9 100 rfl) rfl
theorem q2094 : (Jvm.Cond.code ({ cls := "PayMatchModel", name := "addLine", desc := "(IIII)I" } : Jvm.MethodName) prog_14_method_30_code (7 : Nat) (Option.some Jvm.ClassFile.FieldType.int)) ∈ lw_all := lw_g (lw_at lw_m9 101 rfl) rfl
theorem q2095 : (Jvm.Cond.methodLink "PayMatchModel" (57 : Nat) ({ cls := "PayMatchModel", name := "isOrder", desc := "(I)Z" } : Jvm.MethodName)) ∈ lw_all := lw_g (lw_at lw_m9 102 rfl) rfl
theorem q2096 : (Jvm.Cond.privateMethod ({ cls := "PayMatchModel", name := "isOrder", desc := "(I)Z" } : Jvm.MethodName)) ∈ lw_tbl := lw_at lw_m9 103 rfl
theorem q2097 : (Jvm.Cond.instanceMethod ({ cls := "PayMatchModel", name := "isOrder", desc := "(I)Z" } : Jvm.MethodName)) ∈ lw_all := lw_g (lw_at lw_m9 104 rfl) rfl
theorem q2098 : (Jvm.Cond.code ({ cls := "PayMatchModel", name := "isOrder", desc := "(I)Z" } : Jvm.MethodName) prog_14_method_11_code (2 : Nat) (Option.some Jvm.ClassFile.FieldType.boolean)) ∈ lw_all := lw_g (lw_at lw_m9 105 rfl) rfl
theorem q2099 : (Jvm.Cond.methodLink "PayMatchModel" (106 : Nat) ({ cls := "PayMatchModel", name := "isOpen", desc := "(I)Z" } : Jvm.MethodName)) ∈ lw_all := lw_g (lw_at lw_m9 106 rfl) rfl
theorem q2100 : (Jvm.Cond.privateMethod ({ cls := "PayMatchModel", name := "isOpen", desc := "(I)Z" } : Jvm.MethodName)) ∈ lw_tbl := lw_at lw_m9 107 rfl
theorem q2101 : (Jvm.Cond.instanceMethod ({ cls := "PayMatchModel", name := "isOpen", desc := "(I)Z" } : Jvm.MethodName)) ∈ lw_all := lw_g (lw_at lw_m9 108 rfl) rfl
theorem q2102 : (Jvm.Cond.code ({ cls := "PayMatchModel", name := "isOpen", desc := "(I)Z" } : Jvm.MethodName) prog_14_method_29_code (2 : Nat) (Option.some Jvm.ClassFile.FieldType.boolean)) ∈ lw_all := lw_g (lw_at lw_m9 109 rfl) rfl
theorem q2103 : (Jvm.Cond.methodLink "PayMatchModel" (109 : Nat) ({ cls := "PayMatchModel", name := "ofLine", desc := "(III)I" } : Jvm.MethodName)) ∈ lw_all := lw_g (lw_at lw_m9 110 rfl) rfl
theorem q2104 : (Jvm.Cond.static ({ cls := "PayMatchModel", name := "ofLine", desc := "(III)I" } : Jvm.MethodName)) ∈ lw_all := lw_g (lw_at lw_m9 111 rfl) rfl
theorem q2105 : (Jvm.Cond.code ({ cls := "PayMatchModel", name := "ofLine", desc := "(III)I" } : Jvm.MethodName) prog_14_method_7_code (3 : Nat) (Option.some Jvm.ClassFile.FieldType.int)) ∈ lw_all := lw_g (lw_at lw_m9 112 rfl) rfl
theorem q2107 : (Jvm.Cond.instanceMethod ({ cls := "PayMatchModel", name := "changeLine", desc := "(IIII)I" } : Jvm.MethodName)) ∈ lw_all := lw_g (lw_at lw_m9 114 rfl) rfl
theorem q2108 : (Jvm.Cond.selects "PayMatchModel" ({ cls := "PayMatchModel", name := "changeLine", desc := "(IIII)I" } : Jvm.MethodName) ({ cls := "PayMatchModel", name := "changeLine", desc := "(IIII)I" } : Jvm.MethodName)) ∈ lw_all := lw_g (lw_at lw_m9 115 rfl) rfl
theorem q2109 : (Jvm.Cond.code ({ cls := "PayMatchModel", name := "changeLine", desc := "(IIII)I" } : Jvm.MethodName) prog_14_method_31_code (5 : Nat) (Option.some Jvm.ClassFile.FieldType.int)) ∈ lw_all := lw_g (lw_at lw_m9 116 rfl) rfl
theorem q2110 : (Jvm.Cond.methodLink "PayMatchModel" (113 : Nat) ({ cls := "PayMatchModel", name := "isLine", desc := "(II)Z" } : Jvm.MethodName)) ∈ lw_all := lw_g (lw_at lw_m9 117 rfl) rfl
theorem q2111 : (Jvm.Cond.privateMethod ({ cls := "PayMatchModel", name := "isLine", desc := "(II)Z" } : Jvm.MethodName)) ∈ lw_tbl := lw_at lw_m9 118 rfl
theorem q2112 : (Jvm.Cond.instanceMethod ({ cls := "PayMatchModel", name := "isLine", desc := "(II)Z" } : Jvm.MethodName)) ∈ lw_all := lw_g (lw_at lw_m9 119 rfl) rfl
theorem q2113 : (Jvm.Cond.code ({ cls := "PayMatchModel", name := "isLine", desc := "(II)Z" } : Jvm.MethodName) prog_14_method_12_code (3 : Nat) (Option.some Jvm.ClassFile.FieldType.boolean)) ∈ lw_all := lw_g (lw_at lw_m9 120 rfl) rfl
theorem q2115 : (Jvm.Cond.instanceMethod ({ cls := "PayMatchModel", name := "close", desc := "(I)I" } : Jvm.MethodName)) ∈ lw_all := lw_g (lw_at lw_m9 122 rfl) rfl
theorem q2116 : (Jvm.Cond.selects "PayMatchModel" ({ cls := "PayMatchModel", name := "close", desc := "(I)I" } : Jvm.MethodName) ({ cls := "PayMatchModel", name := "close", desc := "(I)I" } : Jvm.MethodName)) ∈ lw_all := lw_g (lw_at lw_m9 123 rfl) rfl
theorem q2117 : (Jvm.Cond.code ({ cls := "PayMatchModel", name := "close", desc := "(I)I" } : Jvm.MethodName) prog_14_method_32_code (5 : Nat) (Option.some Jvm.ClassFile.FieldType.int)) ∈ lw_all := lw_g (lw_at lw_m9 124 rfl) rfl
theorem q2119 : (Jvm.Cond.instanceMethod ({ cls := "PayMatchModel", name := "cancel", desc := "(I)I" } : Jvm.MethodName)) ∈ lw_all := lw_g (lw_at lw_m9 126 rfl) rfl
theorem q2120 : (Jvm.Cond.selects "PayMatchModel" ({ cls := "PayMatchModel", name := "cancel", desc := "(I)I" } : Jvm.MethodName) ({ cls := "PayMatchModel", name := "cancel", desc := "(I)I" } : Jvm.MethodName)) ∈ lw_all := lw_g (lw_at lw_m9 127 rfl) rfl
theorem q2121 : (Jvm.Cond.code ({ cls := "PayMatchModel", name := "cancel", desc := "(I)I" } : Jvm.MethodName) prog_14_method_33_code (4 : Nat) (Option.some Jvm.ClassFile.FieldType.int)) ∈ lw_all := lw_g (lw_at lw_m9 128 rfl) rfl
theorem q2122 : (Jvm.Cond.constantLong "PayMatchModel" (117 : Nat) (2 : Int64)) ∈ lw_all := lw_g (lw_at lw_m9 129 rfl) rfl
theorem q2124 : (Jvm.Cond.instanceMethod ({ cls := "PayMatchModel", name := "receive", desc := "(IIII)I" } : Jvm.MethodName)) ∈ lw_all := lw_g (lw_at lw_m9 131 rfl) rfl
theorem q2125 : (Jvm.Cond.selects "PayMatchModel" ({ cls := "PayMatchModel", name := "receive", desc := "(IIII)I" } : Jvm.MethodName) ({ cls := "PayMatchModel", name := "receive", desc := "(IIII)I" } : Jvm.MethodName)) ∈ lw_all := lw_g (lw_at lw_m9 132 rfl) rfl
theorem q2126 : (Jvm.Cond.code ({ cls := "PayMatchModel", name := "receive", desc := "(IIII)I" } : Jvm.MethodName) prog_14_method_37_code (5 : Nat) (Option.some Jvm.ClassFile.FieldType.int)) ∈ lw_all := lw_g (lw_at lw_m9 133 rfl) rfl
theorem q2127 : (Jvm.Cond.methodLink "PayMatchModel" (128 : Nat) ({ cls := "PayMatchModel", name := "takesMost", desc := "(II)I" } : Jvm.MethodName)) ∈ lw_all := lw_g (lw_at lw_m9 134 rfl) rfl
theorem q2128 : (Jvm.Cond.privateMethod ({ cls := "PayMatchModel", name := "takesMost", desc := "(II)I" } : Jvm.MethodName)) ∈ lw_tbl := lw_at lw_m9 135 rfl
theorem q2129 : (Jvm.Cond.instanceMethod ({ cls := "PayMatchModel", name := "takesMost", desc := "(II)I" } : Jvm.MethodName)) ∈ lw_all := lw_g (lw_at lw_m9 136 rfl) rfl
theorem q2130 : (Jvm.Cond.code ({ cls := "PayMatchModel", name := "takesMost", desc := "(II)I" } : Jvm.MethodName) prog_14_method_35_code (3 : Nat) (Option.some Jvm.ClassFile.FieldType.int)) ∈ lw_all := lw_g (lw_at lw_m9 137 rfl) rfl
theorem q2131 : (Jvm.Cond.methodLink "PayMatchModel" (125 : Nat) ({ cls := "PayMatchModel", name := "stretched", desc := "(II)I" } : Jvm.MethodName)) ∈ lw_all := lw_g (lw_at lw_m9 138 rfl) rfl
theorem q2132 : (Jvm.Cond.privateMethod ({ cls := "PayMatchModel", name := "stretched", desc := "(II)I" } : Jvm.MethodName)) ∈ lw_tbl := lw_at lw_m9 139 rfl
theorem q2133 : (Jvm.Cond.instanceMethod ({ cls := "PayMatchModel", name := "stretched", desc := "(II)I" } : Jvm.MethodName)) ∈ lw_all := lw_g (lw_at lw_m9 140 rfl) rfl
theorem q2134 : (Jvm.Cond.code ({ cls := "PayMatchModel", name := "stretched", desc := "(II)I" } : Jvm.MethodName) prog_14_method_34_code (3 : Nat) (Option.some Jvm.ClassFile.FieldType.int)) ∈ lw_all := lw_g (lw_at lw_m9 141 rfl) rfl
theorem q2135 : (Jvm.Cond.methodLink "PayMatchModel" (119 : Nat) ({ cls := "PayMatchModel", name := "real", desc := "(I)D" } : Jvm.MethodName)) ∈ lw_all := lw_g (lw_at lw_m9 142 rfl) rfl
theorem q2136 : (Jvm.Cond.privateMethod ({ cls := "PayMatchModel", name := "real", desc := "(I)D" } : Jvm.MethodName)) ∈ lw_tbl := lw_at lw_m9 143 rfl
theorem q2137 : (Jvm.Cond.instanceMethod ({ cls := "PayMatchModel", name := "real", desc := "(I)D" } : Jvm.MethodName)) ∈ lw_all := lw_g (lw_at lw_m9 144 rfl) rfl
theorem q2138 : (Jvm.Cond.code ({ cls := "PayMatchModel", name := "real", desc := "(I)D" } : Jvm.MethodName) prog_14_method_16_code (2 : Nat) (Option.some Jvm.ClassFile.FieldType.double)) ∈ lw_all := lw_g (lw_at lw_m9 145 rfl) rfl
theorem q2139 : (Jvm.Cond.constantDouble "PayMatchModel" (123 : Nat) (4636737291354636288 : UInt64)) ∈ lw_all := lw_g (lw_at lw_m9 146 rfl) rfl
theorem q2140 : (Jvm.Cond.methodLink "PayMatchModel" (131 : Nat) ({ cls := "PayMatchModel", name := "log", desc := "(III)V" } : Jvm.MethodName)) ∈ lw_all := lw_g (lw_at lw_m9 147 rfl) rfl
theorem q2141 : (Jvm.Cond.privateMethod ({ cls := "PayMatchModel", name := "log", desc := "(III)V" } : Jvm.MethodName)) ∈ lw_tbl := lw_at lw_m9 148 rfl
theorem q2142 : (Jvm.Cond.instanceMethod ({ cls := "PayMatchModel", name := "log", desc := "(III)V" } : Jvm.MethodName)) ∈ lw_all := lw_g (lw_at lw_m9 149 rfl) rfl
theorem q2143 : (Jvm.Cond.code ({ cls := "PayMatchModel", name := "log", desc := "(III)V" } : Jvm.MethodName) prog_14_method_19_code (5 : Nat) (Option.none : Option Jvm.ClassFile.FieldType)) ∈ lw_all := lw_g (lw_at lw_m9 150 rfl) rfl
theorem q2145 : (Jvm.Cond.instanceMethod ({ cls := "PayMatchModel", name := "giveBack", desc := "(III)I" } : Jvm.MethodName)) ∈ lw_all := lw_g (lw_at lw_m9 152 rfl) rfl
theorem q2146 : (Jvm.Cond.selects "PayMatchModel" ({ cls := "PayMatchModel", name := "giveBack", desc := "(III)I" } : Jvm.MethodName) ({ cls := "PayMatchModel", name := "giveBack", desc := "(III)I" } : Jvm.MethodName)) ∈ lw_all := lw_g (lw_at lw_m9 153 rfl) rfl
theorem q2147 : (Jvm.Cond.code ({ cls := "PayMatchModel", name := "giveBack", desc := "(III)I" } : Jvm.MethodName) prog_14_method_39_code (5 : Nat) (Option.some Jvm.ClassFile.FieldType.int)) ∈ lw_all := lw_g (lw_at lw_m9 154 rfl) rfl
theorem q2148 : (Jvm.Cond.methodLink "PayMatchModel" (138 : Nat) ({ cls := "PayMatchModel", name := "claims", desc := "(II)I" } : Jvm.MethodName)) ∈ lw_all := lw_g (lw_at lw_m9 155 rfl) rfl
theorem q2149 : (Jvm.Cond.privateMethod ({ cls := "PayMatchModel", name := "claims", desc := "(II)I" } : Jvm.MethodName)) ∈ lw_tbl := lw_at lw_m9 156 rfl
theorem q2150 : (Jvm.Cond.instanceMethod ({ cls := "PayMatchModel", name := "claims", desc := "(II)I" } : Jvm.MethodName)) ∈ lw_all := lw_g (lw_at lw_m9 157 rfl) rfl
theorem q2151 : (Jvm.Cond.code ({ cls := "PayMatchModel", name := "claims", desc := "(II)I" } : Jvm.MethodName) prog_14_method_38_code (5 : Nat) (Option.some Jvm.ClassFile.FieldType.int)) ∈ lw_all := lw_g (lw_at lw_m9 158 rfl) rfl
theorem q2152 : (Jvm.Cond.methodLink "PayMatchModel" (135 : Nat) ({ cls := "PayMatchModel", name := "billsMost", desc := "(II)I" } : Jvm.MethodName)) ∈ lw_all := lw_g (lw_at lw_m9 159 rfl) rfl
theorem q2153 : (Jvm.Cond.privateMethod ({ cls := "PayMatchModel", name := "billsMost", desc := "(II)I" } : Jvm.MethodName)) ∈ lw_tbl := lw_at lw_m9 160 rfl
theorem q2154 : (Jvm.Cond.instanceMethod ({ cls := "PayMatchModel", name := "billsMost", desc := "(II)I" } : Jvm.MethodName)) ∈ lw_all := lw_g (lw_at lw_m9 161 rfl) rfl
theorem q2155 : (Jvm.Cond.code ({ cls := "PayMatchModel", name := "billsMost", desc := "(II)I" } : Jvm.MethodName) prog_14_method_36_code (3 : Nat) (Option.some Jvm.ClassFile.FieldType.int)) ∈ lw_all := lw_g (lw_at lw_m9 162 rfl) rfl
theorem q2157 : (Jvm.Cond.instanceMethod ({ cls := "PayMatchModel", name := "bill", desc := "(IIIII)I" } : Jvm.MethodName)) ∈ lw_all := lw_g (lw_at lw_m9 164 rfl) rfl
theorem q2158 : (Jvm.Cond.selects "PayMatchModel" ({ cls := "PayMatchModel", name := "bill", desc := "(IIIII)I" } : Jvm.MethodName) ({ cls := "PayMatchModel", name := "bill", desc := "(IIIII)I" } : Jvm.MethodName)) ∈ lw_all := lw_g (lw_at lw_m9 165 rfl) rfl
theorem q2159 : (Jvm.Cond.code ({ cls := "PayMatchModel", name := "bill", desc := "(IIIII)I" } : Jvm.MethodName) prog_14_method_44_code (7 : Nat) (Option.some Jvm.ClassFile.FieldType.int)) ∈ lw_all := lw_g (lw_at lw_m9 166 rfl) rfl
theorem q2160 : (Jvm.Cond.methodLink "PayMatchModel" (149 : Nat) ({ cls := "PayMatchModel", name := "begins", desc := "(II)I" } : Jvm.MethodName)) ∈ lw_all := lw_g (lw_at lw_m9 167 rfl) rfl
theorem q2161 : (Jvm.Cond.privateMethod ({ cls := "PayMatchModel", name := "begins", desc := "(II)I" } : Jvm.MethodName)) ∈ lw_tbl := lw_at lw_m9 168 rfl
theorem q2162 : (Jvm.Cond.instanceMethod ({ cls := "PayMatchModel", name := "begins", desc := "(II)I" } : Jvm.MethodName)) ∈ lw_all := lw_g (lw_at lw_m9 169 rfl) rfl
theorem q2163 : (Jvm.Cond.code ({ cls := "PayMatchModel", name := "begins", desc := "(II)I" } : Jvm.MethodName) prog_14_method_41_code (5 : Nat) (Option.some Jvm.ClassFile.FieldType.int)) ∈ lw_all := lw_g (lw_at lw_m9 170 rfl) rfl
theorem q2164 : (Jvm.Cond.constantLong "PayMatchModel" (144 : Nat) (-5 : Int64)) ∈ lw_all := lw_g (lw_at lw_m9 171 rfl) rfl
theorem q2165 : (Jvm.Cond.methodLink "PayMatchModel" (152 : Nat) ({ cls := "PayMatchModel", name := "adds", desc := "(IIII)V" } : Jvm.MethodName)) ∈ lw_all := lw_g (lw_at lw_m9 172 rfl) rfl
theorem q2166 : (Jvm.Cond.privateMethod ({ cls := "PayMatchModel", name := "adds", desc := "(IIII)V" } : Jvm.MethodName)) ∈ lw_tbl := lw_at lw_m9 173 rfl
theorem q2167 : (Jvm.Cond.instanceMethod ({ cls := "PayMatchModel", name := "adds", desc := "(IIII)V" } : Jvm.MethodName)) ∈ lw_all := lw_g (lw_at lw_m9 174 rfl) rfl
theorem q2168 : (Jvm.Cond.code ({ cls := "PayMatchModel", name := "adds", desc := "(IIII)V" } : Jvm.MethodName) prog_14_method_42_code (6 : Nat) (Option.none : Option Jvm.ClassFile.FieldType)) ∈ lw_all := lw_g (lw_at lw_m9 175 rfl) rfl
theorem q2169 : (Jvm.Cond.methodLink "PayMatchModel" (156 : Nat) ({ cls := "PayMatchModel", name := "entered", desc := "(I)I" } : Jvm.MethodName)) ∈ lw_all := lw_g (lw_at lw_m9 176 rfl) rfl
theorem q2170 : (Jvm.Cond.privateMethod ({ cls := "PayMatchModel", name := "entered", desc := "(I)I" } : Jvm.MethodName)) ∈ lw_tbl := lw_at lw_m9 177 rfl
theorem q2171 : (Jvm.Cond.instanceMethod ({ cls := "PayMatchModel", name := "entered", desc := "(I)I" } : Jvm.MethodName)) ∈ lw_all := lw_g (lw_at lw_m9 178 rfl) rfl
theorem q2172 : (Jvm.Cond.code ({ cls := "PayMatchModel", name := "entered", desc := "(I)I" } : Jvm.MethodName) prog_14_method_43_code (2 : Nat) (Option.some Jvm.ClassFile.FieldType.int)) ∈ lw_all := lw_g (lw_at lw_m9 179 rfl) rfl
theorem q2173 : (Jvm.Cond.methodLink "PayMatchModel" (146 : Nat) ({ cls := "PayMatchModel", name := "total", desc := "(I)I" } : Jvm.MethodName)) ∈ lw_all := lw_g (lw_at lw_m9 180 rfl) rfl
theorem q2174 : (Jvm.Cond.privateMethod ({ cls := "PayMatchModel", name := "total", desc := "(I)I" } : Jvm.MethodName)) ∈ lw_tbl := lw_at lw_m9 181 rfl
theorem q2175 : (Jvm.Cond.instanceMethod ({ cls := "PayMatchModel", name := "total", desc := "(I)I" } : Jvm.MethodName)) ∈ lw_all := lw_g (lw_at lw_m9 182 rfl) rfl
theorem q2176 : (Jvm.Cond.code ({ cls := "PayMatchModel", name := "total", desc := "(I)I" } : Jvm.MethodName) prog_14_method_40_code (4 : Nat) (Option.some Jvm.ClassFile.FieldType.int)) ∈ lw_all := lw_g (lw_at lw_m9 183 rfl) rfl
theorem q2177 : (Jvm.Cond.methodLink "PayMatchModel" (141 : Nat) ({ cls := "PayMatchModel", name := "entryOf", desc := "(III)I" } : Jvm.MethodName)) ∈ lw_all := lw_g (lw_at lw_m9 184 rfl) rfl
theorem q2178 : (Jvm.Cond.privateMethod ({ cls := "PayMatchModel", name := "entryOf", desc := "(III)I" } : Jvm.MethodName)) ∈ lw_tbl := lw_at lw_m9 185 rfl
theorem q2179 : (Jvm.Cond.instanceMethod ({ cls := "PayMatchModel", name := "entryOf", desc := "(III)I" } : Jvm.MethodName)) ∈ lw_all := lw_g (lw_at lw_m9 186 rfl) rfl
theorem q2180 : (Jvm.Cond.code ({ cls := "PayMatchModel", name := "entryOf", desc := "(III)I" } : Jvm.MethodName) prog_14_method_9_code (4 : Nat) (Option.some Jvm.ClassFile.FieldType.int)) ∈ lw_all := lw_g (lw_at lw_m9 187 rfl) rfl
theorem q2182 : (Jvm.Cond.instanceMethod ({ cls := "PayMatchModel", name := "match", desc := "(I)I" } : Jvm.MethodName)) ∈ lw_all := lw_g (lw_at lw_m9 189 rfl) rfl
theorem q2183 : (Jvm.Cond.selects "PayMatchModel" ({ cls := "PayMatchModel", name := "match", desc := "(I)I" } : Jvm.MethodName) ({ cls := "PayMatchModel", name := "match", desc := "(I)I" } : Jvm.MethodName)) ∈ lw_all := lw_g (lw_at lw_m9 190 rfl) rfl
theorem q2184 : (Jvm.Cond.code ({ cls := "PayMatchModel", name := "match", desc := "(I)I" } : Jvm.MethodName) prog_14_method_53_code (3 : Nat) (Option.some Jvm.ClassFile.FieldType.int)) ∈ lw_all := lw_g (lw_at lw_m9 191 rfl) rfl
theorem q2185 : (Jvm.Cond.methodLink "PayMatchModel" (175 : Nat) ({ cls := "PayMatchModel", name := "isInvoice", desc := "(I)Z" } : Jvm.MethodName)) ∈ lw_all := lw_g (lw_at lw_m9 192 rfl) rfl
theorem q2186 : (Jvm.Cond.privateMethod ({ cls := "PayMatchModel", name := "isInvoice", desc := "(I)Z" } : Jvm.MethodName)) ∈ lw_tbl := lw_at lw_m9 193 rfl
theorem q2187 : (Jvm.Cond.instanceMethod ({ cls := "PayMatchModel", name := "isInvoice", desc := "(I)Z" } : Jvm.MethodName)) ∈ lw_all := lw_g (lw_at lw_m9 194 rfl) rfl
theorem q2188 : (Jvm.Cond.code ({ cls := "PayMatchModel", name := "isInvoice", desc := "(I)Z" } : Jvm.MethodName) prog_14_method_13_code (2 : Nat) (Option.some Jvm.ClassFile.FieldType.boolean)) ∈ lw_all := lw_g (lw_at lw_m9 195 rfl) rfl
theorem q2189 : (Jvm.Cond.methodLink "PayMatchModel" (178 : Nat) ({ cls := "PayMatchModel", name := "isWaiting", desc := "(I)Z" } : Jvm.MethodName)) ∈ lw_all := lw_g (lw_at lw_m9 196 rfl) rfl
theorem q2190 : (Jvm.Cond.privateMethod ({ cls := "PayMatchModel", name := "isWaiting", desc := "(I)Z" } : Jvm.MethodName)) ∈ lw_tbl := lw_at lw_m9 197 rfl
theorem q2191 : (Jvm.Cond.instanceMethod ({ cls := "PayMatchModel", name := "isWaiting", desc := "(I)Z" } : Jvm.MethodName)) ∈ lw_all := lw_g (lw_at lw_m9 198 rfl) rfl
theorem q2192 : (Jvm.Cond.code ({ cls := "PayMatchModel", name := "isWaiting", desc := "(I)Z" } : Jvm.MethodName) prog_14_method_52_code (3 : Nat) (Option.some Jvm.ClassFile.FieldType.boolean)) ∈ lw_all := lw_g (lw_at lw_m9 199 rfl) rfl
theorem q2193 : (Jvm.Cond.methodLink "PayMatchModel" (181 : Nat) ({ cls := "PayMatchModel", name := "reasons", desc := "(I)I" } : Jvm.MethodName)) ∈ lw_all := lw_g (lw_at lw_m9 200 rfl) rfl
theorem q2194 : (Jvm.Cond.privateMethod ({ cls := "PayMatchModel", name := "reasons", desc := "(I)I" } : Jvm.MethodName)) ∈ lw_tbl := lw_at lw_m9 201 rfl
theorem q2195 : (Jvm.Cond.instanceMethod ({ cls := "PayMatchModel", name := "reasons", desc := "(I)I" } : Jvm.MethodName)) ∈ lw_all := lw_g (lw_at lw_m9 202 rfl) rfl
theorem q2196 : (Jvm.Cond.code ({ cls := "PayMatchModel", name := "reasons", desc := "(I)I" } : Jvm.MethodName) prog_14_method_50_code (7 : Nat) (Option.some Jvm.ClassFile.FieldType.int)) ∈ lw_all := lw_g (lw_at lw_m9 203 rfl) rfl
theorem q2197 : (Jvm.Cond.methodLink "PayMatchModel" (159 : Nat) ({ cls := "PayMatchModel", name := "isDear", desc := "(IIII)Z" } : Jvm.MethodName)) ∈ lw_all := lw_g (lw_at lw_m9 204 rfl) rfl
theorem q2198 : (Jvm.Cond.privateMethod ({ cls := "PayMatchModel", name := "isDear", desc := "(IIII)Z" } : Jvm.MethodName)) ∈ lw_tbl := lw_at lw_m9 205 rfl
theorem q2199 : (Jvm.Cond.instanceMethod ({ cls := "PayMatchModel", name := "isDear", desc := "(IIII)Z" } : Jvm.MethodName)) ∈ lw_all := lw_g (lw_at lw_m9 206 rfl) rfl
theorem q2200 : (Jvm.Cond.code ({ cls := "PayMatchModel", name := "isDear", desc := "(IIII)Z" } : Jvm.MethodName) prog_14_method_45_code (7 : Nat) (Option.some Jvm.ClassFile.FieldType.boolean)) ∈ lw_all := lw_g (lw_at lw_m9 207 rfl) rfl
theorem q2201 : (Jvm.Cond.methodLink "PayMatchModel" (163 : Nat) ({ cls := "PayMatchModel", name := "billedBut", desc := "(III)I" } : Jvm.MethodName)) ∈ lw_all := lw_g (lw_at lw_m9 208 rfl) rfl
theorem q2202 : (Jvm.Cond.privateMethod ({ cls := "PayMatchModel", name := "billedBut", desc := "(III)I" } : Jvm.MethodName)) ∈ lw_tbl := lw_at lw_m9 209 rfl
theorem q2203 : (Jvm.Cond.instanceMethod ({ cls := "PayMatchModel", name := "billedBut", desc := "(III)I" } : Jvm.MethodName)) ∈ lw_all := lw_g (lw_at lw_m9 210 rfl) rfl
theorem q2204 : (Jvm.Cond.code ({ cls := "PayMatchModel", name := "billedBut", desc := "(III)I" } : Jvm.MethodName) prog_14_method_49_code (5 : Nat) (Option.some Jvm.ClassFile.FieldType.int)) ∈ lw_all := lw_g (lw_at lw_m9 211 rfl) rfl
theorem q2205 : (Jvm.Cond.methodLink "PayMatchModel" (166 : Nat) ({ cls := "PayMatchModel", name := "isMuch", desc := "(IIII)Z" } : Jvm.MethodName)) ∈ lw_all := lw_g (lw_at lw_m9 212 rfl) rfl
theorem q2206 : (Jvm.Cond.privateMethod ({ cls := "PayMatchModel", name := "isMuch", desc := "(IIII)Z" } : Jvm.MethodName)) ∈ lw_tbl := lw_at lw_m9 213 rfl
theorem q2207 : (Jvm.Cond.instanceMethod ({ cls := "PayMatchModel", name := "isMuch", desc := "(IIII)Z" } : Jvm.MethodName)) ∈ lw_all := lw_g (lw_at lw_m9 214 rfl) rfl
theorem q2208 : (Jvm.Cond.code ({ cls := "PayMatchModel", name := "isMuch", desc := "(IIII)Z" } : Jvm.MethodName) prog_14_method_46_code (5 : Nat) (Option.some Jvm.ClassFile.FieldType.boolean)) ∈ lw_all := lw_g (lw_at lw_m9 215 rfl) rfl
theorem q2209 : (Jvm.Cond.methodLink "PayMatchModel" (169 : Nat) ({ cls := "PayMatchModel", name := "reasonsOf", desc := "(I)I" } : Jvm.MethodName)) ∈ lw_all := lw_g (lw_at lw_m9 216 rfl) rfl
theorem q2210 : (Jvm.Cond.privateMethod ({ cls := "PayMatchModel", name := "reasonsOf", desc := "(I)I" } : Jvm.MethodName)) ∈ lw_tbl := lw_at lw_m9 217 rfl
theorem q2211 : (Jvm.Cond.instanceMethod ({ cls := "PayMatchModel", name := "reasonsOf", desc := "(I)I" } : Jvm.MethodName)) ∈ lw_all := lw_g (lw_at lw_m9 218 rfl) rfl
theorem q2212 : (Jvm.Cond.code ({ cls := "PayMatchModel", name := "reasonsOf", desc := "(I)I" } : Jvm.MethodName) prog_14_method_47_code (2 : Nat) (Option.some Jvm.ClassFile.FieldType.int)) ∈ lw_all := lw_g (lw_at lw_m9 219 rfl) rfl
theorem q2213 : (Jvm.Cond.methodLink "PayMatchModel" (172 : Nat) ({ cls := "PayMatchModel", name := "isTwice", desc := "(I)Z" } : Jvm.MethodName)) ∈ lw_all := lw_g (lw_at lw_m9 220 rfl) rfl
theorem q2214 : (Jvm.Cond.privateMethod ({ cls := "PayMatchModel", name := "isTwice", desc := "(I)Z" } : Jvm.MethodName)) ∈ lw_tbl := lw_at lw_m9 221 rfl
theorem q2215 : (Jvm.Cond.instanceMethod ({ cls := "PayMatchModel", name := "isTwice", desc := "(I)Z" } : Jvm.MethodName)) ∈ lw_all := lw_g (lw_at lw_m9 222 rfl) rfl
theorem q2216 : (Jvm.Cond.code ({ cls := "PayMatchModel", name := "isTwice", desc := "(I)Z" } : Jvm.MethodName) prog_14_method_48_code (3 : Nat) (Option.some Jvm.ClassFile.FieldType.boolean)) ∈ lw_all := lw_g (lw_at lw_m9 223 rfl) rfl
theorem q2217 : (Jvm.Cond.methodLink "PayMatchModel" (184 : Nat) ({ cls := "PayMatchModel", name := "approves", desc := "(I)V" } : Jvm.MethodName)) ∈ lw_all := lw_g (lw_at lw_m9 224 rfl) rfl
theorem q2218 : (Jvm.Cond.privateMethod ({ cls := "PayMatchModel", name := "approves", desc := "(I)V" } : Jvm.MethodName)) ∈ lw_tbl := lw_at lw_m9 225 rfl
theorem q2219 : (Jvm.Cond.instanceMethod ({ cls := "PayMatchModel", name := "approves", desc := "(I)V" } : Jvm.MethodName)) ∈ lw_all := lw_g (lw_at lw_m9 226 rfl) rfl
theorem q2220 : (Jvm.Cond.code ({ cls := "PayMatchModel", name := "approves", desc := "(I)V" } : Jvm.MethodName) prog_14_method_51_code (4 : Nat) (Option.none : Option Jvm.ClassFile.FieldType)) ∈ lw_all := lw_g (lw_at lw_m9 227 rfl) rfl
theorem q2222 : (Jvm.Cond.instanceMethod ({ cls := "PayMatchModel", name := "note", desc := "(I)I" } : Jvm.MethodName)) ∈ lw_all := lw_g (lw_at lw_m9 229 rfl) rfl
theorem q2223 : (Jvm.Cond.selects "PayMatchModel" ({ cls := "PayMatchModel", name := "note", desc := "(I)I" } : Jvm.MethodName) ({ cls := "PayMatchModel", name := "note", desc := "(I)I" } : Jvm.MethodName)) ∈ lw_all := lw_g (lw_at lw_m9 230 rfl) rfl
theorem q2224 : (Jvm.Cond.code ({ cls := "PayMatchModel", name := "note", desc := "(I)I" } : Jvm.MethodName) prog_14_method_54_code (8 : Nat) (Option.some Jvm.ClassFile.FieldType.int)) ∈ lw_all := lw_g (lw_at lw_m9 231 rfl) rfl
theorem q2226 : (Jvm.Cond.instanceMethod ({ cls := "PayMatchModel", name := "reject", desc := "(I)I" } : Jvm.MethodName)) ∈ lw_all := lw_g (lw_at lw_m9 233 rfl) rfl
theorem q2227 : (Jvm.Cond.selects "PayMatchModel" ({ cls := "PayMatchModel", name := "reject", desc := "(I)I" } : Jvm.MethodName) ({ cls := "PayMatchModel", name := "reject", desc := "(I)I" } : Jvm.MethodName)) ∈ lw_all := lw_g (lw_at lw_m9 234 rfl) rfl
theorem q2228 : (Jvm.Cond.code ({ cls := "PayMatchModel", name := "reject", desc := "(I)I" } : Jvm.MethodName) prog_14_method_55_code (2 : Nat) (Option.some Jvm.ClassFile.FieldType.int)) ∈ lw_all := lw_g (lw_at lw_m9 235 rfl) rfl
theorem q2229 : (Jvm.Cond.constantLong "PayMatchModel" (188 : Nat) (4 : Int64)) ∈ lw_all := lw_g (lw_at lw_m9 236 rfl) rfl
theorem q2231 : (Jvm.Cond.instanceMethod ({ cls := "PayMatchModel", name := "pay", desc := "(I)I" } : Jvm.MethodName)) ∈ lw_all := lw_g (lw_at lw_m9 238 rfl) rfl
theorem q2232 : (Jvm.Cond.selects "PayMatchModel" ({ cls := "PayMatchModel", name := "pay", desc := "(I)I" } : Jvm.MethodName) ({ cls := "PayMatchModel", name := "pay", desc := "(I)I" } : Jvm.MethodName)) ∈ lw_all := lw_g (lw_at lw_m9 239 rfl) rfl
theorem q2233 : (Jvm.Cond.code ({ cls := "PayMatchModel", name := "pay", desc := "(I)I" } : Jvm.MethodName) prog_14_method_58_code (2 : Nat) (Option.some Jvm.ClassFile.FieldType.int)) ∈ lw_all := lw_g (lw_at lw_m10 0 rfl) rfl
theorem q2234 : (Jvm.Cond.methodLink "PayMatchModel" (192 : Nat) ({ cls := "PayMatchModel", name := "canBePaid", desc := "(I)Z" } : Jvm.MethodName)) ∈ lw_all := lw_g (lw_at lw_m10 1 rfl) rfl
theorem q2235 : (Jvm.Cond.privateMethod ({ cls := "PayMatchModel", name := "canBePaid", desc := "(I)Z" } : Jvm.MethodName)) ∈ lw_tbl := lw_at lw_m10 2 rfl
theorem q2236 : (Jvm.Cond.instanceMethod ({ cls := "PayMatchModel", name := "canBePaid", desc := "(I)Z" } : Jvm.MethodName)) ∈ lw_all := lw_g (lw_at lw_m10 3 rfl) rfl
theorem q2237 : (Jvm.Cond.code ({ cls := "PayMatchModel", name := "canBePaid", desc := "(I)Z" } : Jvm.MethodName) prog_14_method_57_code (2 : Nat) (Option.some Jvm.ClassFile.FieldType.boolean)) ∈ lw_all := lw_g (lw_at lw_m10 4 rfl) rfl
theorem q2238 : (Jvm.Cond.methodLink "PayMatchModel" (195 : Nat) ({ cls := "PayMatchModel", name := "pays", desc := "(I)I" } : Jvm.MethodName)) ∈ lw_all := lw_g (lw_at lw_m10 5 rfl) rfl
theorem q2239 : (Jvm.Cond.privateMethod ({ cls := "PayMatchModel", name := "pays", desc := "(I)I" } : Jvm.MethodName)) ∈ lw_tbl := lw_at lw_m10 6 rfl
theorem q2240 : (Jvm.Cond.instanceMethod ({ cls := "PayMatchModel", name := "pays", desc := "(I)I" } : Jvm.MethodName)) ∈ lw_all := lw_g (lw_at lw_m10 7 rfl) rfl
theorem q2241 : (Jvm.Cond.code ({ cls := "PayMatchModel", name := "pays", desc := "(I)I" } : Jvm.MethodName) prog_14_method_56_code (9 : Nat) (Option.some Jvm.ClassFile.FieldType.int)) ∈ lw_all := lw_g (lw_at lw_m10 8 rfl) rfl
theorem q2242 : (Jvm.Cond.constantLong "PayMatchModel" (190 : Nat) (3 : Int64)) ∈ lw_all := lw_g (lw_at lw_m10 9 rfl) rfl
theorem q2244 : (Jvm.Cond.instanceMethod ({ cls := "PayMatchModel", name := "pass", desc := "(I)I" } : Jvm.MethodName)) ∈ lw_all := lw_g (lw_at lw_m10 11 rfl) rfl
theorem q2245 : (Jvm.Cond.selects "PayMatchModel" ({ cls := "PayMatchModel", name := "pass", desc := "(I)I" } : Jvm.MethodName) ({ cls := "PayMatchModel", name := "pass", desc := "(I)I" } : Jvm.MethodName)) ∈ lw_all := lw_g (lw_at lw_m10 12 rfl) rfl
theorem q2246 : (Jvm.Cond.code ({ cls := "PayMatchModel", name := "pass", desc := "(I)I" } : Jvm.MethodName) prog_14_method_59_code (5 : Nat) (Option.some Jvm.ClassFile.FieldType.int)) ∈ lw_all := lw_g (lw_at lw_m10 13 rfl) rfl
theorem q2248 : (Jvm.Cond.instanceMethod ({ cls := "PayMatchModel", name := "type", desc := "(C)I" } : Jvm.MethodName)) ∈ lw_all := lw_g (lw_at lw_m10 15 rfl) rfl
theorem q2249 : (Jvm.Cond.selects "PayMatchModel" ({ cls := "PayMatchModel", name := "type", desc := "(C)I" } : Jvm.MethodName) ({ cls := "PayMatchModel", name := "type", desc := "(C)I" } : Jvm.MethodName)) ∈ lw_all := lw_g (lw_at lw_m10 16 rfl) rfl
theorem q2250 : (Jvm.Cond.code ({ cls := "PayMatchModel", name := "type", desc := "(C)I" } : Jvm.MethodName) prog_14_method_60_code (2 : Nat) (Option.some Jvm.ClassFile.FieldType.int)) ∈ lw_all := lw_g (lw_at lw_m10 17 rfl) rfl
theorem q2252 : (Jvm.Cond.instanceMethod ({ cls := "PayMatchModel", name := "clearText", desc := "()I" } : Jvm.MethodName)) ∈ lw_all := lw_g (lw_at lw_m10 19 rfl) rfl
theorem q2253 : (Jvm.Cond.selects "PayMatchModel" ({ cls := "PayMatchModel", name := "clearText", desc := "()I" } : Jvm.MethodName) ({ cls := "PayMatchModel", name := "clearText", desc := "()I" } : Jvm.MethodName)) ∈ lw_all := lw_g (lw_at lw_m10 20 rfl) rfl
theorem q2254 : (Jvm.Cond.code ({ cls := "PayMatchModel", name := "clearText", desc := "()I" } : Jvm.MethodName) prog_14_method_61_code (2 : Nat) (Option.some Jvm.ClassFile.FieldType.int)) ∈ lw_all := lw_g (lw_at lw_m10 21 rfl) rfl
theorem q2256 : (Jvm.Cond.instanceMethod ({ cls := "PayMatchModel", name := "readInvoice", desc := "()I" } : Jvm.MethodName)) ∈ lw_all := lw_g (lw_at lw_m10 23 rfl) rfl
theorem q2257 : (Jvm.Cond.selects "PayMatchModel" ({ cls := "PayMatchModel", name := "readInvoice", desc := "()I" } : Jvm.MethodName) ({ cls := "PayMatchModel", name := "readInvoice", desc := "()I" } : Jvm.MethodName)) ∈ lw_all := lw_g (lw_at lw_m10 24 rfl) rfl
theorem q2258 : (Jvm.Cond.code ({ cls := "PayMatchModel", name := "readInvoice", desc := "()I" } : Jvm.MethodName) prog_14_method_68_code (7 : Nat) (Option.some Jvm.ClassFile.FieldType.int)) ∈ lw_all := lw_g (lw_at lw_m10 25 rfl) rfl
theorem q2259 : (Jvm.Cond.methodLink "PayMatchModel" (216 : Nat) ({ cls := "PayMatchModel", name := "number", desc := "(I)I" } : Jvm.MethodName)) ∈ lw_all := lw_g (lw_at lw_m10 26 rfl) rfl
theorem q2260 : (Jvm.Cond.privateMethod ({ cls := "PayMatchModel", name := "number", desc := "(I)I" } : Jvm.MethodName)) ∈ lw_tbl := lw_at lw_m10 27 rfl
theorem q2261 : (Jvm.Cond.instanceMethod ({ cls := "PayMatchModel", name := "number", desc := "(I)I" } : Jvm.MethodName)) ∈ lw_all := lw_g (lw_at lw_m10 28 rfl) rfl
theorem q2262 : (Jvm.Cond.code ({ cls := "PayMatchModel", name := "number", desc := "(I)I" } : Jvm.MethodName) prog_14_method_64_code (4 : Nat) (Option.some Jvm.ClassFile.FieldType.int)) ∈ lw_all := lw_g (lw_at lw_m10 29 rfl) rfl
theorem q2263 : (Jvm.Cond.methodLink "PayMatchModel" (208 : Nat) ({ cls := "PayMatchModel", name := "look", desc := "()I" } : Jvm.MethodName)) ∈ lw_all := lw_g (lw_at lw_m10 30 rfl) rfl
theorem q2264 : (Jvm.Cond.privateMethod ({ cls := "PayMatchModel", name := "look", desc := "()I" } : Jvm.MethodName)) ∈ lw_tbl := lw_at lw_m10 31 rfl
theorem q2265 : (Jvm.Cond.instanceMethod ({ cls := "PayMatchModel", name := "look", desc := "()I" } : Jvm.MethodName)) ∈ lw_all := lw_g (lw_at lw_m10 32 rfl) rfl
theorem q2266 : (Jvm.Cond.code ({ cls := "PayMatchModel", name := "look", desc := "()I" } : Jvm.MethodName) prog_14_method_62_code (1 : Nat) (Option.some Jvm.ClassFile.FieldType.int)) ∈ lw_all := lw_g (lw_at lw_m10 33 rfl) rfl
theorem q2267 : (Jvm.Cond.methodLink "PayMatchModel" (212 : Nat) ({ cls := "PayMatchModel", name := "must", desc := "(Z)V" } : Jvm.MethodName)) ∈ lw_all := lw_g (lw_at lw_m10 34 rfl) rfl
theorem q2268 : (Jvm.Cond.privateMethod ({ cls := "PayMatchModel", name := "must", desc := "(Z)V" } : Jvm.MethodName)) ∈ lw_tbl := lw_at lw_m10 35 rfl
theorem q2269 : (Jvm.Cond.instanceMethod ({ cls := "PayMatchModel", name := "must", desc := "(Z)V" } : Jvm.MethodName)) ∈ lw_all := lw_g (lw_at lw_m10 36 rfl) rfl
theorem q2270 : (Jvm.Cond.code ({ cls := "PayMatchModel", name := "must", desc := "(Z)V" } : Jvm.MethodName) prog_14_method_63_code (2 : Nat) (Option.none : Option Jvm.ClassFile.FieldType)) ∈ lw_all := lw_g (lw_at lw_m10 37 rfl) rfl
theorem q2271 : (Jvm.Cond.methodLink "PayMatchModel" (219 : Nat) ({ cls := "PayMatchModel", name := "tell", desc := "(I)V" } : Jvm.MethodName)) ∈ lw_all := lw_g (lw_at lw_m10 38 rfl) rfl
theorem q2272 : (Jvm.Cond.privateMethod ({ cls := "PayMatchModel", name := "tell", desc := "(I)V" } : Jvm.MethodName)) ∈ lw_tbl := lw_at lw_m10 39 rfl
theorem q2273 : (Jvm.Cond.instanceMethod ({ cls := "PayMatchModel", name := "tell", desc := "(I)V" } : Jvm.MethodName)) ∈ lw_all := lw_g (lw_at lw_m10 40 rfl) rfl
theorem q2274 : (Jvm.Cond.code ({ cls := "PayMatchModel", name := "tell", desc := "(I)V" } : Jvm.MethodName) prog_14_method_65_code (2 : Nat) (Option.none : Option Jvm.ClassFile.FieldType)) ∈ lw_all := lw_g (lw_at lw_m10 41 rfl) rfl
theorem q2275 : (Jvm.Cond.methodLink "PayMatchModel" (222 : Nat) ({ cls := "PayMatchModel", name := "areLines", desc := "(II)Z" } : Jvm.MethodName)) ∈ lw_all := lw_g (lw_at lw_m10 42 rfl) rfl
theorem q2276 : (Jvm.Cond.privateMethod ({ cls := "PayMatchModel", name := "areLines", desc := "(II)Z" } : Jvm.MethodName)) ∈ lw_tbl := lw_at lw_m10 43 rfl
theorem q2277 : (Jvm.Cond.instanceMethod ({ cls := "PayMatchModel", name := "areLines", desc := "(II)Z" } : Jvm.MethodName)) ∈ lw_all := lw_g (lw_at lw_m10 44 rfl) rfl
theorem q2278 : (Jvm.Cond.code ({ cls := "PayMatchModel", name := "areLines", desc := "(II)Z" } : Jvm.MethodName) prog_14_method_66_code (5 : Nat) (Option.some Jvm.ClassFile.FieldType.boolean)) ∈ lw_all := lw_g (lw_at lw_m10 45 rfl) rfl
theorem q2279 : (Jvm.Cond.methodLink "PayMatchModel" (225 : Nat) ({ cls := "PayMatchModel", name := "areEntries", desc := "(I)Z" } : Jvm.MethodName)) ∈ lw_all := lw_g (lw_at lw_m10 46 rfl) rfl
theorem q2280 : (Jvm.Cond.privateMethod ({ cls := "PayMatchModel", name := "areEntries", desc := "(I)Z" } : Jvm.MethodName)) ∈ lw_tbl := lw_at lw_m10 47 rfl
theorem q2281 : (Jvm.Cond.instanceMethod ({ cls := "PayMatchModel", name := "areEntries", desc := "(I)Z" } : Jvm.MethodName)) ∈ lw_all := lw_g (lw_at lw_m10 48 rfl) rfl
theorem q2282 : (Jvm.Cond.code ({ cls := "PayMatchModel", name := "areEntries", desc := "(I)Z" } : Jvm.MethodName) prog_14_method_67_code (5 : Nat) (Option.some Jvm.ClassFile.FieldType.boolean)) ∈ lw_all := lw_g (lw_at lw_m10 49 rfl) rfl
theorem q2284 : (Jvm.Cond.instanceMethod ({ cls := "PayMatchModel", name := "undo", desc := "()I" } : Jvm.MethodName)) ∈ lw_all := lw_g (lw_at lw_m10 51 rfl) rfl
theorem q2285 : (Jvm.Cond.selects "PayMatchModel" ({ cls := "PayMatchModel", name := "undo", desc := "()I" } : Jvm.MethodName) ({ cls := "PayMatchModel", name := "undo", desc := "()I" } : Jvm.MethodName)) ∈ lw_all := lw_g (lw_at lw_m10 52 rfl) rfl
theorem q2286 : (Jvm.Cond.code ({ cls := "PayMatchModel", name := "undo", desc := "()I" } : Jvm.MethodName) prog_14_method_69_code (2 : Nat) (Option.some Jvm.ClassFile.FieldType.int)) ∈ lw_all := lw_g (lw_at lw_m10 53 rfl) rfl
theorem q2288 : (Jvm.Cond.instanceMethod ({ cls := "PayMatchModel", name := "keep", desc := "()I" } : Jvm.MethodName)) ∈ lw_all := lw_g (lw_at lw_m10 55 rfl) rfl
theorem q2289 : (Jvm.Cond.selects "PayMatchModel" ({ cls := "PayMatchModel", name := "keep", desc := "()I" } : Jvm.MethodName) ({ cls := "PayMatchModel", name := "keep", desc := "()I" } : Jvm.MethodName)) ∈ lw_all := lw_g (lw_at lw_m10 56 rfl) rfl
theorem q2290 : (Jvm.Cond.code ({ cls := "PayMatchModel", name := "keep", desc := "()I" } : Jvm.MethodName) prog_14_method_70_code (2 : Nat) (Option.some Jvm.ClassFile.FieldType.int)) ∈ lw_all := lw_g (lw_at lw_m10 57 rfl) rfl
theorem q2292 : (Jvm.Cond.instanceMethod ({ cls := "PayMatchModel", name := "restore", desc := "()I" } : Jvm.MethodName)) ∈ lw_all := lw_g (lw_at lw_m10 59 rfl) rfl
theorem q2293 : (Jvm.Cond.selects "PayMatchModel" ({ cls := "PayMatchModel", name := "restore", desc := "()I" } : Jvm.MethodName) ({ cls := "PayMatchModel", name := "restore", desc := "()I" } : Jvm.MethodName)) ∈ lw_all := lw_g (lw_at lw_m10 60 rfl) rfl
theorem q2294 : (Jvm.Cond.code ({ cls := "PayMatchModel", name := "restore", desc := "()I" } : Jvm.MethodName) prog_14_method_71_code (2 : Nat) (Option.some Jvm.ClassFile.FieldType.int)) ∈ lw_all := lw_g (lw_at lw_m10 61 rfl) rfl
theorem q2296 : (Jvm.Cond.instanceMethod ({ cls := "PayMatchModel", name := "supplier", desc := "(II)I" } : Jvm.MethodName)) ∈ lw_all := lw_g (lw_at lw_m10 63 rfl) rfl
theorem q2297 : (Jvm.Cond.selects "PayMatchModel" ({ cls := "PayMatchModel", name := "supplier", desc := "(II)I" } : Jvm.MethodName) ({ cls := "PayMatchModel", name := "supplier", desc := "(II)I" } : Jvm.MethodName)) ∈ lw_all := lw_g (lw_at lw_m10 64 rfl) rfl
theorem q2298 : (Jvm.Cond.code ({ cls := "PayMatchModel", name := "supplier", desc := "(II)I" } : Jvm.MethodName) prog_14_method_73_code (3 : Nat) (Option.some Jvm.ClassFile.FieldType.int)) ∈ lw_all := lw_g (lw_at lw_m10 65 rfl) rfl
theorem q2299 : (Jvm.Cond.methodLink "PayMatchModel" (231 : Nat) ({ cls := "PayMatchModel", name := "papersOf", desc := "(IZ)I" } : Jvm.MethodName)) ∈ lw_all := lw_g (lw_at lw_m10 66 rfl) rfl
theorem q2300 : (Jvm.Cond.privateMethod ({ cls := "PayMatchModel", name := "papersOf", desc := "(IZ)I" } : Jvm.MethodName)) ∈ lw_tbl := lw_at lw_m10 67 rfl
theorem q2301 : (Jvm.Cond.instanceMethod ({ cls := "PayMatchModel", name := "papersOf", desc := "(IZ)I" } : Jvm.MethodName)) ∈ lw_all := lw_g (lw_at lw_m10 68 rfl) rfl
theorem q2302 : (Jvm.Cond.code ({ cls := "PayMatchModel", name := "papersOf", desc := "(IZ)I" } : Jvm.MethodName) prog_14_method_72_code (5 : Nat) (Option.some Jvm.ClassFile.FieldType.int)) ∈ lw_all := lw_g (lw_at lw_m10 69 rfl) rfl
theorem q2304 : (Jvm.Cond.instanceMethod ({ cls := "PayMatchModel", name := "tolerance", desc := "(IZ)D" } : Jvm.MethodName)) ∈ lw_all := lw_g (lw_at lw_m10 71 rfl) rfl
theorem q2305 : (Jvm.Cond.selects "PayMatchModel" ({ cls := "PayMatchModel", name := "tolerance", desc := "(IZ)D" } : Jvm.MethodName) ({ cls := "PayMatchModel", name := "tolerance", desc := "(IZ)D" } : Jvm.MethodName)) ∈ lw_all := lw_g (lw_at lw_m10 72 rfl) rfl
theorem q2306 : (Jvm.Cond.code ({ cls := "PayMatchModel", name := "tolerance", desc := "(IZ)D" } : Jvm.MethodName) prog_14_method_74_code (3 : Nat) (Option.some Jvm.ClassFile.FieldType.double)) ∈ lw_all := lw_g (lw_at lw_m10 73 rfl) rfl
theorem q2307 : (Jvm.Cond.constantDouble "PayMatchModel" (235 : Nat) (9221120237041090560 : UInt64)) ∈ lw_all := lw_g (lw_at lw_m10 74 rfl) rfl
theorem q2309 : (Jvm.Cond.instanceMethod ({ cls := "PayMatchModel", name := "order", desc := "(II)I" } : Jvm.MethodName)) ∈ lw_all := lw_g (lw_at lw_m10 76 rfl) rfl
theorem q2310 : (Jvm.Cond.selects "PayMatchModel" ({ cls := "PayMatchModel", name := "order", desc := "(II)I" } : Jvm.MethodName) ({ cls := "PayMatchModel", name := "order", desc := "(II)I" } : Jvm.MethodName)) ∈ lw_all := lw_g (lw_at lw_m10 77 rfl) rfl
theorem q2311 : (Jvm.Cond.code ({ cls := "PayMatchModel", name := "order", desc := "(II)I" } : Jvm.MethodName) prog_14_method_76_code (3 : Nat) (Option.some Jvm.ClassFile.FieldType.int)) ∈ lw_all := lw_g (lw_at lw_m10 78 rfl) rfl
theorem q2312 : (Jvm.Cond.methodLink "PayMatchModel" (237 : Nat) ({ cls := "PayMatchModel", name := "billsOf", desc := "(I)I" } : Jvm.MethodName)) ∈ lw_all := lw_g (lw_at lw_m10 79 rfl) rfl
theorem q2313 : (Jvm.Cond.privateMethod ({ cls := "PayMatchModel", name := "billsOf", desc := "(I)I" } : Jvm.MethodName)) ∈ lw_tbl := lw_at lw_m10 80 rfl
theorem q2314 : (Jvm.Cond.instanceMethod ({ cls := "PayMatchModel", name := "billsOf", desc := "(I)I" } : Jvm.MethodName)) ∈ lw_all := lw_g (lw_at lw_m10 81 rfl) rfl
theorem q2315 : (Jvm.Cond.code ({ cls := "PayMatchModel", name := "billsOf", desc := "(I)I" } : Jvm.MethodName) prog_14_method_75_code (4 : Nat) (Option.some Jvm.ClassFile.FieldType.int)) ∈ lw_all := lw_g (lw_at lw_m10 82 rfl) rfl
theorem q2317 : (Jvm.Cond.instanceMethod ({ cls := "PayMatchModel", name := "line", desc := "(III)I" } : Jvm.MethodName)) ∈ lw_all := lw_g (lw_at lw_m10 84 rfl) rfl
theorem q2318 : (Jvm.Cond.selects "PayMatchModel" ({ cls := "PayMatchModel", name := "line", desc := "(III)I" } : Jvm.MethodName) ({ cls := "PayMatchModel", name := "line", desc := "(III)I" } : Jvm.MethodName)) ∈ lw_all := lw_g (lw_at lw_m10 85 rfl) rfl
theorem q2319 : (Jvm.Cond.code ({ cls := "PayMatchModel", name := "line", desc := "(III)I" } : Jvm.MethodName) prog_14_method_78_code (5 : Nat) (Option.some Jvm.ClassFile.FieldType.int)) ∈ lw_all := lw_g (lw_at lw_m10 86 rfl) rfl
theorem q2320 : (Jvm.Cond.methodLink "PayMatchModel" (240 : Nat) ({ cls := "PayMatchModel", name := "atLeast0", desc := "(I)I" } : Jvm.MethodName)) ∈ lw_all := lw_g (lw_at lw_m10 87 rfl) rfl
theorem q2321 : (Jvm.Cond.static ({ cls := "PayMatchModel", name := "atLeast0", desc := "(I)I" } : Jvm.MethodName)) ∈ lw_all := lw_g (lw_at lw_m10 88 rfl) rfl
theorem q2322 : (Jvm.Cond.code ({ cls := "PayMatchModel", name := "atLeast0", desc := "(I)I" } : Jvm.MethodName) prog_14_method_77_code (1 : Nat) (Option.some Jvm.ClassFile.FieldType.int)) ∈ lw_all := lw_g (lw_at lw_m10 89 rfl) rfl
theorem q2324 : (Jvm.Cond.instanceMethod ({ cls := "PayMatchModel", name := "invoice", desc := "(II)I" } : Jvm.MethodName)) ∈ lw_all := lw_g (lw_at lw_m10 91 rfl) rfl
theorem q2325 : (Jvm.Cond.selects "PayMatchModel" ({ cls := "PayMatchModel", name := "invoice", desc := "(II)I" } : Jvm.MethodName) ({ cls := "PayMatchModel", name := "invoice", desc := "(II)I" } : Jvm.MethodName)) ∈ lw_all := lw_g (lw_at lw_m10 92 rfl) rfl
theorem q2326 : (Jvm.Cond.code ({ cls := "PayMatchModel", name := "invoice", desc := "(II)I" } : Jvm.MethodName) prog_14_method_79_code (3 : Nat) (Option.some Jvm.ClassFile.FieldType.int)) ∈ lw_all := lw_g (lw_at lw_m10 93 rfl) rfl
theorem q2328 : (Jvm.Cond.instanceMethod ({ cls := "PayMatchModel", name := "entry", desc := "(III)I" } : Jvm.MethodName)) ∈ lw_all := lw_g (lw_at lw_m10 95 rfl) rfl
theorem q2329 : (Jvm.Cond.selects "PayMatchModel" ({ cls := "PayMatchModel", name := "entry", desc := "(III)I" } : Jvm.MethodName) ({ cls := "PayMatchModel", name := "entry", desc := "(III)I" } : Jvm.MethodName)) ∈ lw_all := lw_g (lw_at lw_m10 96 rfl) rfl
theorem q2330 : (Jvm.Cond.code ({ cls := "PayMatchModel", name := "entry", desc := "(III)I" } : Jvm.MethodName) prog_14_method_80_code (4 : Nat) (Option.some Jvm.ClassFile.FieldType.int)) ∈ lw_all := lw_g (lw_at lw_m10 97 rfl) rfl
theorem q2332 : (Jvm.Cond.instanceMethod ({ cls := "PayMatchModel", name := "wouldMatch", desc := "(IIII)I" } : Jvm.MethodName)) ∈ lw_all := lw_g (lw_at lw_m10 99 rfl) rfl
theorem q2333 : (Jvm.Cond.selects "PayMatchModel" ({ cls := "PayMatchModel", name := "wouldMatch", desc := "(IIII)I" } : Jvm.MethodName) ({ cls := "PayMatchModel", name := "wouldMatch", desc := "(IIII)I" } : Jvm.MethodName)) ∈ lw_all := lw_g (lw_at lw_m10 100 rfl) rfl
theorem q2334 : (Jvm.Cond.code ({ cls := "PayMatchModel", name := "wouldMatch", desc := "(IIII)I" } : Jvm.MethodName) prog_14_method_81_code (5 : Nat) (Option.some Jvm.ClassFile.FieldType.int)) ∈ lw_all := lw_g (lw_at lw_m10 101 rfl) rfl
theorem q2336 : (Jvm.Cond.instanceMethod ({ cls := "PayMatchModel", name := "greatestPrice", desc := "(III)I" } : Jvm.MethodName)) ∈ lw_all := lw_g (lw_at lw_m10 103 rfl) rfl
theorem q2337 : (Jvm.Cond.selects "PayMatchModel" ({ cls := "PayMatchModel", name := "greatestPrice", desc := "(III)I" } : Jvm.MethodName) ({ cls := "PayMatchModel", name := "greatestPrice", desc := "(III)I" } : Jvm.MethodName)) ∈ lw_all := lw_g (lw_at lw_m10 104 rfl) rfl
theorem q2338 : (Jvm.Cond.code ({ cls := "PayMatchModel", name := "greatestPrice", desc := "(III)I" } : Jvm.MethodName) prog_14_method_82_code (5 : Nat) (Option.some Jvm.ClassFile.FieldType.int)) ∈ lw_all := lw_g (lw_at lw_m10 105 rfl) rfl
theorem q2340 : (Jvm.Cond.instanceMethod ({ cls := "PayMatchModel", name := "value", desc := "(I)D" } : Jvm.MethodName)) ∈ lw_all := lw_g (lw_at lw_m10 107 rfl) rfl
theorem q2341 : (Jvm.Cond.selects "PayMatchModel" ({ cls := "PayMatchModel", name := "value", desc := "(I)D" } : Jvm.MethodName) ({ cls := "PayMatchModel", name := "value", desc := "(I)D" } : Jvm.MethodName)) ∈ lw_all := lw_g (lw_at lw_m10 108 rfl) rfl
theorem q2342 : (Jvm.Cond.code ({ cls := "PayMatchModel", name := "value", desc := "(I)D" } : Jvm.MethodName) prog_14_method_84_code (2 : Nat) (Option.some Jvm.ClassFile.FieldType.double)) ∈ lw_all := lw_g (lw_at lw_m10 109 rfl) rfl
theorem q2343 : (Jvm.Cond.methodLink "PayMatchModel" (243 : Nat) ({ cls := "PayMatchModel", name := "worth", desc := "(ZII)D" } : Jvm.MethodName)) ∈ lw_all := lw_g (lw_at lw_m10 110 rfl) rfl
theorem q2344 : (Jvm.Cond.privateMethod ({ cls := "PayMatchModel", name := "worth", desc := "(ZII)D" } : Jvm.MethodName)) ∈ lw_tbl := lw_at lw_m10 111 rfl
theorem q2345 : (Jvm.Cond.instanceMethod ({ cls := "PayMatchModel", name := "worth", desc := "(ZII)D" } : Jvm.MethodName)) ∈ lw_all := lw_g (lw_at lw_m10 112 rfl) rfl
theorem q2346 : (Jvm.Cond.code ({ cls := "PayMatchModel", name := "worth", desc := "(ZII)D" } : Jvm.MethodName) prog_14_method_83_code (9 : Nat) (Option.some Jvm.ClassFile.FieldType.double)) ∈ lw_all := lw_g (lw_at lw_m10 113 rfl) rfl
theorem q2348 : (Jvm.Cond.instanceMethod ({ cls := "PayMatchModel", name := "takes", desc := "(IZI)I" } : Jvm.MethodName)) ∈ lw_all := lw_g (lw_at lw_m10 115 rfl) rfl
theorem q2349 : (Jvm.Cond.selects "PayMatchModel" ({ cls := "PayMatchModel", name := "takes", desc := "(IZI)I" } : Jvm.MethodName) ({ cls := "PayMatchModel", name := "takes", desc := "(IZI)I" } : Jvm.MethodName)) ∈ lw_all := lw_g (lw_at lw_m10 116 rfl) rfl
theorem q2350 : (Jvm.Cond.code ({ cls := "PayMatchModel", name := "takes", desc := "(IZI)I" } : Jvm.MethodName) prog_14_method_85_code (4 : Nat) (Option.some Jvm.ClassFile.FieldType.int)) ∈ lw_all := lw_g (lw_at lw_m10 117 rfl) rfl
theorem q2352 : (Jvm.Cond.instanceMethod ({ cls := "PayMatchModel", name := "event", desc := "(II)I" } : Jvm.MethodName)) ∈ lw_all := lw_g (lw_at lw_m10 119 rfl) rfl
theorem q2353 : (Jvm.Cond.selects "PayMatchModel" ({ cls := "PayMatchModel", name := "event", desc := "(II)I" } : Jvm.MethodName) ({ cls := "PayMatchModel", name := "event", desc := "(II)I" } : Jvm.MethodName)) ∈ lw_all := lw_g (lw_at lw_m10 120 rfl) rfl
theorem q2354 : (Jvm.Cond.code ({ cls := "PayMatchModel", name := "event", desc := "(II)I" } : Jvm.MethodName) prog_14_method_86_code (3 : Nat) (Option.some Jvm.ClassFile.FieldType.int)) ∈ lw_all := lw_g (lw_at lw_m10 121 rfl) rfl
theorem q2356 : (Jvm.Cond.instanceMethod ({ cls := "PayMatchModel", name := "count", desc := "(I)I" } : Jvm.MethodName)) ∈ lw_all := lw_g (lw_at lw_m10 123 rfl) rfl
theorem q2357 : (Jvm.Cond.selects "PayMatchModel" ({ cls := "PayMatchModel", name := "count", desc := "(I)I" } : Jvm.MethodName) ({ cls := "PayMatchModel", name := "count", desc := "(I)I" } : Jvm.MethodName)) ∈ lw_all := lw_g (lw_at lw_m10 124 rfl) rfl
theorem q2358 : (Jvm.Cond.code ({ cls := "PayMatchModel", name := "count", desc := "(I)I" } : Jvm.MethodName) prog_14_method_89_code (2 : Nat) (Option.some Jvm.ClassFile.FieldType.int)) ∈ lw_all := lw_g (lw_at lw_m10 125 rfl) rfl
theorem q2359 : (Jvm.Cond.methodLink "PayMatchModel" (247 : Nat) ({ cls := "PayMatchModel", name := "inState", desc := "(I)I" } : Jvm.MethodName)) ∈ lw_all := lw_g (lw_at lw_m10 126 rfl) rfl
theorem q2360 : (Jvm.Cond.privateMethod ({ cls := "PayMatchModel", name := "inState", desc := "(I)I" } : Jvm.MethodName)) ∈ lw_tbl := lw_at lw_m10 127 rfl
theorem q2361 : (Jvm.Cond.instanceMethod ({ cls := "PayMatchModel", name := "inState", desc := "(I)I" } : Jvm.MethodName)) ∈ lw_all := lw_g (lw_at lw_m10 128 rfl) rfl
theorem q2362 : (Jvm.Cond.code ({ cls := "PayMatchModel", name := "inState", desc := "(I)I" } : Jvm.MethodName) prog_14_method_88_code (4 : Nat) (Option.some Jvm.ClassFile.FieldType.int)) ∈ lw_all := lw_g (lw_at lw_m10 129 rfl) rfl
theorem q2363 : (Jvm.Cond.methodLink "PayMatchModel" (250 : Nat) ({ cls := "PayMatchModel", name := "sumOf", desc := "(I)I" } : Jvm.MethodName)) ∈ lw_all := lw_g (lw_at lw_m10 130 rfl) rfl
theorem q2364 : (Jvm.Cond.privateMethod ({ cls := "PayMatchModel", name := "sumOf", desc := "(I)I" } : Jvm.MethodName)) ∈ lw_tbl := lw_at lw_m10 131 rfl
theorem q2365 : (Jvm.Cond.instanceMethod ({ cls := "PayMatchModel", name := "sumOf", desc := "(I)I" } : Jvm.MethodName)) ∈ lw_all := lw_g (lw_at lw_m10 132 rfl) rfl
theorem q2366 : (Jvm.Cond.code ({ cls := "PayMatchModel", name := "sumOf", desc := "(I)I" } : Jvm.MethodName) prog_14_method_87_code (4 : Nat) (Option.some Jvm.ClassFile.FieldType.int)) ∈ lw_all := lw_g (lw_at lw_m10 133 rfl) rfl
theorem q2394 : (Jvm.Cond.castable "PayMatchModel" "java/lang/Object") ∈ lw_tbl := lw_at lw_m10 161 rfl
theorem in_X3 : ∀ w ∈ wsX30, w ∈ lw_all := lw_in wsX30 [1987, 1989, 1991, 1993, 1995, 1997, 1999, 2001, 2003, 2005, 2007, 2009] (by decide +kernel) (by decide +kernel)
