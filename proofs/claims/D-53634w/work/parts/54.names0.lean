/-! PayMatch -/
set_option maxRecDepth 100000
def RX0 : String := "PayMatch"
def TX0 : u_T := fun k => match k with
  | 0 => ("PayMatch", "now", "LPayMatch$State;", false)
  | 1 => ("PayMatch", "snapshot", "LPayMatch$State;", false)
  | 2 => ("PayMatch", "history", "Ljava/util/ArrayDeque;", true)
  | _ => ("PayMatch", "text", "Ljava/lang/StringBuilder;", true)
def tyX0 : Nat → FieldType := fun k => match k with
  | 0 => .object "PayMatch$State"
  | 1 => .object "PayMatch$State"
  | 2 => .object "java/util/ArrayDeque"
  | _ => .object "java/lang/StringBuilder"
abbrev wsX00 : List Cond := u_ws RX0 TX0 4
theorem nmX0 : ∀ a, a < 4 → ∀ b, b < 4 → a ≠ b → (TX0 a).2.1 ≠ (TX0 b).2.1 := by decide +kernel
theorem tyX0_ok : ∀ k, k < 4 → parseFieldDescriptor (TX0 k).2.2.1 = some (tyX0 k) := by decide +kernel
abbrev cX0_init : ByteArray := prog_1_method_4_code
def yX0_init : MethodName := ⟨RX0, "<init>", "()V"⟩
def dkwX0_init_1 : List UInt8 := [181, 0, 31, 42, 187, 0, 35, 89, 16, 60, 183, 0, 37, 181, 0, 40, 177]
abbrev dktX0_init_1 : List UInt8 := dkwX0_init_1 ++ []
def dkwX0_init_0 : List UInt8 := [42, 183, 0, 13, 42, 187, 0, 19, 89, 183, 0, 21, 181, 0, 22, 42, 187, 0, 28, 89, 183, 0, 30]
abbrev dktX0_init_0 : List UInt8 := dkwX0_init_0 ++ dktX0_init_1
theorem dksX0_init_0 : cX0_init.data.toList.drop 0 = dktX0_init_0 := by decide +kernel
theorem dksX0_init_1 : cX0_init.data.toList.drop 23 = dktX0_init_1 := dk_seg dksX0_init_0 23 rfl rfl
theorem dX0_init_0 : decode cX0_init 0 = .ok (.aload_n 0, 1) := dk_42 (dk_at dksX0_init_0 0 rfl rfl)
theorem dX0_init_1 : decode cX0_init 1 = .ok (.invokespecial 13, 3) := dk_183 0 13 (dk_at dksX0_init_0 1 rfl rfl)
theorem dX0_init_4 : decode cX0_init 4 = .ok (.aload_n 0, 1) := dk_42 (dk_at dksX0_init_0 4 rfl rfl)
theorem dX0_init_5 : decode cX0_init 5 = .ok (.new 19, 3) := dk_187 0 19 (dk_at dksX0_init_0 5 rfl rfl)
theorem dX0_init_8 : decode cX0_init 8 = .ok (.dup, 1) := dk_89 (dk_at dksX0_init_0 8 rfl rfl)
theorem dX0_init_9 : decode cX0_init 9 = .ok (.invokespecial 21, 3) := dk_183 0 21 (dk_at dksX0_init_0 9 rfl rfl)
theorem dX0_init_12 : decode cX0_init 12 = .ok (.putfield 22, 3) := dk_181 0 22 (dk_at dksX0_init_0 12 rfl rfl)
theorem dX0_init_15 : decode cX0_init 15 = .ok (.aload_n 0, 1) := dk_42 (dk_at dksX0_init_0 15 rfl rfl)
theorem dX0_init_16 : decode cX0_init 16 = .ok (.new 28, 3) := dk_187 0 28 (dk_at dksX0_init_0 16 rfl rfl)
theorem dX0_init_19 : decode cX0_init 19 = .ok (.dup, 1) := dk_89 (dk_at dksX0_init_0 19 rfl rfl)
theorem dX0_init_20 : decode cX0_init 20 = .ok (.invokespecial 30, 3) := dk_183 0 30 (dk_at dksX0_init_0 20 rfl rfl)
theorem dX0_init_23 : decode cX0_init 23 = .ok (.putfield 31, 3) := dk_181 0 31 (dk_at dksX0_init_1 0 rfl rfl)
theorem dX0_init_26 : decode cX0_init 26 = .ok (.aload_n 0, 1) := dk_42 (dk_at dksX0_init_1 3 rfl rfl)
theorem dX0_init_27 : decode cX0_init 27 = .ok (.new 35, 3) := dk_187 0 35 (dk_at dksX0_init_1 4 rfl rfl)
theorem dX0_init_30 : decode cX0_init 30 = .ok (.dup, 1) := dk_89 (dk_at dksX0_init_1 7 rfl rfl)
theorem dX0_init_31 : decode cX0_init 31 = .ok (.bipush 60, 2) := dk_16 60 (dk_at dksX0_init_1 8 rfl rfl)
theorem dX0_init_33 : decode cX0_init 33 = .ok (.invokespecial 37, 3) := dk_183 0 37 (dk_at dksX0_init_1 10 rfl rfl)
theorem dX0_init_36 : decode cX0_init 36 = .ok (.putfield 40, 3) := dk_181 0 40 (dk_at dksX0_init_1 13 rfl rfl)
theorem dX0_init_39 : decode cX0_init 39 = .ok (.return_, 1) := dk_177 (dk_at dksX0_init_1 16 rfl rfl)
abbrev cX0_addSupplier : ByteArray := prog_1_method_8_code
def yX0_addSupplier : MethodName := ⟨RX0, "addSupplier", "()I"⟩
def dkwX0_addSupplier_2 : List UInt8 := [182, 0, 78, 172]
abbrev dktX0_addSupplier_2 : List UInt8 := dkwX0_addSupplier_2 ++ []
def dkwX0_addSupplier_1 : List UInt8 := [182, 0, 67, 77, 44, 180, 0, 60, 187, 0, 71, 89, 27, 183, 0, 73, 182, 0, 74, 87, 42, 44, 27]
abbrev dktX0_addSupplier_1 : List UInt8 := dkwX0_addSupplier_1 ++ dktX0_addSupplier_2
def dkwX0_addSupplier_0 : List UInt8 := [42, 180, 0, 22, 180, 0, 60, 182, 0, 64, 60, 27, 8, 160, 0, 6, 16, 253, 172, 42, 180, 0, 22]
abbrev dktX0_addSupplier_0 : List UInt8 := dkwX0_addSupplier_0 ++ dktX0_addSupplier_1
theorem dksX0_addSupplier_0 : cX0_addSupplier.data.toList.drop 0 = dktX0_addSupplier_0 := by decide +kernel
theorem dksX0_addSupplier_1 : cX0_addSupplier.data.toList.drop 23 = dktX0_addSupplier_1 := dk_seg dksX0_addSupplier_0 23 rfl rfl
theorem dksX0_addSupplier_2 : cX0_addSupplier.data.toList.drop 46 = dktX0_addSupplier_2 := dk_seg dksX0_addSupplier_1 23 rfl rfl
theorem dX0_addSupplier_0 : decode cX0_addSupplier 0 = .ok (.aload_n 0, 1) := dk_42 (dk_at dksX0_addSupplier_0 0 rfl rfl)
theorem dX0_addSupplier_1 : decode cX0_addSupplier 1 = .ok (.getfield 22, 3) := dk_180 0 22 (dk_at dksX0_addSupplier_0 1 rfl rfl)
theorem dX0_addSupplier_4 : decode cX0_addSupplier 4 = .ok (.getfield 60, 3) := dk_180 0 60 (dk_at dksX0_addSupplier_0 4 rfl rfl)
theorem dX0_addSupplier_7 : decode cX0_addSupplier 7 = .ok (.invokevirtual 64, 3) := dk_182 0 64 (dk_at dksX0_addSupplier_0 7 rfl rfl)
theorem dX0_addSupplier_10 : decode cX0_addSupplier 10 = .ok (.istore_n 1, 1) := dk_60 (dk_at dksX0_addSupplier_0 10 rfl rfl)
theorem dX0_addSupplier_11 : decode cX0_addSupplier 11 = .ok (.iload_n 1, 1) := dk_27 (dk_at dksX0_addSupplier_0 11 rfl rfl)
theorem dX0_addSupplier_12 : decode cX0_addSupplier 12 = .ok (.iconst 5, 1) := dk_8 (dk_at dksX0_addSupplier_0 12 rfl rfl)
theorem dX0_addSupplier_13 : decode cX0_addSupplier 13 = .ok (.if_icmp .ne 6, 3) := dk_160 0 6 (dk_at dksX0_addSupplier_0 13 rfl rfl)
theorem dX0_addSupplier_16 : decode cX0_addSupplier 16 = .ok (.bipush (-3), 2) := dk_16 253 (dk_at dksX0_addSupplier_0 16 rfl rfl)
theorem dX0_addSupplier_18 : decode cX0_addSupplier 18 = .ok (.ireturn, 1) := dk_172 (dk_at dksX0_addSupplier_0 18 rfl rfl)
theorem dX0_addSupplier_19 : decode cX0_addSupplier 19 = .ok (.aload_n 0, 1) := dk_42 (dk_at dksX0_addSupplier_0 19 rfl rfl)
theorem dX0_addSupplier_20 : decode cX0_addSupplier 20 = .ok (.getfield 22, 3) := dk_180 0 22 (dk_at dksX0_addSupplier_0 20 rfl rfl)
theorem dX0_addSupplier_23 : decode cX0_addSupplier 23 = .ok (.invokevirtual 67, 3) := dk_182 0 67 (dk_at dksX0_addSupplier_1 0 rfl rfl)
theorem dX0_addSupplier_26 : decode cX0_addSupplier 26 = .ok (.astore_n 2, 1) := dk_77 (dk_at dksX0_addSupplier_1 3 rfl rfl)
theorem dX0_addSupplier_27 : decode cX0_addSupplier 27 = .ok (.aload_n 2, 1) := dk_44 (dk_at dksX0_addSupplier_1 4 rfl rfl)
theorem dX0_addSupplier_28 : decode cX0_addSupplier 28 = .ok (.getfield 60, 3) := dk_180 0 60 (dk_at dksX0_addSupplier_1 5 rfl rfl)
theorem dX0_addSupplier_31 : decode cX0_addSupplier 31 = .ok (.new 71, 3) := dk_187 0 71 (dk_at dksX0_addSupplier_1 8 rfl rfl)
theorem dX0_addSupplier_34 : decode cX0_addSupplier 34 = .ok (.dup, 1) := dk_89 (dk_at dksX0_addSupplier_1 11 rfl rfl)
theorem dX0_addSupplier_35 : decode cX0_addSupplier 35 = .ok (.iload_n 1, 1) := dk_27 (dk_at dksX0_addSupplier_1 12 rfl rfl)
theorem dX0_addSupplier_36 : decode cX0_addSupplier 36 = .ok (.invokespecial 73, 3) := dk_183 0 73 (dk_at dksX0_addSupplier_1 13 rfl rfl)
theorem dX0_addSupplier_39 : decode cX0_addSupplier 39 = .ok (.invokevirtual 74, 3) := dk_182 0 74 (dk_at dksX0_addSupplier_1 16 rfl rfl)
theorem dX0_addSupplier_42 : decode cX0_addSupplier 42 = .ok (.pop, 1) := dk_87 (dk_at dksX0_addSupplier_1 19 rfl rfl)
theorem dX0_addSupplier_43 : decode cX0_addSupplier 43 = .ok (.aload_n 0, 1) := dk_42 (dk_at dksX0_addSupplier_1 20 rfl rfl)
theorem dX0_addSupplier_44 : decode cX0_addSupplier 44 = .ok (.aload_n 2, 1) := dk_44 (dk_at dksX0_addSupplier_1 21 rfl rfl)
theorem dX0_addSupplier_45 : decode cX0_addSupplier 45 = .ok (.iload_n 1, 1) := dk_27 (dk_at dksX0_addSupplier_1 22 rfl rfl)
theorem dX0_addSupplier_46 : decode cX0_addSupplier 46 = .ok (.invokevirtual 78, 3) := dk_182 0 78 (dk_at dksX0_addSupplier_2 0 rfl rfl)
theorem dX0_addSupplier_49 : decode cX0_addSupplier 49 = .ok (.ireturn, 1) := dk_172 (dk_at dksX0_addSupplier_2 3 rfl rfl)
abbrev cX0_become : ByteArray := prog_1_method_5_code
def yX0_become : MethodName := ⟨RX0, "become", "(LPayMatch$State;I)I"⟩
def dkwX0_become_1 : List UInt8 := [180, 0, 31, 182, 0, 52, 87, 42, 43, 181, 0, 22, 28, 172]
abbrev dktX0_become_1 : List UInt8 := dkwX0_become_1 ++ []
def dkwX0_become_0 : List UInt8 := [42, 180, 0, 31, 42, 180, 0, 22, 182, 0, 44, 42, 180, 0, 31, 182, 0, 48, 7, 164, 0, 11, 42]
abbrev dktX0_become_0 : List UInt8 := dkwX0_become_0 ++ dktX0_become_1
theorem dksX0_become_0 : cX0_become.data.toList.drop 0 = dktX0_become_0 := by decide +kernel
theorem dksX0_become_1 : cX0_become.data.toList.drop 23 = dktX0_become_1 := dk_seg dksX0_become_0 23 rfl rfl
theorem dX0_become_0 : decode cX0_become 0 = .ok (.aload_n 0, 1) := dk_42 (dk_at dksX0_become_0 0 rfl rfl)
theorem dX0_become_1 : decode cX0_become 1 = .ok (.getfield 31, 3) := dk_180 0 31 (dk_at dksX0_become_0 1 rfl rfl)
theorem dX0_become_4 : decode cX0_become 4 = .ok (.aload_n 0, 1) := dk_42 (dk_at dksX0_become_0 4 rfl rfl)
theorem dX0_become_5 : decode cX0_become 5 = .ok (.getfield 22, 3) := dk_180 0 22 (dk_at dksX0_become_0 5 rfl rfl)
theorem dX0_become_8 : decode cX0_become 8 = .ok (.invokevirtual 44, 3) := dk_182 0 44 (dk_at dksX0_become_0 8 rfl rfl)
theorem dX0_become_11 : decode cX0_become 11 = .ok (.aload_n 0, 1) := dk_42 (dk_at dksX0_become_0 11 rfl rfl)
theorem dX0_become_12 : decode cX0_become 12 = .ok (.getfield 31, 3) := dk_180 0 31 (dk_at dksX0_become_0 12 rfl rfl)
theorem dX0_become_15 : decode cX0_become 15 = .ok (.invokevirtual 48, 3) := dk_182 0 48 (dk_at dksX0_become_0 15 rfl rfl)
theorem dX0_become_18 : decode cX0_become 18 = .ok (.iconst 4, 1) := dk_7 (dk_at dksX0_become_0 18 rfl rfl)
theorem dX0_become_19 : decode cX0_become 19 = .ok (.if_icmp .le 11, 3) := dk_164 0 11 (dk_at dksX0_become_0 19 rfl rfl)
theorem dX0_become_22 : decode cX0_become 22 = .ok (.aload_n 0, 1) := dk_42 (dk_at dksX0_become_0 22 rfl rfl)
theorem dX0_become_23 : decode cX0_become 23 = .ok (.getfield 31, 3) := dk_180 0 31 (dk_at dksX0_become_1 0 rfl rfl)
theorem dX0_become_26 : decode cX0_become 26 = .ok (.invokevirtual 52, 3) := dk_182 0 52 (dk_at dksX0_become_1 3 rfl rfl)
theorem dX0_become_29 : decode cX0_become 29 = .ok (.pop, 1) := dk_87 (dk_at dksX0_become_1 6 rfl rfl)
theorem dX0_become_30 : decode cX0_become 30 = .ok (.aload_n 0, 1) := dk_42 (dk_at dksX0_become_1 7 rfl rfl)
theorem dX0_become_31 : decode cX0_become 31 = .ok (.aload_n 1, 1) := dk_43 (dk_at dksX0_become_1 8 rfl rfl)
theorem dX0_become_32 : decode cX0_become 32 = .ok (.putfield 22, 3) := dk_181 0 22 (dk_at dksX0_become_1 9 rfl rfl)
theorem dX0_become_35 : decode cX0_become 35 = .ok (.iload_n 2, 1) := dk_28 (dk_at dksX0_become_1 12 rfl rfl)
theorem dX0_become_36 : decode cX0_become 36 = .ok (.ireturn, 1) := dk_172 (dk_at dksX0_become_1 13 rfl rfl)
abbrev cX0_setTolerance : ByteArray := prog_1_method_9_code
def yX0_setTolerance : MethodName := ⟨RX0, "setTolerance", "(IZJ)I"⟩
def dkwX0_setTolerance_4 : List UInt8 := [192, 0, 71, 24, 5, 181, 0, 104, 42, 25, 7, 4, 182, 0, 78, 172]
abbrev dktX0_setTolerance_4 : List UInt8 := dkwX0_setTolerance_4 ++ []
def dkwX0_setTolerance_3 : List UInt8 := [182, 0, 96, 192, 0, 71, 24, 5, 181, 0, 100, 167, 0, 20, 25, 7, 180, 0, 60, 27, 182, 0, 96]
abbrev dktX0_setTolerance_3 : List UInt8 := dkwX0_setTolerance_3 ++ dktX0_setTolerance_4
def dkwX0_setTolerance_2 : List UInt8 := [16, 251, 172, 42, 180, 0, 22, 182, 0, 67, 58, 7, 28, 153, 0, 23, 25, 7, 180, 0, 60, 27]
abbrev dktX0_setTolerance_2 : List UInt8 := dkwX0_setTolerance_2 ++ dktX0_setTolerance_3
def dkwX0_setTolerance_1 : List UInt8 := [154, 0, 6, 16, 254, 172, 33, 184, 0, 5, 57, 5, 42, 27, 28, 182, 0, 92, 24, 5, 151, 154, 0, 6]
abbrev dktX0_setTolerance_1 : List UInt8 := dkwX0_setTolerance_1 ++ dktX0_setTolerance_2
def dkwX0_setTolerance_0 : List UInt8 := [42, 180, 0, 22, 180, 0, 60, 27, 182, 0, 82, 154, 0, 5, 2, 172, 33, 20, 0, 86, 184, 0, 88]
abbrev dktX0_setTolerance_0 : List UInt8 := dkwX0_setTolerance_0 ++ dktX0_setTolerance_1
theorem dksX0_setTolerance_0 : cX0_setTolerance.data.toList.drop 0 = dktX0_setTolerance_0 := by decide +kernel
theorem dksX0_setTolerance_1 : cX0_setTolerance.data.toList.drop 23 = dktX0_setTolerance_1 := dk_seg dksX0_setTolerance_0 23 rfl rfl
theorem dksX0_setTolerance_2 : cX0_setTolerance.data.toList.drop 47 = dktX0_setTolerance_2 := dk_seg dksX0_setTolerance_1 24 rfl rfl
theorem dksX0_setTolerance_3 : cX0_setTolerance.data.toList.drop 69 = dktX0_setTolerance_3 := dk_seg dksX0_setTolerance_2 22 rfl rfl
theorem dksX0_setTolerance_4 : cX0_setTolerance.data.toList.drop 92 = dktX0_setTolerance_4 := dk_seg dksX0_setTolerance_3 23 rfl rfl
theorem dX0_setTolerance_0 : decode cX0_setTolerance 0 = .ok (.aload_n 0, 1) := dk_42 (dk_at dksX0_setTolerance_0 0 rfl rfl)
theorem dX0_setTolerance_1 : decode cX0_setTolerance 1 = .ok (.getfield 22, 3) := dk_180 0 22 (dk_at dksX0_setTolerance_0 1 rfl rfl)
theorem dX0_setTolerance_4 : decode cX0_setTolerance 4 = .ok (.getfield 60, 3) := dk_180 0 60 (dk_at dksX0_setTolerance_0 4 rfl rfl)
theorem dX0_setTolerance_7 : decode cX0_setTolerance 7 = .ok (.iload_n 1, 1) := dk_27 (dk_at dksX0_setTolerance_0 7 rfl rfl)
theorem dX0_setTolerance_8 : decode cX0_setTolerance 8 = .ok (.invokevirtual 82, 3) := dk_182 0 82 (dk_at dksX0_setTolerance_0 8 rfl rfl)
theorem dX0_setTolerance_11 : decode cX0_setTolerance 11 = .ok (.ifCond .ne 5, 3) := dk_154 0 5 (dk_at dksX0_setTolerance_0 11 rfl rfl)
theorem dX0_setTolerance_14 : decode cX0_setTolerance 14 = .ok (.iconst (-1), 1) := dk_2 (dk_at dksX0_setTolerance_0 14 rfl rfl)
theorem dX0_setTolerance_15 : decode cX0_setTolerance 15 = .ok (.ireturn, 1) := dk_172 (dk_at dksX0_setTolerance_0 15 rfl rfl)
theorem dX0_setTolerance_16 : decode cX0_setTolerance 16 = .ok (.lload_n 3, 1) := dk_33 (dk_at dksX0_setTolerance_0 16 rfl rfl)
theorem dX0_setTolerance_17 : decode cX0_setTolerance 17 = .ok (.ldc2_w 86, 3) := dk_20 0 86 (dk_at dksX0_setTolerance_0 17 rfl rfl)
theorem dX0_setTolerance_20 : decode cX0_setTolerance 20 = .ok (.invokestatic 88, 3) := dk_184 0 88 (dk_at dksX0_setTolerance_0 20 rfl rfl)
theorem dX0_setTolerance_23 : decode cX0_setTolerance 23 = .ok (.ifCond .ne 6, 3) := dk_154 0 6 (dk_at dksX0_setTolerance_1 0 rfl rfl)
theorem dX0_setTolerance_26 : decode cX0_setTolerance 26 = .ok (.bipush (-2), 2) := dk_16 254 (dk_at dksX0_setTolerance_1 3 rfl rfl)
theorem dX0_setTolerance_28 : decode cX0_setTolerance 28 = .ok (.ireturn, 1) := dk_172 (dk_at dksX0_setTolerance_1 5 rfl rfl)
theorem dX0_setTolerance_29 : decode cX0_setTolerance 29 = .ok (.lload_n 3, 1) := dk_33 (dk_at dksX0_setTolerance_1 6 rfl rfl)
theorem dX0_setTolerance_30 : decode cX0_setTolerance 30 = .ok (.invokestatic 5, 3) := dk_184 0 5 (dk_at dksX0_setTolerance_1 7 rfl rfl)
theorem dX0_setTolerance_33 : decode cX0_setTolerance 33 = .ok (.dstore 5, 2) := dk_57 5 (dk_at dksX0_setTolerance_1 10 rfl rfl)
theorem dX0_setTolerance_35 : decode cX0_setTolerance 35 = .ok (.aload_n 0, 1) := dk_42 (dk_at dksX0_setTolerance_1 12 rfl rfl)
theorem dX0_setTolerance_36 : decode cX0_setTolerance 36 = .ok (.iload_n 1, 1) := dk_27 (dk_at dksX0_setTolerance_1 13 rfl rfl)
theorem dX0_setTolerance_37 : decode cX0_setTolerance 37 = .ok (.iload_n 2, 1) := dk_28 (dk_at dksX0_setTolerance_1 14 rfl rfl)
theorem dX0_setTolerance_38 : decode cX0_setTolerance 38 = .ok (.invokevirtual 92, 3) := dk_182 0 92 (dk_at dksX0_setTolerance_1 15 rfl rfl)
theorem dX0_setTolerance_41 : decode cX0_setTolerance 41 = .ok (.dload 5, 2) := dk_24 5 (dk_at dksX0_setTolerance_1 18 rfl rfl)
theorem dX0_setTolerance_43 : decode cX0_setTolerance 43 = .ok (.dcmp .l, 1) := dk_151 (dk_at dksX0_setTolerance_1 20 rfl rfl)
theorem dX0_setTolerance_44 : decode cX0_setTolerance 44 = .ok (.ifCond .ne 6, 3) := dk_154 0 6 (dk_at dksX0_setTolerance_1 21 rfl rfl)
theorem dX0_setTolerance_47 : decode cX0_setTolerance 47 = .ok (.bipush (-5), 2) := dk_16 251 (dk_at dksX0_setTolerance_2 0 rfl rfl)
theorem dX0_setTolerance_49 : decode cX0_setTolerance 49 = .ok (.ireturn, 1) := dk_172 (dk_at dksX0_setTolerance_2 2 rfl rfl)
theorem dX0_setTolerance_50 : decode cX0_setTolerance 50 = .ok (.aload_n 0, 1) := dk_42 (dk_at dksX0_setTolerance_2 3 rfl rfl)
theorem dX0_setTolerance_51 : decode cX0_setTolerance 51 = .ok (.getfield 22, 3) := dk_180 0 22 (dk_at dksX0_setTolerance_2 4 rfl rfl)
theorem dX0_setTolerance_54 : decode cX0_setTolerance 54 = .ok (.invokevirtual 67, 3) := dk_182 0 67 (dk_at dksX0_setTolerance_2 7 rfl rfl)
theorem dX0_setTolerance_57 : decode cX0_setTolerance 57 = .ok (.astore 7, 2) := dk_58 7 (dk_at dksX0_setTolerance_2 10 rfl rfl)
theorem dX0_setTolerance_59 : decode cX0_setTolerance 59 = .ok (.iload_n 2, 1) := dk_28 (dk_at dksX0_setTolerance_2 12 rfl rfl)
theorem dX0_setTolerance_60 : decode cX0_setTolerance 60 = .ok (.ifCond .eq 23, 3) := dk_153 0 23 (dk_at dksX0_setTolerance_2 13 rfl rfl)
theorem dX0_setTolerance_63 : decode cX0_setTolerance 63 = .ok (.aload 7, 2) := dk_25 7 (dk_at dksX0_setTolerance_2 16 rfl rfl)
theorem dX0_setTolerance_65 : decode cX0_setTolerance 65 = .ok (.getfield 60, 3) := dk_180 0 60 (dk_at dksX0_setTolerance_2 18 rfl rfl)
theorem dX0_setTolerance_68 : decode cX0_setTolerance 68 = .ok (.iload_n 1, 1) := dk_27 (dk_at dksX0_setTolerance_2 21 rfl rfl)
theorem dX0_setTolerance_69 : decode cX0_setTolerance 69 = .ok (.invokevirtual 96, 3) := dk_182 0 96 (dk_at dksX0_setTolerance_3 0 rfl rfl)
theorem dX0_setTolerance_72 : decode cX0_setTolerance 72 = .ok (.checkcast 71, 3) := dk_192 0 71 (dk_at dksX0_setTolerance_3 3 rfl rfl)
theorem dX0_setTolerance_75 : decode cX0_setTolerance 75 = .ok (.dload 5, 2) := dk_24 5 (dk_at dksX0_setTolerance_3 6 rfl rfl)
theorem dX0_setTolerance_77 : decode cX0_setTolerance 77 = .ok (.putfield 100, 3) := dk_181 0 100 (dk_at dksX0_setTolerance_3 8 rfl rfl)
theorem dX0_setTolerance_80 : decode cX0_setTolerance 80 = .ok (.goto 20, 3) := dk_167 0 20 (dk_at dksX0_setTolerance_3 11 rfl rfl)
theorem dX0_setTolerance_83 : decode cX0_setTolerance 83 = .ok (.aload 7, 2) := dk_25 7 (dk_at dksX0_setTolerance_3 14 rfl rfl)
theorem dX0_setTolerance_85 : decode cX0_setTolerance 85 = .ok (.getfield 60, 3) := dk_180 0 60 (dk_at dksX0_setTolerance_3 16 rfl rfl)
theorem dX0_setTolerance_88 : decode cX0_setTolerance 88 = .ok (.iload_n 1, 1) := dk_27 (dk_at dksX0_setTolerance_3 19 rfl rfl)
theorem dX0_setTolerance_89 : decode cX0_setTolerance 89 = .ok (.invokevirtual 96, 3) := dk_182 0 96 (dk_at dksX0_setTolerance_3 20 rfl rfl)
theorem dX0_setTolerance_92 : decode cX0_setTolerance 92 = .ok (.checkcast 71, 3) := dk_192 0 71 (dk_at dksX0_setTolerance_4 0 rfl rfl)
theorem dX0_setTolerance_95 : decode cX0_setTolerance 95 = .ok (.dload 5, 2) := dk_24 5 (dk_at dksX0_setTolerance_4 3 rfl rfl)
theorem dX0_setTolerance_97 : decode cX0_setTolerance 97 = .ok (.putfield 104, 3) := dk_181 0 104 (dk_at dksX0_setTolerance_4 5 rfl rfl)
theorem dX0_setTolerance_100 : decode cX0_setTolerance 100 = .ok (.aload_n 0, 1) := dk_42 (dk_at dksX0_setTolerance_4 8 rfl rfl)
theorem dX0_setTolerance_101 : decode cX0_setTolerance 101 = .ok (.aload 7, 2) := dk_25 7 (dk_at dksX0_setTolerance_4 9 rfl rfl)
theorem dX0_setTolerance_103 : decode cX0_setTolerance 103 = .ok (.iconst 1, 1) := dk_4 (dk_at dksX0_setTolerance_4 11 rfl rfl)
theorem dX0_setTolerance_104 : decode cX0_setTolerance 104 = .ok (.invokevirtual 78, 3) := dk_182 0 78 (dk_at dksX0_setTolerance_4 12 rfl rfl)
theorem dX0_setTolerance_107 : decode cX0_setTolerance 107 = .ok (.ireturn, 1) := dk_172 (dk_at dksX0_setTolerance_4 15 rfl rfl)
abbrev cX0_inRange : ByteArray := prog_1_method_1_code
def yX0_inRange : MethodName := ⟨RX0, "inRange", "(III)Z"⟩
def dkwX0_inRange_0 : List UInt8 := [26, 27, 161, 0, 12, 26, 28, 163, 0, 7, 4, 167, 0, 4, 3, 172]
abbrev dktX0_inRange_0 : List UInt8 := dkwX0_inRange_0 ++ []
theorem dksX0_inRange_0 : cX0_inRange.data.toList.drop 0 = dktX0_inRange_0 := by decide +kernel
theorem dX0_inRange_0 : decode cX0_inRange 0 = .ok (.iload_n 0, 1) := dk_26 (dk_at dksX0_inRange_0 0 rfl rfl)
theorem dX0_inRange_1 : decode cX0_inRange 1 = .ok (.iload_n 1, 1) := dk_27 (dk_at dksX0_inRange_0 1 rfl rfl)
theorem dX0_inRange_2 : decode cX0_inRange 2 = .ok (.if_icmp .lt 12, 3) := dk_161 0 12 (dk_at dksX0_inRange_0 2 rfl rfl)
theorem dX0_inRange_5 : decode cX0_inRange 5 = .ok (.iload_n 0, 1) := dk_26 (dk_at dksX0_inRange_0 5 rfl rfl)
theorem dX0_inRange_6 : decode cX0_inRange 6 = .ok (.iload_n 2, 1) := dk_28 (dk_at dksX0_inRange_0 6 rfl rfl)
theorem dX0_inRange_7 : decode cX0_inRange 7 = .ok (.if_icmp .gt 7, 3) := dk_163 0 7 (dk_at dksX0_inRange_0 7 rfl rfl)
theorem dX0_inRange_10 : decode cX0_inRange 10 = .ok (.iconst 1, 1) := dk_4 (dk_at dksX0_inRange_0 10 rfl rfl)
theorem dX0_inRange_11 : decode cX0_inRange 11 = .ok (.goto 4, 3) := dk_167 0 4 (dk_at dksX0_inRange_0 11 rfl rfl)
theorem dX0_inRange_14 : decode cX0_inRange 14 = .ok (.iconst 0, 1) := dk_3 (dk_at dksX0_inRange_0 14 rfl rfl)
theorem dX0_inRange_15 : decode cX0_inRange 15 = .ok (.ireturn, 1) := dk_172 (dk_at dksX0_inRange_0 15 rfl rfl)
abbrev cX0_isPercent : ByteArray := prog_1_method_2_code
def yX0_isPercent : MethodName := ⟨RX0, "isPercent", "(JD)Z"⟩
def dkwX0_isPercent_1 : List UInt8 := [57, 4, 24, 4, 40, 152, 157, 0, 7, 4, 167, 0, 4, 3, 172]
abbrev dktX0_isPercent_1 : List UInt8 := dkwX0_isPercent_1 ++ []
def dkwX0_isPercent_0 : List UInt8 := [30, 9, 148, 155, 0, 15, 30, 20, 0, 1, 127, 20, 0, 3, 148, 158, 0, 5, 3, 172, 30, 184, 0, 5]
abbrev dktX0_isPercent_0 : List UInt8 := dkwX0_isPercent_0 ++ dktX0_isPercent_1
theorem dksX0_isPercent_0 : cX0_isPercent.data.toList.drop 0 = dktX0_isPercent_0 := by decide +kernel
theorem dksX0_isPercent_1 : cX0_isPercent.data.toList.drop 24 = dktX0_isPercent_1 := dk_seg dksX0_isPercent_0 24 rfl rfl
theorem dX0_isPercent_0 : decode cX0_isPercent 0 = .ok (.lload_n 0, 1) := dk_30 (dk_at dksX0_isPercent_0 0 rfl rfl)
theorem dX0_isPercent_1 : decode cX0_isPercent 1 = .ok (.lconst 0, 1) := dk_9 (dk_at dksX0_isPercent_0 1 rfl rfl)
theorem dX0_isPercent_2 : decode cX0_isPercent 2 = .ok (.lcmp, 1) := dk_148 (dk_at dksX0_isPercent_0 2 rfl rfl)
theorem dX0_isPercent_3 : decode cX0_isPercent 3 = .ok (.ifCond .lt 15, 3) := dk_155 0 15 (dk_at dksX0_isPercent_0 3 rfl rfl)
theorem dX0_isPercent_6 : decode cX0_isPercent 6 = .ok (.lload_n 0, 1) := dk_30 (dk_at dksX0_isPercent_0 6 rfl rfl)
theorem dX0_isPercent_7 : decode cX0_isPercent 7 = .ok (.ldc2_w 1, 3) := dk_20 0 1 (dk_at dksX0_isPercent_0 7 rfl rfl)
theorem dX0_isPercent_10 : decode cX0_isPercent 10 = .ok (.land, 1) := dk_127 (dk_at dksX0_isPercent_0 10 rfl rfl)
theorem dX0_isPercent_11 : decode cX0_isPercent 11 = .ok (.ldc2_w 3, 3) := dk_20 0 3 (dk_at dksX0_isPercent_0 11 rfl rfl)
theorem dX0_isPercent_14 : decode cX0_isPercent 14 = .ok (.lcmp, 1) := dk_148 (dk_at dksX0_isPercent_0 14 rfl rfl)
theorem dX0_isPercent_15 : decode cX0_isPercent 15 = .ok (.ifCond .le 5, 3) := dk_158 0 5 (dk_at dksX0_isPercent_0 15 rfl rfl)
theorem dX0_isPercent_18 : decode cX0_isPercent 18 = .ok (.iconst 0, 1) := dk_3 (dk_at dksX0_isPercent_0 18 rfl rfl)
theorem dX0_isPercent_19 : decode cX0_isPercent 19 = .ok (.ireturn, 1) := dk_172 (dk_at dksX0_isPercent_0 19 rfl rfl)
theorem dX0_isPercent_20 : decode cX0_isPercent 20 = .ok (.lload_n 0, 1) := dk_30 (dk_at dksX0_isPercent_0 20 rfl rfl)
theorem dX0_isPercent_21 : decode cX0_isPercent 21 = .ok (.invokestatic 5, 3) := dk_184 0 5 (dk_at dksX0_isPercent_0 21 rfl rfl)
theorem dX0_isPercent_24 : decode cX0_isPercent 24 = .ok (.dstore 4, 2) := dk_57 4 (dk_at dksX0_isPercent_1 0 rfl rfl)
theorem dX0_isPercent_26 : decode cX0_isPercent 26 = .ok (.dload 4, 2) := dk_24 4 (dk_at dksX0_isPercent_1 2 rfl rfl)
theorem dX0_isPercent_28 : decode cX0_isPercent 28 = .ok (.dload_n 2, 1) := dk_40 (dk_at dksX0_isPercent_1 4 rfl rfl)
theorem dX0_isPercent_29 : decode cX0_isPercent 29 = .ok (.dcmp .g, 1) := dk_152 (dk_at dksX0_isPercent_1 5 rfl rfl)
theorem dX0_isPercent_30 : decode cX0_isPercent 30 = .ok (.ifCond .gt 7, 3) := dk_157 0 7 (dk_at dksX0_isPercent_1 6 rfl rfl)
theorem dX0_isPercent_33 : decode cX0_isPercent 33 = .ok (.iconst 1, 1) := dk_4 (dk_at dksX0_isPercent_1 9 rfl rfl)
theorem dX0_isPercent_34 : decode cX0_isPercent 34 = .ok (.goto 4, 3) := dk_167 0 4 (dk_at dksX0_isPercent_1 10 rfl rfl)
theorem dX0_isPercent_37 : decode cX0_isPercent 37 = .ok (.iconst 0, 1) := dk_3 (dk_at dksX0_isPercent_1 13 rfl rfl)
theorem dX0_isPercent_38 : decode cX0_isPercent 38 = .ok (.ireturn, 1) := dk_172 (dk_at dksX0_isPercent_1 14 rfl rfl)
abbrev cX0_tolerance : ByteArray := prog_1_method_40_code
def yX0_tolerance : MethodName := ⟨RX0, "tolerance", "(IZ)D"⟩
def dkwX0_tolerance_2 : List UInt8 := [180, 0, 60, 27, 182, 0, 96, 192, 0, 71, 180, 0, 104, 175]
abbrev dktX0_tolerance_2 : List UInt8 := dkwX0_tolerance_2 ++ []
def dkwX0_tolerance_1 : List UInt8 := [180, 0, 22, 180, 0, 60, 27, 182, 0, 96, 192, 0, 71, 180, 0, 100, 167, 0, 20, 42, 180, 0, 22]
abbrev dktX0_tolerance_1 : List UInt8 := dkwX0_tolerance_1 ++ dktX0_tolerance_2
def dkwX0_tolerance_0 : List UInt8 := [42, 180, 0, 22, 180, 0, 60, 27, 182, 0, 82, 154, 0, 7, 184, 1, 74, 175, 28, 153, 0, 23, 42]
abbrev dktX0_tolerance_0 : List UInt8 := dkwX0_tolerance_0 ++ dktX0_tolerance_1
theorem dksX0_tolerance_0 : cX0_tolerance.data.toList.drop 0 = dktX0_tolerance_0 := by decide +kernel
theorem dksX0_tolerance_1 : cX0_tolerance.data.toList.drop 23 = dktX0_tolerance_1 := dk_seg dksX0_tolerance_0 23 rfl rfl
theorem dksX0_tolerance_2 : cX0_tolerance.data.toList.drop 46 = dktX0_tolerance_2 := dk_seg dksX0_tolerance_1 23 rfl rfl
theorem dX0_tolerance_0 : decode cX0_tolerance 0 = .ok (.aload_n 0, 1) := dk_42 (dk_at dksX0_tolerance_0 0 rfl rfl)
theorem dX0_tolerance_1 : decode cX0_tolerance 1 = .ok (.getfield 22, 3) := dk_180 0 22 (dk_at dksX0_tolerance_0 1 rfl rfl)
theorem dX0_tolerance_4 : decode cX0_tolerance 4 = .ok (.getfield 60, 3) := dk_180 0 60 (dk_at dksX0_tolerance_0 4 rfl rfl)
theorem dX0_tolerance_7 : decode cX0_tolerance 7 = .ok (.iload_n 1, 1) := dk_27 (dk_at dksX0_tolerance_0 7 rfl rfl)
theorem dX0_tolerance_8 : decode cX0_tolerance 8 = .ok (.invokevirtual 82, 3) := dk_182 0 82 (dk_at dksX0_tolerance_0 8 rfl rfl)
theorem dX0_tolerance_11 : decode cX0_tolerance 11 = .ok (.ifCond .ne 7, 3) := dk_154 0 7 (dk_at dksX0_tolerance_0 11 rfl rfl)
theorem dX0_tolerance_14 : decode cX0_tolerance 14 = .ok (.invokestatic 330, 3) := dk_184 1 74 (dk_at dksX0_tolerance_0 14 rfl rfl)
theorem dX0_tolerance_17 : decode cX0_tolerance 17 = .ok (.dreturn, 1) := dk_175 (dk_at dksX0_tolerance_0 17 rfl rfl)
theorem dX0_tolerance_18 : decode cX0_tolerance 18 = .ok (.iload_n 2, 1) := dk_28 (dk_at dksX0_tolerance_0 18 rfl rfl)
theorem dX0_tolerance_19 : decode cX0_tolerance 19 = .ok (.ifCond .eq 23, 3) := dk_153 0 23 (dk_at dksX0_tolerance_0 19 rfl rfl)
theorem dX0_tolerance_22 : decode cX0_tolerance 22 = .ok (.aload_n 0, 1) := dk_42 (dk_at dksX0_tolerance_0 22 rfl rfl)
theorem dX0_tolerance_23 : decode cX0_tolerance 23 = .ok (.getfield 22, 3) := dk_180 0 22 (dk_at dksX0_tolerance_1 0 rfl rfl)
theorem dX0_tolerance_26 : decode cX0_tolerance 26 = .ok (.getfield 60, 3) := dk_180 0 60 (dk_at dksX0_tolerance_1 3 rfl rfl)
theorem dX0_tolerance_29 : decode cX0_tolerance 29 = .ok (.iload_n 1, 1) := dk_27 (dk_at dksX0_tolerance_1 6 rfl rfl)
theorem dX0_tolerance_30 : decode cX0_tolerance 30 = .ok (.invokevirtual 96, 3) := dk_182 0 96 (dk_at dksX0_tolerance_1 7 rfl rfl)
theorem dX0_tolerance_33 : decode cX0_tolerance 33 = .ok (.checkcast 71, 3) := dk_192 0 71 (dk_at dksX0_tolerance_1 10 rfl rfl)
theorem dX0_tolerance_36 : decode cX0_tolerance 36 = .ok (.getfield 100, 3) := dk_180 0 100 (dk_at dksX0_tolerance_1 13 rfl rfl)
theorem dX0_tolerance_39 : decode cX0_tolerance 39 = .ok (.goto 20, 3) := dk_167 0 20 (dk_at dksX0_tolerance_1 16 rfl rfl)
theorem dX0_tolerance_42 : decode cX0_tolerance 42 = .ok (.aload_n 0, 1) := dk_42 (dk_at dksX0_tolerance_1 19 rfl rfl)
theorem dX0_tolerance_43 : decode cX0_tolerance 43 = .ok (.getfield 22, 3) := dk_180 0 22 (dk_at dksX0_tolerance_1 20 rfl rfl)
theorem dX0_tolerance_46 : decode cX0_tolerance 46 = .ok (.getfield 60, 3) := dk_180 0 60 (dk_at dksX0_tolerance_2 0 rfl rfl)
theorem dX0_tolerance_49 : decode cX0_tolerance 49 = .ok (.iload_n 1, 1) := dk_27 (dk_at dksX0_tolerance_2 3 rfl rfl)
theorem dX0_tolerance_50 : decode cX0_tolerance 50 = .ok (.invokevirtual 96, 3) := dk_182 0 96 (dk_at dksX0_tolerance_2 4 rfl rfl)
theorem dX0_tolerance_53 : decode cX0_tolerance 53 = .ok (.checkcast 71, 3) := dk_192 0 71 (dk_at dksX0_tolerance_2 7 rfl rfl)
theorem dX0_tolerance_56 : decode cX0_tolerance 56 = .ok (.getfield 104, 3) := dk_180 0 104 (dk_at dksX0_tolerance_2 10 rfl rfl)
theorem dX0_tolerance_59 : decode cX0_tolerance 59 = .ok (.dreturn, 1) := dk_175 (dk_at dksX0_tolerance_2 13 rfl rfl)
abbrev cX0_nothing : ByteArray := prog_1_method_3_code
def yX0_nothing : MethodName := ⟨RX0, "nothing", "()D"⟩
theorem dX0_nothing_0 : decode cX0_nothing 0 = .ok (.ldc2_w 11, 3) := by decide +kernel
theorem dX0_nothing_3 : decode cX0_nothing 3 = .ok (.dreturn, 1) := by decide +kernel
abbrev cX0_setTrifle : ByteArray := prog_1_method_10_code
def yX0_setTrifle : MethodName := ⟨RX0, "setTrifle", "(II)I"⟩
def dkwX0_setTrifle_3 : List UInt8 := [182, 0, 96, 192, 0, 71, 28, 181, 0, 107, 42, 25, 4, 29, 182, 0, 78, 172]
abbrev dktX0_setTrifle_3 : List UInt8 := dkwX0_setTrifle_3 ++ []
def dkwX0_setTrifle_2 : List UInt8 := [29, 28, 160, 0, 6, 16, 251, 172, 42, 180, 0, 22, 182, 0, 67, 58, 4, 25, 4, 180, 0, 60, 27]
abbrev dktX0_setTrifle_2 : List UInt8 := dkwX0_setTrifle_2 ++ dktX0_setTrifle_3
def dkwX0_setTrifle_1 : List UInt8 := [154, 0, 6, 16, 254, 172, 42, 180, 0, 22, 180, 0, 60, 27, 182, 0, 96, 192, 0, 71, 180, 0, 107, 62]
abbrev dktX0_setTrifle_1 : List UInt8 := dkwX0_setTrifle_1 ++ dktX0_setTrifle_2
def dkwX0_setTrifle_0 : List UInt8 := [42, 180, 0, 22, 180, 0, 60, 27, 182, 0, 82, 154, 0, 5, 2, 172, 28, 3, 17, 39, 15, 184, 0, 56]
abbrev dktX0_setTrifle_0 : List UInt8 := dkwX0_setTrifle_0 ++ dktX0_setTrifle_1
theorem dksX0_setTrifle_0 : cX0_setTrifle.data.toList.drop 0 = dktX0_setTrifle_0 := by decide +kernel
theorem dksX0_setTrifle_1 : cX0_setTrifle.data.toList.drop 24 = dktX0_setTrifle_1 := dk_seg dksX0_setTrifle_0 24 rfl rfl
theorem dksX0_setTrifle_2 : cX0_setTrifle.data.toList.drop 48 = dktX0_setTrifle_2 := dk_seg dksX0_setTrifle_1 24 rfl rfl
theorem dksX0_setTrifle_3 : cX0_setTrifle.data.toList.drop 71 = dktX0_setTrifle_3 := dk_seg dksX0_setTrifle_2 23 rfl rfl
theorem dX0_setTrifle_0 : decode cX0_setTrifle 0 = .ok (.aload_n 0, 1) := dk_42 (dk_at dksX0_setTrifle_0 0 rfl rfl)
theorem dX0_setTrifle_1 : decode cX0_setTrifle 1 = .ok (.getfield 22, 3) := dk_180 0 22 (dk_at dksX0_setTrifle_0 1 rfl rfl)
theorem dX0_setTrifle_4 : decode cX0_setTrifle 4 = .ok (.getfield 60, 3) := dk_180 0 60 (dk_at dksX0_setTrifle_0 4 rfl rfl)
theorem dX0_setTrifle_7 : decode cX0_setTrifle 7 = .ok (.iload_n 1, 1) := dk_27 (dk_at dksX0_setTrifle_0 7 rfl rfl)
theorem dX0_setTrifle_8 : decode cX0_setTrifle 8 = .ok (.invokevirtual 82, 3) := dk_182 0 82 (dk_at dksX0_setTrifle_0 8 rfl rfl)
theorem dX0_setTrifle_11 : decode cX0_setTrifle 11 = .ok (.ifCond .ne 5, 3) := dk_154 0 5 (dk_at dksX0_setTrifle_0 11 rfl rfl)
theorem dX0_setTrifle_14 : decode cX0_setTrifle 14 = .ok (.iconst (-1), 1) := dk_2 (dk_at dksX0_setTrifle_0 14 rfl rfl)
theorem dX0_setTrifle_15 : decode cX0_setTrifle 15 = .ok (.ireturn, 1) := dk_172 (dk_at dksX0_setTrifle_0 15 rfl rfl)
theorem dX0_setTrifle_16 : decode cX0_setTrifle 16 = .ok (.iload_n 2, 1) := dk_28 (dk_at dksX0_setTrifle_0 16 rfl rfl)
theorem dX0_setTrifle_17 : decode cX0_setTrifle 17 = .ok (.iconst 0, 1) := dk_3 (dk_at dksX0_setTrifle_0 17 rfl rfl)
theorem dX0_setTrifle_18 : decode cX0_setTrifle 18 = .ok (.sipush 9999, 3) := dk_17 39 15 (dk_at dksX0_setTrifle_0 18 rfl rfl)
theorem dX0_setTrifle_21 : decode cX0_setTrifle 21 = .ok (.invokestatic 56, 3) := dk_184 0 56 (dk_at dksX0_setTrifle_0 21 rfl rfl)
theorem dX0_setTrifle_24 : decode cX0_setTrifle 24 = .ok (.ifCond .ne 6, 3) := dk_154 0 6 (dk_at dksX0_setTrifle_1 0 rfl rfl)
theorem dX0_setTrifle_27 : decode cX0_setTrifle 27 = .ok (.bipush (-2), 2) := dk_16 254 (dk_at dksX0_setTrifle_1 3 rfl rfl)
theorem dX0_setTrifle_29 : decode cX0_setTrifle 29 = .ok (.ireturn, 1) := dk_172 (dk_at dksX0_setTrifle_1 5 rfl rfl)
theorem dX0_setTrifle_30 : decode cX0_setTrifle 30 = .ok (.aload_n 0, 1) := dk_42 (dk_at dksX0_setTrifle_1 6 rfl rfl)
theorem dX0_setTrifle_31 : decode cX0_setTrifle 31 = .ok (.getfield 22, 3) := dk_180 0 22 (dk_at dksX0_setTrifle_1 7 rfl rfl)
theorem dX0_setTrifle_34 : decode cX0_setTrifle 34 = .ok (.getfield 60, 3) := dk_180 0 60 (dk_at dksX0_setTrifle_1 10 rfl rfl)
theorem dX0_setTrifle_37 : decode cX0_setTrifle 37 = .ok (.iload_n 1, 1) := dk_27 (dk_at dksX0_setTrifle_1 13 rfl rfl)
theorem dX0_setTrifle_38 : decode cX0_setTrifle 38 = .ok (.invokevirtual 96, 3) := dk_182 0 96 (dk_at dksX0_setTrifle_1 14 rfl rfl)
theorem dX0_setTrifle_41 : decode cX0_setTrifle 41 = .ok (.checkcast 71, 3) := dk_192 0 71 (dk_at dksX0_setTrifle_1 17 rfl rfl)
theorem dX0_setTrifle_44 : decode cX0_setTrifle 44 = .ok (.getfield 107, 3) := dk_180 0 107 (dk_at dksX0_setTrifle_1 20 rfl rfl)
theorem dX0_setTrifle_47 : decode cX0_setTrifle 47 = .ok (.istore_n 3, 1) := dk_62 (dk_at dksX0_setTrifle_1 23 rfl rfl)
theorem dX0_setTrifle_48 : decode cX0_setTrifle 48 = .ok (.iload_n 3, 1) := dk_29 (dk_at dksX0_setTrifle_2 0 rfl rfl)
theorem dX0_setTrifle_49 : decode cX0_setTrifle 49 = .ok (.iload_n 2, 1) := dk_28 (dk_at dksX0_setTrifle_2 1 rfl rfl)
theorem dX0_setTrifle_50 : decode cX0_setTrifle 50 = .ok (.if_icmp .ne 6, 3) := dk_160 0 6 (dk_at dksX0_setTrifle_2 2 rfl rfl)
theorem dX0_setTrifle_53 : decode cX0_setTrifle 53 = .ok (.bipush (-5), 2) := dk_16 251 (dk_at dksX0_setTrifle_2 5 rfl rfl)
theorem dX0_setTrifle_55 : decode cX0_setTrifle 55 = .ok (.ireturn, 1) := dk_172 (dk_at dksX0_setTrifle_2 7 rfl rfl)
theorem dX0_setTrifle_56 : decode cX0_setTrifle 56 = .ok (.aload_n 0, 1) := dk_42 (dk_at dksX0_setTrifle_2 8 rfl rfl)
theorem dX0_setTrifle_57 : decode cX0_setTrifle 57 = .ok (.getfield 22, 3) := dk_180 0 22 (dk_at dksX0_setTrifle_2 9 rfl rfl)
theorem dX0_setTrifle_60 : decode cX0_setTrifle 60 = .ok (.invokevirtual 67, 3) := dk_182 0 67 (dk_at dksX0_setTrifle_2 12 rfl rfl)
theorem dX0_setTrifle_63 : decode cX0_setTrifle 63 = .ok (.astore 4, 2) := dk_58 4 (dk_at dksX0_setTrifle_2 15 rfl rfl)
theorem dX0_setTrifle_65 : decode cX0_setTrifle 65 = .ok (.aload 4, 2) := dk_25 4 (dk_at dksX0_setTrifle_2 17 rfl rfl)
theorem dX0_setTrifle_67 : decode cX0_setTrifle 67 = .ok (.getfield 60, 3) := dk_180 0 60 (dk_at dksX0_setTrifle_2 19 rfl rfl)
theorem dX0_setTrifle_70 : decode cX0_setTrifle 70 = .ok (.iload_n 1, 1) := dk_27 (dk_at dksX0_setTrifle_2 22 rfl rfl)
theorem dX0_setTrifle_71 : decode cX0_setTrifle 71 = .ok (.invokevirtual 96, 3) := dk_182 0 96 (dk_at dksX0_setTrifle_3 0 rfl rfl)
theorem dX0_setTrifle_74 : decode cX0_setTrifle 74 = .ok (.checkcast 71, 3) := dk_192 0 71 (dk_at dksX0_setTrifle_3 3 rfl rfl)
theorem dX0_setTrifle_77 : decode cX0_setTrifle 77 = .ok (.iload_n 2, 1) := dk_28 (dk_at dksX0_setTrifle_3 6 rfl rfl)
theorem dX0_setTrifle_78 : decode cX0_setTrifle 78 = .ok (.putfield 107, 3) := dk_181 0 107 (dk_at dksX0_setTrifle_3 7 rfl rfl)
theorem dX0_setTrifle_81 : decode cX0_setTrifle 81 = .ok (.aload_n 0, 1) := dk_42 (dk_at dksX0_setTrifle_3 10 rfl rfl)
theorem dX0_setTrifle_82 : decode cX0_setTrifle 82 = .ok (.aload 4, 2) := dk_25 4 (dk_at dksX0_setTrifle_3 11 rfl rfl)
theorem dX0_setTrifle_84 : decode cX0_setTrifle 84 = .ok (.iload_n 3, 1) := dk_29 (dk_at dksX0_setTrifle_3 13 rfl rfl)
theorem dX0_setTrifle_85 : decode cX0_setTrifle 85 = .ok (.invokevirtual 78, 3) := dk_182 0 78 (dk_at dksX0_setTrifle_3 14 rfl rfl)
theorem dX0_setTrifle_88 : decode cX0_setTrifle 88 = .ok (.ireturn, 1) := dk_172 (dk_at dksX0_setTrifle_3 17 rfl rfl)
abbrev cX0_block : ByteArray := prog_1_method_11_code
def yX0_block : MethodName := ⟨RX0, "block", "(IZ)I"⟩
def dkwX0_block_3 : List UInt8 := [182, 0, 78, 172]
abbrev dktX0_block_3 : List UInt8 := dkwX0_block_3 ++ []
def dkwX0_block_2 : List UInt8 := [45, 180, 0, 60, 27, 182, 0, 96, 192, 0, 71, 28, 181, 0, 111, 42, 45, 45, 27, 3, 182, 0, 115]
abbrev dktX0_block_2 : List UInt8 := dkwX0_block_2 ++ dktX0_block_3
def dkwX0_block_1 : List UInt8 := [182, 0, 96, 192, 0, 71, 180, 0, 111, 28, 160, 0, 6, 16, 251, 172, 42, 180, 0, 22, 182, 0, 67, 78]
abbrev dktX0_block_1 : List UInt8 := dkwX0_block_1 ++ dktX0_block_2
def dkwX0_block_0 : List UInt8 := [42, 180, 0, 22, 180, 0, 60, 27, 182, 0, 82, 154, 0, 5, 2, 172, 42, 180, 0, 22, 180, 0, 60, 27]
abbrev dktX0_block_0 : List UInt8 := dkwX0_block_0 ++ dktX0_block_1
theorem dksX0_block_0 : cX0_block.data.toList.drop 0 = dktX0_block_0 := by decide +kernel
theorem dksX0_block_1 : cX0_block.data.toList.drop 24 = dktX0_block_1 := dk_seg dksX0_block_0 24 rfl rfl
theorem dksX0_block_2 : cX0_block.data.toList.drop 48 = dktX0_block_2 := dk_seg dksX0_block_1 24 rfl rfl
theorem dksX0_block_3 : cX0_block.data.toList.drop 71 = dktX0_block_3 := dk_seg dksX0_block_2 23 rfl rfl
theorem dX0_block_0 : decode cX0_block 0 = .ok (.aload_n 0, 1) := dk_42 (dk_at dksX0_block_0 0 rfl rfl)
theorem dX0_block_1 : decode cX0_block 1 = .ok (.getfield 22, 3) := dk_180 0 22 (dk_at dksX0_block_0 1 rfl rfl)
theorem dX0_block_4 : decode cX0_block 4 = .ok (.getfield 60, 3) := dk_180 0 60 (dk_at dksX0_block_0 4 rfl rfl)
theorem dX0_block_7 : decode cX0_block 7 = .ok (.iload_n 1, 1) := dk_27 (dk_at dksX0_block_0 7 rfl rfl)
theorem dX0_block_8 : decode cX0_block 8 = .ok (.invokevirtual 82, 3) := dk_182 0 82 (dk_at dksX0_block_0 8 rfl rfl)
theorem dX0_block_11 : decode cX0_block 11 = .ok (.ifCond .ne 5, 3) := dk_154 0 5 (dk_at dksX0_block_0 11 rfl rfl)
theorem dX0_block_14 : decode cX0_block 14 = .ok (.iconst (-1), 1) := dk_2 (dk_at dksX0_block_0 14 rfl rfl)
theorem dX0_block_15 : decode cX0_block 15 = .ok (.ireturn, 1) := dk_172 (dk_at dksX0_block_0 15 rfl rfl)
theorem dX0_block_16 : decode cX0_block 16 = .ok (.aload_n 0, 1) := dk_42 (dk_at dksX0_block_0 16 rfl rfl)
theorem dX0_block_17 : decode cX0_block 17 = .ok (.getfield 22, 3) := dk_180 0 22 (dk_at dksX0_block_0 17 rfl rfl)
theorem dX0_block_20 : decode cX0_block 20 = .ok (.getfield 60, 3) := dk_180 0 60 (dk_at dksX0_block_0 20 rfl rfl)
theorem dX0_block_23 : decode cX0_block 23 = .ok (.iload_n 1, 1) := dk_27 (dk_at dksX0_block_0 23 rfl rfl)
theorem dX0_block_24 : decode cX0_block 24 = .ok (.invokevirtual 96, 3) := dk_182 0 96 (dk_at dksX0_block_1 0 rfl rfl)
theorem dX0_block_27 : decode cX0_block 27 = .ok (.checkcast 71, 3) := dk_192 0 71 (dk_at dksX0_block_1 3 rfl rfl)
theorem dX0_block_30 : decode cX0_block 30 = .ok (.getfield 111, 3) := dk_180 0 111 (dk_at dksX0_block_1 6 rfl rfl)
theorem dX0_block_33 : decode cX0_block 33 = .ok (.iload_n 2, 1) := dk_28 (dk_at dksX0_block_1 9 rfl rfl)
theorem dX0_block_34 : decode cX0_block 34 = .ok (.if_icmp .ne 6, 3) := dk_160 0 6 (dk_at dksX0_block_1 10 rfl rfl)
theorem dX0_block_37 : decode cX0_block 37 = .ok (.bipush (-5), 2) := dk_16 251 (dk_at dksX0_block_1 13 rfl rfl)
theorem dX0_block_39 : decode cX0_block 39 = .ok (.ireturn, 1) := dk_172 (dk_at dksX0_block_1 15 rfl rfl)
theorem dX0_block_40 : decode cX0_block 40 = .ok (.aload_n 0, 1) := dk_42 (dk_at dksX0_block_1 16 rfl rfl)
theorem dX0_block_41 : decode cX0_block 41 = .ok (.getfield 22, 3) := dk_180 0 22 (dk_at dksX0_block_1 17 rfl rfl)
theorem dX0_block_44 : decode cX0_block 44 = .ok (.invokevirtual 67, 3) := dk_182 0 67 (dk_at dksX0_block_1 20 rfl rfl)
theorem dX0_block_47 : decode cX0_block 47 = .ok (.astore_n 3, 1) := dk_78 (dk_at dksX0_block_1 23 rfl rfl)
theorem dX0_block_48 : decode cX0_block 48 = .ok (.aload_n 3, 1) := dk_45 (dk_at dksX0_block_2 0 rfl rfl)
theorem dX0_block_49 : decode cX0_block 49 = .ok (.getfield 60, 3) := dk_180 0 60 (dk_at dksX0_block_2 1 rfl rfl)
theorem dX0_block_52 : decode cX0_block 52 = .ok (.iload_n 1, 1) := dk_27 (dk_at dksX0_block_2 4 rfl rfl)
theorem dX0_block_53 : decode cX0_block 53 = .ok (.invokevirtual 96, 3) := dk_182 0 96 (dk_at dksX0_block_2 5 rfl rfl)
theorem dX0_block_56 : decode cX0_block 56 = .ok (.checkcast 71, 3) := dk_192 0 71 (dk_at dksX0_block_2 8 rfl rfl)
theorem dX0_block_59 : decode cX0_block 59 = .ok (.iload_n 2, 1) := dk_28 (dk_at dksX0_block_2 11 rfl rfl)
theorem dX0_block_60 : decode cX0_block 60 = .ok (.putfield 111, 3) := dk_181 0 111 (dk_at dksX0_block_2 12 rfl rfl)
theorem dX0_block_63 : decode cX0_block 63 = .ok (.aload_n 0, 1) := dk_42 (dk_at dksX0_block_2 15 rfl rfl)
theorem dX0_block_64 : decode cX0_block 64 = .ok (.aload_n 3, 1) := dk_45 (dk_at dksX0_block_2 16 rfl rfl)
theorem dX0_block_65 : decode cX0_block 65 = .ok (.aload_n 3, 1) := dk_45 (dk_at dksX0_block_2 17 rfl rfl)
theorem dX0_block_66 : decode cX0_block 66 = .ok (.iload_n 1, 1) := dk_27 (dk_at dksX0_block_2 18 rfl rfl)
theorem dX0_block_67 : decode cX0_block 67 = .ok (.iconst 0, 1) := dk_3 (dk_at dksX0_block_2 19 rfl rfl)
theorem dX0_block_68 : decode cX0_block 68 = .ok (.invokevirtual 115, 3) := dk_182 0 115 (dk_at dksX0_block_2 20 rfl rfl)
theorem dX0_block_71 : decode cX0_block 71 = .ok (.invokevirtual 78, 3) := dk_182 0 78 (dk_at dksX0_block_3 0 rfl rfl)
theorem dX0_block_74 : decode cX0_block 74 = .ok (.ireturn, 1) := dk_172 (dk_at dksX0_block_3 3 rfl rfl)
abbrev cX0_setDiscount : ByteArray := prog_1_method_12_code
def yX0_setDiscount : MethodName := ⟨RX0, "setDiscount", "(J)I"⟩
def dkwX0_setDiscount_2 : List UInt8 := [181, 0, 121, 42, 25, 5, 4, 182, 0, 78, 172]
abbrev dktX0_setDiscount_2 : List UInt8 := dkwX0_setDiscount_2 ++ []
def dkwX0_setDiscount_1 : List UInt8 := [180, 0, 121, 151, 154, 0, 6, 16, 251, 172, 42, 180, 0, 22, 182, 0, 67, 58, 5, 25, 5, 41]
abbrev dktX0_setDiscount_1 : List UInt8 := dkwX0_setDiscount_1 ++ dktX0_setDiscount_2
def dkwX0_setDiscount_0 : List UInt8 := [31, 20, 0, 119, 184, 0, 88, 154, 0, 6, 16, 254, 172, 31, 184, 0, 5, 74, 41, 42, 180, 0, 22]
abbrev dktX0_setDiscount_0 : List UInt8 := dkwX0_setDiscount_0 ++ dktX0_setDiscount_1
theorem dksX0_setDiscount_0 : cX0_setDiscount.data.toList.drop 0 = dktX0_setDiscount_0 := by decide +kernel
theorem dksX0_setDiscount_1 : cX0_setDiscount.data.toList.drop 23 = dktX0_setDiscount_1 := dk_seg dksX0_setDiscount_0 23 rfl rfl
theorem dksX0_setDiscount_2 : cX0_setDiscount.data.toList.drop 45 = dktX0_setDiscount_2 := dk_seg dksX0_setDiscount_1 22 rfl rfl
theorem dX0_setDiscount_0 : decode cX0_setDiscount 0 = .ok (.lload_n 1, 1) := dk_31 (dk_at dksX0_setDiscount_0 0 rfl rfl)
theorem dX0_setDiscount_1 : decode cX0_setDiscount 1 = .ok (.ldc2_w 119, 3) := dk_20 0 119 (dk_at dksX0_setDiscount_0 1 rfl rfl)
theorem dX0_setDiscount_4 : decode cX0_setDiscount 4 = .ok (.invokestatic 88, 3) := dk_184 0 88 (dk_at dksX0_setDiscount_0 4 rfl rfl)
theorem dX0_setDiscount_7 : decode cX0_setDiscount 7 = .ok (.ifCond .ne 6, 3) := dk_154 0 6 (dk_at dksX0_setDiscount_0 7 rfl rfl)
theorem dX0_setDiscount_10 : decode cX0_setDiscount 10 = .ok (.bipush (-2), 2) := dk_16 254 (dk_at dksX0_setDiscount_0 10 rfl rfl)
theorem dX0_setDiscount_12 : decode cX0_setDiscount 12 = .ok (.ireturn, 1) := dk_172 (dk_at dksX0_setDiscount_0 12 rfl rfl)
theorem dX0_setDiscount_13 : decode cX0_setDiscount 13 = .ok (.lload_n 1, 1) := dk_31 (dk_at dksX0_setDiscount_0 13 rfl rfl)
theorem dX0_setDiscount_14 : decode cX0_setDiscount 14 = .ok (.invokestatic 5, 3) := dk_184 0 5 (dk_at dksX0_setDiscount_0 14 rfl rfl)
theorem dX0_setDiscount_17 : decode cX0_setDiscount 17 = .ok (.dstore_n 3, 1) := dk_74 (dk_at dksX0_setDiscount_0 17 rfl rfl)
theorem dX0_setDiscount_18 : decode cX0_setDiscount 18 = .ok (.dload_n 3, 1) := dk_41 (dk_at dksX0_setDiscount_0 18 rfl rfl)
theorem dX0_setDiscount_19 : decode cX0_setDiscount 19 = .ok (.aload_n 0, 1) := dk_42 (dk_at dksX0_setDiscount_0 19 rfl rfl)
theorem dX0_setDiscount_20 : decode cX0_setDiscount 20 = .ok (.getfield 22, 3) := dk_180 0 22 (dk_at dksX0_setDiscount_0 20 rfl rfl)
theorem dX0_setDiscount_23 : decode cX0_setDiscount 23 = .ok (.getfield 121, 3) := dk_180 0 121 (dk_at dksX0_setDiscount_1 0 rfl rfl)
theorem dX0_setDiscount_26 : decode cX0_setDiscount 26 = .ok (.dcmp .l, 1) := dk_151 (dk_at dksX0_setDiscount_1 3 rfl rfl)
theorem dX0_setDiscount_27 : decode cX0_setDiscount 27 = .ok (.ifCond .ne 6, 3) := dk_154 0 6 (dk_at dksX0_setDiscount_1 4 rfl rfl)
theorem dX0_setDiscount_30 : decode cX0_setDiscount 30 = .ok (.bipush (-5), 2) := dk_16 251 (dk_at dksX0_setDiscount_1 7 rfl rfl)
theorem dX0_setDiscount_32 : decode cX0_setDiscount 32 = .ok (.ireturn, 1) := dk_172 (dk_at dksX0_setDiscount_1 9 rfl rfl)
theorem dX0_setDiscount_33 : decode cX0_setDiscount 33 = .ok (.aload_n 0, 1) := dk_42 (dk_at dksX0_setDiscount_1 10 rfl rfl)
theorem dX0_setDiscount_34 : decode cX0_setDiscount 34 = .ok (.getfield 22, 3) := dk_180 0 22 (dk_at dksX0_setDiscount_1 11 rfl rfl)
theorem dX0_setDiscount_37 : decode cX0_setDiscount 37 = .ok (.invokevirtual 67, 3) := dk_182 0 67 (dk_at dksX0_setDiscount_1 14 rfl rfl)
theorem dX0_setDiscount_40 : decode cX0_setDiscount 40 = .ok (.astore 5, 2) := dk_58 5 (dk_at dksX0_setDiscount_1 17 rfl rfl)
theorem dX0_setDiscount_42 : decode cX0_setDiscount 42 = .ok (.aload 5, 2) := dk_25 5 (dk_at dksX0_setDiscount_1 19 rfl rfl)
theorem dX0_setDiscount_44 : decode cX0_setDiscount 44 = .ok (.dload_n 3, 1) := dk_41 (dk_at dksX0_setDiscount_1 21 rfl rfl)
theorem dX0_setDiscount_45 : decode cX0_setDiscount 45 = .ok (.putfield 121, 3) := dk_181 0 121 (dk_at dksX0_setDiscount_2 0 rfl rfl)
theorem dX0_setDiscount_48 : decode cX0_setDiscount 48 = .ok (.aload_n 0, 1) := dk_42 (dk_at dksX0_setDiscount_2 3 rfl rfl)
theorem dX0_setDiscount_49 : decode cX0_setDiscount 49 = .ok (.aload 5, 2) := dk_25 5 (dk_at dksX0_setDiscount_2 4 rfl rfl)
theorem dX0_setDiscount_51 : decode cX0_setDiscount 51 = .ok (.iconst 1, 1) := dk_4 (dk_at dksX0_setDiscount_2 6 rfl rfl)
theorem dX0_setDiscount_52 : decode cX0_setDiscount 52 = .ok (.invokevirtual 78, 3) := dk_182 0 78 (dk_at dksX0_setDiscount_2 7 rfl rfl)
theorem dX0_setDiscount_55 : decode cX0_setDiscount 55 = .ok (.ireturn, 1) := dk_172 (dk_at dksX0_setDiscount_2 10 rfl rfl)
abbrev cX0_setTerms : ByteArray := prog_1_method_13_code
def yX0_setTerms : MethodName := ⟨RX0, "setTerms", "(II)I"⟩
def dkwX0_setTerms_3 : List UInt8 := [42, 25, 4, 29, 182, 0, 78, 172]
abbrev dktX0_setTerms_3 : List UInt8 := dkwX0_setTerms_3 ++ []
def dkwX0_setTerms_2 : List UInt8 := [16, 251, 172, 42, 180, 0, 22, 182, 0, 67, 58, 4, 25, 4, 27, 181, 0, 127, 25, 4, 28, 181, 0, 124]
abbrev dktX0_setTerms_2 : List UInt8 := dkwX0_setTerms_2 ++ dktX0_setTerms_3
def dkwX0_setTerms_1 : List UInt8 := [180, 0, 22, 180, 0, 124, 62, 29, 28, 160, 0, 17, 42, 180, 0, 22, 180, 0, 127, 27, 160, 0, 6]
abbrev dktX0_setTerms_1 : List UInt8 := dkwX0_setTerms_1 ++ dktX0_setTerms_2
def dkwX0_setTerms_0 : List UInt8 := [27, 3, 16, 60, 184, 0, 56, 153, 0, 13, 28, 4, 16, 90, 184, 0, 56, 154, 0, 6, 16, 254, 172, 42]
abbrev dktX0_setTerms_0 : List UInt8 := dkwX0_setTerms_0 ++ dktX0_setTerms_1
theorem dksX0_setTerms_0 : cX0_setTerms.data.toList.drop 0 = dktX0_setTerms_0 := by decide +kernel
theorem dksX0_setTerms_1 : cX0_setTerms.data.toList.drop 24 = dktX0_setTerms_1 := dk_seg dksX0_setTerms_0 24 rfl rfl
theorem dksX0_setTerms_2 : cX0_setTerms.data.toList.drop 47 = dktX0_setTerms_2 := dk_seg dksX0_setTerms_1 23 rfl rfl
theorem dksX0_setTerms_3 : cX0_setTerms.data.toList.drop 71 = dktX0_setTerms_3 := dk_seg dksX0_setTerms_2 24 rfl rfl
theorem dX0_setTerms_0 : decode cX0_setTerms 0 = .ok (.iload_n 1, 1) := dk_27 (dk_at dksX0_setTerms_0 0 rfl rfl)
theorem dX0_setTerms_1 : decode cX0_setTerms 1 = .ok (.iconst 0, 1) := dk_3 (dk_at dksX0_setTerms_0 1 rfl rfl)
theorem dX0_setTerms_2 : decode cX0_setTerms 2 = .ok (.bipush 60, 2) := dk_16 60 (dk_at dksX0_setTerms_0 2 rfl rfl)
theorem dX0_setTerms_4 : decode cX0_setTerms 4 = .ok (.invokestatic 56, 3) := dk_184 0 56 (dk_at dksX0_setTerms_0 4 rfl rfl)
theorem dX0_setTerms_7 : decode cX0_setTerms 7 = .ok (.ifCond .eq 13, 3) := dk_153 0 13 (dk_at dksX0_setTerms_0 7 rfl rfl)
theorem dX0_setTerms_10 : decode cX0_setTerms 10 = .ok (.iload_n 2, 1) := dk_28 (dk_at dksX0_setTerms_0 10 rfl rfl)
theorem dX0_setTerms_11 : decode cX0_setTerms 11 = .ok (.iconst 1, 1) := dk_4 (dk_at dksX0_setTerms_0 11 rfl rfl)
theorem dX0_setTerms_12 : decode cX0_setTerms 12 = .ok (.bipush 90, 2) := dk_16 90 (dk_at dksX0_setTerms_0 12 rfl rfl)
theorem dX0_setTerms_14 : decode cX0_setTerms 14 = .ok (.invokestatic 56, 3) := dk_184 0 56 (dk_at dksX0_setTerms_0 14 rfl rfl)
theorem dX0_setTerms_17 : decode cX0_setTerms 17 = .ok (.ifCond .ne 6, 3) := dk_154 0 6 (dk_at dksX0_setTerms_0 17 rfl rfl)
theorem dX0_setTerms_20 : decode cX0_setTerms 20 = .ok (.bipush (-2), 2) := dk_16 254 (dk_at dksX0_setTerms_0 20 rfl rfl)
theorem dX0_setTerms_22 : decode cX0_setTerms 22 = .ok (.ireturn, 1) := dk_172 (dk_at dksX0_setTerms_0 22 rfl rfl)
theorem dX0_setTerms_23 : decode cX0_setTerms 23 = .ok (.aload_n 0, 1) := dk_42 (dk_at dksX0_setTerms_0 23 rfl rfl)
theorem dX0_setTerms_24 : decode cX0_setTerms 24 = .ok (.getfield 22, 3) := dk_180 0 22 (dk_at dksX0_setTerms_1 0 rfl rfl)
theorem dX0_setTerms_27 : decode cX0_setTerms 27 = .ok (.getfield 124, 3) := dk_180 0 124 (dk_at dksX0_setTerms_1 3 rfl rfl)
theorem dX0_setTerms_30 : decode cX0_setTerms 30 = .ok (.istore_n 3, 1) := dk_62 (dk_at dksX0_setTerms_1 6 rfl rfl)
theorem dX0_setTerms_31 : decode cX0_setTerms 31 = .ok (.iload_n 3, 1) := dk_29 (dk_at dksX0_setTerms_1 7 rfl rfl)
theorem dX0_setTerms_32 : decode cX0_setTerms 32 = .ok (.iload_n 2, 1) := dk_28 (dk_at dksX0_setTerms_1 8 rfl rfl)
theorem dX0_setTerms_33 : decode cX0_setTerms 33 = .ok (.if_icmp .ne 17, 3) := dk_160 0 17 (dk_at dksX0_setTerms_1 9 rfl rfl)
theorem dX0_setTerms_36 : decode cX0_setTerms 36 = .ok (.aload_n 0, 1) := dk_42 (dk_at dksX0_setTerms_1 12 rfl rfl)
theorem dX0_setTerms_37 : decode cX0_setTerms 37 = .ok (.getfield 22, 3) := dk_180 0 22 (dk_at dksX0_setTerms_1 13 rfl rfl)
theorem dX0_setTerms_40 : decode cX0_setTerms 40 = .ok (.getfield 127, 3) := dk_180 0 127 (dk_at dksX0_setTerms_1 16 rfl rfl)
theorem dX0_setTerms_43 : decode cX0_setTerms 43 = .ok (.iload_n 1, 1) := dk_27 (dk_at dksX0_setTerms_1 19 rfl rfl)
theorem dX0_setTerms_44 : decode cX0_setTerms 44 = .ok (.if_icmp .ne 6, 3) := dk_160 0 6 (dk_at dksX0_setTerms_1 20 rfl rfl)
theorem dX0_setTerms_47 : decode cX0_setTerms 47 = .ok (.bipush (-5), 2) := dk_16 251 (dk_at dksX0_setTerms_2 0 rfl rfl)
theorem dX0_setTerms_49 : decode cX0_setTerms 49 = .ok (.ireturn, 1) := dk_172 (dk_at dksX0_setTerms_2 2 rfl rfl)
theorem dX0_setTerms_50 : decode cX0_setTerms 50 = .ok (.aload_n 0, 1) := dk_42 (dk_at dksX0_setTerms_2 3 rfl rfl)
theorem dX0_setTerms_51 : decode cX0_setTerms 51 = .ok (.getfield 22, 3) := dk_180 0 22 (dk_at dksX0_setTerms_2 4 rfl rfl)
theorem dX0_setTerms_54 : decode cX0_setTerms 54 = .ok (.invokevirtual 67, 3) := dk_182 0 67 (dk_at dksX0_setTerms_2 7 rfl rfl)
theorem dX0_setTerms_57 : decode cX0_setTerms 57 = .ok (.astore 4, 2) := dk_58 4 (dk_at dksX0_setTerms_2 10 rfl rfl)
theorem dX0_setTerms_59 : decode cX0_setTerms 59 = .ok (.aload 4, 2) := dk_25 4 (dk_at dksX0_setTerms_2 12 rfl rfl)
theorem dX0_setTerms_61 : decode cX0_setTerms 61 = .ok (.iload_n 1, 1) := dk_27 (dk_at dksX0_setTerms_2 14 rfl rfl)
theorem dX0_setTerms_62 : decode cX0_setTerms 62 = .ok (.putfield 127, 3) := dk_181 0 127 (dk_at dksX0_setTerms_2 15 rfl rfl)
theorem dX0_setTerms_65 : decode cX0_setTerms 65 = .ok (.aload 4, 2) := dk_25 4 (dk_at dksX0_setTerms_2 18 rfl rfl)
theorem dX0_setTerms_67 : decode cX0_setTerms 67 = .ok (.iload_n 2, 1) := dk_28 (dk_at dksX0_setTerms_2 20 rfl rfl)
theorem dX0_setTerms_68 : decode cX0_setTerms 68 = .ok (.putfield 124, 3) := dk_181 0 124 (dk_at dksX0_setTerms_2 21 rfl rfl)
theorem dX0_setTerms_71 : decode cX0_setTerms 71 = .ok (.aload_n 0, 1) := dk_42 (dk_at dksX0_setTerms_3 0 rfl rfl)
theorem dX0_setTerms_72 : decode cX0_setTerms 72 = .ok (.aload 4, 2) := dk_25 4 (dk_at dksX0_setTerms_3 1 rfl rfl)
theorem dX0_setTerms_74 : decode cX0_setTerms 74 = .ok (.iload_n 3, 1) := dk_29 (dk_at dksX0_setTerms_3 3 rfl rfl)
theorem dX0_setTerms_75 : decode cX0_setTerms 75 = .ok (.invokevirtual 78, 3) := dk_182 0 78 (dk_at dksX0_setTerms_3 4 rfl rfl)
theorem dX0_setTerms_78 : decode cX0_setTerms 78 = .ok (.ireturn, 1) := dk_172 (dk_at dksX0_setTerms_3 7 rfl rfl)
abbrev cX0_addOrder : ByteArray := prog_1_method_14_code
def yX0_addOrder : MethodName := ⟨RX0, "addOrder", "(I)I"⟩
def dkwX0_addOrder_3 : List UInt8 := [180, 0, 130, 187, 0, 133, 89, 28, 27, 183, 0, 135, 182, 0, 74, 87, 42, 45, 28, 182, 0, 78, 172]
abbrev dktX0_addOrder_3 : List UInt8 := dkwX0_addOrder_3 ++ []
def dkwX0_addOrder_2 : List UInt8 := [182, 0, 64, 61, 28, 16, 12, 160, 0, 6, 16, 253, 172, 42, 180, 0, 22, 182, 0, 67, 78, 45]
abbrev dktX0_addOrder_2 : List UInt8 := dkwX0_addOrder_2 ++ dktX0_addOrder_3
def dkwX0_addOrder_1 : List UInt8 := [182, 0, 96, 192, 0, 71, 180, 0, 111, 153, 0, 6, 16, 252, 172, 42, 180, 0, 22, 180, 0, 130]
abbrev dktX0_addOrder_1 : List UInt8 := dkwX0_addOrder_1 ++ dktX0_addOrder_2
def dkwX0_addOrder_0 : List UInt8 := [42, 180, 0, 22, 180, 0, 60, 27, 182, 0, 82, 154, 0, 5, 2, 172, 42, 180, 0, 22, 180, 0, 60, 27]
abbrev dktX0_addOrder_0 : List UInt8 := dkwX0_addOrder_0 ++ dktX0_addOrder_1
theorem dksX0_addOrder_0 : cX0_addOrder.data.toList.drop 0 = dktX0_addOrder_0 := by decide +kernel
theorem dksX0_addOrder_1 : cX0_addOrder.data.toList.drop 24 = dktX0_addOrder_1 := dk_seg dksX0_addOrder_0 24 rfl rfl
theorem dksX0_addOrder_2 : cX0_addOrder.data.toList.drop 46 = dktX0_addOrder_2 := dk_seg dksX0_addOrder_1 22 rfl rfl
theorem dksX0_addOrder_3 : cX0_addOrder.data.toList.drop 68 = dktX0_addOrder_3 := dk_seg dksX0_addOrder_2 22 rfl rfl
theorem dX0_addOrder_0 : decode cX0_addOrder 0 = .ok (.aload_n 0, 1) := dk_42 (dk_at dksX0_addOrder_0 0 rfl rfl)
theorem dX0_addOrder_1 : decode cX0_addOrder 1 = .ok (.getfield 22, 3) := dk_180 0 22 (dk_at dksX0_addOrder_0 1 rfl rfl)
theorem dX0_addOrder_4 : decode cX0_addOrder 4 = .ok (.getfield 60, 3) := dk_180 0 60 (dk_at dksX0_addOrder_0 4 rfl rfl)
theorem dX0_addOrder_7 : decode cX0_addOrder 7 = .ok (.iload_n 1, 1) := dk_27 (dk_at dksX0_addOrder_0 7 rfl rfl)
theorem dX0_addOrder_8 : decode cX0_addOrder 8 = .ok (.invokevirtual 82, 3) := dk_182 0 82 (dk_at dksX0_addOrder_0 8 rfl rfl)
theorem dX0_addOrder_11 : decode cX0_addOrder 11 = .ok (.ifCond .ne 5, 3) := dk_154 0 5 (dk_at dksX0_addOrder_0 11 rfl rfl)
theorem dX0_addOrder_14 : decode cX0_addOrder 14 = .ok (.iconst (-1), 1) := dk_2 (dk_at dksX0_addOrder_0 14 rfl rfl)
theorem dX0_addOrder_15 : decode cX0_addOrder 15 = .ok (.ireturn, 1) := dk_172 (dk_at dksX0_addOrder_0 15 rfl rfl)
theorem dX0_addOrder_16 : decode cX0_addOrder 16 = .ok (.aload_n 0, 1) := dk_42 (dk_at dksX0_addOrder_0 16 rfl rfl)
theorem dX0_addOrder_17 : decode cX0_addOrder 17 = .ok (.getfield 22, 3) := dk_180 0 22 (dk_at dksX0_addOrder_0 17 rfl rfl)
theorem dX0_addOrder_20 : decode cX0_addOrder 20 = .ok (.getfield 60, 3) := dk_180 0 60 (dk_at dksX0_addOrder_0 20 rfl rfl)
theorem dX0_addOrder_23 : decode cX0_addOrder 23 = .ok (.iload_n 1, 1) := dk_27 (dk_at dksX0_addOrder_0 23 rfl rfl)
theorem dX0_addOrder_24 : decode cX0_addOrder 24 = .ok (.invokevirtual 96, 3) := dk_182 0 96 (dk_at dksX0_addOrder_1 0 rfl rfl)
theorem dX0_addOrder_27 : decode cX0_addOrder 27 = .ok (.checkcast 71, 3) := dk_192 0 71 (dk_at dksX0_addOrder_1 3 rfl rfl)
theorem dX0_addOrder_30 : decode cX0_addOrder 30 = .ok (.getfield 111, 3) := dk_180 0 111 (dk_at dksX0_addOrder_1 6 rfl rfl)
theorem dX0_addOrder_33 : decode cX0_addOrder 33 = .ok (.ifCond .eq 6, 3) := dk_153 0 6 (dk_at dksX0_addOrder_1 9 rfl rfl)
theorem dX0_addOrder_36 : decode cX0_addOrder 36 = .ok (.bipush (-4), 2) := dk_16 252 (dk_at dksX0_addOrder_1 12 rfl rfl)
theorem dX0_addOrder_38 : decode cX0_addOrder 38 = .ok (.ireturn, 1) := dk_172 (dk_at dksX0_addOrder_1 14 rfl rfl)
theorem dX0_addOrder_39 : decode cX0_addOrder 39 = .ok (.aload_n 0, 1) := dk_42 (dk_at dksX0_addOrder_1 15 rfl rfl)
theorem dX0_addOrder_40 : decode cX0_addOrder 40 = .ok (.getfield 22, 3) := dk_180 0 22 (dk_at dksX0_addOrder_1 16 rfl rfl)
theorem dX0_addOrder_43 : decode cX0_addOrder 43 = .ok (.getfield 130, 3) := dk_180 0 130 (dk_at dksX0_addOrder_1 19 rfl rfl)
theorem dX0_addOrder_46 : decode cX0_addOrder 46 = .ok (.invokevirtual 64, 3) := dk_182 0 64 (dk_at dksX0_addOrder_2 0 rfl rfl)
theorem dX0_addOrder_49 : decode cX0_addOrder 49 = .ok (.istore_n 2, 1) := dk_61 (dk_at dksX0_addOrder_2 3 rfl rfl)
theorem dX0_addOrder_50 : decode cX0_addOrder 50 = .ok (.iload_n 2, 1) := dk_28 (dk_at dksX0_addOrder_2 4 rfl rfl)
theorem dX0_addOrder_51 : decode cX0_addOrder 51 = .ok (.bipush 12, 2) := dk_16 12 (dk_at dksX0_addOrder_2 5 rfl rfl)
theorem dX0_addOrder_53 : decode cX0_addOrder 53 = .ok (.if_icmp .ne 6, 3) := dk_160 0 6 (dk_at dksX0_addOrder_2 7 rfl rfl)
theorem dX0_addOrder_56 : decode cX0_addOrder 56 = .ok (.bipush (-3), 2) := dk_16 253 (dk_at dksX0_addOrder_2 10 rfl rfl)
theorem dX0_addOrder_58 : decode cX0_addOrder 58 = .ok (.ireturn, 1) := dk_172 (dk_at dksX0_addOrder_2 12 rfl rfl)
theorem dX0_addOrder_59 : decode cX0_addOrder 59 = .ok (.aload_n 0, 1) := dk_42 (dk_at dksX0_addOrder_2 13 rfl rfl)
theorem dX0_addOrder_60 : decode cX0_addOrder 60 = .ok (.getfield 22, 3) := dk_180 0 22 (dk_at dksX0_addOrder_2 14 rfl rfl)
theorem dX0_addOrder_63 : decode cX0_addOrder 63 = .ok (.invokevirtual 67, 3) := dk_182 0 67 (dk_at dksX0_addOrder_2 17 rfl rfl)
theorem dX0_addOrder_66 : decode cX0_addOrder 66 = .ok (.astore_n 3, 1) := dk_78 (dk_at dksX0_addOrder_2 20 rfl rfl)
theorem dX0_addOrder_67 : decode cX0_addOrder 67 = .ok (.aload_n 3, 1) := dk_45 (dk_at dksX0_addOrder_2 21 rfl rfl)
theorem dX0_addOrder_68 : decode cX0_addOrder 68 = .ok (.getfield 130, 3) := dk_180 0 130 (dk_at dksX0_addOrder_3 0 rfl rfl)
theorem dX0_addOrder_71 : decode cX0_addOrder 71 = .ok (.new 133, 3) := dk_187 0 133 (dk_at dksX0_addOrder_3 3 rfl rfl)
theorem dX0_addOrder_74 : decode cX0_addOrder 74 = .ok (.dup, 1) := dk_89 (dk_at dksX0_addOrder_3 6 rfl rfl)
theorem dX0_addOrder_75 : decode cX0_addOrder 75 = .ok (.iload_n 2, 1) := dk_28 (dk_at dksX0_addOrder_3 7 rfl rfl)
theorem dX0_addOrder_76 : decode cX0_addOrder 76 = .ok (.iload_n 1, 1) := dk_27 (dk_at dksX0_addOrder_3 8 rfl rfl)
theorem dX0_addOrder_77 : decode cX0_addOrder 77 = .ok (.invokespecial 135, 3) := dk_183 0 135 (dk_at dksX0_addOrder_3 9 rfl rfl)
theorem dX0_addOrder_80 : decode cX0_addOrder 80 = .ok (.invokevirtual 74, 3) := dk_182 0 74 (dk_at dksX0_addOrder_3 12 rfl rfl)
theorem dX0_addOrder_83 : decode cX0_addOrder 83 = .ok (.pop, 1) := dk_87 (dk_at dksX0_addOrder_3 15 rfl rfl)
theorem dX0_addOrder_84 : decode cX0_addOrder 84 = .ok (.aload_n 0, 1) := dk_42 (dk_at dksX0_addOrder_3 16 rfl rfl)
theorem dX0_addOrder_85 : decode cX0_addOrder 85 = .ok (.aload_n 3, 1) := dk_45 (dk_at dksX0_addOrder_3 17 rfl rfl)
theorem dX0_addOrder_86 : decode cX0_addOrder 86 = .ok (.iload_n 2, 1) := dk_28 (dk_at dksX0_addOrder_3 18 rfl rfl)
theorem dX0_addOrder_87 : decode cX0_addOrder 87 = .ok (.invokevirtual 78, 3) := dk_182 0 78 (dk_at dksX0_addOrder_3 19 rfl rfl)
theorem dX0_addOrder_90 : decode cX0_addOrder 90 = .ok (.ireturn, 1) := dk_172 (dk_at dksX0_addOrder_3 22 rfl rfl)
abbrev cX0_addLine : ByteArray := prog_1_method_16_code
def yX0_addLine : MethodName := ⟨RX0, "addLine", "(IIII)I"⟩
def dkwX0_addLine_5 : List UInt8 := [21, 5, 28, 29, 21, 4, 183, 0, 155, 182, 0, 74, 87, 42, 25, 6, 21, 5, 182, 0, 78, 172]
abbrev dktX0_addLine_5 : List UInt8 := dkwX0_addLine_5 ++ []
def dkwX0_addLine_4 : List UInt8 := [182, 0, 67, 58, 6, 25, 6, 180, 0, 130, 27, 182, 0, 96, 192, 0, 133, 180, 0, 150, 187, 0, 153, 89]
abbrev dktX0_addLine_4 : List UInt8 := dkwX0_addLine_4 ++ dktX0_addLine_5
def dkwX0_addLine_3 : List UInt8 := [180, 0, 150, 182, 0, 64, 54, 5, 21, 5, 16, 6, 160, 0, 6, 16, 253, 172, 42, 180, 0, 22]
abbrev dktX0_addLine_3 : List UInt8 := dkwX0_addLine_3 ++ dktX0_addLine_4
def dkwX0_addLine_2 : List UInt8 := [182, 0, 147, 154, 0, 6, 16, 252, 172, 42, 180, 0, 22, 180, 0, 130, 27, 182, 0, 96, 192, 0, 133]
abbrev dktX0_addLine_2 : List UInt8 := dkwX0_addLine_2 ++ dktX0_addLine_3
def dkwX0_addLine_1 : List UInt8 := [153, 0, 18, 29, 184, 0, 141, 153, 0, 11, 21, 4, 184, 0, 144, 154, 0, 6, 16, 254, 172, 42, 27]
abbrev dktX0_addLine_1 : List UInt8 := dkwX0_addLine_1 ++ dktX0_addLine_2
def dkwX0_addLine_0 : List UInt8 := [42, 180, 0, 22, 180, 0, 130, 27, 182, 0, 82, 154, 0, 5, 2, 172, 28, 3, 16, 99, 184, 0, 56]
abbrev dktX0_addLine_0 : List UInt8 := dkwX0_addLine_0 ++ dktX0_addLine_1
theorem dksX0_addLine_0 : cX0_addLine.data.toList.drop 0 = dktX0_addLine_0 := by decide +kernel
theorem dksX0_addLine_1 : cX0_addLine.data.toList.drop 23 = dktX0_addLine_1 := dk_seg dksX0_addLine_0 23 rfl rfl
theorem dksX0_addLine_2 : cX0_addLine.data.toList.drop 46 = dktX0_addLine_2 := dk_seg dksX0_addLine_1 23 rfl rfl
theorem dksX0_addLine_3 : cX0_addLine.data.toList.drop 69 = dktX0_addLine_3 := dk_seg dksX0_addLine_2 23 rfl rfl
theorem dksX0_addLine_4 : cX0_addLine.data.toList.drop 91 = dktX0_addLine_4 := dk_seg dksX0_addLine_3 22 rfl rfl
theorem dksX0_addLine_5 : cX0_addLine.data.toList.drop 115 = dktX0_addLine_5 := dk_seg dksX0_addLine_4 24 rfl rfl
theorem dX0_addLine_0 : decode cX0_addLine 0 = .ok (.aload_n 0, 1) := dk_42 (dk_at dksX0_addLine_0 0 rfl rfl)
theorem dX0_addLine_1 : decode cX0_addLine 1 = .ok (.getfield 22, 3) := dk_180 0 22 (dk_at dksX0_addLine_0 1 rfl rfl)
theorem dX0_addLine_4 : decode cX0_addLine 4 = .ok (.getfield 130, 3) := dk_180 0 130 (dk_at dksX0_addLine_0 4 rfl rfl)
theorem dX0_addLine_7 : decode cX0_addLine 7 = .ok (.iload_n 1, 1) := dk_27 (dk_at dksX0_addLine_0 7 rfl rfl)
theorem dX0_addLine_8 : decode cX0_addLine 8 = .ok (.invokevirtual 82, 3) := dk_182 0 82 (dk_at dksX0_addLine_0 8 rfl rfl)
theorem dX0_addLine_11 : decode cX0_addLine 11 = .ok (.ifCond .ne 5, 3) := dk_154 0 5 (dk_at dksX0_addLine_0 11 rfl rfl)
theorem dX0_addLine_14 : decode cX0_addLine 14 = .ok (.iconst (-1), 1) := dk_2 (dk_at dksX0_addLine_0 14 rfl rfl)
theorem dX0_addLine_15 : decode cX0_addLine 15 = .ok (.ireturn, 1) := dk_172 (dk_at dksX0_addLine_0 15 rfl rfl)
theorem dX0_addLine_16 : decode cX0_addLine 16 = .ok (.iload_n 2, 1) := dk_28 (dk_at dksX0_addLine_0 16 rfl rfl)
theorem dX0_addLine_17 : decode cX0_addLine 17 = .ok (.iconst 0, 1) := dk_3 (dk_at dksX0_addLine_0 17 rfl rfl)
theorem dX0_addLine_18 : decode cX0_addLine 18 = .ok (.bipush 99, 2) := dk_16 99 (dk_at dksX0_addLine_0 18 rfl rfl)
theorem dX0_addLine_20 : decode cX0_addLine 20 = .ok (.invokestatic 56, 3) := dk_184 0 56 (dk_at dksX0_addLine_0 20 rfl rfl)
theorem dX0_addLine_23 : decode cX0_addLine 23 = .ok (.ifCond .eq 18, 3) := dk_153 0 18 (dk_at dksX0_addLine_1 0 rfl rfl)
theorem dX0_addLine_26 : decode cX0_addLine 26 = .ok (.iload_n 3, 1) := dk_29 (dk_at dksX0_addLine_1 3 rfl rfl)
theorem dX0_addLine_27 : decode cX0_addLine 27 = .ok (.invokestatic 141, 3) := dk_184 0 141 (dk_at dksX0_addLine_1 4 rfl rfl)
theorem dX0_addLine_30 : decode cX0_addLine 30 = .ok (.ifCond .eq 11, 3) := dk_153 0 11 (dk_at dksX0_addLine_1 7 rfl rfl)
theorem dX0_addLine_33 : decode cX0_addLine 33 = .ok (.iload 4, 2) := dk_21 4 (dk_at dksX0_addLine_1 10 rfl rfl)
theorem dX0_addLine_35 : decode cX0_addLine 35 = .ok (.invokestatic 144, 3) := dk_184 0 144 (dk_at dksX0_addLine_1 12 rfl rfl)
theorem dX0_addLine_38 : decode cX0_addLine 38 = .ok (.ifCond .ne 6, 3) := dk_154 0 6 (dk_at dksX0_addLine_1 15 rfl rfl)
theorem dX0_addLine_41 : decode cX0_addLine 41 = .ok (.bipush (-2), 2) := dk_16 254 (dk_at dksX0_addLine_1 18 rfl rfl)
theorem dX0_addLine_43 : decode cX0_addLine 43 = .ok (.ireturn, 1) := dk_172 (dk_at dksX0_addLine_1 20 rfl rfl)
theorem dX0_addLine_44 : decode cX0_addLine 44 = .ok (.aload_n 0, 1) := dk_42 (dk_at dksX0_addLine_1 21 rfl rfl)
theorem dX0_addLine_45 : decode cX0_addLine 45 = .ok (.iload_n 1, 1) := dk_27 (dk_at dksX0_addLine_1 22 rfl rfl)
theorem dX0_addLine_46 : decode cX0_addLine 46 = .ok (.invokevirtual 147, 3) := dk_182 0 147 (dk_at dksX0_addLine_2 0 rfl rfl)
theorem dX0_addLine_49 : decode cX0_addLine 49 = .ok (.ifCond .ne 6, 3) := dk_154 0 6 (dk_at dksX0_addLine_2 3 rfl rfl)
theorem dX0_addLine_52 : decode cX0_addLine 52 = .ok (.bipush (-4), 2) := dk_16 252 (dk_at dksX0_addLine_2 6 rfl rfl)
theorem dX0_addLine_54 : decode cX0_addLine 54 = .ok (.ireturn, 1) := dk_172 (dk_at dksX0_addLine_2 8 rfl rfl)
theorem dX0_addLine_55 : decode cX0_addLine 55 = .ok (.aload_n 0, 1) := dk_42 (dk_at dksX0_addLine_2 9 rfl rfl)
theorem dX0_addLine_56 : decode cX0_addLine 56 = .ok (.getfield 22, 3) := dk_180 0 22 (dk_at dksX0_addLine_2 10 rfl rfl)
theorem dX0_addLine_59 : decode cX0_addLine 59 = .ok (.getfield 130, 3) := dk_180 0 130 (dk_at dksX0_addLine_2 13 rfl rfl)
theorem dX0_addLine_62 : decode cX0_addLine 62 = .ok (.iload_n 1, 1) := dk_27 (dk_at dksX0_addLine_2 16 rfl rfl)
theorem dX0_addLine_63 : decode cX0_addLine 63 = .ok (.invokevirtual 96, 3) := dk_182 0 96 (dk_at dksX0_addLine_2 17 rfl rfl)
theorem dX0_addLine_66 : decode cX0_addLine 66 = .ok (.checkcast 133, 3) := dk_192 0 133 (dk_at dksX0_addLine_2 20 rfl rfl)
theorem dX0_addLine_69 : decode cX0_addLine 69 = .ok (.getfield 150, 3) := dk_180 0 150 (dk_at dksX0_addLine_3 0 rfl rfl)
theorem dX0_addLine_72 : decode cX0_addLine 72 = .ok (.invokevirtual 64, 3) := dk_182 0 64 (dk_at dksX0_addLine_3 3 rfl rfl)
theorem dX0_addLine_75 : decode cX0_addLine 75 = .ok (.istore 5, 2) := dk_54 5 (dk_at dksX0_addLine_3 6 rfl rfl)
theorem dX0_addLine_77 : decode cX0_addLine 77 = .ok (.iload 5, 2) := dk_21 5 (dk_at dksX0_addLine_3 8 rfl rfl)
theorem dX0_addLine_79 : decode cX0_addLine 79 = .ok (.bipush 6, 2) := dk_16 6 (dk_at dksX0_addLine_3 10 rfl rfl)
theorem dX0_addLine_81 : decode cX0_addLine 81 = .ok (.if_icmp .ne 6, 3) := dk_160 0 6 (dk_at dksX0_addLine_3 12 rfl rfl)
theorem dX0_addLine_84 : decode cX0_addLine 84 = .ok (.bipush (-3), 2) := dk_16 253 (dk_at dksX0_addLine_3 15 rfl rfl)
theorem dX0_addLine_86 : decode cX0_addLine 86 = .ok (.ireturn, 1) := dk_172 (dk_at dksX0_addLine_3 17 rfl rfl)
theorem dX0_addLine_87 : decode cX0_addLine 87 = .ok (.aload_n 0, 1) := dk_42 (dk_at dksX0_addLine_3 18 rfl rfl)
theorem dX0_addLine_88 : decode cX0_addLine 88 = .ok (.getfield 22, 3) := dk_180 0 22 (dk_at dksX0_addLine_3 19 rfl rfl)
theorem dX0_addLine_91 : decode cX0_addLine 91 = .ok (.invokevirtual 67, 3) := dk_182 0 67 (dk_at dksX0_addLine_4 0 rfl rfl)
theorem dX0_addLine_94 : decode cX0_addLine 94 = .ok (.astore 6, 2) := dk_58 6 (dk_at dksX0_addLine_4 3 rfl rfl)
theorem dX0_addLine_96 : decode cX0_addLine 96 = .ok (.aload 6, 2) := dk_25 6 (dk_at dksX0_addLine_4 5 rfl rfl)
theorem dX0_addLine_98 : decode cX0_addLine 98 = .ok (.getfield 130, 3) := dk_180 0 130 (dk_at dksX0_addLine_4 7 rfl rfl)
theorem dX0_addLine_101 : decode cX0_addLine 101 = .ok (.iload_n 1, 1) := dk_27 (dk_at dksX0_addLine_4 10 rfl rfl)
theorem dX0_addLine_102 : decode cX0_addLine 102 = .ok (.invokevirtual 96, 3) := dk_182 0 96 (dk_at dksX0_addLine_4 11 rfl rfl)
theorem dX0_addLine_105 : decode cX0_addLine 105 = .ok (.checkcast 133, 3) := dk_192 0 133 (dk_at dksX0_addLine_4 14 rfl rfl)
theorem dX0_addLine_108 : decode cX0_addLine 108 = .ok (.getfield 150, 3) := dk_180 0 150 (dk_at dksX0_addLine_4 17 rfl rfl)
theorem dX0_addLine_111 : decode cX0_addLine 111 = .ok (.new 153, 3) := dk_187 0 153 (dk_at dksX0_addLine_4 20 rfl rfl)
theorem dX0_addLine_114 : decode cX0_addLine 114 = .ok (.dup, 1) := dk_89 (dk_at dksX0_addLine_4 23 rfl rfl)
theorem dX0_addLine_115 : decode cX0_addLine 115 = .ok (.iload 5, 2) := dk_21 5 (dk_at dksX0_addLine_5 0 rfl rfl)
theorem dX0_addLine_117 : decode cX0_addLine 117 = .ok (.iload_n 2, 1) := dk_28 (dk_at dksX0_addLine_5 2 rfl rfl)
theorem dX0_addLine_118 : decode cX0_addLine 118 = .ok (.iload_n 3, 1) := dk_29 (dk_at dksX0_addLine_5 3 rfl rfl)
theorem dX0_addLine_119 : decode cX0_addLine 119 = .ok (.iload 4, 2) := dk_21 4 (dk_at dksX0_addLine_5 4 rfl rfl)
theorem dX0_addLine_121 : decode cX0_addLine 121 = .ok (.invokespecial 155, 3) := dk_183 0 155 (dk_at dksX0_addLine_5 6 rfl rfl)
theorem dX0_addLine_124 : decode cX0_addLine 124 = .ok (.invokevirtual 74, 3) := dk_182 0 74 (dk_at dksX0_addLine_5 9 rfl rfl)
theorem dX0_addLine_127 : decode cX0_addLine 127 = .ok (.pop, 1) := dk_87 (dk_at dksX0_addLine_5 12 rfl rfl)
theorem dX0_addLine_128 : decode cX0_addLine 128 = .ok (.aload_n 0, 1) := dk_42 (dk_at dksX0_addLine_5 13 rfl rfl)
theorem dX0_addLine_129 : decode cX0_addLine 129 = .ok (.aload 6, 2) := dk_25 6 (dk_at dksX0_addLine_5 14 rfl rfl)
theorem dX0_addLine_131 : decode cX0_addLine 131 = .ok (.iload 5, 2) := dk_21 5 (dk_at dksX0_addLine_5 16 rfl rfl)
theorem dX0_addLine_133 : decode cX0_addLine 133 = .ok (.invokevirtual 78, 3) := dk_182 0 78 (dk_at dksX0_addLine_5 18 rfl rfl)
theorem dX0_addLine_136 : decode cX0_addLine 136 = .ok (.ireturn, 1) := dk_172 (dk_at dksX0_addLine_5 21 rfl rfl)
abbrev cX0_areUnits : ByteArray := prog_1_method_6_code
def yX0_areUnits : MethodName := ⟨RX0, "areUnits", "(I)Z"⟩
def dkwX0_areUnits_0 : List UInt8 := [26, 4, 17, 3, 231, 184, 0, 56, 172]
abbrev dktX0_areUnits_0 : List UInt8 := dkwX0_areUnits_0 ++ []
theorem dksX0_areUnits_0 : cX0_areUnits.data.toList.drop 0 = dktX0_areUnits_0 := by decide +kernel
theorem dX0_areUnits_0 : decode cX0_areUnits 0 = .ok (.iload_n 0, 1) := dk_26 (dk_at dksX0_areUnits_0 0 rfl rfl)
theorem dX0_areUnits_1 : decode cX0_areUnits 1 = .ok (.iconst 1, 1) := dk_4 (dk_at dksX0_areUnits_0 1 rfl rfl)
theorem dX0_areUnits_2 : decode cX0_areUnits 2 = .ok (.sipush 999, 3) := dk_17 3 231 (dk_at dksX0_areUnits_0 2 rfl rfl)
theorem dX0_areUnits_5 : decode cX0_areUnits 5 = .ok (.invokestatic 56, 3) := dk_184 0 56 (dk_at dksX0_areUnits_0 5 rfl rfl)
theorem dX0_areUnits_8 : decode cX0_areUnits 8 = .ok (.ireturn, 1) := dk_172 (dk_at dksX0_areUnits_0 8 rfl rfl)
abbrev cX0_isPrice : ByteArray := prog_1_method_7_code
def yX0_isPrice : MethodName := ⟨RX0, "isPrice", "(I)Z"⟩
def dkwX0_isPrice_0 : List UInt8 := [26, 4, 17, 39, 15, 184, 0, 56, 172]
abbrev dktX0_isPrice_0 : List UInt8 := dkwX0_isPrice_0 ++ []
theorem dksX0_isPrice_0 : cX0_isPrice.data.toList.drop 0 = dktX0_isPrice_0 := by decide +kernel
theorem dX0_isPrice_0 : decode cX0_isPrice 0 = .ok (.iload_n 0, 1) := dk_26 (dk_at dksX0_isPrice_0 0 rfl rfl)
theorem dX0_isPrice_1 : decode cX0_isPrice 1 = .ok (.iconst 1, 1) := dk_4 (dk_at dksX0_isPrice_0 1 rfl rfl)
theorem dX0_isPrice_2 : decode cX0_isPrice 2 = .ok (.sipush 9999, 3) := dk_17 39 15 (dk_at dksX0_isPrice_0 2 rfl rfl)
theorem dX0_isPrice_5 : decode cX0_isPrice 5 = .ok (.invokestatic 56, 3) := dk_184 0 56 (dk_at dksX0_isPrice_0 5 rfl rfl)
theorem dX0_isPrice_8 : decode cX0_isPrice 8 = .ok (.ireturn, 1) := dk_172 (dk_at dksX0_isPrice_0 8 rfl rfl)
abbrev cX0_isOpen : ByteArray := prog_1_method_15_code
def yX0_isOpen : MethodName := ⟨RX0, "isOpen", "(I)Z"⟩
def dkwX0_isOpen_1 : List UInt8 := [3, 172]
abbrev dktX0_isOpen_1 : List UInt8 := dkwX0_isOpen_1 ++ []
def dkwX0_isOpen_0 : List UInt8 := [42, 180, 0, 22, 180, 0, 130, 27, 182, 0, 96, 192, 0, 133, 180, 0, 138, 154, 0, 7, 4, 167, 0, 4]
abbrev dktX0_isOpen_0 : List UInt8 := dkwX0_isOpen_0 ++ dktX0_isOpen_1
theorem dksX0_isOpen_0 : cX0_isOpen.data.toList.drop 0 = dktX0_isOpen_0 := by decide +kernel
theorem dksX0_isOpen_1 : cX0_isOpen.data.toList.drop 24 = dktX0_isOpen_1 := dk_seg dksX0_isOpen_0 24 rfl rfl
theorem dX0_isOpen_0 : decode cX0_isOpen 0 = .ok (.aload_n 0, 1) := dk_42 (dk_at dksX0_isOpen_0 0 rfl rfl)
theorem dX0_isOpen_1 : decode cX0_isOpen 1 = .ok (.getfield 22, 3) := dk_180 0 22 (dk_at dksX0_isOpen_0 1 rfl rfl)
theorem dX0_isOpen_4 : decode cX0_isOpen 4 = .ok (.getfield 130, 3) := dk_180 0 130 (dk_at dksX0_isOpen_0 4 rfl rfl)
theorem dX0_isOpen_7 : decode cX0_isOpen 7 = .ok (.iload_n 1, 1) := dk_27 (dk_at dksX0_isOpen_0 7 rfl rfl)
theorem dX0_isOpen_8 : decode cX0_isOpen 8 = .ok (.invokevirtual 96, 3) := dk_182 0 96 (dk_at dksX0_isOpen_0 8 rfl rfl)
theorem dX0_isOpen_11 : decode cX0_isOpen 11 = .ok (.checkcast 133, 3) := dk_192 0 133 (dk_at dksX0_isOpen_0 11 rfl rfl)
theorem dX0_isOpen_14 : decode cX0_isOpen 14 = .ok (.getfield 138, 3) := dk_180 0 138 (dk_at dksX0_isOpen_0 14 rfl rfl)
theorem dX0_isOpen_17 : decode cX0_isOpen 17 = .ok (.ifCond .ne 7, 3) := dk_154 0 7 (dk_at dksX0_isOpen_0 17 rfl rfl)
theorem dX0_isOpen_20 : decode cX0_isOpen 20 = .ok (.iconst 1, 1) := dk_4 (dk_at dksX0_isOpen_0 20 rfl rfl)
theorem dX0_isOpen_21 : decode cX0_isOpen 21 = .ok (.goto 4, 3) := dk_167 0 4 (dk_at dksX0_isOpen_0 21 rfl rfl)
theorem dX0_isOpen_24 : decode cX0_isOpen 24 = .ok (.iconst 0, 1) := dk_3 (dk_at dksX0_isOpen_1 0 rfl rfl)
theorem dX0_isOpen_25 : decode cX0_isOpen 25 = .ok (.ireturn, 1) := dk_172 (dk_at dksX0_isOpen_1 1 rfl rfl)
abbrev cX0_changeLine : ByteArray := prog_1_method_17_code
def yX0_changeLine : MethodName := ⟨RX0, "changeLine", "(IIII)I"⟩
def dkwX0_changeLine_7 : List UInt8 := [180, 0, 178, 182, 0, 78, 172]
abbrev dktX0_changeLine_7 : List UInt8 := dkwX0_changeLine_7 ++ []
def dkwX0_changeLine_6 : List UInt8 := [180, 0, 178, 4, 96, 181, 0, 178, 42, 25, 6, 25, 6, 180, 0, 130, 27, 182, 0, 96, 192, 0, 133]
abbrev dktX0_changeLine_6 : List UInt8 := dkwX0_changeLine_6 ++ dktX0_changeLine_7
def dkwX0_changeLine_5 : List UInt8 := [28, 182, 0, 162, 21, 4, 181, 0, 175, 25, 6, 180, 0, 130, 27, 182, 0, 96, 192, 0, 133, 89]
abbrev dktX0_changeLine_5 : List UInt8 := dkwX0_changeLine_5 ++ dktX0_changeLine_6
def dkwX0_changeLine_4 : List UInt8 := [172, 42, 180, 0, 22, 182, 0, 67, 58, 6, 25, 6, 27, 28, 182, 0, 162, 29, 181, 0, 172, 25, 6, 27]
abbrev dktX0_changeLine_4 : List UInt8 := dkwX0_changeLine_4 ++ dktX0_changeLine_5
def dkwX0_changeLine_3 : List UInt8 := [16, 252, 172, 25, 5, 180, 0, 172, 29, 160, 0, 16, 25, 5, 180, 0, 175, 21, 4, 160, 0, 6, 16, 251]
abbrev dktX0_changeLine_3 : List UInt8 := dkwX0_changeLine_3 ++ dktX0_changeLine_4
def dkwX0_changeLine_2 : List UInt8 := [182, 0, 147, 153, 0, 21, 29, 25, 5, 180, 0, 166, 161, 0, 12, 29, 25, 5, 180, 0, 169, 162, 0, 6]
abbrev dktX0_changeLine_2 : List UInt8 := dkwX0_changeLine_2 ++ dktX0_changeLine_3
def dkwX0_changeLine_1 : List UInt8 := [184, 0, 144, 154, 0, 6, 16, 254, 172, 42, 180, 0, 22, 27, 28, 182, 0, 162, 58, 5, 42, 27]
abbrev dktX0_changeLine_1 : List UInt8 := dkwX0_changeLine_1 ++ dktX0_changeLine_2
def dkwX0_changeLine_0 : List UInt8 := [42, 180, 0, 22, 27, 28, 182, 0, 158, 154, 0, 5, 2, 172, 29, 184, 0, 141, 153, 0, 11, 21, 4]
abbrev dktX0_changeLine_0 : List UInt8 := dkwX0_changeLine_0 ++ dktX0_changeLine_1
theorem dksX0_changeLine_0 : cX0_changeLine.data.toList.drop 0 = dktX0_changeLine_0 := by decide +kernel
theorem dksX0_changeLine_1 : cX0_changeLine.data.toList.drop 23 = dktX0_changeLine_1 := dk_seg dksX0_changeLine_0 23 rfl rfl
theorem dksX0_changeLine_2 : cX0_changeLine.data.toList.drop 45 = dktX0_changeLine_2 := dk_seg dksX0_changeLine_1 22 rfl rfl
theorem dksX0_changeLine_3 : cX0_changeLine.data.toList.drop 69 = dktX0_changeLine_3 := dk_seg dksX0_changeLine_2 24 rfl rfl
theorem dksX0_changeLine_4 : cX0_changeLine.data.toList.drop 93 = dktX0_changeLine_4 := dk_seg dksX0_changeLine_3 24 rfl rfl
theorem dksX0_changeLine_5 : cX0_changeLine.data.toList.drop 117 = dktX0_changeLine_5 := dk_seg dksX0_changeLine_4 24 rfl rfl
theorem dksX0_changeLine_6 : cX0_changeLine.data.toList.drop 139 = dktX0_changeLine_6 := dk_seg dksX0_changeLine_5 22 rfl rfl
theorem dksX0_changeLine_7 : cX0_changeLine.data.toList.drop 162 = dktX0_changeLine_7 := dk_seg dksX0_changeLine_6 23 rfl rfl
theorem dX0_changeLine_0 : decode cX0_changeLine 0 = .ok (.aload_n 0, 1) := dk_42 (dk_at dksX0_changeLine_0 0 rfl rfl)
theorem dX0_changeLine_1 : decode cX0_changeLine 1 = .ok (.getfield 22, 3) := dk_180 0 22 (dk_at dksX0_changeLine_0 1 rfl rfl)
theorem dX0_changeLine_4 : decode cX0_changeLine 4 = .ok (.iload_n 1, 1) := dk_27 (dk_at dksX0_changeLine_0 4 rfl rfl)
theorem dX0_changeLine_5 : decode cX0_changeLine 5 = .ok (.iload_n 2, 1) := dk_28 (dk_at dksX0_changeLine_0 5 rfl rfl)
theorem dX0_changeLine_6 : decode cX0_changeLine 6 = .ok (.invokevirtual 158, 3) := dk_182 0 158 (dk_at dksX0_changeLine_0 6 rfl rfl)
theorem dX0_changeLine_9 : decode cX0_changeLine 9 = .ok (.ifCond .ne 5, 3) := dk_154 0 5 (dk_at dksX0_changeLine_0 9 rfl rfl)
theorem dX0_changeLine_12 : decode cX0_changeLine 12 = .ok (.iconst (-1), 1) := dk_2 (dk_at dksX0_changeLine_0 12 rfl rfl)
theorem dX0_changeLine_13 : decode cX0_changeLine 13 = .ok (.ireturn, 1) := dk_172 (dk_at dksX0_changeLine_0 13 rfl rfl)
theorem dX0_changeLine_14 : decode cX0_changeLine 14 = .ok (.iload_n 3, 1) := dk_29 (dk_at dksX0_changeLine_0 14 rfl rfl)
theorem dX0_changeLine_15 : decode cX0_changeLine 15 = .ok (.invokestatic 141, 3) := dk_184 0 141 (dk_at dksX0_changeLine_0 15 rfl rfl)
theorem dX0_changeLine_18 : decode cX0_changeLine 18 = .ok (.ifCond .eq 11, 3) := dk_153 0 11 (dk_at dksX0_changeLine_0 18 rfl rfl)
theorem dX0_changeLine_21 : decode cX0_changeLine 21 = .ok (.iload 4, 2) := dk_21 4 (dk_at dksX0_changeLine_0 21 rfl rfl)
theorem dX0_changeLine_23 : decode cX0_changeLine 23 = .ok (.invokestatic 144, 3) := dk_184 0 144 (dk_at dksX0_changeLine_1 0 rfl rfl)
theorem dX0_changeLine_26 : decode cX0_changeLine 26 = .ok (.ifCond .ne 6, 3) := dk_154 0 6 (dk_at dksX0_changeLine_1 3 rfl rfl)
theorem dX0_changeLine_29 : decode cX0_changeLine 29 = .ok (.bipush (-2), 2) := dk_16 254 (dk_at dksX0_changeLine_1 6 rfl rfl)
theorem dX0_changeLine_31 : decode cX0_changeLine 31 = .ok (.ireturn, 1) := dk_172 (dk_at dksX0_changeLine_1 8 rfl rfl)
theorem dX0_changeLine_32 : decode cX0_changeLine 32 = .ok (.aload_n 0, 1) := dk_42 (dk_at dksX0_changeLine_1 9 rfl rfl)
theorem dX0_changeLine_33 : decode cX0_changeLine 33 = .ok (.getfield 22, 3) := dk_180 0 22 (dk_at dksX0_changeLine_1 10 rfl rfl)
theorem dX0_changeLine_36 : decode cX0_changeLine 36 = .ok (.iload_n 1, 1) := dk_27 (dk_at dksX0_changeLine_1 13 rfl rfl)
theorem dX0_changeLine_37 : decode cX0_changeLine 37 = .ok (.iload_n 2, 1) := dk_28 (dk_at dksX0_changeLine_1 14 rfl rfl)
theorem dX0_changeLine_38 : decode cX0_changeLine 38 = .ok (.invokevirtual 162, 3) := dk_182 0 162 (dk_at dksX0_changeLine_1 15 rfl rfl)
theorem dX0_changeLine_41 : decode cX0_changeLine 41 = .ok (.astore 5, 2) := dk_58 5 (dk_at dksX0_changeLine_1 18 rfl rfl)
theorem dX0_changeLine_43 : decode cX0_changeLine 43 = .ok (.aload_n 0, 1) := dk_42 (dk_at dksX0_changeLine_1 20 rfl rfl)
theorem dX0_changeLine_44 : decode cX0_changeLine 44 = .ok (.iload_n 1, 1) := dk_27 (dk_at dksX0_changeLine_1 21 rfl rfl)
theorem dX0_changeLine_45 : decode cX0_changeLine 45 = .ok (.invokevirtual 147, 3) := dk_182 0 147 (dk_at dksX0_changeLine_2 0 rfl rfl)
theorem dX0_changeLine_48 : decode cX0_changeLine 48 = .ok (.ifCond .eq 21, 3) := dk_153 0 21 (dk_at dksX0_changeLine_2 3 rfl rfl)
theorem dX0_changeLine_51 : decode cX0_changeLine 51 = .ok (.iload_n 3, 1) := dk_29 (dk_at dksX0_changeLine_2 6 rfl rfl)
theorem dX0_changeLine_52 : decode cX0_changeLine 52 = .ok (.aload 5, 2) := dk_25 5 (dk_at dksX0_changeLine_2 7 rfl rfl)
theorem dX0_changeLine_54 : decode cX0_changeLine 54 = .ok (.getfield 166, 3) := dk_180 0 166 (dk_at dksX0_changeLine_2 9 rfl rfl)
theorem dX0_changeLine_57 : decode cX0_changeLine 57 = .ok (.if_icmp .lt 12, 3) := dk_161 0 12 (dk_at dksX0_changeLine_2 12 rfl rfl)
theorem dX0_changeLine_60 : decode cX0_changeLine 60 = .ok (.iload_n 3, 1) := dk_29 (dk_at dksX0_changeLine_2 15 rfl rfl)
theorem dX0_changeLine_61 : decode cX0_changeLine 61 = .ok (.aload 5, 2) := dk_25 5 (dk_at dksX0_changeLine_2 16 rfl rfl)
theorem dX0_changeLine_63 : decode cX0_changeLine 63 = .ok (.getfield 169, 3) := dk_180 0 169 (dk_at dksX0_changeLine_2 18 rfl rfl)
theorem dX0_changeLine_66 : decode cX0_changeLine 66 = .ok (.if_icmp .ge 6, 3) := dk_162 0 6 (dk_at dksX0_changeLine_2 21 rfl rfl)
theorem dX0_changeLine_69 : decode cX0_changeLine 69 = .ok (.bipush (-4), 2) := dk_16 252 (dk_at dksX0_changeLine_3 0 rfl rfl)
theorem dX0_changeLine_71 : decode cX0_changeLine 71 = .ok (.ireturn, 1) := dk_172 (dk_at dksX0_changeLine_3 2 rfl rfl)
theorem dX0_changeLine_72 : decode cX0_changeLine 72 = .ok (.aload 5, 2) := dk_25 5 (dk_at dksX0_changeLine_3 3 rfl rfl)
theorem dX0_changeLine_74 : decode cX0_changeLine 74 = .ok (.getfield 172, 3) := dk_180 0 172 (dk_at dksX0_changeLine_3 5 rfl rfl)
theorem dX0_changeLine_77 : decode cX0_changeLine 77 = .ok (.iload_n 3, 1) := dk_29 (dk_at dksX0_changeLine_3 8 rfl rfl)
theorem dX0_changeLine_78 : decode cX0_changeLine 78 = .ok (.if_icmp .ne 16, 3) := dk_160 0 16 (dk_at dksX0_changeLine_3 9 rfl rfl)
theorem dX0_changeLine_81 : decode cX0_changeLine 81 = .ok (.aload 5, 2) := dk_25 5 (dk_at dksX0_changeLine_3 12 rfl rfl)
theorem dX0_changeLine_83 : decode cX0_changeLine 83 = .ok (.getfield 175, 3) := dk_180 0 175 (dk_at dksX0_changeLine_3 14 rfl rfl)
theorem dX0_changeLine_86 : decode cX0_changeLine 86 = .ok (.iload 4, 2) := dk_21 4 (dk_at dksX0_changeLine_3 17 rfl rfl)
theorem dX0_changeLine_88 : decode cX0_changeLine 88 = .ok (.if_icmp .ne 6, 3) := dk_160 0 6 (dk_at dksX0_changeLine_3 19 rfl rfl)
theorem dX0_changeLine_91 : decode cX0_changeLine 91 = .ok (.bipush (-5), 2) := dk_16 251 (dk_at dksX0_changeLine_3 22 rfl rfl)
theorem dX0_changeLine_93 : decode cX0_changeLine 93 = .ok (.ireturn, 1) := dk_172 (dk_at dksX0_changeLine_4 0 rfl rfl)
theorem dX0_changeLine_94 : decode cX0_changeLine 94 = .ok (.aload_n 0, 1) := dk_42 (dk_at dksX0_changeLine_4 1 rfl rfl)
theorem dX0_changeLine_95 : decode cX0_changeLine 95 = .ok (.getfield 22, 3) := dk_180 0 22 (dk_at dksX0_changeLine_4 2 rfl rfl)
theorem dX0_changeLine_98 : decode cX0_changeLine 98 = .ok (.invokevirtual 67, 3) := dk_182 0 67 (dk_at dksX0_changeLine_4 5 rfl rfl)
theorem dX0_changeLine_101 : decode cX0_changeLine 101 = .ok (.astore 6, 2) := dk_58 6 (dk_at dksX0_changeLine_4 8 rfl rfl)
theorem dX0_changeLine_103 : decode cX0_changeLine 103 = .ok (.aload 6, 2) := dk_25 6 (dk_at dksX0_changeLine_4 10 rfl rfl)
theorem dX0_changeLine_105 : decode cX0_changeLine 105 = .ok (.iload_n 1, 1) := dk_27 (dk_at dksX0_changeLine_4 12 rfl rfl)
theorem dX0_changeLine_106 : decode cX0_changeLine 106 = .ok (.iload_n 2, 1) := dk_28 (dk_at dksX0_changeLine_4 13 rfl rfl)
theorem dX0_changeLine_107 : decode cX0_changeLine 107 = .ok (.invokevirtual 162, 3) := dk_182 0 162 (dk_at dksX0_changeLine_4 14 rfl rfl)
theorem dX0_changeLine_110 : decode cX0_changeLine 110 = .ok (.iload_n 3, 1) := dk_29 (dk_at dksX0_changeLine_4 17 rfl rfl)
theorem dX0_changeLine_111 : decode cX0_changeLine 111 = .ok (.putfield 172, 3) := dk_181 0 172 (dk_at dksX0_changeLine_4 18 rfl rfl)
theorem dX0_changeLine_114 : decode cX0_changeLine 114 = .ok (.aload 6, 2) := dk_25 6 (dk_at dksX0_changeLine_4 21 rfl rfl)
theorem dX0_changeLine_116 : decode cX0_changeLine 116 = .ok (.iload_n 1, 1) := dk_27 (dk_at dksX0_changeLine_4 23 rfl rfl)
theorem dX0_changeLine_117 : decode cX0_changeLine 117 = .ok (.iload_n 2, 1) := dk_28 (dk_at dksX0_changeLine_5 0 rfl rfl)
theorem dX0_changeLine_118 : decode cX0_changeLine 118 = .ok (.invokevirtual 162, 3) := dk_182 0 162 (dk_at dksX0_changeLine_5 1 rfl rfl)
theorem dX0_changeLine_121 : decode cX0_changeLine 121 = .ok (.iload 4, 2) := dk_21 4 (dk_at dksX0_changeLine_5 4 rfl rfl)
theorem dX0_changeLine_123 : decode cX0_changeLine 123 = .ok (.putfield 175, 3) := dk_181 0 175 (dk_at dksX0_changeLine_5 6 rfl rfl)
theorem dX0_changeLine_126 : decode cX0_changeLine 126 = .ok (.aload 6, 2) := dk_25 6 (dk_at dksX0_changeLine_5 9 rfl rfl)
theorem dX0_changeLine_128 : decode cX0_changeLine 128 = .ok (.getfield 130, 3) := dk_180 0 130 (dk_at dksX0_changeLine_5 11 rfl rfl)
theorem dX0_changeLine_131 : decode cX0_changeLine 131 = .ok (.iload_n 1, 1) := dk_27 (dk_at dksX0_changeLine_5 14 rfl rfl)
theorem dX0_changeLine_132 : decode cX0_changeLine 132 = .ok (.invokevirtual 96, 3) := dk_182 0 96 (dk_at dksX0_changeLine_5 15 rfl rfl)
theorem dX0_changeLine_135 : decode cX0_changeLine 135 = .ok (.checkcast 133, 3) := dk_192 0 133 (dk_at dksX0_changeLine_5 18 rfl rfl)
theorem dX0_changeLine_138 : decode cX0_changeLine 138 = .ok (.dup, 1) := dk_89 (dk_at dksX0_changeLine_5 21 rfl rfl)
theorem dX0_changeLine_139 : decode cX0_changeLine 139 = .ok (.getfield 178, 3) := dk_180 0 178 (dk_at dksX0_changeLine_6 0 rfl rfl)
theorem dX0_changeLine_142 : decode cX0_changeLine 142 = .ok (.iconst 1, 1) := dk_4 (dk_at dksX0_changeLine_6 3 rfl rfl)
theorem dX0_changeLine_143 : decode cX0_changeLine 143 = .ok (.iadd, 1) := dk_96 (dk_at dksX0_changeLine_6 4 rfl rfl)
theorem dX0_changeLine_144 : decode cX0_changeLine 144 = .ok (.putfield 178, 3) := dk_181 0 178 (dk_at dksX0_changeLine_6 5 rfl rfl)
theorem dX0_changeLine_147 : decode cX0_changeLine 147 = .ok (.aload_n 0, 1) := dk_42 (dk_at dksX0_changeLine_6 8 rfl rfl)
theorem dX0_changeLine_148 : decode cX0_changeLine 148 = .ok (.aload 6, 2) := dk_25 6 (dk_at dksX0_changeLine_6 9 rfl rfl)
theorem dX0_changeLine_150 : decode cX0_changeLine 150 = .ok (.aload 6, 2) := dk_25 6 (dk_at dksX0_changeLine_6 11 rfl rfl)
theorem dX0_changeLine_152 : decode cX0_changeLine 152 = .ok (.getfield 130, 3) := dk_180 0 130 (dk_at dksX0_changeLine_6 13 rfl rfl)
theorem dX0_changeLine_155 : decode cX0_changeLine 155 = .ok (.iload_n 1, 1) := dk_27 (dk_at dksX0_changeLine_6 16 rfl rfl)
theorem dX0_changeLine_156 : decode cX0_changeLine 156 = .ok (.invokevirtual 96, 3) := dk_182 0 96 (dk_at dksX0_changeLine_6 17 rfl rfl)
theorem dX0_changeLine_159 : decode cX0_changeLine 159 = .ok (.checkcast 133, 3) := dk_192 0 133 (dk_at dksX0_changeLine_6 20 rfl rfl)
theorem dX0_changeLine_162 : decode cX0_changeLine 162 = .ok (.getfield 178, 3) := dk_180 0 178 (dk_at dksX0_changeLine_7 0 rfl rfl)
theorem dX0_changeLine_165 : decode cX0_changeLine 165 = .ok (.invokevirtual 78, 3) := dk_182 0 78 (dk_at dksX0_changeLine_7 3 rfl rfl)
theorem dX0_changeLine_168 : decode cX0_changeLine 168 = .ok (.ireturn, 1) := dk_172 (dk_at dksX0_changeLine_7 6 rfl rfl)
abbrev cX0_close : ByteArray := prog_1_method_19_code
def yX0_close : MethodName := ⟨RX0, "close", "(I)I"⟩
def dkwX0_close_2 : List UInt8 := [167, 0, 5, 16, 252, 172]
abbrev dktX0_close_2 : List UInt8 := dkwX0_close_2 ++ []
def dkwX0_close_1 : List UInt8 := [42, 27, 4, 42, 180, 0, 22, 180, 0, 130, 27, 182, 0, 96, 192, 0, 133, 182, 0, 181, 182, 0, 184]
abbrev dktX0_close_1 : List UInt8 := dkwX0_close_1 ++ dktX0_close_2
def dkwX0_close_0 : List UInt8 := [42, 180, 0, 22, 180, 0, 130, 27, 182, 0, 82, 154, 0, 5, 2, 172, 42, 27, 182, 0, 147, 153, 0, 29]
abbrev dktX0_close_0 : List UInt8 := dkwX0_close_0 ++ dktX0_close_1
theorem dksX0_close_0 : cX0_close.data.toList.drop 0 = dktX0_close_0 := by decide +kernel
theorem dksX0_close_1 : cX0_close.data.toList.drop 24 = dktX0_close_1 := dk_seg dksX0_close_0 24 rfl rfl
theorem dksX0_close_2 : cX0_close.data.toList.drop 47 = dktX0_close_2 := dk_seg dksX0_close_1 23 rfl rfl
theorem dX0_close_0 : decode cX0_close 0 = .ok (.aload_n 0, 1) := dk_42 (dk_at dksX0_close_0 0 rfl rfl)
theorem dX0_close_1 : decode cX0_close 1 = .ok (.getfield 22, 3) := dk_180 0 22 (dk_at dksX0_close_0 1 rfl rfl)
theorem dX0_close_4 : decode cX0_close 4 = .ok (.getfield 130, 3) := dk_180 0 130 (dk_at dksX0_close_0 4 rfl rfl)
theorem dX0_close_7 : decode cX0_close 7 = .ok (.iload_n 1, 1) := dk_27 (dk_at dksX0_close_0 7 rfl rfl)
theorem dX0_close_8 : decode cX0_close 8 = .ok (.invokevirtual 82, 3) := dk_182 0 82 (dk_at dksX0_close_0 8 rfl rfl)
theorem dX0_close_11 : decode cX0_close 11 = .ok (.ifCond .ne 5, 3) := dk_154 0 5 (dk_at dksX0_close_0 11 rfl rfl)
theorem dX0_close_14 : decode cX0_close 14 = .ok (.iconst (-1), 1) := dk_2 (dk_at dksX0_close_0 14 rfl rfl)
theorem dX0_close_15 : decode cX0_close 15 = .ok (.ireturn, 1) := dk_172 (dk_at dksX0_close_0 15 rfl rfl)
theorem dX0_close_16 : decode cX0_close 16 = .ok (.aload_n 0, 1) := dk_42 (dk_at dksX0_close_0 16 rfl rfl)
theorem dX0_close_17 : decode cX0_close 17 = .ok (.iload_n 1, 1) := dk_27 (dk_at dksX0_close_0 17 rfl rfl)
theorem dX0_close_18 : decode cX0_close 18 = .ok (.invokevirtual 147, 3) := dk_182 0 147 (dk_at dksX0_close_0 18 rfl rfl)
theorem dX0_close_21 : decode cX0_close 21 = .ok (.ifCond .eq 29, 3) := dk_153 0 29 (dk_at dksX0_close_0 21 rfl rfl)
theorem dX0_close_24 : decode cX0_close 24 = .ok (.aload_n 0, 1) := dk_42 (dk_at dksX0_close_1 0 rfl rfl)
theorem dX0_close_25 : decode cX0_close 25 = .ok (.iload_n 1, 1) := dk_27 (dk_at dksX0_close_1 1 rfl rfl)
theorem dX0_close_26 : decode cX0_close 26 = .ok (.iconst 1, 1) := dk_4 (dk_at dksX0_close_1 2 rfl rfl)
theorem dX0_close_27 : decode cX0_close 27 = .ok (.aload_n 0, 1) := dk_42 (dk_at dksX0_close_1 3 rfl rfl)
theorem dX0_close_28 : decode cX0_close 28 = .ok (.getfield 22, 3) := dk_180 0 22 (dk_at dksX0_close_1 4 rfl rfl)
theorem dX0_close_31 : decode cX0_close 31 = .ok (.getfield 130, 3) := dk_180 0 130 (dk_at dksX0_close_1 7 rfl rfl)
theorem dX0_close_34 : decode cX0_close 34 = .ok (.iload_n 1, 1) := dk_27 (dk_at dksX0_close_1 10 rfl rfl)
theorem dX0_close_35 : decode cX0_close 35 = .ok (.invokevirtual 96, 3) := dk_182 0 96 (dk_at dksX0_close_1 11 rfl rfl)
theorem dX0_close_38 : decode cX0_close 38 = .ok (.checkcast 133, 3) := dk_192 0 133 (dk_at dksX0_close_1 14 rfl rfl)
theorem dX0_close_41 : decode cX0_close 41 = .ok (.invokevirtual 181, 3) := dk_182 0 181 (dk_at dksX0_close_1 17 rfl rfl)
theorem dX0_close_44 : decode cX0_close 44 = .ok (.invokevirtual 184, 3) := dk_182 0 184 (dk_at dksX0_close_1 20 rfl rfl)
theorem dX0_close_47 : decode cX0_close 47 = .ok (.goto 5, 3) := dk_167 0 5 (dk_at dksX0_close_2 0 rfl rfl)
theorem dX0_close_50 : decode cX0_close 50 = .ok (.bipush (-4), 2) := dk_16 252 (dk_at dksX0_close_2 3 rfl rfl)
theorem dX0_close_52 : decode cX0_close 52 = .ok (.ireturn, 1) := dk_172 (dk_at dksX0_close_2 5 rfl rfl)
abbrev cX0_setState : ByteArray := prog_1_method_18_code
def yX0_setState : MethodName := ⟨RX0, "setState", "(III)I"⟩
def dkwX0_setState_1 : List UInt8 := [181, 0, 138, 42, 25, 4, 29, 182, 0, 78, 172]
abbrev dktX0_setState_1 : List UInt8 := dkwX0_setState_1 ++ []
def dkwX0_setState_0 : List UInt8 := [42, 180, 0, 22, 182, 0, 67, 58, 4, 25, 4, 180, 0, 130, 27, 182, 0, 96, 192, 0, 133, 28]
abbrev dktX0_setState_0 : List UInt8 := dkwX0_setState_0 ++ dktX0_setState_1
theorem dksX0_setState_0 : cX0_setState.data.toList.drop 0 = dktX0_setState_0 := by decide +kernel
theorem dksX0_setState_1 : cX0_setState.data.toList.drop 22 = dktX0_setState_1 := dk_seg dksX0_setState_0 22 rfl rfl
theorem dX0_setState_0 : decode cX0_setState 0 = .ok (.aload_n 0, 1) := dk_42 (dk_at dksX0_setState_0 0 rfl rfl)
theorem dX0_setState_1 : decode cX0_setState 1 = .ok (.getfield 22, 3) := dk_180 0 22 (dk_at dksX0_setState_0 1 rfl rfl)
theorem dX0_setState_4 : decode cX0_setState 4 = .ok (.invokevirtual 67, 3) := dk_182 0 67 (dk_at dksX0_setState_0 4 rfl rfl)
theorem dX0_setState_7 : decode cX0_setState 7 = .ok (.astore 4, 2) := dk_58 4 (dk_at dksX0_setState_0 7 rfl rfl)
theorem dX0_setState_9 : decode cX0_setState 9 = .ok (.aload 4, 2) := dk_25 4 (dk_at dksX0_setState_0 9 rfl rfl)
theorem dX0_setState_11 : decode cX0_setState 11 = .ok (.getfield 130, 3) := dk_180 0 130 (dk_at dksX0_setState_0 11 rfl rfl)
theorem dX0_setState_14 : decode cX0_setState 14 = .ok (.iload_n 1, 1) := dk_27 (dk_at dksX0_setState_0 14 rfl rfl)
theorem dX0_setState_15 : decode cX0_setState 15 = .ok (.invokevirtual 96, 3) := dk_182 0 96 (dk_at dksX0_setState_0 15 rfl rfl)
theorem dX0_setState_18 : decode cX0_setState 18 = .ok (.checkcast 133, 3) := dk_192 0 133 (dk_at dksX0_setState_0 18 rfl rfl)
theorem dX0_setState_21 : decode cX0_setState 21 = .ok (.iload_n 2, 1) := dk_28 (dk_at dksX0_setState_0 21 rfl rfl)
theorem dX0_setState_22 : decode cX0_setState 22 = .ok (.putfield 138, 3) := dk_181 0 138 (dk_at dksX0_setState_1 0 rfl rfl)
theorem dX0_setState_25 : decode cX0_setState 25 = .ok (.aload_n 0, 1) := dk_42 (dk_at dksX0_setState_1 3 rfl rfl)
theorem dX0_setState_26 : decode cX0_setState 26 = .ok (.aload 4, 2) := dk_25 4 (dk_at dksX0_setState_1 4 rfl rfl)
theorem dX0_setState_28 : decode cX0_setState 28 = .ok (.iload_n 3, 1) := dk_29 (dk_at dksX0_setState_1 6 rfl rfl)
theorem dX0_setState_29 : decode cX0_setState 29 = .ok (.invokevirtual 78, 3) := dk_182 0 78 (dk_at dksX0_setState_1 7 rfl rfl)
theorem dX0_setState_32 : decode cX0_setState 32 = .ok (.ireturn, 1) := dk_172 (dk_at dksX0_setState_1 10 rfl rfl)
abbrev cX0_cancel : ByteArray := prog_1_method_20_code
def yX0_cancel : MethodName := ⟨RX0, "cancel", "(I)I"⟩
def dkwX0_cancel_2 : List UInt8 := [5, 44, 180, 0, 150, 182, 0, 64, 182, 0, 184, 167, 0, 5, 16, 252, 172]
abbrev dktX0_cancel_2 : List UInt8 := dkwX0_cancel_2 ++ []
def dkwX0_cancel_1 : List UInt8 := [182, 0, 96, 192, 0, 133, 77, 42, 27, 182, 0, 147, 153, 0, 26, 44, 182, 0, 188, 154, 0, 19, 42, 27]
abbrev dktX0_cancel_1 : List UInt8 := dkwX0_cancel_1 ++ dktX0_cancel_2
def dkwX0_cancel_0 : List UInt8 := [42, 180, 0, 22, 180, 0, 130, 27, 182, 0, 82, 154, 0, 5, 2, 172, 42, 180, 0, 22, 180, 0, 130, 27]
abbrev dktX0_cancel_0 : List UInt8 := dkwX0_cancel_0 ++ dktX0_cancel_1
theorem dksX0_cancel_0 : cX0_cancel.data.toList.drop 0 = dktX0_cancel_0 := by decide +kernel
theorem dksX0_cancel_1 : cX0_cancel.data.toList.drop 24 = dktX0_cancel_1 := dk_seg dksX0_cancel_0 24 rfl rfl
theorem dksX0_cancel_2 : cX0_cancel.data.toList.drop 48 = dktX0_cancel_2 := dk_seg dksX0_cancel_1 24 rfl rfl
theorem dX0_cancel_0 : decode cX0_cancel 0 = .ok (.aload_n 0, 1) := dk_42 (dk_at dksX0_cancel_0 0 rfl rfl)
theorem dX0_cancel_1 : decode cX0_cancel 1 = .ok (.getfield 22, 3) := dk_180 0 22 (dk_at dksX0_cancel_0 1 rfl rfl)
theorem dX0_cancel_4 : decode cX0_cancel 4 = .ok (.getfield 130, 3) := dk_180 0 130 (dk_at dksX0_cancel_0 4 rfl rfl)
theorem dX0_cancel_7 : decode cX0_cancel 7 = .ok (.iload_n 1, 1) := dk_27 (dk_at dksX0_cancel_0 7 rfl rfl)
theorem dX0_cancel_8 : decode cX0_cancel 8 = .ok (.invokevirtual 82, 3) := dk_182 0 82 (dk_at dksX0_cancel_0 8 rfl rfl)
theorem dX0_cancel_11 : decode cX0_cancel 11 = .ok (.ifCond .ne 5, 3) := dk_154 0 5 (dk_at dksX0_cancel_0 11 rfl rfl)
theorem dX0_cancel_14 : decode cX0_cancel 14 = .ok (.iconst (-1), 1) := dk_2 (dk_at dksX0_cancel_0 14 rfl rfl)
theorem dX0_cancel_15 : decode cX0_cancel 15 = .ok (.ireturn, 1) := dk_172 (dk_at dksX0_cancel_0 15 rfl rfl)
theorem dX0_cancel_16 : decode cX0_cancel 16 = .ok (.aload_n 0, 1) := dk_42 (dk_at dksX0_cancel_0 16 rfl rfl)
theorem dX0_cancel_17 : decode cX0_cancel 17 = .ok (.getfield 22, 3) := dk_180 0 22 (dk_at dksX0_cancel_0 17 rfl rfl)
theorem dX0_cancel_20 : decode cX0_cancel 20 = .ok (.getfield 130, 3) := dk_180 0 130 (dk_at dksX0_cancel_0 20 rfl rfl)
theorem dX0_cancel_23 : decode cX0_cancel 23 = .ok (.iload_n 1, 1) := dk_27 (dk_at dksX0_cancel_0 23 rfl rfl)
theorem dX0_cancel_24 : decode cX0_cancel 24 = .ok (.invokevirtual 96, 3) := dk_182 0 96 (dk_at dksX0_cancel_1 0 rfl rfl)
theorem dX0_cancel_27 : decode cX0_cancel 27 = .ok (.checkcast 133, 3) := dk_192 0 133 (dk_at dksX0_cancel_1 3 rfl rfl)
theorem dX0_cancel_30 : decode cX0_cancel 30 = .ok (.astore_n 2, 1) := dk_77 (dk_at dksX0_cancel_1 6 rfl rfl)
theorem dX0_cancel_31 : decode cX0_cancel 31 = .ok (.aload_n 0, 1) := dk_42 (dk_at dksX0_cancel_1 7 rfl rfl)
theorem dX0_cancel_32 : decode cX0_cancel 32 = .ok (.iload_n 1, 1) := dk_27 (dk_at dksX0_cancel_1 8 rfl rfl)
theorem dX0_cancel_33 : decode cX0_cancel 33 = .ok (.invokevirtual 147, 3) := dk_182 0 147 (dk_at dksX0_cancel_1 9 rfl rfl)
theorem dX0_cancel_36 : decode cX0_cancel 36 = .ok (.ifCond .eq 26, 3) := dk_153 0 26 (dk_at dksX0_cancel_1 12 rfl rfl)
theorem dX0_cancel_39 : decode cX0_cancel 39 = .ok (.aload_n 2, 1) := dk_44 (dk_at dksX0_cancel_1 15 rfl rfl)
theorem dX0_cancel_40 : decode cX0_cancel 40 = .ok (.invokevirtual 188, 3) := dk_182 0 188 (dk_at dksX0_cancel_1 16 rfl rfl)
theorem dX0_cancel_43 : decode cX0_cancel 43 = .ok (.ifCond .ne 19, 3) := dk_154 0 19 (dk_at dksX0_cancel_1 19 rfl rfl)
theorem dX0_cancel_46 : decode cX0_cancel 46 = .ok (.aload_n 0, 1) := dk_42 (dk_at dksX0_cancel_1 22 rfl rfl)
theorem dX0_cancel_47 : decode cX0_cancel 47 = .ok (.iload_n 1, 1) := dk_27 (dk_at dksX0_cancel_1 23 rfl rfl)
theorem dX0_cancel_48 : decode cX0_cancel 48 = .ok (.iconst 2, 1) := dk_5 (dk_at dksX0_cancel_2 0 rfl rfl)
theorem dX0_cancel_49 : decode cX0_cancel 49 = .ok (.aload_n 2, 1) := dk_44 (dk_at dksX0_cancel_2 1 rfl rfl)
theorem dX0_cancel_50 : decode cX0_cancel 50 = .ok (.getfield 150, 3) := dk_180 0 150 (dk_at dksX0_cancel_2 2 rfl rfl)
theorem dX0_cancel_53 : decode cX0_cancel 53 = .ok (.invokevirtual 64, 3) := dk_182 0 64 (dk_at dksX0_cancel_2 5 rfl rfl)
theorem dX0_cancel_56 : decode cX0_cancel 56 = .ok (.invokevirtual 184, 3) := dk_182 0 184 (dk_at dksX0_cancel_2 8 rfl rfl)
theorem dX0_cancel_59 : decode cX0_cancel 59 = .ok (.goto 5, 3) := dk_167 0 5 (dk_at dksX0_cancel_2 11 rfl rfl)
theorem dX0_cancel_62 : decode cX0_cancel 62 = .ok (.bipush (-4), 2) := dk_16 252 (dk_at dksX0_cancel_2 14 rfl rfl)
theorem dX0_cancel_64 : decode cX0_cancel 64 = .ok (.ireturn, 1) := dk_172 (dk_at dksX0_cancel_2 16 rfl rfl)
abbrev cX0_receive : ByteArray := prog_1_method_22_code
def yX0_receive : MethodName := ⟨RX0, "receive", "(IIII)I"⟩
def dkwX0_receive_4 : List UInt8 := [42, 25, 5, 21, 6, 182, 0, 78, 172]
abbrev dktX0_receive_4 : List UInt8 := dkwX0_receive_4 ++ []
def dkwX0_receive_3 : List UInt8 := [16, 252, 172, 42, 180, 0, 22, 182, 0, 67, 58, 5, 25, 5, 27, 28, 29, 21, 4, 182, 0, 204, 54, 6]
abbrev dktX0_receive_3 : List UInt8 := dkwX0_receive_3 ++ dktX0_receive_4
def dkwX0_receive_2 : List UInt8 := [172, 42, 27, 182, 0, 147, 153, 0, 17, 29, 158, 0, 16, 29, 42, 27, 28, 182, 0, 200, 164, 0, 6]
abbrev dktX0_receive_2 : List UInt8 := dkwX0_receive_2 ++ dktX0_receive_3
def dkwX0_receive_1 : List UInt8 := [153, 0, 22, 21, 4, 3, 17, 3, 231, 184, 0, 56, 153, 0, 10, 29, 21, 4, 96, 154, 0, 6, 16, 254]
abbrev dktX0_receive_1 : List UInt8 := dkwX0_receive_1 ++ dktX0_receive_2
def dkwX0_receive_0 : List UInt8 := [42, 180, 0, 22, 27, 28, 182, 0, 158, 154, 0, 5, 2, 172, 29, 3, 17, 3, 231, 184, 0, 56]
abbrev dktX0_receive_0 : List UInt8 := dkwX0_receive_0 ++ dktX0_receive_1
theorem dksX0_receive_0 : cX0_receive.data.toList.drop 0 = dktX0_receive_0 := by decide +kernel
theorem dksX0_receive_1 : cX0_receive.data.toList.drop 22 = dktX0_receive_1 := dk_seg dksX0_receive_0 22 rfl rfl
theorem dksX0_receive_2 : cX0_receive.data.toList.drop 46 = dktX0_receive_2 := dk_seg dksX0_receive_1 24 rfl rfl
theorem dksX0_receive_3 : cX0_receive.data.toList.drop 69 = dktX0_receive_3 := dk_seg dksX0_receive_2 23 rfl rfl
theorem dksX0_receive_4 : cX0_receive.data.toList.drop 93 = dktX0_receive_4 := dk_seg dksX0_receive_3 24 rfl rfl
theorem dX0_receive_0 : decode cX0_receive 0 = .ok (.aload_n 0, 1) := dk_42 (dk_at dksX0_receive_0 0 rfl rfl)
theorem dX0_receive_1 : decode cX0_receive 1 = .ok (.getfield 22, 3) := dk_180 0 22 (dk_at dksX0_receive_0 1 rfl rfl)
theorem dX0_receive_4 : decode cX0_receive 4 = .ok (.iload_n 1, 1) := dk_27 (dk_at dksX0_receive_0 4 rfl rfl)
theorem dX0_receive_5 : decode cX0_receive 5 = .ok (.iload_n 2, 1) := dk_28 (dk_at dksX0_receive_0 5 rfl rfl)
theorem dX0_receive_6 : decode cX0_receive 6 = .ok (.invokevirtual 158, 3) := dk_182 0 158 (dk_at dksX0_receive_0 6 rfl rfl)
theorem dX0_receive_9 : decode cX0_receive 9 = .ok (.ifCond .ne 5, 3) := dk_154 0 5 (dk_at dksX0_receive_0 9 rfl rfl)
theorem dX0_receive_12 : decode cX0_receive 12 = .ok (.iconst (-1), 1) := dk_2 (dk_at dksX0_receive_0 12 rfl rfl)
theorem dX0_receive_13 : decode cX0_receive 13 = .ok (.ireturn, 1) := dk_172 (dk_at dksX0_receive_0 13 rfl rfl)
theorem dX0_receive_14 : decode cX0_receive 14 = .ok (.iload_n 3, 1) := dk_29 (dk_at dksX0_receive_0 14 rfl rfl)
theorem dX0_receive_15 : decode cX0_receive 15 = .ok (.iconst 0, 1) := dk_3 (dk_at dksX0_receive_0 15 rfl rfl)
theorem dX0_receive_16 : decode cX0_receive 16 = .ok (.sipush 999, 3) := dk_17 3 231 (dk_at dksX0_receive_0 16 rfl rfl)
theorem dX0_receive_19 : decode cX0_receive 19 = .ok (.invokestatic 56, 3) := dk_184 0 56 (dk_at dksX0_receive_0 19 rfl rfl)
theorem dX0_receive_22 : decode cX0_receive 22 = .ok (.ifCond .eq 22, 3) := dk_153 0 22 (dk_at dksX0_receive_1 0 rfl rfl)
theorem dX0_receive_25 : decode cX0_receive 25 = .ok (.iload 4, 2) := dk_21 4 (dk_at dksX0_receive_1 3 rfl rfl)
theorem dX0_receive_27 : decode cX0_receive 27 = .ok (.iconst 0, 1) := dk_3 (dk_at dksX0_receive_1 5 rfl rfl)
theorem dX0_receive_28 : decode cX0_receive 28 = .ok (.sipush 999, 3) := dk_17 3 231 (dk_at dksX0_receive_1 6 rfl rfl)
theorem dX0_receive_31 : decode cX0_receive 31 = .ok (.invokestatic 56, 3) := dk_184 0 56 (dk_at dksX0_receive_1 9 rfl rfl)
theorem dX0_receive_34 : decode cX0_receive 34 = .ok (.ifCond .eq 10, 3) := dk_153 0 10 (dk_at dksX0_receive_1 12 rfl rfl)
theorem dX0_receive_37 : decode cX0_receive 37 = .ok (.iload_n 3, 1) := dk_29 (dk_at dksX0_receive_1 15 rfl rfl)
theorem dX0_receive_38 : decode cX0_receive 38 = .ok (.iload 4, 2) := dk_21 4 (dk_at dksX0_receive_1 16 rfl rfl)
theorem dX0_receive_40 : decode cX0_receive 40 = .ok (.iadd, 1) := dk_96 (dk_at dksX0_receive_1 18 rfl rfl)
theorem dX0_receive_41 : decode cX0_receive 41 = .ok (.ifCond .ne 6, 3) := dk_154 0 6 (dk_at dksX0_receive_1 19 rfl rfl)
theorem dX0_receive_44 : decode cX0_receive 44 = .ok (.bipush (-2), 2) := dk_16 254 (dk_at dksX0_receive_1 22 rfl rfl)
theorem dX0_receive_46 : decode cX0_receive 46 = .ok (.ireturn, 1) := dk_172 (dk_at dksX0_receive_2 0 rfl rfl)
theorem dX0_receive_47 : decode cX0_receive 47 = .ok (.aload_n 0, 1) := dk_42 (dk_at dksX0_receive_2 1 rfl rfl)
theorem dX0_receive_48 : decode cX0_receive 48 = .ok (.iload_n 1, 1) := dk_27 (dk_at dksX0_receive_2 2 rfl rfl)
theorem dX0_receive_49 : decode cX0_receive 49 = .ok (.invokevirtual 147, 3) := dk_182 0 147 (dk_at dksX0_receive_2 3 rfl rfl)
theorem dX0_receive_52 : decode cX0_receive 52 = .ok (.ifCond .eq 17, 3) := dk_153 0 17 (dk_at dksX0_receive_2 6 rfl rfl)
theorem dX0_receive_55 : decode cX0_receive 55 = .ok (.iload_n 3, 1) := dk_29 (dk_at dksX0_receive_2 9 rfl rfl)
theorem dX0_receive_56 : decode cX0_receive 56 = .ok (.ifCond .le 16, 3) := dk_158 0 16 (dk_at dksX0_receive_2 10 rfl rfl)
theorem dX0_receive_59 : decode cX0_receive 59 = .ok (.iload_n 3, 1) := dk_29 (dk_at dksX0_receive_2 13 rfl rfl)
theorem dX0_receive_60 : decode cX0_receive 60 = .ok (.aload_n 0, 1) := dk_42 (dk_at dksX0_receive_2 14 rfl rfl)
theorem dX0_receive_61 : decode cX0_receive 61 = .ok (.iload_n 1, 1) := dk_27 (dk_at dksX0_receive_2 15 rfl rfl)
theorem dX0_receive_62 : decode cX0_receive 62 = .ok (.iload_n 2, 1) := dk_28 (dk_at dksX0_receive_2 16 rfl rfl)
theorem dX0_receive_63 : decode cX0_receive 63 = .ok (.invokevirtual 200, 3) := dk_182 0 200 (dk_at dksX0_receive_2 17 rfl rfl)
theorem dX0_receive_66 : decode cX0_receive 66 = .ok (.if_icmp .le 6, 3) := dk_164 0 6 (dk_at dksX0_receive_2 20 rfl rfl)
theorem dX0_receive_69 : decode cX0_receive 69 = .ok (.bipush (-4), 2) := dk_16 252 (dk_at dksX0_receive_3 0 rfl rfl)
theorem dX0_receive_71 : decode cX0_receive 71 = .ok (.ireturn, 1) := dk_172 (dk_at dksX0_receive_3 2 rfl rfl)
theorem dX0_receive_72 : decode cX0_receive 72 = .ok (.aload_n 0, 1) := dk_42 (dk_at dksX0_receive_3 3 rfl rfl)
theorem dX0_receive_73 : decode cX0_receive 73 = .ok (.getfield 22, 3) := dk_180 0 22 (dk_at dksX0_receive_3 4 rfl rfl)
theorem dX0_receive_76 : decode cX0_receive 76 = .ok (.invokevirtual 67, 3) := dk_182 0 67 (dk_at dksX0_receive_3 7 rfl rfl)
theorem dX0_receive_79 : decode cX0_receive 79 = .ok (.astore 5, 2) := dk_58 5 (dk_at dksX0_receive_3 10 rfl rfl)
theorem dX0_receive_81 : decode cX0_receive 81 = .ok (.aload 5, 2) := dk_25 5 (dk_at dksX0_receive_3 12 rfl rfl)
theorem dX0_receive_83 : decode cX0_receive 83 = .ok (.iload_n 1, 1) := dk_27 (dk_at dksX0_receive_3 14 rfl rfl)
theorem dX0_receive_84 : decode cX0_receive 84 = .ok (.iload_n 2, 1) := dk_28 (dk_at dksX0_receive_3 15 rfl rfl)
theorem dX0_receive_85 : decode cX0_receive 85 = .ok (.iload_n 3, 1) := dk_29 (dk_at dksX0_receive_3 16 rfl rfl)
theorem dX0_receive_86 : decode cX0_receive 86 = .ok (.iload 4, 2) := dk_21 4 (dk_at dksX0_receive_3 17 rfl rfl)
theorem dX0_receive_88 : decode cX0_receive 88 = .ok (.invokevirtual 204, 3) := dk_182 0 204 (dk_at dksX0_receive_3 19 rfl rfl)
theorem dX0_receive_91 : decode cX0_receive 91 = .ok (.istore 6, 2) := dk_54 6 (dk_at dksX0_receive_3 22 rfl rfl)
theorem dX0_receive_93 : decode cX0_receive 93 = .ok (.aload_n 0, 1) := dk_42 (dk_at dksX0_receive_4 0 rfl rfl)
theorem dX0_receive_94 : decode cX0_receive 94 = .ok (.aload 5, 2) := dk_25 5 (dk_at dksX0_receive_4 1 rfl rfl)
theorem dX0_receive_96 : decode cX0_receive 96 = .ok (.iload 6, 2) := dk_21 6 (dk_at dksX0_receive_4 3 rfl rfl)
theorem dX0_receive_98 : decode cX0_receive 98 = .ok (.invokevirtual 78, 3) := dk_182 0 78 (dk_at dksX0_receive_4 5 rfl rfl)
theorem dX0_receive_101 : decode cX0_receive 101 = .ok (.ireturn, 1) := dk_172 (dk_at dksX0_receive_4 8 rfl rfl)
abbrev cX0_roomOf : ByteArray := prog_1_method_21_code
def yX0_roomOf : MethodName := ⟨RX0, "roomOf", "(II)I"⟩
def dkwX0_roomOf_1 : List UInt8 := [180, 0, 22, 27, 28, 182, 0, 162, 180, 0, 166, 100, 172]
abbrev dktX0_roomOf_1 : List UInt8 := dkwX0_roomOf_1 ++ []
def dkwX0_roomOf_0 : List UInt8 := [42, 180, 0, 22, 27, 182, 0, 192, 42, 180, 0, 22, 27, 28, 182, 0, 162, 180, 0, 172, 182, 0, 196, 42]
abbrev dktX0_roomOf_0 : List UInt8 := dkwX0_roomOf_0 ++ dktX0_roomOf_1
theorem dksX0_roomOf_0 : cX0_roomOf.data.toList.drop 0 = dktX0_roomOf_0 := by decide +kernel
theorem dksX0_roomOf_1 : cX0_roomOf.data.toList.drop 24 = dktX0_roomOf_1 := dk_seg dksX0_roomOf_0 24 rfl rfl
theorem dX0_roomOf_0 : decode cX0_roomOf 0 = .ok (.aload_n 0, 1) := dk_42 (dk_at dksX0_roomOf_0 0 rfl rfl)
theorem dX0_roomOf_1 : decode cX0_roomOf 1 = .ok (.getfield 22, 3) := dk_180 0 22 (dk_at dksX0_roomOf_0 1 rfl rfl)
theorem dX0_roomOf_4 : decode cX0_roomOf 4 = .ok (.iload_n 1, 1) := dk_27 (dk_at dksX0_roomOf_0 4 rfl rfl)
theorem dX0_roomOf_5 : decode cX0_roomOf 5 = .ok (.invokevirtual 192, 3) := dk_182 0 192 (dk_at dksX0_roomOf_0 5 rfl rfl)
theorem dX0_roomOf_8 : decode cX0_roomOf 8 = .ok (.aload_n 0, 1) := dk_42 (dk_at dksX0_roomOf_0 8 rfl rfl)
theorem dX0_roomOf_9 : decode cX0_roomOf 9 = .ok (.getfield 22, 3) := dk_180 0 22 (dk_at dksX0_roomOf_0 9 rfl rfl)
theorem dX0_roomOf_12 : decode cX0_roomOf 12 = .ok (.iload_n 1, 1) := dk_27 (dk_at dksX0_roomOf_0 12 rfl rfl)
theorem dX0_roomOf_13 : decode cX0_roomOf 13 = .ok (.iload_n 2, 1) := dk_28 (dk_at dksX0_roomOf_0 13 rfl rfl)
theorem dX0_roomOf_14 : decode cX0_roomOf 14 = .ok (.invokevirtual 162, 3) := dk_182 0 162 (dk_at dksX0_roomOf_0 14 rfl rfl)
theorem dX0_roomOf_17 : decode cX0_roomOf 17 = .ok (.getfield 172, 3) := dk_180 0 172 (dk_at dksX0_roomOf_0 17 rfl rfl)
theorem dX0_roomOf_20 : decode cX0_roomOf 20 = .ok (.invokevirtual 196, 3) := dk_182 0 196 (dk_at dksX0_roomOf_0 20 rfl rfl)
theorem dX0_roomOf_23 : decode cX0_roomOf 23 = .ok (.aload_n 0, 1) := dk_42 (dk_at dksX0_roomOf_0 23 rfl rfl)
theorem dX0_roomOf_24 : decode cX0_roomOf 24 = .ok (.getfield 22, 3) := dk_180 0 22 (dk_at dksX0_roomOf_1 0 rfl rfl)
theorem dX0_roomOf_27 : decode cX0_roomOf 27 = .ok (.iload_n 1, 1) := dk_27 (dk_at dksX0_roomOf_1 3 rfl rfl)
theorem dX0_roomOf_28 : decode cX0_roomOf 28 = .ok (.iload_n 2, 1) := dk_28 (dk_at dksX0_roomOf_1 4 rfl rfl)
theorem dX0_roomOf_29 : decode cX0_roomOf 29 = .ok (.invokevirtual 162, 3) := dk_182 0 162 (dk_at dksX0_roomOf_1 5 rfl rfl)
theorem dX0_roomOf_32 : decode cX0_roomOf 32 = .ok (.getfield 166, 3) := dk_180 0 166 (dk_at dksX0_roomOf_1 8 rfl rfl)
theorem dX0_roomOf_35 : decode cX0_roomOf 35 = .ok (.isub, 1) := dk_100 (dk_at dksX0_roomOf_1 11 rfl rfl)
theorem dX0_roomOf_36 : decode cX0_roomOf 36 = .ok (.ireturn, 1) := dk_172 (dk_at dksX0_roomOf_1 12 rfl rfl)
abbrev cX0_giveBack : ByteArray := prog_1_method_23_code
def yX0_giveBack : MethodName := ⟨RX0, "giveBack", "(III)I"⟩
def dkwX0_giveBack_2 : List UInt8 := [182, 0, 67, 58, 4, 25, 4, 27, 28, 29, 182, 0, 208, 54, 5, 42, 25, 4, 21, 5, 182, 0, 78, 172]
abbrev dktX0_giveBack_2 : List UInt8 := dkwX0_giveBack_2 ++ []
def dkwX0_giveBack_1 : List UInt8 := [42, 180, 0, 22, 27, 28, 182, 0, 162, 180, 0, 166, 29, 162, 0, 6, 16, 252, 172, 42, 180, 0, 22]
abbrev dktX0_giveBack_1 : List UInt8 := dkwX0_giveBack_1 ++ dktX0_giveBack_2
def dkwX0_giveBack_0 : List UInt8 := [42, 180, 0, 22, 27, 28, 182, 0, 158, 154, 0, 5, 2, 172, 29, 184, 0, 141, 154, 0, 6, 16, 254, 172]
abbrev dktX0_giveBack_0 : List UInt8 := dkwX0_giveBack_0 ++ dktX0_giveBack_1
theorem dksX0_giveBack_0 : cX0_giveBack.data.toList.drop 0 = dktX0_giveBack_0 := by decide +kernel
theorem dksX0_giveBack_1 : cX0_giveBack.data.toList.drop 24 = dktX0_giveBack_1 := dk_seg dksX0_giveBack_0 24 rfl rfl
theorem dksX0_giveBack_2 : cX0_giveBack.data.toList.drop 47 = dktX0_giveBack_2 := dk_seg dksX0_giveBack_1 23 rfl rfl
theorem dX0_giveBack_0 : decode cX0_giveBack 0 = .ok (.aload_n 0, 1) := dk_42 (dk_at dksX0_giveBack_0 0 rfl rfl)
theorem dX0_giveBack_1 : decode cX0_giveBack 1 = .ok (.getfield 22, 3) := dk_180 0 22 (dk_at dksX0_giveBack_0 1 rfl rfl)
theorem dX0_giveBack_4 : decode cX0_giveBack 4 = .ok (.iload_n 1, 1) := dk_27 (dk_at dksX0_giveBack_0 4 rfl rfl)
theorem dX0_giveBack_5 : decode cX0_giveBack 5 = .ok (.iload_n 2, 1) := dk_28 (dk_at dksX0_giveBack_0 5 rfl rfl)
theorem dX0_giveBack_6 : decode cX0_giveBack 6 = .ok (.invokevirtual 158, 3) := dk_182 0 158 (dk_at dksX0_giveBack_0 6 rfl rfl)
theorem dX0_giveBack_9 : decode cX0_giveBack 9 = .ok (.ifCond .ne 5, 3) := dk_154 0 5 (dk_at dksX0_giveBack_0 9 rfl rfl)
theorem dX0_giveBack_12 : decode cX0_giveBack 12 = .ok (.iconst (-1), 1) := dk_2 (dk_at dksX0_giveBack_0 12 rfl rfl)
theorem dX0_giveBack_13 : decode cX0_giveBack 13 = .ok (.ireturn, 1) := dk_172 (dk_at dksX0_giveBack_0 13 rfl rfl)
theorem dX0_giveBack_14 : decode cX0_giveBack 14 = .ok (.iload_n 3, 1) := dk_29 (dk_at dksX0_giveBack_0 14 rfl rfl)
theorem dX0_giveBack_15 : decode cX0_giveBack 15 = .ok (.invokestatic 141, 3) := dk_184 0 141 (dk_at dksX0_giveBack_0 15 rfl rfl)
theorem dX0_giveBack_18 : decode cX0_giveBack 18 = .ok (.ifCond .ne 6, 3) := dk_154 0 6 (dk_at dksX0_giveBack_0 18 rfl rfl)
theorem dX0_giveBack_21 : decode cX0_giveBack 21 = .ok (.bipush (-2), 2) := dk_16 254 (dk_at dksX0_giveBack_0 21 rfl rfl)
theorem dX0_giveBack_23 : decode cX0_giveBack 23 = .ok (.ireturn, 1) := dk_172 (dk_at dksX0_giveBack_0 23 rfl rfl)
theorem dX0_giveBack_24 : decode cX0_giveBack 24 = .ok (.aload_n 0, 1) := dk_42 (dk_at dksX0_giveBack_1 0 rfl rfl)
theorem dX0_giveBack_25 : decode cX0_giveBack 25 = .ok (.getfield 22, 3) := dk_180 0 22 (dk_at dksX0_giveBack_1 1 rfl rfl)
theorem dX0_giveBack_28 : decode cX0_giveBack 28 = .ok (.iload_n 1, 1) := dk_27 (dk_at dksX0_giveBack_1 4 rfl rfl)
theorem dX0_giveBack_29 : decode cX0_giveBack 29 = .ok (.iload_n 2, 1) := dk_28 (dk_at dksX0_giveBack_1 5 rfl rfl)
theorem dX0_giveBack_30 : decode cX0_giveBack 30 = .ok (.invokevirtual 162, 3) := dk_182 0 162 (dk_at dksX0_giveBack_1 6 rfl rfl)
theorem dX0_giveBack_33 : decode cX0_giveBack 33 = .ok (.getfield 166, 3) := dk_180 0 166 (dk_at dksX0_giveBack_1 9 rfl rfl)
theorem dX0_giveBack_36 : decode cX0_giveBack 36 = .ok (.iload_n 3, 1) := dk_29 (dk_at dksX0_giveBack_1 12 rfl rfl)
theorem dX0_giveBack_37 : decode cX0_giveBack 37 = .ok (.if_icmp .ge 6, 3) := dk_162 0 6 (dk_at dksX0_giveBack_1 13 rfl rfl)
theorem dX0_giveBack_40 : decode cX0_giveBack 40 = .ok (.bipush (-4), 2) := dk_16 252 (dk_at dksX0_giveBack_1 16 rfl rfl)
theorem dX0_giveBack_42 : decode cX0_giveBack 42 = .ok (.ireturn, 1) := dk_172 (dk_at dksX0_giveBack_1 18 rfl rfl)
theorem dX0_giveBack_43 : decode cX0_giveBack 43 = .ok (.aload_n 0, 1) := dk_42 (dk_at dksX0_giveBack_1 19 rfl rfl)
theorem dX0_giveBack_44 : decode cX0_giveBack 44 = .ok (.getfield 22, 3) := dk_180 0 22 (dk_at dksX0_giveBack_1 20 rfl rfl)
theorem dX0_giveBack_47 : decode cX0_giveBack 47 = .ok (.invokevirtual 67, 3) := dk_182 0 67 (dk_at dksX0_giveBack_2 0 rfl rfl)
theorem dX0_giveBack_50 : decode cX0_giveBack 50 = .ok (.astore 4, 2) := dk_58 4 (dk_at dksX0_giveBack_2 3 rfl rfl)
theorem dX0_giveBack_52 : decode cX0_giveBack 52 = .ok (.aload 4, 2) := dk_25 4 (dk_at dksX0_giveBack_2 5 rfl rfl)
theorem dX0_giveBack_54 : decode cX0_giveBack 54 = .ok (.iload_n 1, 1) := dk_27 (dk_at dksX0_giveBack_2 7 rfl rfl)
theorem dX0_giveBack_55 : decode cX0_giveBack 55 = .ok (.iload_n 2, 1) := dk_28 (dk_at dksX0_giveBack_2 8 rfl rfl)
theorem dX0_giveBack_56 : decode cX0_giveBack 56 = .ok (.iload_n 3, 1) := dk_29 (dk_at dksX0_giveBack_2 9 rfl rfl)
theorem dX0_giveBack_57 : decode cX0_giveBack 57 = .ok (.invokevirtual 208, 3) := dk_182 0 208 (dk_at dksX0_giveBack_2 10 rfl rfl)
theorem dX0_giveBack_60 : decode cX0_giveBack 60 = .ok (.istore 5, 2) := dk_54 5 (dk_at dksX0_giveBack_2 13 rfl rfl)
theorem dX0_giveBack_62 : decode cX0_giveBack 62 = .ok (.aload_n 0, 1) := dk_42 (dk_at dksX0_giveBack_2 15 rfl rfl)
theorem dX0_giveBack_63 : decode cX0_giveBack 63 = .ok (.aload 4, 2) := dk_25 4 (dk_at dksX0_giveBack_2 16 rfl rfl)
theorem dX0_giveBack_65 : decode cX0_giveBack 65 = .ok (.iload 5, 2) := dk_21 5 (dk_at dksX0_giveBack_2 18 rfl rfl)
theorem dX0_giveBack_67 : decode cX0_giveBack 67 = .ok (.invokevirtual 78, 3) := dk_182 0 78 (dk_at dksX0_giveBack_2 20 rfl rfl)
theorem dX0_giveBack_70 : decode cX0_giveBack 70 = .ok (.ireturn, 1) := dk_172 (dk_at dksX0_giveBack_2 23 rfl rfl)
abbrev cX0_bill : ByteArray := prog_1_method_25_code
def yX0_bill : MethodName := ⟨RX0, "bill", "(IIIII)I"⟩
def dkwX0_bill_2 : List UInt8 := [28, 4, 189, 0, 218, 89, 3, 187, 0, 218, 89, 29, 21, 4, 21, 5, 183, 0, 220, 83, 182, 0, 223, 172]
abbrev dktX0_bill_2 : List UInt8 := dkwX0_bill_2 ++ []
def dkwX0_bill_1 : List UInt8 := [153, 0, 19, 21, 4, 184, 0, 141, 153, 0, 11, 21, 5, 184, 0, 144, 154, 0, 6, 16, 254, 172, 42, 27]
abbrev dktX0_bill_1 : List UInt8 := dkwX0_bill_1 ++ dktX0_bill_2
def dkwX0_bill_0 : List UInt8 := [42, 180, 0, 22, 28, 29, 182, 0, 158, 154, 0, 5, 2, 172, 27, 3, 17, 3, 231, 184, 0, 56]
abbrev dktX0_bill_0 : List UInt8 := dkwX0_bill_0 ++ dktX0_bill_1
theorem dksX0_bill_0 : cX0_bill.data.toList.drop 0 = dktX0_bill_0 := by decide +kernel
theorem dksX0_bill_1 : cX0_bill.data.toList.drop 22 = dktX0_bill_1 := dk_seg dksX0_bill_0 22 rfl rfl
theorem dksX0_bill_2 : cX0_bill.data.toList.drop 46 = dktX0_bill_2 := dk_seg dksX0_bill_1 24 rfl rfl
theorem dX0_bill_0 : decode cX0_bill 0 = .ok (.aload_n 0, 1) := dk_42 (dk_at dksX0_bill_0 0 rfl rfl)
theorem dX0_bill_1 : decode cX0_bill 1 = .ok (.getfield 22, 3) := dk_180 0 22 (dk_at dksX0_bill_0 1 rfl rfl)
theorem dX0_bill_4 : decode cX0_bill 4 = .ok (.iload_n 2, 1) := dk_28 (dk_at dksX0_bill_0 4 rfl rfl)
theorem dX0_bill_5 : decode cX0_bill 5 = .ok (.iload_n 3, 1) := dk_29 (dk_at dksX0_bill_0 5 rfl rfl)
theorem dX0_bill_6 : decode cX0_bill 6 = .ok (.invokevirtual 158, 3) := dk_182 0 158 (dk_at dksX0_bill_0 6 rfl rfl)
theorem dX0_bill_9 : decode cX0_bill 9 = .ok (.ifCond .ne 5, 3) := dk_154 0 5 (dk_at dksX0_bill_0 9 rfl rfl)
theorem dX0_bill_12 : decode cX0_bill 12 = .ok (.iconst (-1), 1) := dk_2 (dk_at dksX0_bill_0 12 rfl rfl)
theorem dX0_bill_13 : decode cX0_bill 13 = .ok (.ireturn, 1) := dk_172 (dk_at dksX0_bill_0 13 rfl rfl)
theorem dX0_bill_14 : decode cX0_bill 14 = .ok (.iload_n 1, 1) := dk_27 (dk_at dksX0_bill_0 14 rfl rfl)
theorem dX0_bill_15 : decode cX0_bill 15 = .ok (.iconst 0, 1) := dk_3 (dk_at dksX0_bill_0 15 rfl rfl)
theorem dX0_bill_16 : decode cX0_bill 16 = .ok (.sipush 999, 3) := dk_17 3 231 (dk_at dksX0_bill_0 16 rfl rfl)
theorem dX0_bill_19 : decode cX0_bill 19 = .ok (.invokestatic 56, 3) := dk_184 0 56 (dk_at dksX0_bill_0 19 rfl rfl)
theorem dX0_bill_22 : decode cX0_bill 22 = .ok (.ifCond .eq 19, 3) := dk_153 0 19 (dk_at dksX0_bill_1 0 rfl rfl)
theorem dX0_bill_25 : decode cX0_bill 25 = .ok (.iload 4, 2) := dk_21 4 (dk_at dksX0_bill_1 3 rfl rfl)
theorem dX0_bill_27 : decode cX0_bill 27 = .ok (.invokestatic 141, 3) := dk_184 0 141 (dk_at dksX0_bill_1 5 rfl rfl)
theorem dX0_bill_30 : decode cX0_bill 30 = .ok (.ifCond .eq 11, 3) := dk_153 0 11 (dk_at dksX0_bill_1 8 rfl rfl)
theorem dX0_bill_33 : decode cX0_bill 33 = .ok (.iload 5, 2) := dk_21 5 (dk_at dksX0_bill_1 11 rfl rfl)
theorem dX0_bill_35 : decode cX0_bill 35 = .ok (.invokestatic 144, 3) := dk_184 0 144 (dk_at dksX0_bill_1 13 rfl rfl)
theorem dX0_bill_38 : decode cX0_bill 38 = .ok (.ifCond .ne 6, 3) := dk_154 0 6 (dk_at dksX0_bill_1 16 rfl rfl)
theorem dX0_bill_41 : decode cX0_bill 41 = .ok (.bipush (-2), 2) := dk_16 254 (dk_at dksX0_bill_1 19 rfl rfl)
theorem dX0_bill_43 : decode cX0_bill 43 = .ok (.ireturn, 1) := dk_172 (dk_at dksX0_bill_1 21 rfl rfl)
theorem dX0_bill_44 : decode cX0_bill 44 = .ok (.aload_n 0, 1) := dk_42 (dk_at dksX0_bill_1 22 rfl rfl)
theorem dX0_bill_45 : decode cX0_bill 45 = .ok (.iload_n 1, 1) := dk_27 (dk_at dksX0_bill_1 23 rfl rfl)
theorem dX0_bill_46 : decode cX0_bill 46 = .ok (.iload_n 2, 1) := dk_28 (dk_at dksX0_bill_2 0 rfl rfl)
theorem dX0_bill_47 : decode cX0_bill 47 = .ok (.iconst 1, 1) := dk_4 (dk_at dksX0_bill_2 1 rfl rfl)
theorem dX0_bill_48 : decode cX0_bill 48 = .ok (.anewarray 218, 3) := dk_189 0 218 (dk_at dksX0_bill_2 2 rfl rfl)
theorem dX0_bill_51 : decode cX0_bill 51 = .ok (.dup, 1) := dk_89 (dk_at dksX0_bill_2 5 rfl rfl)
theorem dX0_bill_52 : decode cX0_bill 52 = .ok (.iconst 0, 1) := dk_3 (dk_at dksX0_bill_2 6 rfl rfl)
theorem dX0_bill_53 : decode cX0_bill 53 = .ok (.new 218, 3) := dk_187 0 218 (dk_at dksX0_bill_2 7 rfl rfl)
theorem dX0_bill_56 : decode cX0_bill 56 = .ok (.dup, 1) := dk_89 (dk_at dksX0_bill_2 10 rfl rfl)
theorem dX0_bill_57 : decode cX0_bill 57 = .ok (.iload_n 3, 1) := dk_29 (dk_at dksX0_bill_2 11 rfl rfl)
theorem dX0_bill_58 : decode cX0_bill 58 = .ok (.iload 4, 2) := dk_21 4 (dk_at dksX0_bill_2 12 rfl rfl)
theorem dX0_bill_60 : decode cX0_bill 60 = .ok (.iload 5, 2) := dk_21 5 (dk_at dksX0_bill_2 14 rfl rfl)
theorem dX0_bill_62 : decode cX0_bill 62 = .ok (.invokespecial 220, 3) := dk_183 0 220 (dk_at dksX0_bill_2 16 rfl rfl)
theorem dX0_bill_65 : decode cX0_bill 65 = .ok (.aastore, 1) := dk_83 (dk_at dksX0_bill_2 19 rfl rfl)
theorem dX0_bill_66 : decode cX0_bill 66 = .ok (.invokevirtual 223, 3) := dk_182 0 223 (dk_at dksX0_bill_2 20 rfl rfl)
theorem dX0_bill_69 : decode cX0_bill 69 = .ok (.ireturn, 1) := dk_172 (dk_at dksX0_bill_2 23 rfl rfl)
abbrev cX0_enter : ByteArray := prog_1_method_24_code
def yX0_enter : MethodName := ⟨RX0, "enter", "(II[LPayMatch$Entry;)I"⟩
def dkwX0_enter_1 : List UInt8 := [182, 0, 67, 58, 4, 25, 4, 27, 28, 45, 182, 0, 214, 54, 5, 42, 25, 4, 21, 5, 182, 0, 78, 172]
abbrev dktX0_enter_1 : List UInt8 := dkwX0_enter_1 ++ []
def dkwX0_enter_0 : List UInt8 := [42, 180, 0, 22, 180, 0, 211, 182, 0, 64, 16, 24, 160, 0, 6, 16, 253, 172, 42, 180, 0, 22]
abbrev dktX0_enter_0 : List UInt8 := dkwX0_enter_0 ++ dktX0_enter_1
theorem dksX0_enter_0 : cX0_enter.data.toList.drop 0 = dktX0_enter_0 := by decide +kernel
theorem dksX0_enter_1 : cX0_enter.data.toList.drop 22 = dktX0_enter_1 := dk_seg dksX0_enter_0 22 rfl rfl
theorem dX0_enter_0 : decode cX0_enter 0 = .ok (.aload_n 0, 1) := dk_42 (dk_at dksX0_enter_0 0 rfl rfl)
theorem dX0_enter_1 : decode cX0_enter 1 = .ok (.getfield 22, 3) := dk_180 0 22 (dk_at dksX0_enter_0 1 rfl rfl)
theorem dX0_enter_4 : decode cX0_enter 4 = .ok (.getfield 211, 3) := dk_180 0 211 (dk_at dksX0_enter_0 4 rfl rfl)
theorem dX0_enter_7 : decode cX0_enter 7 = .ok (.invokevirtual 64, 3) := dk_182 0 64 (dk_at dksX0_enter_0 7 rfl rfl)
theorem dX0_enter_10 : decode cX0_enter 10 = .ok (.bipush 24, 2) := dk_16 24 (dk_at dksX0_enter_0 10 rfl rfl)
theorem dX0_enter_12 : decode cX0_enter 12 = .ok (.if_icmp .ne 6, 3) := dk_160 0 6 (dk_at dksX0_enter_0 12 rfl rfl)
theorem dX0_enter_15 : decode cX0_enter 15 = .ok (.bipush (-3), 2) := dk_16 253 (dk_at dksX0_enter_0 15 rfl rfl)
theorem dX0_enter_17 : decode cX0_enter 17 = .ok (.ireturn, 1) := dk_172 (dk_at dksX0_enter_0 17 rfl rfl)
theorem dX0_enter_18 : decode cX0_enter 18 = .ok (.aload_n 0, 1) := dk_42 (dk_at dksX0_enter_0 18 rfl rfl)
theorem dX0_enter_19 : decode cX0_enter 19 = .ok (.getfield 22, 3) := dk_180 0 22 (dk_at dksX0_enter_0 19 rfl rfl)
theorem dX0_enter_22 : decode cX0_enter 22 = .ok (.invokevirtual 67, 3) := dk_182 0 67 (dk_at dksX0_enter_1 0 rfl rfl)
theorem dX0_enter_25 : decode cX0_enter 25 = .ok (.astore 4, 2) := dk_58 4 (dk_at dksX0_enter_1 3 rfl rfl)
theorem dX0_enter_27 : decode cX0_enter 27 = .ok (.aload 4, 2) := dk_25 4 (dk_at dksX0_enter_1 5 rfl rfl)
theorem dX0_enter_29 : decode cX0_enter 29 = .ok (.iload_n 1, 1) := dk_27 (dk_at dksX0_enter_1 7 rfl rfl)
theorem dX0_enter_30 : decode cX0_enter 30 = .ok (.iload_n 2, 1) := dk_28 (dk_at dksX0_enter_1 8 rfl rfl)
theorem dX0_enter_31 : decode cX0_enter 31 = .ok (.aload_n 3, 1) := dk_45 (dk_at dksX0_enter_1 9 rfl rfl)
theorem dX0_enter_32 : decode cX0_enter 32 = .ok (.invokevirtual 214, 3) := dk_182 0 214 (dk_at dksX0_enter_1 10 rfl rfl)
theorem dX0_enter_35 : decode cX0_enter 35 = .ok (.istore 5, 2) := dk_54 5 (dk_at dksX0_enter_1 13 rfl rfl)
theorem dX0_enter_37 : decode cX0_enter 37 = .ok (.aload_n 0, 1) := dk_42 (dk_at dksX0_enter_1 15 rfl rfl)
theorem dX0_enter_38 : decode cX0_enter 38 = .ok (.aload 4, 2) := dk_25 4 (dk_at dksX0_enter_1 16 rfl rfl)
theorem dX0_enter_40 : decode cX0_enter 40 = .ok (.iload 5, 2) := dk_21 5 (dk_at dksX0_enter_1 18 rfl rfl)
theorem dX0_enter_42 : decode cX0_enter 42 = .ok (.invokevirtual 78, 3) := dk_182 0 78 (dk_at dksX0_enter_1 20 rfl rfl)
theorem dX0_enter_45 : decode cX0_enter 45 = .ok (.ireturn, 1) := dk_172 (dk_at dksX0_enter_1 23 rfl rfl)
abbrev cX0_readInvoice : ByteArray := prog_1_method_28_code
def yX0_readInvoice : MethodName := ⟨RX0, "readInvoice", "()I"⟩
def dkwX0_readInvoice_2 : List UInt8 := [43, 180, 0, 242, 44, 182, 0, 223, 167, 0, 5, 16, 254, 172, 76, 16, 156, 43, 180, 1, 2, 100, 172]
abbrev dktX0_readInvoice_2 : List UInt8 := dkwX0_readInvoice_2 ++ []
def dkwX0_readInvoice_1 : List UInt8 := [180, 0, 242, 44, 182, 0, 245, 154, 0, 5, 2, 172, 44, 184, 0, 249, 153, 0, 19, 42, 43, 180, 0, 253]
abbrev dktX0_readInvoice_1 : List UInt8 := dkwX0_readInvoice_1 ++ dktX0_readInvoice_2
def dkwX0_readInvoice_0 : List UInt8 := [187, 0, 230, 89, 42, 180, 0, 40, 183, 0, 232, 76, 43, 182, 0, 235, 43, 182, 0, 238, 77, 42, 43]
abbrev dktX0_readInvoice_0 : List UInt8 := dkwX0_readInvoice_0 ++ dktX0_readInvoice_1
theorem dksX0_readInvoice_0 : cX0_readInvoice.data.toList.drop 0 = dktX0_readInvoice_0 := by decide +kernel
theorem dksX0_readInvoice_1 : cX0_readInvoice.data.toList.drop 23 = dktX0_readInvoice_1 := dk_seg dksX0_readInvoice_0 23 rfl rfl
theorem dksX0_readInvoice_2 : cX0_readInvoice.data.toList.drop 47 = dktX0_readInvoice_2 := dk_seg dksX0_readInvoice_1 24 rfl rfl
theorem dX0_readInvoice_0 : decode cX0_readInvoice 0 = .ok (.new 230, 3) := dk_187 0 230 (dk_at dksX0_readInvoice_0 0 rfl rfl)
theorem dX0_readInvoice_3 : decode cX0_readInvoice 3 = .ok (.dup, 1) := dk_89 (dk_at dksX0_readInvoice_0 3 rfl rfl)
theorem dX0_readInvoice_4 : decode cX0_readInvoice 4 = .ok (.aload_n 0, 1) := dk_42 (dk_at dksX0_readInvoice_0 4 rfl rfl)
theorem dX0_readInvoice_5 : decode cX0_readInvoice 5 = .ok (.getfield 40, 3) := dk_180 0 40 (dk_at dksX0_readInvoice_0 5 rfl rfl)
theorem dX0_readInvoice_8 : decode cX0_readInvoice 8 = .ok (.invokespecial 232, 3) := dk_183 0 232 (dk_at dksX0_readInvoice_0 8 rfl rfl)
theorem dX0_readInvoice_11 : decode cX0_readInvoice 11 = .ok (.astore_n 1, 1) := dk_76 (dk_at dksX0_readInvoice_0 11 rfl rfl)
theorem dX0_readInvoice_12 : decode cX0_readInvoice 12 = .ok (.aload_n 1, 1) := dk_43 (dk_at dksX0_readInvoice_0 12 rfl rfl)
theorem dX0_readInvoice_13 : decode cX0_readInvoice 13 = .ok (.invokevirtual 235, 3) := dk_182 0 235 (dk_at dksX0_readInvoice_0 13 rfl rfl)
theorem dX0_readInvoice_16 : decode cX0_readInvoice 16 = .ok (.aload_n 1, 1) := dk_43 (dk_at dksX0_readInvoice_0 16 rfl rfl)
theorem dX0_readInvoice_17 : decode cX0_readInvoice 17 = .ok (.invokevirtual 238, 3) := dk_182 0 238 (dk_at dksX0_readInvoice_0 17 rfl rfl)
theorem dX0_readInvoice_20 : decode cX0_readInvoice 20 = .ok (.astore_n 2, 1) := dk_77 (dk_at dksX0_readInvoice_0 20 rfl rfl)
theorem dX0_readInvoice_21 : decode cX0_readInvoice 21 = .ok (.aload_n 0, 1) := dk_42 (dk_at dksX0_readInvoice_0 21 rfl rfl)
theorem dX0_readInvoice_22 : decode cX0_readInvoice 22 = .ok (.aload_n 1, 1) := dk_43 (dk_at dksX0_readInvoice_0 22 rfl rfl)
theorem dX0_readInvoice_23 : decode cX0_readInvoice 23 = .ok (.getfield 242, 3) := dk_180 0 242 (dk_at dksX0_readInvoice_1 0 rfl rfl)
theorem dX0_readInvoice_26 : decode cX0_readInvoice 26 = .ok (.aload_n 2, 1) := dk_44 (dk_at dksX0_readInvoice_1 3 rfl rfl)
theorem dX0_readInvoice_27 : decode cX0_readInvoice 27 = .ok (.invokevirtual 245, 3) := dk_182 0 245 (dk_at dksX0_readInvoice_1 4 rfl rfl)
theorem dX0_readInvoice_30 : decode cX0_readInvoice 30 = .ok (.ifCond .ne 5, 3) := dk_154 0 5 (dk_at dksX0_readInvoice_1 7 rfl rfl)
theorem dX0_readInvoice_33 : decode cX0_readInvoice 33 = .ok (.iconst (-1), 1) := dk_2 (dk_at dksX0_readInvoice_1 10 rfl rfl)
theorem dX0_readInvoice_34 : decode cX0_readInvoice 34 = .ok (.ireturn, 1) := dk_172 (dk_at dksX0_readInvoice_1 11 rfl rfl)
theorem dX0_readInvoice_35 : decode cX0_readInvoice 35 = .ok (.aload_n 2, 1) := dk_44 (dk_at dksX0_readInvoice_1 12 rfl rfl)
theorem dX0_readInvoice_36 : decode cX0_readInvoice 36 = .ok (.invokestatic 249, 3) := dk_184 0 249 (dk_at dksX0_readInvoice_1 13 rfl rfl)
theorem dX0_readInvoice_39 : decode cX0_readInvoice 39 = .ok (.ifCond .eq 19, 3) := dk_153 0 19 (dk_at dksX0_readInvoice_1 16 rfl rfl)
theorem dX0_readInvoice_42 : decode cX0_readInvoice 42 = .ok (.aload_n 0, 1) := dk_42 (dk_at dksX0_readInvoice_1 19 rfl rfl)
theorem dX0_readInvoice_43 : decode cX0_readInvoice 43 = .ok (.aload_n 1, 1) := dk_43 (dk_at dksX0_readInvoice_1 20 rfl rfl)
theorem dX0_readInvoice_44 : decode cX0_readInvoice 44 = .ok (.getfield 253, 3) := dk_180 0 253 (dk_at dksX0_readInvoice_1 21 rfl rfl)
theorem dX0_readInvoice_47 : decode cX0_readInvoice 47 = .ok (.aload_n 1, 1) := dk_43 (dk_at dksX0_readInvoice_2 0 rfl rfl)
theorem dX0_readInvoice_48 : decode cX0_readInvoice 48 = .ok (.getfield 242, 3) := dk_180 0 242 (dk_at dksX0_readInvoice_2 1 rfl rfl)
theorem dX0_readInvoice_51 : decode cX0_readInvoice 51 = .ok (.aload_n 2, 1) := dk_44 (dk_at dksX0_readInvoice_2 4 rfl rfl)
theorem dX0_readInvoice_52 : decode cX0_readInvoice 52 = .ok (.invokevirtual 223, 3) := dk_182 0 223 (dk_at dksX0_readInvoice_2 5 rfl rfl)
theorem dX0_readInvoice_55 : decode cX0_readInvoice 55 = .ok (.goto 5, 3) := dk_167 0 5 (dk_at dksX0_readInvoice_2 8 rfl rfl)
theorem dX0_readInvoice_58 : decode cX0_readInvoice 58 = .ok (.bipush (-2), 2) := dk_16 254 (dk_at dksX0_readInvoice_2 11 rfl rfl)
theorem dX0_readInvoice_60 : decode cX0_readInvoice 60 = .ok (.ireturn, 1) := dk_172 (dk_at dksX0_readInvoice_2 13 rfl rfl)
theorem dX0_readInvoice_61 : decode cX0_readInvoice 61 = .ok (.astore_n 1, 1) := dk_76 (dk_at dksX0_readInvoice_2 14 rfl rfl)
theorem dX0_readInvoice_62 : decode cX0_readInvoice 62 = .ok (.bipush (-100), 2) := dk_16 156 (dk_at dksX0_readInvoice_2 15 rfl rfl)
theorem dX0_readInvoice_64 : decode cX0_readInvoice 64 = .ok (.aload_n 1, 1) := dk_43 (dk_at dksX0_readInvoice_2 17 rfl rfl)
theorem dX0_readInvoice_65 : decode cX0_readInvoice 65 = .ok (.getfield 258, 3) := dk_180 1 2 (dk_at dksX0_readInvoice_2 18 rfl rfl)
theorem dX0_readInvoice_68 : decode cX0_readInvoice 68 = .ok (.isub, 1) := dk_100 (dk_at dksX0_readInvoice_2 21 rfl rfl)
theorem dX0_readInvoice_69 : decode cX0_readInvoice 69 = .ok (.ireturn, 1) := dk_172 (dk_at dksX0_readInvoice_2 22 rfl rfl)
abbrev cX0_areKnown : ByteArray := prog_1_method_26_code
def yX0_areKnown : MethodName := ⟨RX0, "areKnown", "(I[LPayMatch$Entry;)Z"⟩
def dkwX0_areKnown_3 : List UInt8 := [172]
abbrev dktX0_areKnown_3 : List UInt8 := dkwX0_areKnown_3 ++ []
def dkwX0_areKnown_2 : List UInt8 := [25, 7, 180, 0, 224, 182, 0, 158, 153, 0, 7, 4, 167, 0, 4, 3, 62, 132, 6, 1, 167, 255, 213, 29]
abbrev dktX0_areKnown_2 : List UInt8 := dkwX0_areKnown_2 ++ dktX0_areKnown_3
def dkwX0_areKnown_1 : List UInt8 := [21, 6, 21, 5, 162, 0, 42, 25, 4, 21, 6, 50, 58, 7, 29, 153, 0, 23, 42, 180, 0, 22, 27]
abbrev dktX0_areKnown_1 : List UInt8 := dkwX0_areKnown_1 ++ dktX0_areKnown_2
def dkwX0_areKnown_0 : List UInt8 := [42, 180, 0, 22, 180, 0, 130, 27, 182, 0, 82, 62, 44, 58, 4, 25, 4, 190, 54, 5, 3, 54, 6]
abbrev dktX0_areKnown_0 : List UInt8 := dkwX0_areKnown_0 ++ dktX0_areKnown_1
theorem dksX0_areKnown_0 : cX0_areKnown.data.toList.drop 0 = dktX0_areKnown_0 := by decide +kernel
theorem dksX0_areKnown_1 : cX0_areKnown.data.toList.drop 23 = dktX0_areKnown_1 := dk_seg dksX0_areKnown_0 23 rfl rfl
theorem dksX0_areKnown_2 : cX0_areKnown.data.toList.drop 46 = dktX0_areKnown_2 := dk_seg dksX0_areKnown_1 23 rfl rfl
theorem dksX0_areKnown_3 : cX0_areKnown.data.toList.drop 70 = dktX0_areKnown_3 := dk_seg dksX0_areKnown_2 24 rfl rfl
theorem dX0_areKnown_0 : decode cX0_areKnown 0 = .ok (.aload_n 0, 1) := dk_42 (dk_at dksX0_areKnown_0 0 rfl rfl)
theorem dX0_areKnown_1 : decode cX0_areKnown 1 = .ok (.getfield 22, 3) := dk_180 0 22 (dk_at dksX0_areKnown_0 1 rfl rfl)
theorem dX0_areKnown_4 : decode cX0_areKnown 4 = .ok (.getfield 130, 3) := dk_180 0 130 (dk_at dksX0_areKnown_0 4 rfl rfl)
theorem dX0_areKnown_7 : decode cX0_areKnown 7 = .ok (.iload_n 1, 1) := dk_27 (dk_at dksX0_areKnown_0 7 rfl rfl)
theorem dX0_areKnown_8 : decode cX0_areKnown 8 = .ok (.invokevirtual 82, 3) := dk_182 0 82 (dk_at dksX0_areKnown_0 8 rfl rfl)
theorem dX0_areKnown_11 : decode cX0_areKnown 11 = .ok (.istore_n 3, 1) := dk_62 (dk_at dksX0_areKnown_0 11 rfl rfl)
theorem dX0_areKnown_12 : decode cX0_areKnown 12 = .ok (.aload_n 2, 1) := dk_44 (dk_at dksX0_areKnown_0 12 rfl rfl)
theorem dX0_areKnown_13 : decode cX0_areKnown 13 = .ok (.astore 4, 2) := dk_58 4 (dk_at dksX0_areKnown_0 13 rfl rfl)
theorem dX0_areKnown_15 : decode cX0_areKnown 15 = .ok (.aload 4, 2) := dk_25 4 (dk_at dksX0_areKnown_0 15 rfl rfl)
theorem dX0_areKnown_17 : decode cX0_areKnown 17 = .ok (.arraylength, 1) := dk_190 (dk_at dksX0_areKnown_0 17 rfl rfl)
theorem dX0_areKnown_18 : decode cX0_areKnown 18 = .ok (.istore 5, 2) := dk_54 5 (dk_at dksX0_areKnown_0 18 rfl rfl)
theorem dX0_areKnown_20 : decode cX0_areKnown 20 = .ok (.iconst 0, 1) := dk_3 (dk_at dksX0_areKnown_0 20 rfl rfl)
theorem dX0_areKnown_21 : decode cX0_areKnown 21 = .ok (.istore 6, 2) := dk_54 6 (dk_at dksX0_areKnown_0 21 rfl rfl)
theorem dX0_areKnown_23 : decode cX0_areKnown 23 = .ok (.iload 6, 2) := dk_21 6 (dk_at dksX0_areKnown_1 0 rfl rfl)
theorem dX0_areKnown_25 : decode cX0_areKnown 25 = .ok (.iload 5, 2) := dk_21 5 (dk_at dksX0_areKnown_1 2 rfl rfl)
theorem dX0_areKnown_27 : decode cX0_areKnown 27 = .ok (.if_icmp .ge 42, 3) := dk_162 0 42 (dk_at dksX0_areKnown_1 4 rfl rfl)
theorem dX0_areKnown_30 : decode cX0_areKnown 30 = .ok (.aload 4, 2) := dk_25 4 (dk_at dksX0_areKnown_1 7 rfl rfl)
theorem dX0_areKnown_32 : decode cX0_areKnown 32 = .ok (.iload 6, 2) := dk_21 6 (dk_at dksX0_areKnown_1 9 rfl rfl)
theorem dX0_areKnown_34 : decode cX0_areKnown 34 = .ok (.aaload, 1) := dk_50 (dk_at dksX0_areKnown_1 11 rfl rfl)
theorem dX0_areKnown_35 : decode cX0_areKnown 35 = .ok (.astore 7, 2) := dk_58 7 (dk_at dksX0_areKnown_1 12 rfl rfl)
theorem dX0_areKnown_37 : decode cX0_areKnown 37 = .ok (.iload_n 3, 1) := dk_29 (dk_at dksX0_areKnown_1 14 rfl rfl)
theorem dX0_areKnown_38 : decode cX0_areKnown 38 = .ok (.ifCond .eq 23, 3) := dk_153 0 23 (dk_at dksX0_areKnown_1 15 rfl rfl)
theorem dX0_areKnown_41 : decode cX0_areKnown 41 = .ok (.aload_n 0, 1) := dk_42 (dk_at dksX0_areKnown_1 18 rfl rfl)
theorem dX0_areKnown_42 : decode cX0_areKnown 42 = .ok (.getfield 22, 3) := dk_180 0 22 (dk_at dksX0_areKnown_1 19 rfl rfl)
theorem dX0_areKnown_45 : decode cX0_areKnown 45 = .ok (.iload_n 1, 1) := dk_27 (dk_at dksX0_areKnown_1 22 rfl rfl)
theorem dX0_areKnown_46 : decode cX0_areKnown 46 = .ok (.aload 7, 2) := dk_25 7 (dk_at dksX0_areKnown_2 0 rfl rfl)
theorem dX0_areKnown_48 : decode cX0_areKnown 48 = .ok (.getfield 224, 3) := dk_180 0 224 (dk_at dksX0_areKnown_2 2 rfl rfl)
theorem dX0_areKnown_51 : decode cX0_areKnown 51 = .ok (.invokevirtual 158, 3) := dk_182 0 158 (dk_at dksX0_areKnown_2 5 rfl rfl)
theorem dX0_areKnown_54 : decode cX0_areKnown 54 = .ok (.ifCond .eq 7, 3) := dk_153 0 7 (dk_at dksX0_areKnown_2 8 rfl rfl)
theorem dX0_areKnown_57 : decode cX0_areKnown 57 = .ok (.iconst 1, 1) := dk_4 (dk_at dksX0_areKnown_2 11 rfl rfl)
theorem dX0_areKnown_58 : decode cX0_areKnown 58 = .ok (.goto 4, 3) := dk_167 0 4 (dk_at dksX0_areKnown_2 12 rfl rfl)
theorem dX0_areKnown_61 : decode cX0_areKnown 61 = .ok (.iconst 0, 1) := dk_3 (dk_at dksX0_areKnown_2 15 rfl rfl)
theorem dX0_areKnown_62 : decode cX0_areKnown 62 = .ok (.istore_n 3, 1) := dk_62 (dk_at dksX0_areKnown_2 16 rfl rfl)
theorem dX0_areKnown_63 : decode cX0_areKnown 63 = .ok (.iinc 6 1, 3) := dk_132 6 1 (dk_at dksX0_areKnown_2 17 rfl rfl)
theorem dX0_areKnown_66 : decode cX0_areKnown 66 = .ok (.goto (-43), 3) := dk_167 255 213 (dk_at dksX0_areKnown_2 20 rfl rfl)
theorem dX0_areKnown_69 : decode cX0_areKnown 69 = .ok (.iload_n 3, 1) := dk_29 (dk_at dksX0_areKnown_2 23 rfl rfl)
theorem dX0_areKnown_70 : decode cX0_areKnown 70 = .ok (.ireturn, 1) := dk_172 (dk_at dksX0_areKnown_3 0 rfl rfl)
abbrev cX0_areGood : ByteArray := prog_1_method_27_code
def yX0_areGood : MethodName := ⟨RX0, "areGood", "([LPayMatch$Entry;)Z"⟩
def dkwX0_areGood_3 : List UInt8 := [27, 4, 25, 6, 180, 0, 224, 120, 128, 60, 132, 5, 1, 167, 255, 186, 28, 172]
abbrev dktX0_areGood_3 : List UInt8 := dkwX0_areGood_3 ++ []
def dkwX0_areGood_2 : List UInt8 := [184, 0, 144, 153, 0, 19, 27, 25, 6, 180, 0, 224, 122, 4, 126, 154, 0, 7, 4, 167, 0, 4, 3, 61]
abbrev dktX0_areGood_2 : List UInt8 := dkwX0_areGood_2 ++ dktX0_areGood_3
def dkwX0_areGood_1 : List UInt8 := [58, 6, 28, 153, 0, 41, 25, 6, 180, 0, 226, 184, 0, 141, 153, 0, 30, 25, 6, 180, 0, 229]
abbrev dktX0_areGood_1 : List UInt8 := dkwX0_areGood_1 ++ dktX0_areGood_2
def dkwX0_areGood_0 : List UInt8 := [3, 60, 4, 61, 42, 78, 45, 190, 54, 4, 3, 54, 5, 21, 5, 21, 4, 162, 0, 69, 45, 21, 5, 50]
abbrev dktX0_areGood_0 : List UInt8 := dkwX0_areGood_0 ++ dktX0_areGood_1
theorem dksX0_areGood_0 : cX0_areGood.data.toList.drop 0 = dktX0_areGood_0 := by decide +kernel
theorem dksX0_areGood_1 : cX0_areGood.data.toList.drop 24 = dktX0_areGood_1 := dk_seg dksX0_areGood_0 24 rfl rfl
theorem dksX0_areGood_2 : cX0_areGood.data.toList.drop 46 = dktX0_areGood_2 := dk_seg dksX0_areGood_1 22 rfl rfl
theorem dksX0_areGood_3 : cX0_areGood.data.toList.drop 70 = dktX0_areGood_3 := dk_seg dksX0_areGood_2 24 rfl rfl
theorem dX0_areGood_0 : decode cX0_areGood 0 = .ok (.iconst 0, 1) := dk_3 (dk_at dksX0_areGood_0 0 rfl rfl)
theorem dX0_areGood_1 : decode cX0_areGood 1 = .ok (.istore_n 1, 1) := dk_60 (dk_at dksX0_areGood_0 1 rfl rfl)
theorem dX0_areGood_2 : decode cX0_areGood 2 = .ok (.iconst 1, 1) := dk_4 (dk_at dksX0_areGood_0 2 rfl rfl)
theorem dX0_areGood_3 : decode cX0_areGood 3 = .ok (.istore_n 2, 1) := dk_61 (dk_at dksX0_areGood_0 3 rfl rfl)
theorem dX0_areGood_4 : decode cX0_areGood 4 = .ok (.aload_n 0, 1) := dk_42 (dk_at dksX0_areGood_0 4 rfl rfl)
theorem dX0_areGood_5 : decode cX0_areGood 5 = .ok (.astore_n 3, 1) := dk_78 (dk_at dksX0_areGood_0 5 rfl rfl)
theorem dX0_areGood_6 : decode cX0_areGood 6 = .ok (.aload_n 3, 1) := dk_45 (dk_at dksX0_areGood_0 6 rfl rfl)
theorem dX0_areGood_7 : decode cX0_areGood 7 = .ok (.arraylength, 1) := dk_190 (dk_at dksX0_areGood_0 7 rfl rfl)
theorem dX0_areGood_8 : decode cX0_areGood 8 = .ok (.istore 4, 2) := dk_54 4 (dk_at dksX0_areGood_0 8 rfl rfl)
theorem dX0_areGood_10 : decode cX0_areGood 10 = .ok (.iconst 0, 1) := dk_3 (dk_at dksX0_areGood_0 10 rfl rfl)
theorem dX0_areGood_11 : decode cX0_areGood 11 = .ok (.istore 5, 2) := dk_54 5 (dk_at dksX0_areGood_0 11 rfl rfl)
theorem dX0_areGood_13 : decode cX0_areGood 13 = .ok (.iload 5, 2) := dk_21 5 (dk_at dksX0_areGood_0 13 rfl rfl)
theorem dX0_areGood_15 : decode cX0_areGood 15 = .ok (.iload 4, 2) := dk_21 4 (dk_at dksX0_areGood_0 15 rfl rfl)
theorem dX0_areGood_17 : decode cX0_areGood 17 = .ok (.if_icmp .ge 69, 3) := dk_162 0 69 (dk_at dksX0_areGood_0 17 rfl rfl)
theorem dX0_areGood_20 : decode cX0_areGood 20 = .ok (.aload_n 3, 1) := dk_45 (dk_at dksX0_areGood_0 20 rfl rfl)
theorem dX0_areGood_21 : decode cX0_areGood 21 = .ok (.iload 5, 2) := dk_21 5 (dk_at dksX0_areGood_0 21 rfl rfl)
theorem dX0_areGood_23 : decode cX0_areGood 23 = .ok (.aaload, 1) := dk_50 (dk_at dksX0_areGood_0 23 rfl rfl)
theorem dX0_areGood_24 : decode cX0_areGood 24 = .ok (.astore 6, 2) := dk_58 6 (dk_at dksX0_areGood_1 0 rfl rfl)
theorem dX0_areGood_26 : decode cX0_areGood 26 = .ok (.iload_n 2, 1) := dk_28 (dk_at dksX0_areGood_1 2 rfl rfl)
theorem dX0_areGood_27 : decode cX0_areGood 27 = .ok (.ifCond .eq 41, 3) := dk_153 0 41 (dk_at dksX0_areGood_1 3 rfl rfl)
theorem dX0_areGood_30 : decode cX0_areGood 30 = .ok (.aload 6, 2) := dk_25 6 (dk_at dksX0_areGood_1 6 rfl rfl)
theorem dX0_areGood_32 : decode cX0_areGood 32 = .ok (.getfield 226, 3) := dk_180 0 226 (dk_at dksX0_areGood_1 8 rfl rfl)
theorem dX0_areGood_35 : decode cX0_areGood 35 = .ok (.invokestatic 141, 3) := dk_184 0 141 (dk_at dksX0_areGood_1 11 rfl rfl)
theorem dX0_areGood_38 : decode cX0_areGood 38 = .ok (.ifCond .eq 30, 3) := dk_153 0 30 (dk_at dksX0_areGood_1 14 rfl rfl)
theorem dX0_areGood_41 : decode cX0_areGood 41 = .ok (.aload 6, 2) := dk_25 6 (dk_at dksX0_areGood_1 17 rfl rfl)
theorem dX0_areGood_43 : decode cX0_areGood 43 = .ok (.getfield 229, 3) := dk_180 0 229 (dk_at dksX0_areGood_1 19 rfl rfl)
theorem dX0_areGood_46 : decode cX0_areGood 46 = .ok (.invokestatic 144, 3) := dk_184 0 144 (dk_at dksX0_areGood_2 0 rfl rfl)
theorem dX0_areGood_49 : decode cX0_areGood 49 = .ok (.ifCond .eq 19, 3) := dk_153 0 19 (dk_at dksX0_areGood_2 3 rfl rfl)
theorem dX0_areGood_52 : decode cX0_areGood 52 = .ok (.iload_n 1, 1) := dk_27 (dk_at dksX0_areGood_2 6 rfl rfl)
theorem dX0_areGood_53 : decode cX0_areGood 53 = .ok (.aload 6, 2) := dk_25 6 (dk_at dksX0_areGood_2 7 rfl rfl)
theorem dX0_areGood_55 : decode cX0_areGood 55 = .ok (.getfield 224, 3) := dk_180 0 224 (dk_at dksX0_areGood_2 9 rfl rfl)
theorem dX0_areGood_58 : decode cX0_areGood 58 = .ok (.ishr, 1) := dk_122 (dk_at dksX0_areGood_2 12 rfl rfl)
theorem dX0_areGood_59 : decode cX0_areGood 59 = .ok (.iconst 1, 1) := dk_4 (dk_at dksX0_areGood_2 13 rfl rfl)
theorem dX0_areGood_60 : decode cX0_areGood 60 = .ok (.iand, 1) := dk_126 (dk_at dksX0_areGood_2 14 rfl rfl)
theorem dX0_areGood_61 : decode cX0_areGood 61 = .ok (.ifCond .ne 7, 3) := dk_154 0 7 (dk_at dksX0_areGood_2 15 rfl rfl)
theorem dX0_areGood_64 : decode cX0_areGood 64 = .ok (.iconst 1, 1) := dk_4 (dk_at dksX0_areGood_2 18 rfl rfl)
theorem dX0_areGood_65 : decode cX0_areGood 65 = .ok (.goto 4, 3) := dk_167 0 4 (dk_at dksX0_areGood_2 19 rfl rfl)
theorem dX0_areGood_68 : decode cX0_areGood 68 = .ok (.iconst 0, 1) := dk_3 (dk_at dksX0_areGood_2 22 rfl rfl)
theorem dX0_areGood_69 : decode cX0_areGood 69 = .ok (.istore_n 2, 1) := dk_61 (dk_at dksX0_areGood_2 23 rfl rfl)
theorem dX0_areGood_70 : decode cX0_areGood 70 = .ok (.iload_n 1, 1) := dk_27 (dk_at dksX0_areGood_3 0 rfl rfl)
theorem dX0_areGood_71 : decode cX0_areGood 71 = .ok (.iconst 1, 1) := dk_4 (dk_at dksX0_areGood_3 1 rfl rfl)
theorem dX0_areGood_72 : decode cX0_areGood 72 = .ok (.aload 6, 2) := dk_25 6 (dk_at dksX0_areGood_3 2 rfl rfl)
theorem dX0_areGood_74 : decode cX0_areGood 74 = .ok (.getfield 224, 3) := dk_180 0 224 (dk_at dksX0_areGood_3 4 rfl rfl)
theorem dX0_areGood_77 : decode cX0_areGood 77 = .ok (.ishl, 1) := dk_120 (dk_at dksX0_areGood_3 7 rfl rfl)
theorem dX0_areGood_78 : decode cX0_areGood 78 = .ok (.ior, 1) := dk_128 (dk_at dksX0_areGood_3 8 rfl rfl)
theorem dX0_areGood_79 : decode cX0_areGood 79 = .ok (.istore_n 1, 1) := dk_60 (dk_at dksX0_areGood_3 9 rfl rfl)
theorem dX0_areGood_80 : decode cX0_areGood 80 = .ok (.iinc 5 1, 3) := dk_132 5 1 (dk_at dksX0_areGood_3 10 rfl rfl)
theorem dX0_areGood_83 : decode cX0_areGood 83 = .ok (.goto (-70), 3) := dk_167 255 186 (dk_at dksX0_areGood_3 13 rfl rfl)
theorem dX0_areGood_86 : decode cX0_areGood 86 = .ok (.iload_n 2, 1) := dk_28 (dk_at dksX0_areGood_3 16 rfl rfl)
theorem dX0_areGood_87 : decode cX0_areGood 87 = .ok (.ireturn, 1) := dk_172 (dk_at dksX0_areGood_3 17 rfl rfl)
abbrev cX0_match : ByteArray := prog_1_method_29_code
def yX0_match : MethodName := ⟨RX0, "match", "(I)I"⟩
def dkwX0_match_4 : List UInt8 := [42, 45, 21, 4, 182, 0, 78, 172]
abbrev dktX0_match_4 : List UInt8 := dkwX0_match_4 ++ []
def dkwX0_match_3 : List UInt8 := [180, 0, 22, 182, 0, 67, 78, 45, 45, 180, 0, 211, 27, 182, 0, 96, 192, 1, 5, 182, 1, 18, 54, 4]
abbrev dktX0_match_3 : List UInt8 := dkwX0_match_3 ++ dktX0_match_4
def dkwX0_match_2 : List UInt8 := [160, 0, 21, 44, 180, 1, 11, 42, 180, 0, 22, 44, 182, 1, 14, 160, 0, 6, 16, 251, 172, 42]
abbrev dktX0_match_2 : List UInt8 := dkwX0_match_2 ++ dktX0_match_3
def dkwX0_match_1 : List UInt8 := [182, 0, 96, 192, 1, 5, 77, 44, 182, 1, 7, 154, 0, 6, 16, 252, 172, 44, 180, 1, 10, 5]
abbrev dktX0_match_1 : List UInt8 := dkwX0_match_1 ++ dktX0_match_2
def dkwX0_match_0 : List UInt8 := [42, 180, 0, 22, 180, 0, 211, 27, 182, 0, 82, 154, 0, 5, 2, 172, 42, 180, 0, 22, 180, 0, 211, 27]
abbrev dktX0_match_0 : List UInt8 := dkwX0_match_0 ++ dktX0_match_1
theorem dksX0_match_0 : cX0_match.data.toList.drop 0 = dktX0_match_0 := by decide +kernel
theorem dksX0_match_1 : cX0_match.data.toList.drop 24 = dktX0_match_1 := dk_seg dksX0_match_0 24 rfl rfl
theorem dksX0_match_2 : cX0_match.data.toList.drop 46 = dktX0_match_2 := dk_seg dksX0_match_1 22 rfl rfl
theorem dksX0_match_3 : cX0_match.data.toList.drop 68 = dktX0_match_3 := dk_seg dksX0_match_2 22 rfl rfl
theorem dksX0_match_4 : cX0_match.data.toList.drop 92 = dktX0_match_4 := dk_seg dksX0_match_3 24 rfl rfl
theorem dX0_match_0 : decode cX0_match 0 = .ok (.aload_n 0, 1) := dk_42 (dk_at dksX0_match_0 0 rfl rfl)
theorem dX0_match_1 : decode cX0_match 1 = .ok (.getfield 22, 3) := dk_180 0 22 (dk_at dksX0_match_0 1 rfl rfl)
theorem dX0_match_4 : decode cX0_match 4 = .ok (.getfield 211, 3) := dk_180 0 211 (dk_at dksX0_match_0 4 rfl rfl)
theorem dX0_match_7 : decode cX0_match 7 = .ok (.iload_n 1, 1) := dk_27 (dk_at dksX0_match_0 7 rfl rfl)
theorem dX0_match_8 : decode cX0_match 8 = .ok (.invokevirtual 82, 3) := dk_182 0 82 (dk_at dksX0_match_0 8 rfl rfl)
theorem dX0_match_11 : decode cX0_match 11 = .ok (.ifCond .ne 5, 3) := dk_154 0 5 (dk_at dksX0_match_0 11 rfl rfl)
theorem dX0_match_14 : decode cX0_match 14 = .ok (.iconst (-1), 1) := dk_2 (dk_at dksX0_match_0 14 rfl rfl)
theorem dX0_match_15 : decode cX0_match 15 = .ok (.ireturn, 1) := dk_172 (dk_at dksX0_match_0 15 rfl rfl)
theorem dX0_match_16 : decode cX0_match 16 = .ok (.aload_n 0, 1) := dk_42 (dk_at dksX0_match_0 16 rfl rfl)
theorem dX0_match_17 : decode cX0_match 17 = .ok (.getfield 22, 3) := dk_180 0 22 (dk_at dksX0_match_0 17 rfl rfl)
theorem dX0_match_20 : decode cX0_match 20 = .ok (.getfield 211, 3) := dk_180 0 211 (dk_at dksX0_match_0 20 rfl rfl)
theorem dX0_match_23 : decode cX0_match 23 = .ok (.iload_n 1, 1) := dk_27 (dk_at dksX0_match_0 23 rfl rfl)
theorem dX0_match_24 : decode cX0_match 24 = .ok (.invokevirtual 96, 3) := dk_182 0 96 (dk_at dksX0_match_1 0 rfl rfl)
theorem dX0_match_27 : decode cX0_match 27 = .ok (.checkcast 261, 3) := dk_192 1 5 (dk_at dksX0_match_1 3 rfl rfl)
theorem dX0_match_30 : decode cX0_match 30 = .ok (.astore_n 2, 1) := dk_77 (dk_at dksX0_match_1 6 rfl rfl)
theorem dX0_match_31 : decode cX0_match 31 = .ok (.aload_n 2, 1) := dk_44 (dk_at dksX0_match_1 7 rfl rfl)
theorem dX0_match_32 : decode cX0_match 32 = .ok (.invokevirtual 263, 3) := dk_182 1 7 (dk_at dksX0_match_1 8 rfl rfl)
theorem dX0_match_35 : decode cX0_match 35 = .ok (.ifCond .ne 6, 3) := dk_154 0 6 (dk_at dksX0_match_1 11 rfl rfl)
theorem dX0_match_38 : decode cX0_match 38 = .ok (.bipush (-4), 2) := dk_16 252 (dk_at dksX0_match_1 14 rfl rfl)
theorem dX0_match_40 : decode cX0_match 40 = .ok (.ireturn, 1) := dk_172 (dk_at dksX0_match_1 16 rfl rfl)
theorem dX0_match_41 : decode cX0_match 41 = .ok (.aload_n 2, 1) := dk_44 (dk_at dksX0_match_1 17 rfl rfl)
theorem dX0_match_42 : decode cX0_match 42 = .ok (.getfield 266, 3) := dk_180 1 10 (dk_at dksX0_match_1 18 rfl rfl)
theorem dX0_match_45 : decode cX0_match 45 = .ok (.iconst 2, 1) := dk_5 (dk_at dksX0_match_1 21 rfl rfl)
theorem dX0_match_46 : decode cX0_match 46 = .ok (.if_icmp .ne 21, 3) := dk_160 0 21 (dk_at dksX0_match_2 0 rfl rfl)
theorem dX0_match_49 : decode cX0_match 49 = .ok (.aload_n 2, 1) := dk_44 (dk_at dksX0_match_2 3 rfl rfl)
theorem dX0_match_50 : decode cX0_match 50 = .ok (.getfield 267, 3) := dk_180 1 11 (dk_at dksX0_match_2 4 rfl rfl)
theorem dX0_match_53 : decode cX0_match 53 = .ok (.aload_n 0, 1) := dk_42 (dk_at dksX0_match_2 7 rfl rfl)
theorem dX0_match_54 : decode cX0_match 54 = .ok (.getfield 22, 3) := dk_180 0 22 (dk_at dksX0_match_2 8 rfl rfl)
theorem dX0_match_57 : decode cX0_match 57 = .ok (.aload_n 2, 1) := dk_44 (dk_at dksX0_match_2 11 rfl rfl)
theorem dX0_match_58 : decode cX0_match 58 = .ok (.invokevirtual 270, 3) := dk_182 1 14 (dk_at dksX0_match_2 12 rfl rfl)
theorem dX0_match_61 : decode cX0_match 61 = .ok (.if_icmp .ne 6, 3) := dk_160 0 6 (dk_at dksX0_match_2 15 rfl rfl)
theorem dX0_match_64 : decode cX0_match 64 = .ok (.bipush (-5), 2) := dk_16 251 (dk_at dksX0_match_2 18 rfl rfl)
theorem dX0_match_66 : decode cX0_match 66 = .ok (.ireturn, 1) := dk_172 (dk_at dksX0_match_2 20 rfl rfl)
theorem dX0_match_67 : decode cX0_match 67 = .ok (.aload_n 0, 1) := dk_42 (dk_at dksX0_match_2 21 rfl rfl)
theorem dX0_match_68 : decode cX0_match 68 = .ok (.getfield 22, 3) := dk_180 0 22 (dk_at dksX0_match_3 0 rfl rfl)
theorem dX0_match_71 : decode cX0_match 71 = .ok (.invokevirtual 67, 3) := dk_182 0 67 (dk_at dksX0_match_3 3 rfl rfl)
theorem dX0_match_74 : decode cX0_match 74 = .ok (.astore_n 3, 1) := dk_78 (dk_at dksX0_match_3 6 rfl rfl)
theorem dX0_match_75 : decode cX0_match 75 = .ok (.aload_n 3, 1) := dk_45 (dk_at dksX0_match_3 7 rfl rfl)
theorem dX0_match_76 : decode cX0_match 76 = .ok (.aload_n 3, 1) := dk_45 (dk_at dksX0_match_3 8 rfl rfl)
theorem dX0_match_77 : decode cX0_match 77 = .ok (.getfield 211, 3) := dk_180 0 211 (dk_at dksX0_match_3 9 rfl rfl)
theorem dX0_match_80 : decode cX0_match 80 = .ok (.iload_n 1, 1) := dk_27 (dk_at dksX0_match_3 12 rfl rfl)
theorem dX0_match_81 : decode cX0_match 81 = .ok (.invokevirtual 96, 3) := dk_182 0 96 (dk_at dksX0_match_3 13 rfl rfl)
theorem dX0_match_84 : decode cX0_match 84 = .ok (.checkcast 261, 3) := dk_192 1 5 (dk_at dksX0_match_3 16 rfl rfl)
theorem dX0_match_87 : decode cX0_match 87 = .ok (.invokevirtual 274, 3) := dk_182 1 18 (dk_at dksX0_match_3 19 rfl rfl)
theorem dX0_match_90 : decode cX0_match 90 = .ok (.istore 4, 2) := dk_54 4 (dk_at dksX0_match_3 22 rfl rfl)
theorem dX0_match_92 : decode cX0_match 92 = .ok (.aload_n 0, 1) := dk_42 (dk_at dksX0_match_4 0 rfl rfl)
theorem dX0_match_93 : decode cX0_match 93 = .ok (.aload_n 3, 1) := dk_45 (dk_at dksX0_match_4 1 rfl rfl)
theorem dX0_match_94 : decode cX0_match 94 = .ok (.iload 4, 2) := dk_21 4 (dk_at dksX0_match_4 2 rfl rfl)
theorem dX0_match_96 : decode cX0_match 96 = .ok (.invokevirtual 78, 3) := dk_182 0 78 (dk_at dksX0_match_4 4 rfl rfl)
theorem dX0_match_99 : decode cX0_match 99 = .ok (.ireturn, 1) := dk_172 (dk_at dksX0_match_4 7 rfl rfl)
abbrev cX0_note : ByteArray := prog_1_method_30_code
def yX0_note : MethodName := ⟨RX0, "note", "(I)I"⟩
def dkwX0_note_3 : List UInt8 := [182, 0, 96, 192, 1, 5, 182, 1, 21, 54, 4, 42, 45, 21, 4, 182, 0, 78, 172]
abbrev dktX0_note_3 : List UInt8 := dkwX0_note_3 ++ []
def dkwX0_note_2 : List UInt8 := [16, 8, 112, 158, 0, 6, 16, 252, 172, 42, 180, 0, 22, 182, 0, 67, 78, 45, 45, 180, 0, 211, 27]
abbrev dktX0_note_2 : List UInt8 := dkwX0_note_2 ++ dktX0_note_3
def dkwX0_note_1 : List UInt8 := [182, 0, 96, 192, 1, 5, 77, 44, 180, 1, 10, 5, 160, 0, 17, 42, 180, 0, 22, 44, 182, 1, 14]
abbrev dktX0_note_1 : List UInt8 := dkwX0_note_1 ++ dktX0_note_2
def dkwX0_note_0 : List UInt8 := [42, 180, 0, 22, 180, 0, 211, 27, 182, 0, 82, 154, 0, 5, 2, 172, 42, 180, 0, 22, 180, 0, 211, 27]
abbrev dktX0_note_0 : List UInt8 := dkwX0_note_0 ++ dktX0_note_1
theorem dksX0_note_0 : cX0_note.data.toList.drop 0 = dktX0_note_0 := by decide +kernel
theorem dksX0_note_1 : cX0_note.data.toList.drop 24 = dktX0_note_1 := dk_seg dksX0_note_0 24 rfl rfl
theorem dksX0_note_2 : cX0_note.data.toList.drop 47 = dktX0_note_2 := dk_seg dksX0_note_1 23 rfl rfl
theorem dksX0_note_3 : cX0_note.data.toList.drop 70 = dktX0_note_3 := dk_seg dksX0_note_2 23 rfl rfl
theorem dX0_note_0 : decode cX0_note 0 = .ok (.aload_n 0, 1) := dk_42 (dk_at dksX0_note_0 0 rfl rfl)
theorem dX0_note_1 : decode cX0_note 1 = .ok (.getfield 22, 3) := dk_180 0 22 (dk_at dksX0_note_0 1 rfl rfl)
theorem dX0_note_4 : decode cX0_note 4 = .ok (.getfield 211, 3) := dk_180 0 211 (dk_at dksX0_note_0 4 rfl rfl)
theorem dX0_note_7 : decode cX0_note 7 = .ok (.iload_n 1, 1) := dk_27 (dk_at dksX0_note_0 7 rfl rfl)
theorem dX0_note_8 : decode cX0_note 8 = .ok (.invokevirtual 82, 3) := dk_182 0 82 (dk_at dksX0_note_0 8 rfl rfl)
theorem dX0_note_11 : decode cX0_note 11 = .ok (.ifCond .ne 5, 3) := dk_154 0 5 (dk_at dksX0_note_0 11 rfl rfl)
theorem dX0_note_14 : decode cX0_note 14 = .ok (.iconst (-1), 1) := dk_2 (dk_at dksX0_note_0 14 rfl rfl)
theorem dX0_note_15 : decode cX0_note 15 = .ok (.ireturn, 1) := dk_172 (dk_at dksX0_note_0 15 rfl rfl)
theorem dX0_note_16 : decode cX0_note 16 = .ok (.aload_n 0, 1) := dk_42 (dk_at dksX0_note_0 16 rfl rfl)
theorem dX0_note_17 : decode cX0_note 17 = .ok (.getfield 22, 3) := dk_180 0 22 (dk_at dksX0_note_0 17 rfl rfl)
theorem dX0_note_20 : decode cX0_note 20 = .ok (.getfield 211, 3) := dk_180 0 211 (dk_at dksX0_note_0 20 rfl rfl)
theorem dX0_note_23 : decode cX0_note 23 = .ok (.iload_n 1, 1) := dk_27 (dk_at dksX0_note_0 23 rfl rfl)
theorem dX0_note_24 : decode cX0_note 24 = .ok (.invokevirtual 96, 3) := dk_182 0 96 (dk_at dksX0_note_1 0 rfl rfl)
theorem dX0_note_27 : decode cX0_note 27 = .ok (.checkcast 261, 3) := dk_192 1 5 (dk_at dksX0_note_1 3 rfl rfl)
theorem dX0_note_30 : decode cX0_note 30 = .ok (.astore_n 2, 1) := dk_77 (dk_at dksX0_note_1 6 rfl rfl)
theorem dX0_note_31 : decode cX0_note 31 = .ok (.aload_n 2, 1) := dk_44 (dk_at dksX0_note_1 7 rfl rfl)
theorem dX0_note_32 : decode cX0_note 32 = .ok (.getfield 266, 3) := dk_180 1 10 (dk_at dksX0_note_1 8 rfl rfl)
theorem dX0_note_35 : decode cX0_note 35 = .ok (.iconst 2, 1) := dk_5 (dk_at dksX0_note_1 11 rfl rfl)
theorem dX0_note_36 : decode cX0_note 36 = .ok (.if_icmp .ne 17, 3) := dk_160 0 17 (dk_at dksX0_note_1 12 rfl rfl)
theorem dX0_note_39 : decode cX0_note 39 = .ok (.aload_n 0, 1) := dk_42 (dk_at dksX0_note_1 15 rfl rfl)
theorem dX0_note_40 : decode cX0_note 40 = .ok (.getfield 22, 3) := dk_180 0 22 (dk_at dksX0_note_1 16 rfl rfl)
theorem dX0_note_43 : decode cX0_note 43 = .ok (.aload_n 2, 1) := dk_44 (dk_at dksX0_note_1 19 rfl rfl)
theorem dX0_note_44 : decode cX0_note 44 = .ok (.invokevirtual 270, 3) := dk_182 1 14 (dk_at dksX0_note_1 20 rfl rfl)
theorem dX0_note_47 : decode cX0_note 47 = .ok (.bipush 8, 2) := dk_16 8 (dk_at dksX0_note_2 0 rfl rfl)
theorem dX0_note_49 : decode cX0_note 49 = .ok (.irem, 1) := dk_112 (dk_at dksX0_note_2 2 rfl rfl)
theorem dX0_note_50 : decode cX0_note 50 = .ok (.ifCond .le 6, 3) := dk_158 0 6 (dk_at dksX0_note_2 3 rfl rfl)
theorem dX0_note_53 : decode cX0_note 53 = .ok (.bipush (-4), 2) := dk_16 252 (dk_at dksX0_note_2 6 rfl rfl)
theorem dX0_note_55 : decode cX0_note 55 = .ok (.ireturn, 1) := dk_172 (dk_at dksX0_note_2 8 rfl rfl)
theorem dX0_note_56 : decode cX0_note 56 = .ok (.aload_n 0, 1) := dk_42 (dk_at dksX0_note_2 9 rfl rfl)
theorem dX0_note_57 : decode cX0_note 57 = .ok (.getfield 22, 3) := dk_180 0 22 (dk_at dksX0_note_2 10 rfl rfl)
theorem dX0_note_60 : decode cX0_note 60 = .ok (.invokevirtual 67, 3) := dk_182 0 67 (dk_at dksX0_note_2 13 rfl rfl)
theorem dX0_note_63 : decode cX0_note 63 = .ok (.astore_n 3, 1) := dk_78 (dk_at dksX0_note_2 16 rfl rfl)
theorem dX0_note_64 : decode cX0_note 64 = .ok (.aload_n 3, 1) := dk_45 (dk_at dksX0_note_2 17 rfl rfl)
theorem dX0_note_65 : decode cX0_note 65 = .ok (.aload_n 3, 1) := dk_45 (dk_at dksX0_note_2 18 rfl rfl)
theorem dX0_note_66 : decode cX0_note 66 = .ok (.getfield 211, 3) := dk_180 0 211 (dk_at dksX0_note_2 19 rfl rfl)
theorem dX0_note_69 : decode cX0_note 69 = .ok (.iload_n 1, 1) := dk_27 (dk_at dksX0_note_2 22 rfl rfl)
theorem dX0_note_70 : decode cX0_note 70 = .ok (.invokevirtual 96, 3) := dk_182 0 96 (dk_at dksX0_note_3 0 rfl rfl)
theorem dX0_note_73 : decode cX0_note 73 = .ok (.checkcast 261, 3) := dk_192 1 5 (dk_at dksX0_note_3 3 rfl rfl)
theorem dX0_note_76 : decode cX0_note 76 = .ok (.invokevirtual 277, 3) := dk_182 1 21 (dk_at dksX0_note_3 6 rfl rfl)
theorem dX0_note_79 : decode cX0_note 79 = .ok (.istore 4, 2) := dk_54 4 (dk_at dksX0_note_3 9 rfl rfl)
theorem dX0_note_81 : decode cX0_note 81 = .ok (.aload_n 0, 1) := dk_42 (dk_at dksX0_note_3 11 rfl rfl)
theorem dX0_note_82 : decode cX0_note 82 = .ok (.aload_n 3, 1) := dk_45 (dk_at dksX0_note_3 12 rfl rfl)
theorem dX0_note_83 : decode cX0_note 83 = .ok (.iload 4, 2) := dk_21 4 (dk_at dksX0_note_3 13 rfl rfl)
theorem dX0_note_85 : decode cX0_note 85 = .ok (.invokevirtual 78, 3) := dk_182 0 78 (dk_at dksX0_note_3 15 rfl rfl)
theorem dX0_note_88 : decode cX0_note 88 = .ok (.ireturn, 1) := dk_172 (dk_at dksX0_note_3 18 rfl rfl)
abbrev cX0_reject : ByteArray := prog_1_method_31_code
def yX0_reject : MethodName := ⟨RX0, "reject", "(I)I"⟩
def dkwX0_reject_3 : List UInt8 := [182, 1, 27, 42, 44, 45, 182, 1, 24, 182, 0, 78, 172]
abbrev dktX0_reject_3 : List UInt8 := dkwX0_reject_3 ++ []
def dkwX0_reject_2 : List UInt8 := [180, 0, 211, 27, 182, 0, 96, 192, 1, 5, 78, 45, 7, 181, 1, 10, 44, 16, 7, 27, 45, 182, 1, 24]
abbrev dktX0_reject_2 : List UInt8 := dkwX0_reject_2 ++ dktX0_reject_3
def dkwX0_reject_1 : List UInt8 := [182, 0, 96, 192, 1, 5, 182, 1, 7, 154, 0, 6, 16, 252, 172, 42, 180, 0, 22, 182, 0, 67, 77, 44]
abbrev dktX0_reject_1 : List UInt8 := dkwX0_reject_1 ++ dktX0_reject_2
def dkwX0_reject_0 : List UInt8 := [42, 180, 0, 22, 180, 0, 211, 27, 182, 0, 82, 154, 0, 5, 2, 172, 42, 180, 0, 22, 180, 0, 211, 27]
abbrev dktX0_reject_0 : List UInt8 := dkwX0_reject_0 ++ dktX0_reject_1
theorem dksX0_reject_0 : cX0_reject.data.toList.drop 0 = dktX0_reject_0 := by decide +kernel
theorem dksX0_reject_1 : cX0_reject.data.toList.drop 24 = dktX0_reject_1 := dk_seg dksX0_reject_0 24 rfl rfl
theorem dksX0_reject_2 : cX0_reject.data.toList.drop 48 = dktX0_reject_2 := dk_seg dksX0_reject_1 24 rfl rfl
theorem dksX0_reject_3 : cX0_reject.data.toList.drop 72 = dktX0_reject_3 := dk_seg dksX0_reject_2 24 rfl rfl
theorem dX0_reject_0 : decode cX0_reject 0 = .ok (.aload_n 0, 1) := dk_42 (dk_at dksX0_reject_0 0 rfl rfl)
theorem dX0_reject_1 : decode cX0_reject 1 = .ok (.getfield 22, 3) := dk_180 0 22 (dk_at dksX0_reject_0 1 rfl rfl)
theorem dX0_reject_4 : decode cX0_reject 4 = .ok (.getfield 211, 3) := dk_180 0 211 (dk_at dksX0_reject_0 4 rfl rfl)
theorem dX0_reject_7 : decode cX0_reject 7 = .ok (.iload_n 1, 1) := dk_27 (dk_at dksX0_reject_0 7 rfl rfl)
theorem dX0_reject_8 : decode cX0_reject 8 = .ok (.invokevirtual 82, 3) := dk_182 0 82 (dk_at dksX0_reject_0 8 rfl rfl)
theorem dX0_reject_11 : decode cX0_reject 11 = .ok (.ifCond .ne 5, 3) := dk_154 0 5 (dk_at dksX0_reject_0 11 rfl rfl)
theorem dX0_reject_14 : decode cX0_reject 14 = .ok (.iconst (-1), 1) := dk_2 (dk_at dksX0_reject_0 14 rfl rfl)
theorem dX0_reject_15 : decode cX0_reject 15 = .ok (.ireturn, 1) := dk_172 (dk_at dksX0_reject_0 15 rfl rfl)
theorem dX0_reject_16 : decode cX0_reject 16 = .ok (.aload_n 0, 1) := dk_42 (dk_at dksX0_reject_0 16 rfl rfl)
theorem dX0_reject_17 : decode cX0_reject 17 = .ok (.getfield 22, 3) := dk_180 0 22 (dk_at dksX0_reject_0 17 rfl rfl)
theorem dX0_reject_20 : decode cX0_reject 20 = .ok (.getfield 211, 3) := dk_180 0 211 (dk_at dksX0_reject_0 20 rfl rfl)
theorem dX0_reject_23 : decode cX0_reject 23 = .ok (.iload_n 1, 1) := dk_27 (dk_at dksX0_reject_0 23 rfl rfl)
theorem dX0_reject_24 : decode cX0_reject 24 = .ok (.invokevirtual 96, 3) := dk_182 0 96 (dk_at dksX0_reject_1 0 rfl rfl)
theorem dX0_reject_27 : decode cX0_reject 27 = .ok (.checkcast 261, 3) := dk_192 1 5 (dk_at dksX0_reject_1 3 rfl rfl)
theorem dX0_reject_30 : decode cX0_reject 30 = .ok (.invokevirtual 263, 3) := dk_182 1 7 (dk_at dksX0_reject_1 6 rfl rfl)
theorem dX0_reject_33 : decode cX0_reject 33 = .ok (.ifCond .ne 6, 3) := dk_154 0 6 (dk_at dksX0_reject_1 9 rfl rfl)
theorem dX0_reject_36 : decode cX0_reject 36 = .ok (.bipush (-4), 2) := dk_16 252 (dk_at dksX0_reject_1 12 rfl rfl)
theorem dX0_reject_38 : decode cX0_reject 38 = .ok (.ireturn, 1) := dk_172 (dk_at dksX0_reject_1 14 rfl rfl)
theorem dX0_reject_39 : decode cX0_reject 39 = .ok (.aload_n 0, 1) := dk_42 (dk_at dksX0_reject_1 15 rfl rfl)
theorem dX0_reject_40 : decode cX0_reject 40 = .ok (.getfield 22, 3) := dk_180 0 22 (dk_at dksX0_reject_1 16 rfl rfl)
theorem dX0_reject_43 : decode cX0_reject 43 = .ok (.invokevirtual 67, 3) := dk_182 0 67 (dk_at dksX0_reject_1 19 rfl rfl)
theorem dX0_reject_46 : decode cX0_reject 46 = .ok (.astore_n 2, 1) := dk_77 (dk_at dksX0_reject_1 22 rfl rfl)
theorem dX0_reject_47 : decode cX0_reject 47 = .ok (.aload_n 2, 1) := dk_44 (dk_at dksX0_reject_1 23 rfl rfl)
theorem dX0_reject_48 : decode cX0_reject 48 = .ok (.getfield 211, 3) := dk_180 0 211 (dk_at dksX0_reject_2 0 rfl rfl)
theorem dX0_reject_51 : decode cX0_reject 51 = .ok (.iload_n 1, 1) := dk_27 (dk_at dksX0_reject_2 3 rfl rfl)
theorem dX0_reject_52 : decode cX0_reject 52 = .ok (.invokevirtual 96, 3) := dk_182 0 96 (dk_at dksX0_reject_2 4 rfl rfl)
theorem dX0_reject_55 : decode cX0_reject 55 = .ok (.checkcast 261, 3) := dk_192 1 5 (dk_at dksX0_reject_2 7 rfl rfl)
theorem dX0_reject_58 : decode cX0_reject 58 = .ok (.astore_n 3, 1) := dk_78 (dk_at dksX0_reject_2 10 rfl rfl)
theorem dX0_reject_59 : decode cX0_reject 59 = .ok (.aload_n 3, 1) := dk_45 (dk_at dksX0_reject_2 11 rfl rfl)
theorem dX0_reject_60 : decode cX0_reject 60 = .ok (.iconst 4, 1) := dk_7 (dk_at dksX0_reject_2 12 rfl rfl)
theorem dX0_reject_61 : decode cX0_reject 61 = .ok (.putfield 266, 3) := dk_181 1 10 (dk_at dksX0_reject_2 13 rfl rfl)
theorem dX0_reject_64 : decode cX0_reject 64 = .ok (.aload_n 2, 1) := dk_44 (dk_at dksX0_reject_2 16 rfl rfl)
theorem dX0_reject_65 : decode cX0_reject 65 = .ok (.bipush 7, 2) := dk_16 7 (dk_at dksX0_reject_2 17 rfl rfl)
theorem dX0_reject_67 : decode cX0_reject 67 = .ok (.iload_n 1, 1) := dk_27 (dk_at dksX0_reject_2 19 rfl rfl)
theorem dX0_reject_68 : decode cX0_reject 68 = .ok (.aload_n 3, 1) := dk_45 (dk_at dksX0_reject_2 20 rfl rfl)
theorem dX0_reject_69 : decode cX0_reject 69 = .ok (.invokevirtual 280, 3) := dk_182 1 24 (dk_at dksX0_reject_2 21 rfl rfl)
theorem dX0_reject_72 : decode cX0_reject 72 = .ok (.invokevirtual 283, 3) := dk_182 1 27 (dk_at dksX0_reject_3 0 rfl rfl)
theorem dX0_reject_75 : decode cX0_reject 75 = .ok (.aload_n 0, 1) := dk_42 (dk_at dksX0_reject_3 3 rfl rfl)
theorem dX0_reject_76 : decode cX0_reject 76 = .ok (.aload_n 2, 1) := dk_44 (dk_at dksX0_reject_3 4 rfl rfl)
theorem dX0_reject_77 : decode cX0_reject 77 = .ok (.aload_n 3, 1) := dk_45 (dk_at dksX0_reject_3 5 rfl rfl)
theorem dX0_reject_78 : decode cX0_reject 78 = .ok (.invokevirtual 280, 3) := dk_182 1 24 (dk_at dksX0_reject_3 6 rfl rfl)
theorem dX0_reject_81 : decode cX0_reject 81 = .ok (.invokevirtual 78, 3) := dk_182 0 78 (dk_at dksX0_reject_3 9 rfl rfl)
theorem dX0_reject_84 : decode cX0_reject 84 = .ok (.ireturn, 1) := dk_172 (dk_at dksX0_reject_3 12 rfl rfl)
abbrev cX0_pay : ByteArray := prog_1_method_32_code
def yX0_pay : MethodName := ⟨RX0, "pay", "(I)I"⟩
def dkwX0_pay_3 : List UInt8 := [180, 0, 211, 27, 182, 0, 96, 192, 1, 5, 182, 1, 31, 54, 4, 42, 45, 21, 4, 182, 0, 78, 172]
abbrev dktX0_pay_3 : List UInt8 := dkwX0_pay_3 ++ []
def dkwX0_pay_2 : List UInt8 := [182, 0, 192, 180, 0, 111, 153, 0, 6, 16, 252, 172, 42, 180, 0, 22, 182, 0, 67, 78, 45, 45]
abbrev dktX0_pay_2 : List UInt8 := dkwX0_pay_2 ++ dktX0_pay_3
def dkwX0_pay_1 : List UInt8 := [182, 0, 96, 192, 1, 5, 77, 44, 180, 1, 10, 4, 160, 0, 20, 42, 180, 0, 22, 44, 180, 1, 30]
abbrev dktX0_pay_1 : List UInt8 := dkwX0_pay_1 ++ dktX0_pay_2
def dkwX0_pay_0 : List UInt8 := [42, 180, 0, 22, 180, 0, 211, 27, 182, 0, 82, 154, 0, 5, 2, 172, 42, 180, 0, 22, 180, 0, 211, 27]
abbrev dktX0_pay_0 : List UInt8 := dkwX0_pay_0 ++ dktX0_pay_1
theorem dksX0_pay_0 : cX0_pay.data.toList.drop 0 = dktX0_pay_0 := by decide +kernel
theorem dksX0_pay_1 : cX0_pay.data.toList.drop 24 = dktX0_pay_1 := dk_seg dksX0_pay_0 24 rfl rfl
theorem dksX0_pay_2 : cX0_pay.data.toList.drop 47 = dktX0_pay_2 := dk_seg dksX0_pay_1 23 rfl rfl
theorem dksX0_pay_3 : cX0_pay.data.toList.drop 69 = dktX0_pay_3 := dk_seg dksX0_pay_2 22 rfl rfl
theorem dX0_pay_0 : decode cX0_pay 0 = .ok (.aload_n 0, 1) := dk_42 (dk_at dksX0_pay_0 0 rfl rfl)
theorem dX0_pay_1 : decode cX0_pay 1 = .ok (.getfield 22, 3) := dk_180 0 22 (dk_at dksX0_pay_0 1 rfl rfl)
theorem dX0_pay_4 : decode cX0_pay 4 = .ok (.getfield 211, 3) := dk_180 0 211 (dk_at dksX0_pay_0 4 rfl rfl)
theorem dX0_pay_7 : decode cX0_pay 7 = .ok (.iload_n 1, 1) := dk_27 (dk_at dksX0_pay_0 7 rfl rfl)
theorem dX0_pay_8 : decode cX0_pay 8 = .ok (.invokevirtual 82, 3) := dk_182 0 82 (dk_at dksX0_pay_0 8 rfl rfl)
theorem dX0_pay_11 : decode cX0_pay 11 = .ok (.ifCond .ne 5, 3) := dk_154 0 5 (dk_at dksX0_pay_0 11 rfl rfl)
theorem dX0_pay_14 : decode cX0_pay 14 = .ok (.iconst (-1), 1) := dk_2 (dk_at dksX0_pay_0 14 rfl rfl)
theorem dX0_pay_15 : decode cX0_pay 15 = .ok (.ireturn, 1) := dk_172 (dk_at dksX0_pay_0 15 rfl rfl)
theorem dX0_pay_16 : decode cX0_pay 16 = .ok (.aload_n 0, 1) := dk_42 (dk_at dksX0_pay_0 16 rfl rfl)
theorem dX0_pay_17 : decode cX0_pay 17 = .ok (.getfield 22, 3) := dk_180 0 22 (dk_at dksX0_pay_0 17 rfl rfl)
theorem dX0_pay_20 : decode cX0_pay 20 = .ok (.getfield 211, 3) := dk_180 0 211 (dk_at dksX0_pay_0 20 rfl rfl)
theorem dX0_pay_23 : decode cX0_pay 23 = .ok (.iload_n 1, 1) := dk_27 (dk_at dksX0_pay_0 23 rfl rfl)
theorem dX0_pay_24 : decode cX0_pay 24 = .ok (.invokevirtual 96, 3) := dk_182 0 96 (dk_at dksX0_pay_1 0 rfl rfl)
theorem dX0_pay_27 : decode cX0_pay 27 = .ok (.checkcast 261, 3) := dk_192 1 5 (dk_at dksX0_pay_1 3 rfl rfl)
theorem dX0_pay_30 : decode cX0_pay 30 = .ok (.astore_n 2, 1) := dk_77 (dk_at dksX0_pay_1 6 rfl rfl)
theorem dX0_pay_31 : decode cX0_pay 31 = .ok (.aload_n 2, 1) := dk_44 (dk_at dksX0_pay_1 7 rfl rfl)
theorem dX0_pay_32 : decode cX0_pay 32 = .ok (.getfield 266, 3) := dk_180 1 10 (dk_at dksX0_pay_1 8 rfl rfl)
theorem dX0_pay_35 : decode cX0_pay 35 = .ok (.iconst 1, 1) := dk_4 (dk_at dksX0_pay_1 11 rfl rfl)
theorem dX0_pay_36 : decode cX0_pay 36 = .ok (.if_icmp .ne 20, 3) := dk_160 0 20 (dk_at dksX0_pay_1 12 rfl rfl)
theorem dX0_pay_39 : decode cX0_pay 39 = .ok (.aload_n 0, 1) := dk_42 (dk_at dksX0_pay_1 15 rfl rfl)
theorem dX0_pay_40 : decode cX0_pay 40 = .ok (.getfield 22, 3) := dk_180 0 22 (dk_at dksX0_pay_1 16 rfl rfl)
theorem dX0_pay_43 : decode cX0_pay 43 = .ok (.aload_n 2, 1) := dk_44 (dk_at dksX0_pay_1 19 rfl rfl)
theorem dX0_pay_44 : decode cX0_pay 44 = .ok (.getfield 286, 3) := dk_180 1 30 (dk_at dksX0_pay_1 20 rfl rfl)
theorem dX0_pay_47 : decode cX0_pay 47 = .ok (.invokevirtual 192, 3) := dk_182 0 192 (dk_at dksX0_pay_2 0 rfl rfl)
theorem dX0_pay_50 : decode cX0_pay 50 = .ok (.getfield 111, 3) := dk_180 0 111 (dk_at dksX0_pay_2 3 rfl rfl)
theorem dX0_pay_53 : decode cX0_pay 53 = .ok (.ifCond .eq 6, 3) := dk_153 0 6 (dk_at dksX0_pay_2 6 rfl rfl)
theorem dX0_pay_56 : decode cX0_pay 56 = .ok (.bipush (-4), 2) := dk_16 252 (dk_at dksX0_pay_2 9 rfl rfl)
theorem dX0_pay_58 : decode cX0_pay 58 = .ok (.ireturn, 1) := dk_172 (dk_at dksX0_pay_2 11 rfl rfl)
theorem dX0_pay_59 : decode cX0_pay 59 = .ok (.aload_n 0, 1) := dk_42 (dk_at dksX0_pay_2 12 rfl rfl)
theorem dX0_pay_60 : decode cX0_pay 60 = .ok (.getfield 22, 3) := dk_180 0 22 (dk_at dksX0_pay_2 13 rfl rfl)
theorem dX0_pay_63 : decode cX0_pay 63 = .ok (.invokevirtual 67, 3) := dk_182 0 67 (dk_at dksX0_pay_2 16 rfl rfl)
theorem dX0_pay_66 : decode cX0_pay 66 = .ok (.astore_n 3, 1) := dk_78 (dk_at dksX0_pay_2 19 rfl rfl)
theorem dX0_pay_67 : decode cX0_pay 67 = .ok (.aload_n 3, 1) := dk_45 (dk_at dksX0_pay_2 20 rfl rfl)
theorem dX0_pay_68 : decode cX0_pay 68 = .ok (.aload_n 3, 1) := dk_45 (dk_at dksX0_pay_2 21 rfl rfl)
theorem dX0_pay_69 : decode cX0_pay 69 = .ok (.getfield 211, 3) := dk_180 0 211 (dk_at dksX0_pay_3 0 rfl rfl)
theorem dX0_pay_72 : decode cX0_pay 72 = .ok (.iload_n 1, 1) := dk_27 (dk_at dksX0_pay_3 3 rfl rfl)
theorem dX0_pay_73 : decode cX0_pay 73 = .ok (.invokevirtual 96, 3) := dk_182 0 96 (dk_at dksX0_pay_3 4 rfl rfl)
theorem dX0_pay_76 : decode cX0_pay 76 = .ok (.checkcast 261, 3) := dk_192 1 5 (dk_at dksX0_pay_3 7 rfl rfl)
theorem dX0_pay_79 : decode cX0_pay 79 = .ok (.invokevirtual 287, 3) := dk_182 1 31 (dk_at dksX0_pay_3 10 rfl rfl)
theorem dX0_pay_82 : decode cX0_pay 82 = .ok (.istore 4, 2) := dk_54 4 (dk_at dksX0_pay_3 13 rfl rfl)
theorem dX0_pay_84 : decode cX0_pay 84 = .ok (.aload_n 0, 1) := dk_42 (dk_at dksX0_pay_3 15 rfl rfl)
theorem dX0_pay_85 : decode cX0_pay 85 = .ok (.aload_n 3, 1) := dk_45 (dk_at dksX0_pay_3 16 rfl rfl)
theorem dX0_pay_86 : decode cX0_pay 86 = .ok (.iload 4, 2) := dk_21 4 (dk_at dksX0_pay_3 17 rfl rfl)
theorem dX0_pay_88 : decode cX0_pay 88 = .ok (.invokevirtual 78, 3) := dk_182 0 78 (dk_at dksX0_pay_3 19 rfl rfl)
theorem dX0_pay_91 : decode cX0_pay 91 = .ok (.ireturn, 1) := dk_172 (dk_at dksX0_pay_3 22 rfl rfl)
abbrev cX0_pass : ByteArray := prog_1_method_33_code
def yX0_pass : MethodName := ⟨RX0, "pass", "(I)I"⟩
def dkwX0_pass_2 : List UInt8 := [44, 29, 182, 0, 78, 172]
abbrev dktX0_pass_2 : List UInt8 := dkwX0_pass_2 ++ []
def dkwX0_pass_1 : List UInt8 := [17, 39, 15, 164, 0, 6, 16, 252, 172, 42, 180, 0, 22, 182, 0, 67, 77, 44, 27, 182, 1, 37, 62, 42]
abbrev dktX0_pass_1 : List UInt8 := dkwX0_pass_1 ++ dktX0_pass_2
def dkwX0_pass_0 : List UInt8 := [27, 4, 16, 60, 184, 0, 56, 154, 0, 6, 16, 254, 172, 42, 180, 0, 22, 180, 1, 34, 27, 96]
abbrev dktX0_pass_0 : List UInt8 := dkwX0_pass_0 ++ dktX0_pass_1
theorem dksX0_pass_0 : cX0_pass.data.toList.drop 0 = dktX0_pass_0 := by decide +kernel
theorem dksX0_pass_1 : cX0_pass.data.toList.drop 22 = dktX0_pass_1 := dk_seg dksX0_pass_0 22 rfl rfl
theorem dksX0_pass_2 : cX0_pass.data.toList.drop 46 = dktX0_pass_2 := dk_seg dksX0_pass_1 24 rfl rfl
theorem dX0_pass_0 : decode cX0_pass 0 = .ok (.iload_n 1, 1) := dk_27 (dk_at dksX0_pass_0 0 rfl rfl)
theorem dX0_pass_1 : decode cX0_pass 1 = .ok (.iconst 1, 1) := dk_4 (dk_at dksX0_pass_0 1 rfl rfl)
theorem dX0_pass_2 : decode cX0_pass 2 = .ok (.bipush 60, 2) := dk_16 60 (dk_at dksX0_pass_0 2 rfl rfl)
theorem dX0_pass_4 : decode cX0_pass 4 = .ok (.invokestatic 56, 3) := dk_184 0 56 (dk_at dksX0_pass_0 4 rfl rfl)
theorem dX0_pass_7 : decode cX0_pass 7 = .ok (.ifCond .ne 6, 3) := dk_154 0 6 (dk_at dksX0_pass_0 7 rfl rfl)
theorem dX0_pass_10 : decode cX0_pass 10 = .ok (.bipush (-2), 2) := dk_16 254 (dk_at dksX0_pass_0 10 rfl rfl)
theorem dX0_pass_12 : decode cX0_pass 12 = .ok (.ireturn, 1) := dk_172 (dk_at dksX0_pass_0 12 rfl rfl)
theorem dX0_pass_13 : decode cX0_pass 13 = .ok (.aload_n 0, 1) := dk_42 (dk_at dksX0_pass_0 13 rfl rfl)
theorem dX0_pass_14 : decode cX0_pass 14 = .ok (.getfield 22, 3) := dk_180 0 22 (dk_at dksX0_pass_0 14 rfl rfl)
theorem dX0_pass_17 : decode cX0_pass 17 = .ok (.getfield 290, 3) := dk_180 1 34 (dk_at dksX0_pass_0 17 rfl rfl)
theorem dX0_pass_20 : decode cX0_pass 20 = .ok (.iload_n 1, 1) := dk_27 (dk_at dksX0_pass_0 20 rfl rfl)
theorem dX0_pass_21 : decode cX0_pass 21 = .ok (.iadd, 1) := dk_96 (dk_at dksX0_pass_0 21 rfl rfl)
theorem dX0_pass_22 : decode cX0_pass 22 = .ok (.sipush 9999, 3) := dk_17 39 15 (dk_at dksX0_pass_1 0 rfl rfl)
theorem dX0_pass_25 : decode cX0_pass 25 = .ok (.if_icmp .le 6, 3) := dk_164 0 6 (dk_at dksX0_pass_1 3 rfl rfl)
theorem dX0_pass_28 : decode cX0_pass 28 = .ok (.bipush (-4), 2) := dk_16 252 (dk_at dksX0_pass_1 6 rfl rfl)
theorem dX0_pass_30 : decode cX0_pass 30 = .ok (.ireturn, 1) := dk_172 (dk_at dksX0_pass_1 8 rfl rfl)
theorem dX0_pass_31 : decode cX0_pass 31 = .ok (.aload_n 0, 1) := dk_42 (dk_at dksX0_pass_1 9 rfl rfl)
theorem dX0_pass_32 : decode cX0_pass 32 = .ok (.getfield 22, 3) := dk_180 0 22 (dk_at dksX0_pass_1 10 rfl rfl)
theorem dX0_pass_35 : decode cX0_pass 35 = .ok (.invokevirtual 67, 3) := dk_182 0 67 (dk_at dksX0_pass_1 13 rfl rfl)
theorem dX0_pass_38 : decode cX0_pass 38 = .ok (.astore_n 2, 1) := dk_77 (dk_at dksX0_pass_1 16 rfl rfl)
theorem dX0_pass_39 : decode cX0_pass 39 = .ok (.aload_n 2, 1) := dk_44 (dk_at dksX0_pass_1 17 rfl rfl)
theorem dX0_pass_40 : decode cX0_pass 40 = .ok (.iload_n 1, 1) := dk_27 (dk_at dksX0_pass_1 18 rfl rfl)
theorem dX0_pass_41 : decode cX0_pass 41 = .ok (.invokevirtual 293, 3) := dk_182 1 37 (dk_at dksX0_pass_1 19 rfl rfl)
theorem dX0_pass_44 : decode cX0_pass 44 = .ok (.istore_n 3, 1) := dk_62 (dk_at dksX0_pass_1 22 rfl rfl)
theorem dX0_pass_45 : decode cX0_pass 45 = .ok (.aload_n 0, 1) := dk_42 (dk_at dksX0_pass_1 23 rfl rfl)
theorem dX0_pass_46 : decode cX0_pass 46 = .ok (.aload_n 2, 1) := dk_44 (dk_at dksX0_pass_2 0 rfl rfl)
theorem dX0_pass_47 : decode cX0_pass 47 = .ok (.iload_n 3, 1) := dk_29 (dk_at dksX0_pass_2 1 rfl rfl)
theorem dX0_pass_48 : decode cX0_pass 48 = .ok (.invokevirtual 78, 3) := dk_182 0 78 (dk_at dksX0_pass_2 2 rfl rfl)
theorem dX0_pass_51 : decode cX0_pass 51 = .ok (.ireturn, 1) := dk_172 (dk_at dksX0_pass_2 5 rfl rfl)
abbrev cX0_type : ByteArray := prog_1_method_34_code
def yX0_type : MethodName := ⟨RX0, "type", "(C)I"⟩
def dkwX0_type_1 : List UInt8 := [42, 180, 0, 40, 182, 1, 40, 172]
abbrev dktX0_type_1 : List UInt8 := dkwX0_type_1 ++ []
def dkwX0_type_0 : List UInt8 := [42, 180, 0, 40, 182, 1, 40, 16, 60, 160, 0, 6, 16, 253, 172, 42, 180, 0, 40, 27, 182, 1, 43, 87]
abbrev dktX0_type_0 : List UInt8 := dkwX0_type_0 ++ dktX0_type_1
theorem dksX0_type_0 : cX0_type.data.toList.drop 0 = dktX0_type_0 := by decide +kernel
theorem dksX0_type_1 : cX0_type.data.toList.drop 24 = dktX0_type_1 := dk_seg dksX0_type_0 24 rfl rfl
theorem dX0_type_0 : decode cX0_type 0 = .ok (.aload_n 0, 1) := dk_42 (dk_at dksX0_type_0 0 rfl rfl)
theorem dX0_type_1 : decode cX0_type 1 = .ok (.getfield 40, 3) := dk_180 0 40 (dk_at dksX0_type_0 1 rfl rfl)
theorem dX0_type_4 : decode cX0_type 4 = .ok (.invokevirtual 296, 3) := dk_182 1 40 (dk_at dksX0_type_0 4 rfl rfl)
theorem dX0_type_7 : decode cX0_type 7 = .ok (.bipush 60, 2) := dk_16 60 (dk_at dksX0_type_0 7 rfl rfl)
theorem dX0_type_9 : decode cX0_type 9 = .ok (.if_icmp .ne 6, 3) := dk_160 0 6 (dk_at dksX0_type_0 9 rfl rfl)
theorem dX0_type_12 : decode cX0_type 12 = .ok (.bipush (-3), 2) := dk_16 253 (dk_at dksX0_type_0 12 rfl rfl)
theorem dX0_type_14 : decode cX0_type 14 = .ok (.ireturn, 1) := dk_172 (dk_at dksX0_type_0 14 rfl rfl)
theorem dX0_type_15 : decode cX0_type 15 = .ok (.aload_n 0, 1) := dk_42 (dk_at dksX0_type_0 15 rfl rfl)
theorem dX0_type_16 : decode cX0_type 16 = .ok (.getfield 40, 3) := dk_180 0 40 (dk_at dksX0_type_0 16 rfl rfl)
theorem dX0_type_19 : decode cX0_type 19 = .ok (.iload_n 1, 1) := dk_27 (dk_at dksX0_type_0 19 rfl rfl)
theorem dX0_type_20 : decode cX0_type 20 = .ok (.invokevirtual 299, 3) := dk_182 1 43 (dk_at dksX0_type_0 20 rfl rfl)
theorem dX0_type_23 : decode cX0_type 23 = .ok (.pop, 1) := dk_87 (dk_at dksX0_type_0 23 rfl rfl)
theorem dX0_type_24 : decode cX0_type 24 = .ok (.aload_n 0, 1) := dk_42 (dk_at dksX0_type_1 0 rfl rfl)
theorem dX0_type_25 : decode cX0_type 25 = .ok (.getfield 40, 3) := dk_180 0 40 (dk_at dksX0_type_1 1 rfl rfl)
theorem dX0_type_28 : decode cX0_type 28 = .ok (.invokevirtual 296, 3) := dk_182 1 40 (dk_at dksX0_type_1 4 rfl rfl)
theorem dX0_type_31 : decode cX0_type 31 = .ok (.ireturn, 1) := dk_172 (dk_at dksX0_type_1 7 rfl rfl)
abbrev cX0_clearText : ByteArray := prog_1_method_35_code
def yX0_clearText : MethodName := ⟨RX0, "clearText", "()I"⟩
def dkwX0_clearText_0 : List UInt8 := [42, 180, 0, 40, 182, 1, 40, 60, 42, 180, 0, 40, 3, 182, 1, 47, 27, 172]
abbrev dktX0_clearText_0 : List UInt8 := dkwX0_clearText_0 ++ []
theorem dksX0_clearText_0 : cX0_clearText.data.toList.drop 0 = dktX0_clearText_0 := by decide +kernel
theorem dX0_clearText_0 : decode cX0_clearText 0 = .ok (.aload_n 0, 1) := dk_42 (dk_at dksX0_clearText_0 0 rfl rfl)
theorem dX0_clearText_1 : decode cX0_clearText 1 = .ok (.getfield 40, 3) := dk_180 0 40 (dk_at dksX0_clearText_0 1 rfl rfl)
theorem dX0_clearText_4 : decode cX0_clearText 4 = .ok (.invokevirtual 296, 3) := dk_182 1 40 (dk_at dksX0_clearText_0 4 rfl rfl)
theorem dX0_clearText_7 : decode cX0_clearText 7 = .ok (.istore_n 1, 1) := dk_60 (dk_at dksX0_clearText_0 7 rfl rfl)
theorem dX0_clearText_8 : decode cX0_clearText 8 = .ok (.aload_n 0, 1) := dk_42 (dk_at dksX0_clearText_0 8 rfl rfl)
theorem dX0_clearText_9 : decode cX0_clearText 9 = .ok (.getfield 40, 3) := dk_180 0 40 (dk_at dksX0_clearText_0 9 rfl rfl)
theorem dX0_clearText_12 : decode cX0_clearText 12 = .ok (.iconst 0, 1) := dk_3 (dk_at dksX0_clearText_0 12 rfl rfl)
theorem dX0_clearText_13 : decode cX0_clearText 13 = .ok (.invokevirtual 303, 3) := dk_182 1 47 (dk_at dksX0_clearText_0 13 rfl rfl)
theorem dX0_clearText_16 : decode cX0_clearText 16 = .ok (.iload_n 1, 1) := dk_27 (dk_at dksX0_clearText_0 16 rfl rfl)
theorem dX0_clearText_17 : decode cX0_clearText 17 = .ok (.ireturn, 1) := dk_172 (dk_at dksX0_clearText_0 17 rfl rfl)
abbrev cX0_undo : ByteArray := prog_1_method_36_code
def yX0_undo : MethodName := ⟨RX0, "undo", "()I"⟩
def dkwX0_undo_1 : List UInt8 := [181, 0, 22, 42, 180, 0, 31, 182, 0, 48, 172]
abbrev dktX0_undo_1 : List UInt8 := dkwX0_undo_1 ++ []
def dkwX0_undo_0 : List UInt8 := [42, 180, 0, 31, 182, 1, 50, 153, 0, 6, 16, 251, 172, 42, 42, 180, 0, 31, 182, 1, 53, 192, 0, 19]
abbrev dktX0_undo_0 : List UInt8 := dkwX0_undo_0 ++ dktX0_undo_1
theorem dksX0_undo_0 : cX0_undo.data.toList.drop 0 = dktX0_undo_0 := by decide +kernel
theorem dksX0_undo_1 : cX0_undo.data.toList.drop 24 = dktX0_undo_1 := dk_seg dksX0_undo_0 24 rfl rfl
theorem dX0_undo_0 : decode cX0_undo 0 = .ok (.aload_n 0, 1) := dk_42 (dk_at dksX0_undo_0 0 rfl rfl)
theorem dX0_undo_1 : decode cX0_undo 1 = .ok (.getfield 31, 3) := dk_180 0 31 (dk_at dksX0_undo_0 1 rfl rfl)
theorem dX0_undo_4 : decode cX0_undo 4 = .ok (.invokevirtual 306, 3) := dk_182 1 50 (dk_at dksX0_undo_0 4 rfl rfl)
theorem dX0_undo_7 : decode cX0_undo 7 = .ok (.ifCond .eq 6, 3) := dk_153 0 6 (dk_at dksX0_undo_0 7 rfl rfl)
theorem dX0_undo_10 : decode cX0_undo 10 = .ok (.bipush (-5), 2) := dk_16 251 (dk_at dksX0_undo_0 10 rfl rfl)
theorem dX0_undo_12 : decode cX0_undo 12 = .ok (.ireturn, 1) := dk_172 (dk_at dksX0_undo_0 12 rfl rfl)
theorem dX0_undo_13 : decode cX0_undo 13 = .ok (.aload_n 0, 1) := dk_42 (dk_at dksX0_undo_0 13 rfl rfl)
theorem dX0_undo_14 : decode cX0_undo 14 = .ok (.aload_n 0, 1) := dk_42 (dk_at dksX0_undo_0 14 rfl rfl)
theorem dX0_undo_15 : decode cX0_undo 15 = .ok (.getfield 31, 3) := dk_180 0 31 (dk_at dksX0_undo_0 15 rfl rfl)
theorem dX0_undo_18 : decode cX0_undo 18 = .ok (.invokevirtual 309, 3) := dk_182 1 53 (dk_at dksX0_undo_0 18 rfl rfl)
theorem dX0_undo_21 : decode cX0_undo 21 = .ok (.checkcast 19, 3) := dk_192 0 19 (dk_at dksX0_undo_0 21 rfl rfl)
theorem dX0_undo_24 : decode cX0_undo 24 = .ok (.putfield 22, 3) := dk_181 0 22 (dk_at dksX0_undo_1 0 rfl rfl)
theorem dX0_undo_27 : decode cX0_undo 27 = .ok (.aload_n 0, 1) := dk_42 (dk_at dksX0_undo_1 3 rfl rfl)
theorem dX0_undo_28 : decode cX0_undo 28 = .ok (.getfield 31, 3) := dk_180 0 31 (dk_at dksX0_undo_1 4 rfl rfl)
theorem dX0_undo_31 : decode cX0_undo 31 = .ok (.invokevirtual 48, 3) := dk_182 0 48 (dk_at dksX0_undo_1 7 rfl rfl)
theorem dX0_undo_34 : decode cX0_undo 34 = .ok (.ireturn, 1) := dk_172 (dk_at dksX0_undo_1 10 rfl rfl)
abbrev cX0_keep : ByteArray := prog_1_method_37_code
def yX0_keep : MethodName := ⟨RX0, "keep", "()I"⟩
def dkwX0_keep_0 : List UInt8 := [42, 42, 180, 0, 22, 182, 0, 67, 181, 1, 56, 42, 180, 0, 22, 180, 1, 34, 172]
abbrev dktX0_keep_0 : List UInt8 := dkwX0_keep_0 ++ []
theorem dksX0_keep_0 : cX0_keep.data.toList.drop 0 = dktX0_keep_0 := by decide +kernel
theorem dX0_keep_0 : decode cX0_keep 0 = .ok (.aload_n 0, 1) := dk_42 (dk_at dksX0_keep_0 0 rfl rfl)
theorem dX0_keep_1 : decode cX0_keep 1 = .ok (.aload_n 0, 1) := dk_42 (dk_at dksX0_keep_0 1 rfl rfl)
theorem dX0_keep_2 : decode cX0_keep 2 = .ok (.getfield 22, 3) := dk_180 0 22 (dk_at dksX0_keep_0 2 rfl rfl)
theorem dX0_keep_5 : decode cX0_keep 5 = .ok (.invokevirtual 67, 3) := dk_182 0 67 (dk_at dksX0_keep_0 5 rfl rfl)
theorem dX0_keep_8 : decode cX0_keep 8 = .ok (.putfield 312, 3) := dk_181 1 56 (dk_at dksX0_keep_0 8 rfl rfl)
theorem dX0_keep_11 : decode cX0_keep 11 = .ok (.aload_n 0, 1) := dk_42 (dk_at dksX0_keep_0 11 rfl rfl)
theorem dX0_keep_12 : decode cX0_keep 12 = .ok (.getfield 22, 3) := dk_180 0 22 (dk_at dksX0_keep_0 12 rfl rfl)
theorem dX0_keep_15 : decode cX0_keep 15 = .ok (.getfield 290, 3) := dk_180 1 34 (dk_at dksX0_keep_0 15 rfl rfl)
theorem dX0_keep_18 : decode cX0_keep 18 = .ok (.ireturn, 1) := dk_172 (dk_at dksX0_keep_0 18 rfl rfl)
abbrev cX0_restore : ByteArray := prog_1_method_38_code
def yX0_restore : MethodName := ⟨RX0, "restore", "()I"⟩
def dkwX0_restore_1 : List UInt8 := [180, 1, 34, 182, 0, 78, 172]
abbrev dktX0_restore_1 : List UInt8 := dkwX0_restore_1 ++ []
def dkwX0_restore_0 : List UInt8 := [42, 180, 1, 56, 199, 0, 8, 16, 251, 167, 0, 21, 42, 42, 180, 1, 56, 182, 0, 67, 42, 180, 1, 56]
abbrev dktX0_restore_0 : List UInt8 := dkwX0_restore_0 ++ dktX0_restore_1
theorem dksX0_restore_0 : cX0_restore.data.toList.drop 0 = dktX0_restore_0 := by decide +kernel
theorem dksX0_restore_1 : cX0_restore.data.toList.drop 24 = dktX0_restore_1 := dk_seg dksX0_restore_0 24 rfl rfl
theorem dX0_restore_0 : decode cX0_restore 0 = .ok (.aload_n 0, 1) := dk_42 (dk_at dksX0_restore_0 0 rfl rfl)
theorem dX0_restore_1 : decode cX0_restore 1 = .ok (.getfield 312, 3) := dk_180 1 56 (dk_at dksX0_restore_0 1 rfl rfl)
theorem dX0_restore_4 : decode cX0_restore 4 = .ok (.ifnonnull 8, 3) := dk_199 0 8 (dk_at dksX0_restore_0 4 rfl rfl)
theorem dX0_restore_7 : decode cX0_restore 7 = .ok (.bipush (-5), 2) := dk_16 251 (dk_at dksX0_restore_0 7 rfl rfl)
theorem dX0_restore_9 : decode cX0_restore 9 = .ok (.goto 21, 3) := dk_167 0 21 (dk_at dksX0_restore_0 9 rfl rfl)
theorem dX0_restore_12 : decode cX0_restore 12 = .ok (.aload_n 0, 1) := dk_42 (dk_at dksX0_restore_0 12 rfl rfl)
theorem dX0_restore_13 : decode cX0_restore 13 = .ok (.aload_n 0, 1) := dk_42 (dk_at dksX0_restore_0 13 rfl rfl)
theorem dX0_restore_14 : decode cX0_restore 14 = .ok (.getfield 312, 3) := dk_180 1 56 (dk_at dksX0_restore_0 14 rfl rfl)
theorem dX0_restore_17 : decode cX0_restore 17 = .ok (.invokevirtual 67, 3) := dk_182 0 67 (dk_at dksX0_restore_0 17 rfl rfl)
theorem dX0_restore_20 : decode cX0_restore 20 = .ok (.aload_n 0, 1) := dk_42 (dk_at dksX0_restore_0 20 rfl rfl)
theorem dX0_restore_21 : decode cX0_restore 21 = .ok (.getfield 312, 3) := dk_180 1 56 (dk_at dksX0_restore_0 21 rfl rfl)
theorem dX0_restore_24 : decode cX0_restore 24 = .ok (.getfield 290, 3) := dk_180 1 34 (dk_at dksX0_restore_1 0 rfl rfl)
theorem dX0_restore_27 : decode cX0_restore 27 = .ok (.invokevirtual 78, 3) := dk_182 0 78 (dk_at dksX0_restore_1 3 rfl rfl)
theorem dX0_restore_30 : decode cX0_restore 30 = .ok (.ireturn, 1) := dk_172 (dk_at dksX0_restore_1 6 rfl rfl)
abbrev cX0_supplier : ByteArray := prog_1_method_39_code
def yX0_supplier : MethodName := ⟨RX0, "supplier", "(II)I"⟩
def dkwX0_supplier_6 : List UInt8 := [167, 0, 5, 16, 254, 172]
abbrev dktX0_supplier_6 : List UInt8 := dkwX0_supplier_6 ++ []
def dkwX0_supplier_5 : List UInt8 := [182, 0, 115, 167, 0, 26, 45, 180, 1, 65, 167, 0, 19, 45, 180, 1, 68, 167, 0, 12, 45, 180, 1, 71]
abbrev dktX0_supplier_5 : List UInt8 := dkwX0_supplier_5 ++ dktX0_supplier_6
def dkwX0_supplier_4 : List UInt8 := [167, 0, 53, 3, 167, 0, 49, 42, 180, 0, 22, 27, 182, 1, 62, 167, 0, 38, 42, 180, 0, 22, 27, 4]
abbrev dktX0_supplier_4 : List UInt8 := dkwX0_supplier_4 ++ dktX0_supplier_5
def dkwX0_supplier_3 : List UInt8 := [45, 180, 0, 107, 167, 0, 71, 45, 180, 1, 59, 167, 0, 64, 45, 180, 0, 111, 153, 0, 7, 4]
abbrev dktX0_supplier_3 : List UInt8 := dkwX0_supplier_3 ++ dktX0_supplier_4
def dkwX0_supplier_2 : List UInt8 := [170, 0, 0, 0, 0, 0, 0, 121, 0, 0, 0, 0, 0, 0, 0, 7, 0, 0, 0, 48, 0, 0, 0, 55, 0, 0, 0, 62, 0, 0, 0, 77, 0, 0, 0, 88, 0, 0, 0, 100, 0, 0, 0, 107, 0, 0, 0, 114]
abbrev dktX0_supplier_2 : List UInt8 := dkwX0_supplier_2 ++ dktX0_supplier_3
def dkwX0_supplier_1 : List UInt8 := [182, 0, 96, 192, 0, 71, 78, 28]
abbrev dktX0_supplier_1 : List UInt8 := dkwX0_supplier_1 ++ dktX0_supplier_2
def dkwX0_supplier_0 : List UInt8 := [42, 180, 0, 22, 180, 0, 60, 27, 182, 0, 82, 154, 0, 5, 2, 172, 42, 180, 0, 22, 180, 0, 60, 27]
abbrev dktX0_supplier_0 : List UInt8 := dkwX0_supplier_0 ++ dktX0_supplier_1
theorem dksX0_supplier_0 : cX0_supplier.data.toList.drop 0 = dktX0_supplier_0 := by decide +kernel
theorem dksX0_supplier_1 : cX0_supplier.data.toList.drop 24 = dktX0_supplier_1 := dk_seg dksX0_supplier_0 24 rfl rfl
theorem dksX0_supplier_2 : cX0_supplier.data.toList.drop 32 = dktX0_supplier_2 := dk_seg dksX0_supplier_1 8 rfl rfl
theorem dksX0_supplier_3 : cX0_supplier.data.toList.drop 80 = dktX0_supplier_3 := dk_seg dksX0_supplier_2 48 rfl rfl
theorem dksX0_supplier_4 : cX0_supplier.data.toList.drop 102 = dktX0_supplier_4 := dk_seg dksX0_supplier_3 22 rfl rfl
theorem dksX0_supplier_5 : cX0_supplier.data.toList.drop 126 = dktX0_supplier_5 := dk_seg dksX0_supplier_4 24 rfl rfl
theorem dksX0_supplier_6 : cX0_supplier.data.toList.drop 150 = dktX0_supplier_6 := dk_seg dksX0_supplier_5 24 rfl rfl
theorem dX0_supplier_0 : decode cX0_supplier 0 = .ok (.aload_n 0, 1) := dk_42 (dk_at dksX0_supplier_0 0 rfl rfl)
theorem dX0_supplier_1 : decode cX0_supplier 1 = .ok (.getfield 22, 3) := dk_180 0 22 (dk_at dksX0_supplier_0 1 rfl rfl)
theorem dX0_supplier_4 : decode cX0_supplier 4 = .ok (.getfield 60, 3) := dk_180 0 60 (dk_at dksX0_supplier_0 4 rfl rfl)
theorem dX0_supplier_7 : decode cX0_supplier 7 = .ok (.iload_n 1, 1) := dk_27 (dk_at dksX0_supplier_0 7 rfl rfl)
theorem dX0_supplier_8 : decode cX0_supplier 8 = .ok (.invokevirtual 82, 3) := dk_182 0 82 (dk_at dksX0_supplier_0 8 rfl rfl)
theorem dX0_supplier_11 : decode cX0_supplier 11 = .ok (.ifCond .ne 5, 3) := dk_154 0 5 (dk_at dksX0_supplier_0 11 rfl rfl)
theorem dX0_supplier_14 : decode cX0_supplier 14 = .ok (.iconst (-1), 1) := dk_2 (dk_at dksX0_supplier_0 14 rfl rfl)
theorem dX0_supplier_15 : decode cX0_supplier 15 = .ok (.ireturn, 1) := dk_172 (dk_at dksX0_supplier_0 15 rfl rfl)
theorem dX0_supplier_16 : decode cX0_supplier 16 = .ok (.aload_n 0, 1) := dk_42 (dk_at dksX0_supplier_0 16 rfl rfl)
theorem dX0_supplier_17 : decode cX0_supplier 17 = .ok (.getfield 22, 3) := dk_180 0 22 (dk_at dksX0_supplier_0 17 rfl rfl)
theorem dX0_supplier_20 : decode cX0_supplier 20 = .ok (.getfield 60, 3) := dk_180 0 60 (dk_at dksX0_supplier_0 20 rfl rfl)
theorem dX0_supplier_23 : decode cX0_supplier 23 = .ok (.iload_n 1, 1) := dk_27 (dk_at dksX0_supplier_0 23 rfl rfl)
theorem dX0_supplier_24 : decode cX0_supplier 24 = .ok (.invokevirtual 96, 3) := dk_182 0 96 (dk_at dksX0_supplier_1 0 rfl rfl)
theorem dX0_supplier_27 : decode cX0_supplier 27 = .ok (.checkcast 71, 3) := dk_192 0 71 (dk_at dksX0_supplier_1 3 rfl rfl)
theorem dX0_supplier_30 : decode cX0_supplier 30 = .ok (.astore_n 3, 1) := dk_78 (dk_at dksX0_supplier_1 6 rfl rfl)
theorem dX0_supplier_31 : decode cX0_supplier 31 = .ok (.iload_n 2, 1) := dk_28 (dk_at dksX0_supplier_1 7 rfl rfl)
theorem dX0_supplier_32 : decode cX0_supplier 32 = .ok (.tableswitch 121 0 7 #[48, 55, 62, 77, 88, 100, 107, 114], 48) := by decide +kernel
theorem dX0_supplier_80 : decode cX0_supplier 80 = .ok (.aload_n 3, 1) := dk_45 (dk_at dksX0_supplier_3 0 rfl rfl)
theorem dX0_supplier_81 : decode cX0_supplier 81 = .ok (.getfield 107, 3) := dk_180 0 107 (dk_at dksX0_supplier_3 1 rfl rfl)
theorem dX0_supplier_84 : decode cX0_supplier 84 = .ok (.goto 71, 3) := dk_167 0 71 (dk_at dksX0_supplier_3 4 rfl rfl)
theorem dX0_supplier_87 : decode cX0_supplier 87 = .ok (.aload_n 3, 1) := dk_45 (dk_at dksX0_supplier_3 7 rfl rfl)
theorem dX0_supplier_88 : decode cX0_supplier 88 = .ok (.getfield 315, 3) := dk_180 1 59 (dk_at dksX0_supplier_3 8 rfl rfl)
theorem dX0_supplier_91 : decode cX0_supplier 91 = .ok (.goto 64, 3) := dk_167 0 64 (dk_at dksX0_supplier_3 11 rfl rfl)
theorem dX0_supplier_94 : decode cX0_supplier 94 = .ok (.aload_n 3, 1) := dk_45 (dk_at dksX0_supplier_3 14 rfl rfl)
theorem dX0_supplier_95 : decode cX0_supplier 95 = .ok (.getfield 111, 3) := dk_180 0 111 (dk_at dksX0_supplier_3 15 rfl rfl)
theorem dX0_supplier_98 : decode cX0_supplier 98 = .ok (.ifCond .eq 7, 3) := dk_153 0 7 (dk_at dksX0_supplier_3 18 rfl rfl)
theorem dX0_supplier_101 : decode cX0_supplier 101 = .ok (.iconst 1, 1) := dk_4 (dk_at dksX0_supplier_3 21 rfl rfl)
theorem dX0_supplier_102 : decode cX0_supplier 102 = .ok (.goto 53, 3) := dk_167 0 53 (dk_at dksX0_supplier_4 0 rfl rfl)
theorem dX0_supplier_105 : decode cX0_supplier 105 = .ok (.iconst 0, 1) := dk_3 (dk_at dksX0_supplier_4 3 rfl rfl)
theorem dX0_supplier_106 : decode cX0_supplier 106 = .ok (.goto 49, 3) := dk_167 0 49 (dk_at dksX0_supplier_4 4 rfl rfl)
theorem dX0_supplier_109 : decode cX0_supplier 109 = .ok (.aload_n 0, 1) := dk_42 (dk_at dksX0_supplier_4 7 rfl rfl)
theorem dX0_supplier_110 : decode cX0_supplier 110 = .ok (.getfield 22, 3) := dk_180 0 22 (dk_at dksX0_supplier_4 8 rfl rfl)
theorem dX0_supplier_113 : decode cX0_supplier 113 = .ok (.iload_n 1, 1) := dk_27 (dk_at dksX0_supplier_4 11 rfl rfl)
theorem dX0_supplier_114 : decode cX0_supplier 114 = .ok (.invokevirtual 318, 3) := dk_182 1 62 (dk_at dksX0_supplier_4 12 rfl rfl)
theorem dX0_supplier_117 : decode cX0_supplier 117 = .ok (.goto 38, 3) := dk_167 0 38 (dk_at dksX0_supplier_4 15 rfl rfl)
theorem dX0_supplier_120 : decode cX0_supplier 120 = .ok (.aload_n 0, 1) := dk_42 (dk_at dksX0_supplier_4 18 rfl rfl)
theorem dX0_supplier_121 : decode cX0_supplier 121 = .ok (.getfield 22, 3) := dk_180 0 22 (dk_at dksX0_supplier_4 19 rfl rfl)
theorem dX0_supplier_124 : decode cX0_supplier 124 = .ok (.iload_n 1, 1) := dk_27 (dk_at dksX0_supplier_4 22 rfl rfl)
theorem dX0_supplier_125 : decode cX0_supplier 125 = .ok (.iconst 1, 1) := dk_4 (dk_at dksX0_supplier_4 23 rfl rfl)
theorem dX0_supplier_126 : decode cX0_supplier 126 = .ok (.invokevirtual 115, 3) := dk_182 0 115 (dk_at dksX0_supplier_5 0 rfl rfl)
theorem dX0_supplier_129 : decode cX0_supplier 129 = .ok (.goto 26, 3) := dk_167 0 26 (dk_at dksX0_supplier_5 3 rfl rfl)
theorem dX0_supplier_132 : decode cX0_supplier 132 = .ok (.aload_n 3, 1) := dk_45 (dk_at dksX0_supplier_5 6 rfl rfl)
theorem dX0_supplier_133 : decode cX0_supplier 133 = .ok (.getfield 321, 3) := dk_180 1 65 (dk_at dksX0_supplier_5 7 rfl rfl)
theorem dX0_supplier_136 : decode cX0_supplier 136 = .ok (.goto 19, 3) := dk_167 0 19 (dk_at dksX0_supplier_5 10 rfl rfl)
theorem dX0_supplier_139 : decode cX0_supplier 139 = .ok (.aload_n 3, 1) := dk_45 (dk_at dksX0_supplier_5 13 rfl rfl)
theorem dX0_supplier_140 : decode cX0_supplier 140 = .ok (.getfield 324, 3) := dk_180 1 68 (dk_at dksX0_supplier_5 14 rfl rfl)
theorem dX0_supplier_143 : decode cX0_supplier 143 = .ok (.goto 12, 3) := dk_167 0 12 (dk_at dksX0_supplier_5 17 rfl rfl)
theorem dX0_supplier_146 : decode cX0_supplier 146 = .ok (.aload_n 3, 1) := dk_45 (dk_at dksX0_supplier_5 20 rfl rfl)
theorem dX0_supplier_147 : decode cX0_supplier 147 = .ok (.getfield 327, 3) := dk_180 1 71 (dk_at dksX0_supplier_5 21 rfl rfl)
theorem dX0_supplier_150 : decode cX0_supplier 150 = .ok (.goto 5, 3) := dk_167 0 5 (dk_at dksX0_supplier_6 0 rfl rfl)
theorem dX0_supplier_153 : decode cX0_supplier 153 = .ok (.bipush (-2), 2) := dk_16 254 (dk_at dksX0_supplier_6 3 rfl rfl)
theorem dX0_supplier_155 : decode cX0_supplier 155 = .ok (.ireturn, 1) := dk_172 (dk_at dksX0_supplier_6 5 rfl rfl)
abbrev cX0_order : ByteArray := prog_1_method_42_code
def yX0_order : MethodName := ⟨RX0, "order", "(II)I"⟩
def dkwX0_order_4 : List UInt8 := [45, 180, 0, 178, 167, 0, 13, 42, 27, 182, 1, 93, 167, 0, 5, 16, 254, 172]
abbrev dktX0_order_4 : List UInt8 := dkwX0_order_4 ++ []
def dkwX0_order_3 : List UInt8 := [45, 180, 1, 90, 167, 0, 37, 45, 180, 0, 150, 182, 0, 64, 167, 0, 27, 45, 180, 0, 138, 167, 0, 20]
abbrev dktX0_order_3 : List UInt8 := dkwX0_order_3 ++ dktX0_order_4
def dkwX0_order_2 : List UInt8 := [170, 0, 0, 0, 0, 0, 0, 75, 0, 0, 0, 0, 0, 0, 0, 4, 0, 0, 0, 36, 0, 0, 0, 43, 0, 0, 0, 53, 0, 0, 0, 60, 0, 0, 0, 67]
abbrev dktX0_order_2 : List UInt8 := dkwX0_order_2 ++ dktX0_order_3
def dkwX0_order_1 : List UInt8 := [182, 0, 96, 192, 0, 133, 78, 28]
abbrev dktX0_order_1 : List UInt8 := dkwX0_order_1 ++ dktX0_order_2
def dkwX0_order_0 : List UInt8 := [42, 180, 0, 22, 180, 0, 130, 27, 182, 0, 82, 154, 0, 5, 2, 172, 42, 180, 0, 22, 180, 0, 130, 27]
abbrev dktX0_order_0 : List UInt8 := dkwX0_order_0 ++ dktX0_order_1
theorem dksX0_order_0 : cX0_order.data.toList.drop 0 = dktX0_order_0 := by decide +kernel
theorem dksX0_order_1 : cX0_order.data.toList.drop 24 = dktX0_order_1 := dk_seg dksX0_order_0 24 rfl rfl
theorem dksX0_order_2 : cX0_order.data.toList.drop 32 = dktX0_order_2 := dk_seg dksX0_order_1 8 rfl rfl
theorem dksX0_order_3 : cX0_order.data.toList.drop 68 = dktX0_order_3 := dk_seg dksX0_order_2 36 rfl rfl
theorem dksX0_order_4 : cX0_order.data.toList.drop 92 = dktX0_order_4 := dk_seg dksX0_order_3 24 rfl rfl
theorem dX0_order_0 : decode cX0_order 0 = .ok (.aload_n 0, 1) := dk_42 (dk_at dksX0_order_0 0 rfl rfl)
theorem dX0_order_1 : decode cX0_order 1 = .ok (.getfield 22, 3) := dk_180 0 22 (dk_at dksX0_order_0 1 rfl rfl)
theorem dX0_order_4 : decode cX0_order 4 = .ok (.getfield 130, 3) := dk_180 0 130 (dk_at dksX0_order_0 4 rfl rfl)
theorem dX0_order_7 : decode cX0_order 7 = .ok (.iload_n 1, 1) := dk_27 (dk_at dksX0_order_0 7 rfl rfl)
theorem dX0_order_8 : decode cX0_order 8 = .ok (.invokevirtual 82, 3) := dk_182 0 82 (dk_at dksX0_order_0 8 rfl rfl)
theorem dX0_order_11 : decode cX0_order 11 = .ok (.ifCond .ne 5, 3) := dk_154 0 5 (dk_at dksX0_order_0 11 rfl rfl)
theorem dX0_order_14 : decode cX0_order 14 = .ok (.iconst (-1), 1) := dk_2 (dk_at dksX0_order_0 14 rfl rfl)
theorem dX0_order_15 : decode cX0_order 15 = .ok (.ireturn, 1) := dk_172 (dk_at dksX0_order_0 15 rfl rfl)
theorem dX0_order_16 : decode cX0_order 16 = .ok (.aload_n 0, 1) := dk_42 (dk_at dksX0_order_0 16 rfl rfl)
theorem dX0_order_17 : decode cX0_order 17 = .ok (.getfield 22, 3) := dk_180 0 22 (dk_at dksX0_order_0 17 rfl rfl)
theorem dX0_order_20 : decode cX0_order 20 = .ok (.getfield 130, 3) := dk_180 0 130 (dk_at dksX0_order_0 20 rfl rfl)
theorem dX0_order_23 : decode cX0_order 23 = .ok (.iload_n 1, 1) := dk_27 (dk_at dksX0_order_0 23 rfl rfl)
theorem dX0_order_24 : decode cX0_order 24 = .ok (.invokevirtual 96, 3) := dk_182 0 96 (dk_at dksX0_order_1 0 rfl rfl)
theorem dX0_order_27 : decode cX0_order 27 = .ok (.checkcast 133, 3) := dk_192 0 133 (dk_at dksX0_order_1 3 rfl rfl)
theorem dX0_order_30 : decode cX0_order 30 = .ok (.astore_n 3, 1) := dk_78 (dk_at dksX0_order_1 6 rfl rfl)
theorem dX0_order_31 : decode cX0_order 31 = .ok (.iload_n 2, 1) := dk_28 (dk_at dksX0_order_1 7 rfl rfl)
theorem dX0_order_32 : decode cX0_order 32 = .ok (.tableswitch 75 0 4 #[36, 43, 53, 60, 67], 36) := by decide +kernel
theorem dX0_order_68 : decode cX0_order 68 = .ok (.aload_n 3, 1) := dk_45 (dk_at dksX0_order_3 0 rfl rfl)
theorem dX0_order_69 : decode cX0_order 69 = .ok (.getfield 346, 3) := dk_180 1 90 (dk_at dksX0_order_3 1 rfl rfl)
theorem dX0_order_72 : decode cX0_order 72 = .ok (.goto 37, 3) := dk_167 0 37 (dk_at dksX0_order_3 4 rfl rfl)
theorem dX0_order_75 : decode cX0_order 75 = .ok (.aload_n 3, 1) := dk_45 (dk_at dksX0_order_3 7 rfl rfl)
theorem dX0_order_76 : decode cX0_order 76 = .ok (.getfield 150, 3) := dk_180 0 150 (dk_at dksX0_order_3 8 rfl rfl)
theorem dX0_order_79 : decode cX0_order 79 = .ok (.invokevirtual 64, 3) := dk_182 0 64 (dk_at dksX0_order_3 11 rfl rfl)
theorem dX0_order_82 : decode cX0_order 82 = .ok (.goto 27, 3) := dk_167 0 27 (dk_at dksX0_order_3 14 rfl rfl)
theorem dX0_order_85 : decode cX0_order 85 = .ok (.aload_n 3, 1) := dk_45 (dk_at dksX0_order_3 17 rfl rfl)
theorem dX0_order_86 : decode cX0_order 86 = .ok (.getfield 138, 3) := dk_180 0 138 (dk_at dksX0_order_3 18 rfl rfl)
theorem dX0_order_89 : decode cX0_order 89 = .ok (.goto 20, 3) := dk_167 0 20 (dk_at dksX0_order_3 21 rfl rfl)
theorem dX0_order_92 : decode cX0_order 92 = .ok (.aload_n 3, 1) := dk_45 (dk_at dksX0_order_4 0 rfl rfl)
theorem dX0_order_93 : decode cX0_order 93 = .ok (.getfield 178, 3) := dk_180 0 178 (dk_at dksX0_order_4 1 rfl rfl)
theorem dX0_order_96 : decode cX0_order 96 = .ok (.goto 13, 3) := dk_167 0 13 (dk_at dksX0_order_4 4 rfl rfl)
theorem dX0_order_99 : decode cX0_order 99 = .ok (.aload_n 0, 1) := dk_42 (dk_at dksX0_order_4 7 rfl rfl)
theorem dX0_order_100 : decode cX0_order 100 = .ok (.iload_n 1, 1) := dk_27 (dk_at dksX0_order_4 8 rfl rfl)
theorem dX0_order_101 : decode cX0_order 101 = .ok (.invokevirtual 349, 3) := dk_182 1 93 (dk_at dksX0_order_4 9 rfl rfl)
theorem dX0_order_104 : decode cX0_order 104 = .ok (.goto 5, 3) := dk_167 0 5 (dk_at dksX0_order_4 12 rfl rfl)
theorem dX0_order_107 : decode cX0_order 107 = .ok (.bipush (-2), 2) := dk_16 254 (dk_at dksX0_order_4 15 rfl rfl)
theorem dX0_order_109 : decode cX0_order 109 = .ok (.ireturn, 1) := dk_172 (dk_at dksX0_order_4 17 rfl rfl)
abbrev cX0_invoicesFor : ByteArray := prog_1_method_41_code
def yX0_invoicesFor : MethodName := ⟨RX0, "invoicesFor", "(I)I"⟩
def dkwX0_invoicesFor_2 : List UInt8 := [3, 96, 61, 167, 255, 219, 28, 172]
abbrev dktX0_invoicesFor_2 : List UInt8 := dkwX0_invoicesFor_2 ++ []
def dkwX0_invoicesFor_1 : List UInt8 := [185, 1, 87, 1, 0, 192, 1, 5, 58, 4, 28, 25, 4, 180, 1, 30, 27, 160, 0, 7, 4, 167, 0, 4]
abbrev dktX0_invoicesFor_1 : List UInt8 := dkwX0_invoicesFor_1 ++ dktX0_invoicesFor_2
def dkwX0_invoicesFor_0 : List UInt8 := [3, 61, 42, 180, 0, 22, 180, 0, 211, 182, 1, 78, 78, 45, 185, 1, 82, 1, 0, 153, 0, 34, 45]
abbrev dktX0_invoicesFor_0 : List UInt8 := dkwX0_invoicesFor_0 ++ dktX0_invoicesFor_1
theorem dksX0_invoicesFor_0 : cX0_invoicesFor.data.toList.drop 0 = dktX0_invoicesFor_0 := by decide +kernel
theorem dksX0_invoicesFor_1 : cX0_invoicesFor.data.toList.drop 23 = dktX0_invoicesFor_1 := dk_seg dksX0_invoicesFor_0 23 rfl rfl
theorem dksX0_invoicesFor_2 : cX0_invoicesFor.data.toList.drop 47 = dktX0_invoicesFor_2 := dk_seg dksX0_invoicesFor_1 24 rfl rfl
theorem dX0_invoicesFor_0 : decode cX0_invoicesFor 0 = .ok (.iconst 0, 1) := dk_3 (dk_at dksX0_invoicesFor_0 0 rfl rfl)
theorem dX0_invoicesFor_1 : decode cX0_invoicesFor 1 = .ok (.istore_n 2, 1) := dk_61 (dk_at dksX0_invoicesFor_0 1 rfl rfl)
theorem dX0_invoicesFor_2 : decode cX0_invoicesFor 2 = .ok (.aload_n 0, 1) := dk_42 (dk_at dksX0_invoicesFor_0 2 rfl rfl)
theorem dX0_invoicesFor_3 : decode cX0_invoicesFor 3 = .ok (.getfield 22, 3) := dk_180 0 22 (dk_at dksX0_invoicesFor_0 3 rfl rfl)
theorem dX0_invoicesFor_6 : decode cX0_invoicesFor 6 = .ok (.getfield 211, 3) := dk_180 0 211 (dk_at dksX0_invoicesFor_0 6 rfl rfl)
theorem dX0_invoicesFor_9 : decode cX0_invoicesFor 9 = .ok (.invokevirtual 334, 3) := dk_182 1 78 (dk_at dksX0_invoicesFor_0 9 rfl rfl)
theorem dX0_invoicesFor_12 : decode cX0_invoicesFor 12 = .ok (.astore_n 3, 1) := dk_78 (dk_at dksX0_invoicesFor_0 12 rfl rfl)
theorem dX0_invoicesFor_13 : decode cX0_invoicesFor 13 = .ok (.aload_n 3, 1) := dk_45 (dk_at dksX0_invoicesFor_0 13 rfl rfl)
theorem dX0_invoicesFor_14 : decode cX0_invoicesFor 14 = .ok (.invokeinterface 338 1, 5) := by decide +kernel
theorem dX0_invoicesFor_19 : decode cX0_invoicesFor 19 = .ok (.ifCond .eq 34, 3) := dk_153 0 34 (dk_at dksX0_invoicesFor_0 19 rfl rfl)
theorem dX0_invoicesFor_22 : decode cX0_invoicesFor 22 = .ok (.aload_n 3, 1) := dk_45 (dk_at dksX0_invoicesFor_0 22 rfl rfl)
theorem dX0_invoicesFor_23 : decode cX0_invoicesFor 23 = .ok (.invokeinterface 343 1, 5) := by decide +kernel
theorem dX0_invoicesFor_28 : decode cX0_invoicesFor 28 = .ok (.checkcast 261, 3) := dk_192 1 5 (dk_at dksX0_invoicesFor_1 5 rfl rfl)
theorem dX0_invoicesFor_31 : decode cX0_invoicesFor 31 = .ok (.astore 4, 2) := dk_58 4 (dk_at dksX0_invoicesFor_1 8 rfl rfl)
theorem dX0_invoicesFor_33 : decode cX0_invoicesFor 33 = .ok (.iload_n 2, 1) := dk_28 (dk_at dksX0_invoicesFor_1 10 rfl rfl)
theorem dX0_invoicesFor_34 : decode cX0_invoicesFor 34 = .ok (.aload 4, 2) := dk_25 4 (dk_at dksX0_invoicesFor_1 11 rfl rfl)
theorem dX0_invoicesFor_36 : decode cX0_invoicesFor 36 = .ok (.getfield 286, 3) := dk_180 1 30 (dk_at dksX0_invoicesFor_1 13 rfl rfl)
theorem dX0_invoicesFor_39 : decode cX0_invoicesFor 39 = .ok (.iload_n 1, 1) := dk_27 (dk_at dksX0_invoicesFor_1 16 rfl rfl)
theorem dX0_invoicesFor_40 : decode cX0_invoicesFor 40 = .ok (.if_icmp .ne 7, 3) := dk_160 0 7 (dk_at dksX0_invoicesFor_1 17 rfl rfl)
theorem dX0_invoicesFor_43 : decode cX0_invoicesFor 43 = .ok (.iconst 1, 1) := dk_4 (dk_at dksX0_invoicesFor_1 20 rfl rfl)
theorem dX0_invoicesFor_44 : decode cX0_invoicesFor 44 = .ok (.goto 4, 3) := dk_167 0 4 (dk_at dksX0_invoicesFor_1 21 rfl rfl)
theorem dX0_invoicesFor_47 : decode cX0_invoicesFor 47 = .ok (.iconst 0, 1) := dk_3 (dk_at dksX0_invoicesFor_2 0 rfl rfl)
theorem dX0_invoicesFor_48 : decode cX0_invoicesFor 48 = .ok (.iadd, 1) := dk_96 (dk_at dksX0_invoicesFor_2 1 rfl rfl)
theorem dX0_invoicesFor_49 : decode cX0_invoicesFor 49 = .ok (.istore_n 2, 1) := dk_61 (dk_at dksX0_invoicesFor_2 2 rfl rfl)
theorem dX0_invoicesFor_50 : decode cX0_invoicesFor 50 = .ok (.goto (-37), 3) := dk_167 255 219 (dk_at dksX0_invoicesFor_2 3 rfl rfl)
theorem dX0_invoicesFor_53 : decode cX0_invoicesFor 53 = .ok (.iload_n 2, 1) := dk_28 (dk_at dksX0_invoicesFor_2 6 rfl rfl)
theorem dX0_invoicesFor_54 : decode cX0_invoicesFor 54 = .ok (.ireturn, 1) := dk_172 (dk_at dksX0_invoicesFor_2 7 rfl rfl)
abbrev cX0_line : ByteArray := prog_1_method_43_code
def yX0_line : MethodName := ⟨RX0, "line", "(III)I"⟩
def dkwX0_line_7 : List UInt8 := [182, 1, 113, 184, 1, 108, 167, 0, 5, 16, 254, 172]
abbrev dktX0_line_7 : List UInt8 := dkwX0_line_7 ++ []
def dkwX0_line_6 : List UInt8 := [3, 42, 27, 28, 182, 0, 200, 184, 1, 108, 167, 0, 25, 3, 167, 0, 21, 3, 42, 180, 0, 22, 27, 28]
abbrev dktX0_line_6 : List UInt8 := dkwX0_line_6 ++ dktX0_line_7
def dkwX0_line_5 : List UInt8 := [25, 4, 180, 1, 102, 167, 0, 54, 25, 4, 180, 1, 105, 167, 0, 46, 42, 27, 182, 0, 147, 153, 0, 16]
abbrev dktX0_line_5 : List UInt8 := dkwX0_line_5 ++ dktX0_line_6
def dkwX0_line_4 : List UInt8 := [25, 4, 180, 0, 166, 167, 0, 78, 25, 4, 180, 1, 99, 167, 0, 70, 25, 4, 180, 0, 169, 167, 0, 62]
abbrev dktX0_line_4 : List UInt8 := dkwX0_line_4 ++ dktX0_line_5
def dkwX0_line_3 : List UInt8 := [25, 4, 180, 1, 96, 167, 0, 102, 25, 4, 180, 0, 172, 167, 0, 94, 25, 4, 180, 0, 175, 167, 0, 86]
abbrev dktX0_line_3 : List UInt8 := dkwX0_line_3 ++ dktX0_line_4
def dkwX0_line_2 : List UInt8 := [170, 0, 0, 0, 0, 159, 0, 0, 0, 0, 0, 0, 0, 9, 0, 0, 0, 54, 0, 0, 0, 62, 0, 0, 0, 70, 0, 0, 0, 78, 0, 0, 0, 86, 0, 0, 0, 94, 0, 0, 0, 102, 0, 0, 0, 110, 0, 0, 0, 118, 0, 0, 0, 143]
abbrev dktX0_line_2 : List UInt8 := dkwX0_line_2 ++ dktX0_line_3
def dkwX0_line_1 : List UInt8 := [58, 4, 29]
abbrev dktX0_line_1 : List UInt8 := dkwX0_line_1 ++ dktX0_line_2
def dkwX0_line_0 : List UInt8 := [42, 180, 0, 22, 27, 28, 182, 0, 158, 154, 0, 5, 2, 172, 42, 180, 0, 22, 27, 28, 182, 0, 162]
abbrev dktX0_line_0 : List UInt8 := dkwX0_line_0 ++ dktX0_line_1
theorem dksX0_line_0 : cX0_line.data.toList.drop 0 = dktX0_line_0 := by decide +kernel
theorem dksX0_line_1 : cX0_line.data.toList.drop 23 = dktX0_line_1 := dk_seg dksX0_line_0 23 rfl rfl
theorem dksX0_line_2 : cX0_line.data.toList.drop 26 = dktX0_line_2 := dk_seg dksX0_line_1 3 rfl rfl
theorem dksX0_line_3 : cX0_line.data.toList.drop 80 = dktX0_line_3 := dk_seg dksX0_line_2 54 rfl rfl
theorem dksX0_line_4 : cX0_line.data.toList.drop 104 = dktX0_line_4 := dk_seg dksX0_line_3 24 rfl rfl
theorem dksX0_line_5 : cX0_line.data.toList.drop 128 = dktX0_line_5 := dk_seg dksX0_line_4 24 rfl rfl
theorem dksX0_line_6 : cX0_line.data.toList.drop 152 = dktX0_line_6 := dk_seg dksX0_line_5 24 rfl rfl
theorem dksX0_line_7 : cX0_line.data.toList.drop 176 = dktX0_line_7 := dk_seg dksX0_line_6 24 rfl rfl
theorem dX0_line_0 : decode cX0_line 0 = .ok (.aload_n 0, 1) := dk_42 (dk_at dksX0_line_0 0 rfl rfl)
theorem dX0_line_1 : decode cX0_line 1 = .ok (.getfield 22, 3) := dk_180 0 22 (dk_at dksX0_line_0 1 rfl rfl)
theorem dX0_line_4 : decode cX0_line 4 = .ok (.iload_n 1, 1) := dk_27 (dk_at dksX0_line_0 4 rfl rfl)
theorem dX0_line_5 : decode cX0_line 5 = .ok (.iload_n 2, 1) := dk_28 (dk_at dksX0_line_0 5 rfl rfl)
theorem dX0_line_6 : decode cX0_line 6 = .ok (.invokevirtual 158, 3) := dk_182 0 158 (dk_at dksX0_line_0 6 rfl rfl)
theorem dX0_line_9 : decode cX0_line 9 = .ok (.ifCond .ne 5, 3) := dk_154 0 5 (dk_at dksX0_line_0 9 rfl rfl)
theorem dX0_line_12 : decode cX0_line 12 = .ok (.iconst (-1), 1) := dk_2 (dk_at dksX0_line_0 12 rfl rfl)
theorem dX0_line_13 : decode cX0_line 13 = .ok (.ireturn, 1) := dk_172 (dk_at dksX0_line_0 13 rfl rfl)
theorem dX0_line_14 : decode cX0_line 14 = .ok (.aload_n 0, 1) := dk_42 (dk_at dksX0_line_0 14 rfl rfl)
theorem dX0_line_15 : decode cX0_line 15 = .ok (.getfield 22, 3) := dk_180 0 22 (dk_at dksX0_line_0 15 rfl rfl)
theorem dX0_line_18 : decode cX0_line 18 = .ok (.iload_n 1, 1) := dk_27 (dk_at dksX0_line_0 18 rfl rfl)
theorem dX0_line_19 : decode cX0_line 19 = .ok (.iload_n 2, 1) := dk_28 (dk_at dksX0_line_0 19 rfl rfl)
theorem dX0_line_20 : decode cX0_line 20 = .ok (.invokevirtual 162, 3) := dk_182 0 162 (dk_at dksX0_line_0 20 rfl rfl)
theorem dX0_line_23 : decode cX0_line 23 = .ok (.astore 4, 2) := dk_58 4 (dk_at dksX0_line_1 0 rfl rfl)
theorem dX0_line_25 : decode cX0_line 25 = .ok (.iload_n 3, 1) := dk_29 (dk_at dksX0_line_1 2 rfl rfl)
theorem dX0_line_26 : decode cX0_line 26 = .ok (.tableswitch 159 0 9 #[54, 62, 70, 78, 86, 94, 102, 110, 118, 143], 54) := by decide +kernel
theorem dX0_line_80 : decode cX0_line 80 = .ok (.aload 4, 2) := dk_25 4 (dk_at dksX0_line_3 0 rfl rfl)
theorem dX0_line_82 : decode cX0_line 82 = .ok (.getfield 352, 3) := dk_180 1 96 (dk_at dksX0_line_3 2 rfl rfl)
theorem dX0_line_85 : decode cX0_line 85 = .ok (.goto 102, 3) := dk_167 0 102 (dk_at dksX0_line_3 5 rfl rfl)
theorem dX0_line_88 : decode cX0_line 88 = .ok (.aload 4, 2) := dk_25 4 (dk_at dksX0_line_3 8 rfl rfl)
theorem dX0_line_90 : decode cX0_line 90 = .ok (.getfield 172, 3) := dk_180 0 172 (dk_at dksX0_line_3 10 rfl rfl)
theorem dX0_line_93 : decode cX0_line 93 = .ok (.goto 94, 3) := dk_167 0 94 (dk_at dksX0_line_3 13 rfl rfl)
theorem dX0_line_96 : decode cX0_line 96 = .ok (.aload 4, 2) := dk_25 4 (dk_at dksX0_line_3 16 rfl rfl)
theorem dX0_line_98 : decode cX0_line 98 = .ok (.getfield 175, 3) := dk_180 0 175 (dk_at dksX0_line_3 18 rfl rfl)
theorem dX0_line_101 : decode cX0_line 101 = .ok (.goto 86, 3) := dk_167 0 86 (dk_at dksX0_line_3 21 rfl rfl)
theorem dX0_line_104 : decode cX0_line 104 = .ok (.aload 4, 2) := dk_25 4 (dk_at dksX0_line_4 0 rfl rfl)
theorem dX0_line_106 : decode cX0_line 106 = .ok (.getfield 166, 3) := dk_180 0 166 (dk_at dksX0_line_4 2 rfl rfl)
theorem dX0_line_109 : decode cX0_line 109 = .ok (.goto 78, 3) := dk_167 0 78 (dk_at dksX0_line_4 5 rfl rfl)
theorem dX0_line_112 : decode cX0_line 112 = .ok (.aload 4, 2) := dk_25 4 (dk_at dksX0_line_4 8 rfl rfl)
theorem dX0_line_114 : decode cX0_line 114 = .ok (.getfield 355, 3) := dk_180 1 99 (dk_at dksX0_line_4 10 rfl rfl)
theorem dX0_line_117 : decode cX0_line 117 = .ok (.goto 70, 3) := dk_167 0 70 (dk_at dksX0_line_4 13 rfl rfl)
theorem dX0_line_120 : decode cX0_line 120 = .ok (.aload 4, 2) := dk_25 4 (dk_at dksX0_line_4 16 rfl rfl)
theorem dX0_line_122 : decode cX0_line 122 = .ok (.getfield 169, 3) := dk_180 0 169 (dk_at dksX0_line_4 18 rfl rfl)
theorem dX0_line_125 : decode cX0_line 125 = .ok (.goto 62, 3) := dk_167 0 62 (dk_at dksX0_line_4 21 rfl rfl)
theorem dX0_line_128 : decode cX0_line 128 = .ok (.aload 4, 2) := dk_25 4 (dk_at dksX0_line_5 0 rfl rfl)
theorem dX0_line_130 : decode cX0_line 130 = .ok (.getfield 358, 3) := dk_180 1 102 (dk_at dksX0_line_5 2 rfl rfl)
theorem dX0_line_133 : decode cX0_line 133 = .ok (.goto 54, 3) := dk_167 0 54 (dk_at dksX0_line_5 5 rfl rfl)
theorem dX0_line_136 : decode cX0_line 136 = .ok (.aload 4, 2) := dk_25 4 (dk_at dksX0_line_5 8 rfl rfl)
theorem dX0_line_138 : decode cX0_line 138 = .ok (.getfield 361, 3) := dk_180 1 105 (dk_at dksX0_line_5 10 rfl rfl)
theorem dX0_line_141 : decode cX0_line 141 = .ok (.goto 46, 3) := dk_167 0 46 (dk_at dksX0_line_5 13 rfl rfl)
theorem dX0_line_144 : decode cX0_line 144 = .ok (.aload_n 0, 1) := dk_42 (dk_at dksX0_line_5 16 rfl rfl)
theorem dX0_line_145 : decode cX0_line 145 = .ok (.iload_n 1, 1) := dk_27 (dk_at dksX0_line_5 17 rfl rfl)
theorem dX0_line_146 : decode cX0_line 146 = .ok (.invokevirtual 147, 3) := dk_182 0 147 (dk_at dksX0_line_5 18 rfl rfl)
theorem dX0_line_149 : decode cX0_line 149 = .ok (.ifCond .eq 16, 3) := dk_153 0 16 (dk_at dksX0_line_5 21 rfl rfl)
theorem dX0_line_152 : decode cX0_line 152 = .ok (.iconst 0, 1) := dk_3 (dk_at dksX0_line_6 0 rfl rfl)
theorem dX0_line_153 : decode cX0_line 153 = .ok (.aload_n 0, 1) := dk_42 (dk_at dksX0_line_6 1 rfl rfl)
theorem dX0_line_154 : decode cX0_line 154 = .ok (.iload_n 1, 1) := dk_27 (dk_at dksX0_line_6 2 rfl rfl)
theorem dX0_line_155 : decode cX0_line 155 = .ok (.iload_n 2, 1) := dk_28 (dk_at dksX0_line_6 3 rfl rfl)
theorem dX0_line_156 : decode cX0_line 156 = .ok (.invokevirtual 200, 3) := dk_182 0 200 (dk_at dksX0_line_6 4 rfl rfl)
theorem dX0_line_159 : decode cX0_line 159 = .ok (.invokestatic 364, 3) := dk_184 1 108 (dk_at dksX0_line_6 7 rfl rfl)
theorem dX0_line_162 : decode cX0_line 162 = .ok (.goto 25, 3) := dk_167 0 25 (dk_at dksX0_line_6 10 rfl rfl)
theorem dX0_line_165 : decode cX0_line 165 = .ok (.iconst 0, 1) := dk_3 (dk_at dksX0_line_6 13 rfl rfl)
theorem dX0_line_166 : decode cX0_line 166 = .ok (.goto 21, 3) := dk_167 0 21 (dk_at dksX0_line_6 14 rfl rfl)
theorem dX0_line_169 : decode cX0_line 169 = .ok (.iconst 0, 1) := dk_3 (dk_at dksX0_line_6 17 rfl rfl)
theorem dX0_line_170 : decode cX0_line 170 = .ok (.aload_n 0, 1) := dk_42 (dk_at dksX0_line_6 18 rfl rfl)
theorem dX0_line_171 : decode cX0_line 171 = .ok (.getfield 22, 3) := dk_180 0 22 (dk_at dksX0_line_6 19 rfl rfl)
theorem dX0_line_174 : decode cX0_line 174 = .ok (.iload_n 1, 1) := dk_27 (dk_at dksX0_line_6 22 rfl rfl)
theorem dX0_line_175 : decode cX0_line 175 = .ok (.iload_n 2, 1) := dk_28 (dk_at dksX0_line_6 23 rfl rfl)
theorem dX0_line_176 : decode cX0_line 176 = .ok (.invokevirtual 369, 3) := dk_182 1 113 (dk_at dksX0_line_7 0 rfl rfl)
theorem dX0_line_179 : decode cX0_line 179 = .ok (.invokestatic 364, 3) := dk_184 1 108 (dk_at dksX0_line_7 3 rfl rfl)
theorem dX0_line_182 : decode cX0_line 182 = .ok (.goto 5, 3) := dk_167 0 5 (dk_at dksX0_line_7 6 rfl rfl)
theorem dX0_line_185 : decode cX0_line 185 = .ok (.bipush (-2), 2) := dk_16 254 (dk_at dksX0_line_7 9 rfl rfl)
theorem dX0_line_187 : decode cX0_line 187 = .ok (.ireturn, 1) := dk_172 (dk_at dksX0_line_7 11 rfl rfl)
abbrev cX0_invoice : ByteArray := prog_1_method_44_code
def yX0_invoice : MethodName := ⟨RX0, "invoice", "(II)I"⟩
def dkwX0_invoice_6 : List UInt8 := [167, 0, 23, 45, 180, 1, 126, 167, 0, 16, 42, 180, 0, 22, 45, 182, 1, 14, 167, 0, 5, 16, 254, 172]
abbrev dktX0_invoice_6 : List UInt8 := dkwX0_invoice_6 ++ []
def dkwX0_invoice_5 : List UInt8 := [182, 1, 24, 167, 0, 44, 45, 180, 1, 122, 167, 0, 37, 45, 180, 1, 123, 167, 0, 30, 45, 180, 1, 124]
abbrev dktX0_invoice_5 : List UInt8 := dkwX0_invoice_5 ++ dktX0_invoice_6
def dkwX0_invoice_4 : List UInt8 := [180, 1, 118, 190, 167, 0, 65, 45, 180, 1, 10, 167, 0, 58, 45, 180, 1, 11, 167, 0, 51, 45]
abbrev dktX0_invoice_4 : List UInt8 := dkwX0_invoice_4 ++ dktX0_invoice_5
def dkwX0_invoice_3 : List UInt8 := [45, 180, 1, 116, 167, 0, 87, 45, 180, 1, 30, 167, 0, 80, 45, 180, 1, 117, 167, 0, 73, 45]
abbrev dktX0_invoice_3 : List UInt8 := dkwX0_invoice_3 ++ dktX0_invoice_4
def dkwX0_invoice_2 : List UInt8 := [170, 0, 0, 0, 0, 0, 0, 153, 0, 0, 0, 0, 0, 0, 0, 11, 0, 0, 0, 64, 0, 0, 0, 71, 0, 0, 0, 78, 0, 0, 0, 85, 0, 0, 0, 93, 0, 0, 0, 100, 0, 0, 0, 107, 0, 0, 0, 114, 0, 0, 0, 121, 0, 0, 0, 128, 0, 0, 0, 135, 0, 0, 0, 142]
abbrev dktX0_invoice_2 : List UInt8 := dkwX0_invoice_2 ++ dktX0_invoice_3
def dkwX0_invoice_1 : List UInt8 := [182, 0, 96, 192, 1, 5, 78, 28]
abbrev dktX0_invoice_1 : List UInt8 := dkwX0_invoice_1 ++ dktX0_invoice_2
def dkwX0_invoice_0 : List UInt8 := [42, 180, 0, 22, 180, 0, 211, 27, 182, 0, 82, 154, 0, 5, 2, 172, 42, 180, 0, 22, 180, 0, 211, 27]
abbrev dktX0_invoice_0 : List UInt8 := dkwX0_invoice_0 ++ dktX0_invoice_1
theorem dksX0_invoice_0 : cX0_invoice.data.toList.drop 0 = dktX0_invoice_0 := by decide +kernel
theorem dksX0_invoice_1 : cX0_invoice.data.toList.drop 24 = dktX0_invoice_1 := dk_seg dksX0_invoice_0 24 rfl rfl
theorem dksX0_invoice_2 : cX0_invoice.data.toList.drop 32 = dktX0_invoice_2 := dk_seg dksX0_invoice_1 8 rfl rfl
theorem dksX0_invoice_3 : cX0_invoice.data.toList.drop 96 = dktX0_invoice_3 := dk_seg dksX0_invoice_2 64 rfl rfl
theorem dksX0_invoice_4 : cX0_invoice.data.toList.drop 118 = dktX0_invoice_4 := dk_seg dksX0_invoice_3 22 rfl rfl
theorem dksX0_invoice_5 : cX0_invoice.data.toList.drop 140 = dktX0_invoice_5 := dk_seg dksX0_invoice_4 22 rfl rfl
theorem dksX0_invoice_6 : cX0_invoice.data.toList.drop 164 = dktX0_invoice_6 := dk_seg dksX0_invoice_5 24 rfl rfl
theorem dX0_invoice_0 : decode cX0_invoice 0 = .ok (.aload_n 0, 1) := dk_42 (dk_at dksX0_invoice_0 0 rfl rfl)
theorem dX0_invoice_1 : decode cX0_invoice 1 = .ok (.getfield 22, 3) := dk_180 0 22 (dk_at dksX0_invoice_0 1 rfl rfl)
theorem dX0_invoice_4 : decode cX0_invoice 4 = .ok (.getfield 211, 3) := dk_180 0 211 (dk_at dksX0_invoice_0 4 rfl rfl)
theorem dX0_invoice_7 : decode cX0_invoice 7 = .ok (.iload_n 1, 1) := dk_27 (dk_at dksX0_invoice_0 7 rfl rfl)
theorem dX0_invoice_8 : decode cX0_invoice 8 = .ok (.invokevirtual 82, 3) := dk_182 0 82 (dk_at dksX0_invoice_0 8 rfl rfl)
theorem dX0_invoice_11 : decode cX0_invoice 11 = .ok (.ifCond .ne 5, 3) := dk_154 0 5 (dk_at dksX0_invoice_0 11 rfl rfl)
theorem dX0_invoice_14 : decode cX0_invoice 14 = .ok (.iconst (-1), 1) := dk_2 (dk_at dksX0_invoice_0 14 rfl rfl)
theorem dX0_invoice_15 : decode cX0_invoice 15 = .ok (.ireturn, 1) := dk_172 (dk_at dksX0_invoice_0 15 rfl rfl)
theorem dX0_invoice_16 : decode cX0_invoice 16 = .ok (.aload_n 0, 1) := dk_42 (dk_at dksX0_invoice_0 16 rfl rfl)
theorem dX0_invoice_17 : decode cX0_invoice 17 = .ok (.getfield 22, 3) := dk_180 0 22 (dk_at dksX0_invoice_0 17 rfl rfl)
theorem dX0_invoice_20 : decode cX0_invoice 20 = .ok (.getfield 211, 3) := dk_180 0 211 (dk_at dksX0_invoice_0 20 rfl rfl)
theorem dX0_invoice_23 : decode cX0_invoice 23 = .ok (.iload_n 1, 1) := dk_27 (dk_at dksX0_invoice_0 23 rfl rfl)
theorem dX0_invoice_24 : decode cX0_invoice 24 = .ok (.invokevirtual 96, 3) := dk_182 0 96 (dk_at dksX0_invoice_1 0 rfl rfl)
theorem dX0_invoice_27 : decode cX0_invoice 27 = .ok (.checkcast 261, 3) := dk_192 1 5 (dk_at dksX0_invoice_1 3 rfl rfl)
theorem dX0_invoice_30 : decode cX0_invoice 30 = .ok (.astore_n 3, 1) := dk_78 (dk_at dksX0_invoice_1 6 rfl rfl)
theorem dX0_invoice_31 : decode cX0_invoice 31 = .ok (.iload_n 2, 1) := dk_28 (dk_at dksX0_invoice_1 7 rfl rfl)
theorem dX0_invoice_32 : decode cX0_invoice 32 = .ok (.tableswitch 153 0 11 #[64, 71, 78, 85, 93, 100, 107, 114, 121, 128, 135, 142], 64) := by decide +kernel
theorem dX0_invoice_96 : decode cX0_invoice 96 = .ok (.aload_n 3, 1) := dk_45 (dk_at dksX0_invoice_3 0 rfl rfl)
theorem dX0_invoice_97 : decode cX0_invoice 97 = .ok (.getfield 372, 3) := dk_180 1 116 (dk_at dksX0_invoice_3 1 rfl rfl)
theorem dX0_invoice_100 : decode cX0_invoice 100 = .ok (.goto 87, 3) := dk_167 0 87 (dk_at dksX0_invoice_3 4 rfl rfl)
theorem dX0_invoice_103 : decode cX0_invoice 103 = .ok (.aload_n 3, 1) := dk_45 (dk_at dksX0_invoice_3 7 rfl rfl)
theorem dX0_invoice_104 : decode cX0_invoice 104 = .ok (.getfield 286, 3) := dk_180 1 30 (dk_at dksX0_invoice_3 8 rfl rfl)
theorem dX0_invoice_107 : decode cX0_invoice 107 = .ok (.goto 80, 3) := dk_167 0 80 (dk_at dksX0_invoice_3 11 rfl rfl)
theorem dX0_invoice_110 : decode cX0_invoice 110 = .ok (.aload_n 3, 1) := dk_45 (dk_at dksX0_invoice_3 14 rfl rfl)
theorem dX0_invoice_111 : decode cX0_invoice 111 = .ok (.getfield 373, 3) := dk_180 1 117 (dk_at dksX0_invoice_3 15 rfl rfl)
theorem dX0_invoice_114 : decode cX0_invoice 114 = .ok (.goto 73, 3) := dk_167 0 73 (dk_at dksX0_invoice_3 18 rfl rfl)
theorem dX0_invoice_117 : decode cX0_invoice 117 = .ok (.aload_n 3, 1) := dk_45 (dk_at dksX0_invoice_3 21 rfl rfl)
theorem dX0_invoice_118 : decode cX0_invoice 118 = .ok (.getfield 374, 3) := dk_180 1 118 (dk_at dksX0_invoice_4 0 rfl rfl)
theorem dX0_invoice_121 : decode cX0_invoice 121 = .ok (.arraylength, 1) := dk_190 (dk_at dksX0_invoice_4 3 rfl rfl)
theorem dX0_invoice_122 : decode cX0_invoice 122 = .ok (.goto 65, 3) := dk_167 0 65 (dk_at dksX0_invoice_4 4 rfl rfl)
theorem dX0_invoice_125 : decode cX0_invoice 125 = .ok (.aload_n 3, 1) := dk_45 (dk_at dksX0_invoice_4 7 rfl rfl)
theorem dX0_invoice_126 : decode cX0_invoice 126 = .ok (.getfield 266, 3) := dk_180 1 10 (dk_at dksX0_invoice_4 8 rfl rfl)
theorem dX0_invoice_129 : decode cX0_invoice 129 = .ok (.goto 58, 3) := dk_167 0 58 (dk_at dksX0_invoice_4 11 rfl rfl)
theorem dX0_invoice_132 : decode cX0_invoice 132 = .ok (.aload_n 3, 1) := dk_45 (dk_at dksX0_invoice_4 14 rfl rfl)
theorem dX0_invoice_133 : decode cX0_invoice 133 = .ok (.getfield 267, 3) := dk_180 1 11 (dk_at dksX0_invoice_4 15 rfl rfl)
theorem dX0_invoice_136 : decode cX0_invoice 136 = .ok (.goto 51, 3) := dk_167 0 51 (dk_at dksX0_invoice_4 18 rfl rfl)
theorem dX0_invoice_139 : decode cX0_invoice 139 = .ok (.aload_n 3, 1) := dk_45 (dk_at dksX0_invoice_4 21 rfl rfl)
theorem dX0_invoice_140 : decode cX0_invoice 140 = .ok (.invokevirtual 280, 3) := dk_182 1 24 (dk_at dksX0_invoice_5 0 rfl rfl)
theorem dX0_invoice_143 : decode cX0_invoice 143 = .ok (.goto 44, 3) := dk_167 0 44 (dk_at dksX0_invoice_5 3 rfl rfl)
theorem dX0_invoice_146 : decode cX0_invoice 146 = .ok (.aload_n 3, 1) := dk_45 (dk_at dksX0_invoice_5 6 rfl rfl)
theorem dX0_invoice_147 : decode cX0_invoice 147 = .ok (.getfield 378, 3) := dk_180 1 122 (dk_at dksX0_invoice_5 7 rfl rfl)
theorem dX0_invoice_150 : decode cX0_invoice 150 = .ok (.goto 37, 3) := dk_167 0 37 (dk_at dksX0_invoice_5 10 rfl rfl)
theorem dX0_invoice_153 : decode cX0_invoice 153 = .ok (.aload_n 3, 1) := dk_45 (dk_at dksX0_invoice_5 13 rfl rfl)
theorem dX0_invoice_154 : decode cX0_invoice 154 = .ok (.getfield 379, 3) := dk_180 1 123 (dk_at dksX0_invoice_5 14 rfl rfl)
theorem dX0_invoice_157 : decode cX0_invoice 157 = .ok (.goto 30, 3) := dk_167 0 30 (dk_at dksX0_invoice_5 17 rfl rfl)
theorem dX0_invoice_160 : decode cX0_invoice 160 = .ok (.aload_n 3, 1) := dk_45 (dk_at dksX0_invoice_5 20 rfl rfl)
theorem dX0_invoice_161 : decode cX0_invoice 161 = .ok (.getfield 380, 3) := dk_180 1 124 (dk_at dksX0_invoice_5 21 rfl rfl)
theorem dX0_invoice_164 : decode cX0_invoice 164 = .ok (.goto 23, 3) := dk_167 0 23 (dk_at dksX0_invoice_6 0 rfl rfl)
theorem dX0_invoice_167 : decode cX0_invoice 167 = .ok (.aload_n 3, 1) := dk_45 (dk_at dksX0_invoice_6 3 rfl rfl)
theorem dX0_invoice_168 : decode cX0_invoice 168 = .ok (.getfield 382, 3) := dk_180 1 126 (dk_at dksX0_invoice_6 4 rfl rfl)
theorem dX0_invoice_171 : decode cX0_invoice 171 = .ok (.goto 16, 3) := dk_167 0 16 (dk_at dksX0_invoice_6 7 rfl rfl)
theorem dX0_invoice_174 : decode cX0_invoice 174 = .ok (.aload_n 0, 1) := dk_42 (dk_at dksX0_invoice_6 10 rfl rfl)
theorem dX0_invoice_175 : decode cX0_invoice 175 = .ok (.getfield 22, 3) := dk_180 0 22 (dk_at dksX0_invoice_6 11 rfl rfl)
theorem dX0_invoice_178 : decode cX0_invoice 178 = .ok (.aload_n 3, 1) := dk_45 (dk_at dksX0_invoice_6 14 rfl rfl)
theorem dX0_invoice_179 : decode cX0_invoice 179 = .ok (.invokevirtual 270, 3) := dk_182 1 14 (dk_at dksX0_invoice_6 15 rfl rfl)
theorem dX0_invoice_182 : decode cX0_invoice 182 = .ok (.goto 5, 3) := dk_167 0 5 (dk_at dksX0_invoice_6 18 rfl rfl)
theorem dX0_invoice_185 : decode cX0_invoice 185 = .ok (.bipush (-2), 2) := dk_16 254 (dk_at dksX0_invoice_6 21 rfl rfl)
theorem dX0_invoice_187 : decode cX0_invoice 187 = .ok (.ireturn, 1) := dk_172 (dk_at dksX0_invoice_6 23 rfl rfl)
abbrev cX0_entry : ByteArray := prog_1_method_45_code
def yX0_entry : MethodName := ⟨RX0, "entry", "(III)I"⟩
def dkwX0_entry_4 : List UInt8 := [25, 4, 180, 0, 229, 167, 0, 5, 16, 254, 172]
abbrev dktX0_entry_4 : List UInt8 := dkwX0_entry_4 ++ []
def dkwX0_entry_3 : List UInt8 := [180, 0, 224, 167, 0, 31, 29, 4, 160, 0, 11, 25, 4, 180, 0, 226, 167, 0, 18, 29, 5, 160, 0, 11]
abbrev dktX0_entry_3 : List UInt8 := dkwX0_entry_3 ++ dktX0_entry_4
def dkwX0_entry_2 : List UInt8 := [180, 0, 211, 27, 182, 0, 96, 192, 1, 5, 180, 1, 118, 28, 50, 58, 4, 29, 154, 0, 11, 25, 4]
abbrev dktX0_entry_2 : List UInt8 := dkwX0_entry_2 ++ dktX0_entry_3
def dkwX0_entry_1 : List UInt8 := [182, 0, 96, 192, 1, 5, 180, 1, 118, 190, 4, 100, 184, 0, 56, 154, 0, 5, 2, 172, 42, 180, 0, 22]
abbrev dktX0_entry_1 : List UInt8 := dkwX0_entry_1 ++ dktX0_entry_2
def dkwX0_entry_0 : List UInt8 := [42, 180, 0, 22, 180, 0, 211, 27, 182, 0, 82, 153, 0, 31, 28, 3, 42, 180, 0, 22, 180, 0, 211, 27]
abbrev dktX0_entry_0 : List UInt8 := dkwX0_entry_0 ++ dktX0_entry_1
theorem dksX0_entry_0 : cX0_entry.data.toList.drop 0 = dktX0_entry_0 := by decide +kernel
theorem dksX0_entry_1 : cX0_entry.data.toList.drop 24 = dktX0_entry_1 := dk_seg dksX0_entry_0 24 rfl rfl
theorem dksX0_entry_2 : cX0_entry.data.toList.drop 48 = dktX0_entry_2 := dk_seg dksX0_entry_1 24 rfl rfl
theorem dksX0_entry_3 : cX0_entry.data.toList.drop 71 = dktX0_entry_3 := dk_seg dksX0_entry_2 23 rfl rfl
theorem dksX0_entry_4 : cX0_entry.data.toList.drop 95 = dktX0_entry_4 := dk_seg dksX0_entry_3 24 rfl rfl
theorem dX0_entry_0 : decode cX0_entry 0 = .ok (.aload_n 0, 1) := dk_42 (dk_at dksX0_entry_0 0 rfl rfl)
theorem dX0_entry_1 : decode cX0_entry 1 = .ok (.getfield 22, 3) := dk_180 0 22 (dk_at dksX0_entry_0 1 rfl rfl)
theorem dX0_entry_4 : decode cX0_entry 4 = .ok (.getfield 211, 3) := dk_180 0 211 (dk_at dksX0_entry_0 4 rfl rfl)
theorem dX0_entry_7 : decode cX0_entry 7 = .ok (.iload_n 1, 1) := dk_27 (dk_at dksX0_entry_0 7 rfl rfl)
theorem dX0_entry_8 : decode cX0_entry 8 = .ok (.invokevirtual 82, 3) := dk_182 0 82 (dk_at dksX0_entry_0 8 rfl rfl)
theorem dX0_entry_11 : decode cX0_entry 11 = .ok (.ifCond .eq 31, 3) := dk_153 0 31 (dk_at dksX0_entry_0 11 rfl rfl)
theorem dX0_entry_14 : decode cX0_entry 14 = .ok (.iload_n 2, 1) := dk_28 (dk_at dksX0_entry_0 14 rfl rfl)
theorem dX0_entry_15 : decode cX0_entry 15 = .ok (.iconst 0, 1) := dk_3 (dk_at dksX0_entry_0 15 rfl rfl)
theorem dX0_entry_16 : decode cX0_entry 16 = .ok (.aload_n 0, 1) := dk_42 (dk_at dksX0_entry_0 16 rfl rfl)
theorem dX0_entry_17 : decode cX0_entry 17 = .ok (.getfield 22, 3) := dk_180 0 22 (dk_at dksX0_entry_0 17 rfl rfl)
theorem dX0_entry_20 : decode cX0_entry 20 = .ok (.getfield 211, 3) := dk_180 0 211 (dk_at dksX0_entry_0 20 rfl rfl)
theorem dX0_entry_23 : decode cX0_entry 23 = .ok (.iload_n 1, 1) := dk_27 (dk_at dksX0_entry_0 23 rfl rfl)
theorem dX0_entry_24 : decode cX0_entry 24 = .ok (.invokevirtual 96, 3) := dk_182 0 96 (dk_at dksX0_entry_1 0 rfl rfl)
theorem dX0_entry_27 : decode cX0_entry 27 = .ok (.checkcast 261, 3) := dk_192 1 5 (dk_at dksX0_entry_1 3 rfl rfl)
theorem dX0_entry_30 : decode cX0_entry 30 = .ok (.getfield 374, 3) := dk_180 1 118 (dk_at dksX0_entry_1 6 rfl rfl)
theorem dX0_entry_33 : decode cX0_entry 33 = .ok (.arraylength, 1) := dk_190 (dk_at dksX0_entry_1 9 rfl rfl)
theorem dX0_entry_34 : decode cX0_entry 34 = .ok (.iconst 1, 1) := dk_4 (dk_at dksX0_entry_1 10 rfl rfl)
theorem dX0_entry_35 : decode cX0_entry 35 = .ok (.isub, 1) := dk_100 (dk_at dksX0_entry_1 11 rfl rfl)
theorem dX0_entry_36 : decode cX0_entry 36 = .ok (.invokestatic 56, 3) := dk_184 0 56 (dk_at dksX0_entry_1 12 rfl rfl)
theorem dX0_entry_39 : decode cX0_entry 39 = .ok (.ifCond .ne 5, 3) := dk_154 0 5 (dk_at dksX0_entry_1 15 rfl rfl)
theorem dX0_entry_42 : decode cX0_entry 42 = .ok (.iconst (-1), 1) := dk_2 (dk_at dksX0_entry_1 18 rfl rfl)
theorem dX0_entry_43 : decode cX0_entry 43 = .ok (.ireturn, 1) := dk_172 (dk_at dksX0_entry_1 19 rfl rfl)
theorem dX0_entry_44 : decode cX0_entry 44 = .ok (.aload_n 0, 1) := dk_42 (dk_at dksX0_entry_1 20 rfl rfl)
theorem dX0_entry_45 : decode cX0_entry 45 = .ok (.getfield 22, 3) := dk_180 0 22 (dk_at dksX0_entry_1 21 rfl rfl)
theorem dX0_entry_48 : decode cX0_entry 48 = .ok (.getfield 211, 3) := dk_180 0 211 (dk_at dksX0_entry_2 0 rfl rfl)
theorem dX0_entry_51 : decode cX0_entry 51 = .ok (.iload_n 1, 1) := dk_27 (dk_at dksX0_entry_2 3 rfl rfl)
theorem dX0_entry_52 : decode cX0_entry 52 = .ok (.invokevirtual 96, 3) := dk_182 0 96 (dk_at dksX0_entry_2 4 rfl rfl)
theorem dX0_entry_55 : decode cX0_entry 55 = .ok (.checkcast 261, 3) := dk_192 1 5 (dk_at dksX0_entry_2 7 rfl rfl)
theorem dX0_entry_58 : decode cX0_entry 58 = .ok (.getfield 374, 3) := dk_180 1 118 (dk_at dksX0_entry_2 10 rfl rfl)
theorem dX0_entry_61 : decode cX0_entry 61 = .ok (.iload_n 2, 1) := dk_28 (dk_at dksX0_entry_2 13 rfl rfl)
theorem dX0_entry_62 : decode cX0_entry 62 = .ok (.aaload, 1) := dk_50 (dk_at dksX0_entry_2 14 rfl rfl)
theorem dX0_entry_63 : decode cX0_entry 63 = .ok (.astore 4, 2) := dk_58 4 (dk_at dksX0_entry_2 15 rfl rfl)
theorem dX0_entry_65 : decode cX0_entry 65 = .ok (.iload_n 3, 1) := dk_29 (dk_at dksX0_entry_2 17 rfl rfl)
theorem dX0_entry_66 : decode cX0_entry 66 = .ok (.ifCond .ne 11, 3) := dk_154 0 11 (dk_at dksX0_entry_2 18 rfl rfl)
theorem dX0_entry_69 : decode cX0_entry 69 = .ok (.aload 4, 2) := dk_25 4 (dk_at dksX0_entry_2 21 rfl rfl)
theorem dX0_entry_71 : decode cX0_entry 71 = .ok (.getfield 224, 3) := dk_180 0 224 (dk_at dksX0_entry_3 0 rfl rfl)
theorem dX0_entry_74 : decode cX0_entry 74 = .ok (.goto 31, 3) := dk_167 0 31 (dk_at dksX0_entry_3 3 rfl rfl)
theorem dX0_entry_77 : decode cX0_entry 77 = .ok (.iload_n 3, 1) := dk_29 (dk_at dksX0_entry_3 6 rfl rfl)
theorem dX0_entry_78 : decode cX0_entry 78 = .ok (.iconst 1, 1) := dk_4 (dk_at dksX0_entry_3 7 rfl rfl)
theorem dX0_entry_79 : decode cX0_entry 79 = .ok (.if_icmp .ne 11, 3) := dk_160 0 11 (dk_at dksX0_entry_3 8 rfl rfl)
theorem dX0_entry_82 : decode cX0_entry 82 = .ok (.aload 4, 2) := dk_25 4 (dk_at dksX0_entry_3 11 rfl rfl)
theorem dX0_entry_84 : decode cX0_entry 84 = .ok (.getfield 226, 3) := dk_180 0 226 (dk_at dksX0_entry_3 13 rfl rfl)
theorem dX0_entry_87 : decode cX0_entry 87 = .ok (.goto 18, 3) := dk_167 0 18 (dk_at dksX0_entry_3 16 rfl rfl)
theorem dX0_entry_90 : decode cX0_entry 90 = .ok (.iload_n 3, 1) := dk_29 (dk_at dksX0_entry_3 19 rfl rfl)
theorem dX0_entry_91 : decode cX0_entry 91 = .ok (.iconst 2, 1) := dk_5 (dk_at dksX0_entry_3 20 rfl rfl)
theorem dX0_entry_92 : decode cX0_entry 92 = .ok (.if_icmp .ne 11, 3) := dk_160 0 11 (dk_at dksX0_entry_3 21 rfl rfl)
theorem dX0_entry_95 : decode cX0_entry 95 = .ok (.aload 4, 2) := dk_25 4 (dk_at dksX0_entry_4 0 rfl rfl)
theorem dX0_entry_97 : decode cX0_entry 97 = .ok (.getfield 229, 3) := dk_180 0 229 (dk_at dksX0_entry_4 2 rfl rfl)
theorem dX0_entry_100 : decode cX0_entry 100 = .ok (.goto 5, 3) := dk_167 0 5 (dk_at dksX0_entry_4 5 rfl rfl)
theorem dX0_entry_103 : decode cX0_entry 103 = .ok (.bipush (-2), 2) := dk_16 254 (dk_at dksX0_entry_4 8 rfl rfl)
theorem dX0_entry_105 : decode cX0_entry 105 = .ok (.ireturn, 1) := dk_172 (dk_at dksX0_entry_4 10 rfl rfl)
abbrev cX0_wouldMatch : ByteArray := prog_1_method_46_code
def yX0_wouldMatch : MethodName := ⟨RX0, "wouldMatch", "(IIII)I"⟩
def dkwX0_wouldMatch_3 : List UInt8 := [28, 29, 21, 4, 183, 0, 220, 83, 183, 1, 127, 58, 6, 25, 5, 25, 6, 182, 1, 14, 172]
abbrev dktX0_wouldMatch_3 : List UInt8 := dkwX0_wouldMatch_3 ++ []
def dkwX0_wouldMatch_2 : List UInt8 := [180, 0, 211, 182, 0, 64, 16, 251, 27, 25, 5, 180, 1, 34, 4, 189, 0, 218, 89, 3, 187, 0, 218, 89]
abbrev dktX0_wouldMatch_2 : List UInt8 := dkwX0_wouldMatch_2 ++ dktX0_wouldMatch_3
def dkwX0_wouldMatch_1 : List UInt8 := [184, 0, 144, 154, 0, 6, 16, 254, 172, 42, 180, 0, 22, 182, 0, 67, 58, 5, 187, 1, 5, 89, 25, 5]
abbrev dktX0_wouldMatch_1 : List UInt8 := dkwX0_wouldMatch_1 ++ dktX0_wouldMatch_2
def dkwX0_wouldMatch_0 : List UInt8 := [42, 180, 0, 22, 27, 28, 182, 0, 158, 154, 0, 5, 2, 172, 29, 184, 0, 141, 153, 0, 11, 21, 4]
abbrev dktX0_wouldMatch_0 : List UInt8 := dkwX0_wouldMatch_0 ++ dktX0_wouldMatch_1
theorem dksX0_wouldMatch_0 : cX0_wouldMatch.data.toList.drop 0 = dktX0_wouldMatch_0 := by decide +kernel
theorem dksX0_wouldMatch_1 : cX0_wouldMatch.data.toList.drop 23 = dktX0_wouldMatch_1 := dk_seg dksX0_wouldMatch_0 23 rfl rfl
theorem dksX0_wouldMatch_2 : cX0_wouldMatch.data.toList.drop 47 = dktX0_wouldMatch_2 := dk_seg dksX0_wouldMatch_1 24 rfl rfl
theorem dksX0_wouldMatch_3 : cX0_wouldMatch.data.toList.drop 71 = dktX0_wouldMatch_3 := dk_seg dksX0_wouldMatch_2 24 rfl rfl
theorem dX0_wouldMatch_0 : decode cX0_wouldMatch 0 = .ok (.aload_n 0, 1) := dk_42 (dk_at dksX0_wouldMatch_0 0 rfl rfl)
theorem dX0_wouldMatch_1 : decode cX0_wouldMatch 1 = .ok (.getfield 22, 3) := dk_180 0 22 (dk_at dksX0_wouldMatch_0 1 rfl rfl)
theorem dX0_wouldMatch_4 : decode cX0_wouldMatch 4 = .ok (.iload_n 1, 1) := dk_27 (dk_at dksX0_wouldMatch_0 4 rfl rfl)
theorem dX0_wouldMatch_5 : decode cX0_wouldMatch 5 = .ok (.iload_n 2, 1) := dk_28 (dk_at dksX0_wouldMatch_0 5 rfl rfl)
theorem dX0_wouldMatch_6 : decode cX0_wouldMatch 6 = .ok (.invokevirtual 158, 3) := dk_182 0 158 (dk_at dksX0_wouldMatch_0 6 rfl rfl)
theorem dX0_wouldMatch_9 : decode cX0_wouldMatch 9 = .ok (.ifCond .ne 5, 3) := dk_154 0 5 (dk_at dksX0_wouldMatch_0 9 rfl rfl)
theorem dX0_wouldMatch_12 : decode cX0_wouldMatch 12 = .ok (.iconst (-1), 1) := dk_2 (dk_at dksX0_wouldMatch_0 12 rfl rfl)
theorem dX0_wouldMatch_13 : decode cX0_wouldMatch 13 = .ok (.ireturn, 1) := dk_172 (dk_at dksX0_wouldMatch_0 13 rfl rfl)
theorem dX0_wouldMatch_14 : decode cX0_wouldMatch 14 = .ok (.iload_n 3, 1) := dk_29 (dk_at dksX0_wouldMatch_0 14 rfl rfl)
theorem dX0_wouldMatch_15 : decode cX0_wouldMatch 15 = .ok (.invokestatic 141, 3) := dk_184 0 141 (dk_at dksX0_wouldMatch_0 15 rfl rfl)
theorem dX0_wouldMatch_18 : decode cX0_wouldMatch 18 = .ok (.ifCond .eq 11, 3) := dk_153 0 11 (dk_at dksX0_wouldMatch_0 18 rfl rfl)
theorem dX0_wouldMatch_21 : decode cX0_wouldMatch 21 = .ok (.iload 4, 2) := dk_21 4 (dk_at dksX0_wouldMatch_0 21 rfl rfl)
theorem dX0_wouldMatch_23 : decode cX0_wouldMatch 23 = .ok (.invokestatic 144, 3) := dk_184 0 144 (dk_at dksX0_wouldMatch_1 0 rfl rfl)
theorem dX0_wouldMatch_26 : decode cX0_wouldMatch 26 = .ok (.ifCond .ne 6, 3) := dk_154 0 6 (dk_at dksX0_wouldMatch_1 3 rfl rfl)
theorem dX0_wouldMatch_29 : decode cX0_wouldMatch 29 = .ok (.bipush (-2), 2) := dk_16 254 (dk_at dksX0_wouldMatch_1 6 rfl rfl)
theorem dX0_wouldMatch_31 : decode cX0_wouldMatch 31 = .ok (.ireturn, 1) := dk_172 (dk_at dksX0_wouldMatch_1 8 rfl rfl)
theorem dX0_wouldMatch_32 : decode cX0_wouldMatch 32 = .ok (.aload_n 0, 1) := dk_42 (dk_at dksX0_wouldMatch_1 9 rfl rfl)
theorem dX0_wouldMatch_33 : decode cX0_wouldMatch 33 = .ok (.getfield 22, 3) := dk_180 0 22 (dk_at dksX0_wouldMatch_1 10 rfl rfl)
theorem dX0_wouldMatch_36 : decode cX0_wouldMatch 36 = .ok (.invokevirtual 67, 3) := dk_182 0 67 (dk_at dksX0_wouldMatch_1 13 rfl rfl)
theorem dX0_wouldMatch_39 : decode cX0_wouldMatch 39 = .ok (.astore 5, 2) := dk_58 5 (dk_at dksX0_wouldMatch_1 16 rfl rfl)
theorem dX0_wouldMatch_41 : decode cX0_wouldMatch 41 = .ok (.new 261, 3) := dk_187 1 5 (dk_at dksX0_wouldMatch_1 18 rfl rfl)
theorem dX0_wouldMatch_44 : decode cX0_wouldMatch 44 = .ok (.dup, 1) := dk_89 (dk_at dksX0_wouldMatch_1 21 rfl rfl)
theorem dX0_wouldMatch_45 : decode cX0_wouldMatch 45 = .ok (.aload 5, 2) := dk_25 5 (dk_at dksX0_wouldMatch_1 22 rfl rfl)
theorem dX0_wouldMatch_47 : decode cX0_wouldMatch 47 = .ok (.getfield 211, 3) := dk_180 0 211 (dk_at dksX0_wouldMatch_2 0 rfl rfl)
theorem dX0_wouldMatch_50 : decode cX0_wouldMatch 50 = .ok (.invokevirtual 64, 3) := dk_182 0 64 (dk_at dksX0_wouldMatch_2 3 rfl rfl)
theorem dX0_wouldMatch_53 : decode cX0_wouldMatch 53 = .ok (.bipush (-5), 2) := dk_16 251 (dk_at dksX0_wouldMatch_2 6 rfl rfl)
theorem dX0_wouldMatch_55 : decode cX0_wouldMatch 55 = .ok (.iload_n 1, 1) := dk_27 (dk_at dksX0_wouldMatch_2 8 rfl rfl)
theorem dX0_wouldMatch_56 : decode cX0_wouldMatch 56 = .ok (.aload 5, 2) := dk_25 5 (dk_at dksX0_wouldMatch_2 9 rfl rfl)
theorem dX0_wouldMatch_58 : decode cX0_wouldMatch 58 = .ok (.getfield 290, 3) := dk_180 1 34 (dk_at dksX0_wouldMatch_2 11 rfl rfl)
theorem dX0_wouldMatch_61 : decode cX0_wouldMatch 61 = .ok (.iconst 1, 1) := dk_4 (dk_at dksX0_wouldMatch_2 14 rfl rfl)
theorem dX0_wouldMatch_62 : decode cX0_wouldMatch 62 = .ok (.anewarray 218, 3) := dk_189 0 218 (dk_at dksX0_wouldMatch_2 15 rfl rfl)
theorem dX0_wouldMatch_65 : decode cX0_wouldMatch 65 = .ok (.dup, 1) := dk_89 (dk_at dksX0_wouldMatch_2 18 rfl rfl)
theorem dX0_wouldMatch_66 : decode cX0_wouldMatch 66 = .ok (.iconst 0, 1) := dk_3 (dk_at dksX0_wouldMatch_2 19 rfl rfl)
theorem dX0_wouldMatch_67 : decode cX0_wouldMatch 67 = .ok (.new 218, 3) := dk_187 0 218 (dk_at dksX0_wouldMatch_2 20 rfl rfl)
theorem dX0_wouldMatch_70 : decode cX0_wouldMatch 70 = .ok (.dup, 1) := dk_89 (dk_at dksX0_wouldMatch_2 23 rfl rfl)
theorem dX0_wouldMatch_71 : decode cX0_wouldMatch 71 = .ok (.iload_n 2, 1) := dk_28 (dk_at dksX0_wouldMatch_3 0 rfl rfl)
theorem dX0_wouldMatch_72 : decode cX0_wouldMatch 72 = .ok (.iload_n 3, 1) := dk_29 (dk_at dksX0_wouldMatch_3 1 rfl rfl)
theorem dX0_wouldMatch_73 : decode cX0_wouldMatch 73 = .ok (.iload 4, 2) := dk_21 4 (dk_at dksX0_wouldMatch_3 2 rfl rfl)
theorem dX0_wouldMatch_75 : decode cX0_wouldMatch 75 = .ok (.invokespecial 220, 3) := dk_183 0 220 (dk_at dksX0_wouldMatch_3 4 rfl rfl)
theorem dX0_wouldMatch_78 : decode cX0_wouldMatch 78 = .ok (.aastore, 1) := dk_83 (dk_at dksX0_wouldMatch_3 7 rfl rfl)
theorem dX0_wouldMatch_79 : decode cX0_wouldMatch 79 = .ok (.invokespecial 383, 3) := dk_183 1 127 (dk_at dksX0_wouldMatch_3 8 rfl rfl)
theorem dX0_wouldMatch_82 : decode cX0_wouldMatch 82 = .ok (.astore 6, 2) := dk_58 6 (dk_at dksX0_wouldMatch_3 11 rfl rfl)
theorem dX0_wouldMatch_84 : decode cX0_wouldMatch 84 = .ok (.aload 5, 2) := dk_25 5 (dk_at dksX0_wouldMatch_3 13 rfl rfl)
theorem dX0_wouldMatch_86 : decode cX0_wouldMatch 86 = .ok (.aload 6, 2) := dk_25 6 (dk_at dksX0_wouldMatch_3 15 rfl rfl)
theorem dX0_wouldMatch_88 : decode cX0_wouldMatch 88 = .ok (.invokevirtual 270, 3) := dk_182 1 14 (dk_at dksX0_wouldMatch_3 17 rfl rfl)
theorem dX0_wouldMatch_91 : decode cX0_wouldMatch 91 = .ok (.ireturn, 1) := dk_172 (dk_at dksX0_wouldMatch_3 20 rfl rfl)
abbrev cX0_greatestPrice : ByteArray := prog_1_method_47_code
def yX0_greatestPrice : MethodName := ⟨RX0, "greatestPrice", "(III)I"⟩
def dkwX0_greatestPrice_2 : List UInt8 := [27, 28, 182, 0, 162, 182, 1, 130, 153, 0, 9, 132, 5, 255, 167, 255, 233, 21, 5, 172]
abbrev dktX0_greatestPrice_2 : List UInt8 := dkwX0_greatestPrice_2 ++ []
def dkwX0_greatestPrice_1 : List UInt8 := [42, 180, 0, 22, 27, 182, 0, 192, 58, 4, 17, 39, 15, 54, 5, 25, 4, 21, 5, 29, 42, 180, 0, 22]
abbrev dktX0_greatestPrice_1 : List UInt8 := dkwX0_greatestPrice_1 ++ dktX0_greatestPrice_2
def dkwX0_greatestPrice_0 : List UInt8 := [42, 180, 0, 22, 27, 28, 182, 0, 158, 154, 0, 5, 2, 172, 29, 184, 0, 141, 154, 0, 6, 16, 254, 172]
abbrev dktX0_greatestPrice_0 : List UInt8 := dkwX0_greatestPrice_0 ++ dktX0_greatestPrice_1
theorem dksX0_greatestPrice_0 : cX0_greatestPrice.data.toList.drop 0 = dktX0_greatestPrice_0 := by decide +kernel
theorem dksX0_greatestPrice_1 : cX0_greatestPrice.data.toList.drop 24 = dktX0_greatestPrice_1 := dk_seg dksX0_greatestPrice_0 24 rfl rfl
theorem dksX0_greatestPrice_2 : cX0_greatestPrice.data.toList.drop 48 = dktX0_greatestPrice_2 := dk_seg dksX0_greatestPrice_1 24 rfl rfl
theorem dX0_greatestPrice_0 : decode cX0_greatestPrice 0 = .ok (.aload_n 0, 1) := dk_42 (dk_at dksX0_greatestPrice_0 0 rfl rfl)
theorem dX0_greatestPrice_1 : decode cX0_greatestPrice 1 = .ok (.getfield 22, 3) := dk_180 0 22 (dk_at dksX0_greatestPrice_0 1 rfl rfl)
theorem dX0_greatestPrice_4 : decode cX0_greatestPrice 4 = .ok (.iload_n 1, 1) := dk_27 (dk_at dksX0_greatestPrice_0 4 rfl rfl)
theorem dX0_greatestPrice_5 : decode cX0_greatestPrice 5 = .ok (.iload_n 2, 1) := dk_28 (dk_at dksX0_greatestPrice_0 5 rfl rfl)
theorem dX0_greatestPrice_6 : decode cX0_greatestPrice 6 = .ok (.invokevirtual 158, 3) := dk_182 0 158 (dk_at dksX0_greatestPrice_0 6 rfl rfl)
theorem dX0_greatestPrice_9 : decode cX0_greatestPrice 9 = .ok (.ifCond .ne 5, 3) := dk_154 0 5 (dk_at dksX0_greatestPrice_0 9 rfl rfl)
theorem dX0_greatestPrice_12 : decode cX0_greatestPrice 12 = .ok (.iconst (-1), 1) := dk_2 (dk_at dksX0_greatestPrice_0 12 rfl rfl)
theorem dX0_greatestPrice_13 : decode cX0_greatestPrice 13 = .ok (.ireturn, 1) := dk_172 (dk_at dksX0_greatestPrice_0 13 rfl rfl)
theorem dX0_greatestPrice_14 : decode cX0_greatestPrice 14 = .ok (.iload_n 3, 1) := dk_29 (dk_at dksX0_greatestPrice_0 14 rfl rfl)
theorem dX0_greatestPrice_15 : decode cX0_greatestPrice 15 = .ok (.invokestatic 141, 3) := dk_184 0 141 (dk_at dksX0_greatestPrice_0 15 rfl rfl)
theorem dX0_greatestPrice_18 : decode cX0_greatestPrice 18 = .ok (.ifCond .ne 6, 3) := dk_154 0 6 (dk_at dksX0_greatestPrice_0 18 rfl rfl)
theorem dX0_greatestPrice_21 : decode cX0_greatestPrice 21 = .ok (.bipush (-2), 2) := dk_16 254 (dk_at dksX0_greatestPrice_0 21 rfl rfl)
theorem dX0_greatestPrice_23 : decode cX0_greatestPrice 23 = .ok (.ireturn, 1) := dk_172 (dk_at dksX0_greatestPrice_0 23 rfl rfl)
theorem dX0_greatestPrice_24 : decode cX0_greatestPrice 24 = .ok (.aload_n 0, 1) := dk_42 (dk_at dksX0_greatestPrice_1 0 rfl rfl)
theorem dX0_greatestPrice_25 : decode cX0_greatestPrice 25 = .ok (.getfield 22, 3) := dk_180 0 22 (dk_at dksX0_greatestPrice_1 1 rfl rfl)
theorem dX0_greatestPrice_28 : decode cX0_greatestPrice 28 = .ok (.iload_n 1, 1) := dk_27 (dk_at dksX0_greatestPrice_1 4 rfl rfl)
theorem dX0_greatestPrice_29 : decode cX0_greatestPrice 29 = .ok (.invokevirtual 192, 3) := dk_182 0 192 (dk_at dksX0_greatestPrice_1 5 rfl rfl)
theorem dX0_greatestPrice_32 : decode cX0_greatestPrice 32 = .ok (.astore 4, 2) := dk_58 4 (dk_at dksX0_greatestPrice_1 8 rfl rfl)
theorem dX0_greatestPrice_34 : decode cX0_greatestPrice 34 = .ok (.sipush 9999, 3) := dk_17 39 15 (dk_at dksX0_greatestPrice_1 10 rfl rfl)
theorem dX0_greatestPrice_37 : decode cX0_greatestPrice 37 = .ok (.istore 5, 2) := dk_54 5 (dk_at dksX0_greatestPrice_1 13 rfl rfl)
theorem dX0_greatestPrice_39 : decode cX0_greatestPrice 39 = .ok (.aload 4, 2) := dk_25 4 (dk_at dksX0_greatestPrice_1 15 rfl rfl)
theorem dX0_greatestPrice_41 : decode cX0_greatestPrice 41 = .ok (.iload 5, 2) := dk_21 5 (dk_at dksX0_greatestPrice_1 17 rfl rfl)
theorem dX0_greatestPrice_43 : decode cX0_greatestPrice 43 = .ok (.iload_n 3, 1) := dk_29 (dk_at dksX0_greatestPrice_1 19 rfl rfl)
theorem dX0_greatestPrice_44 : decode cX0_greatestPrice 44 = .ok (.aload_n 0, 1) := dk_42 (dk_at dksX0_greatestPrice_1 20 rfl rfl)
theorem dX0_greatestPrice_45 : decode cX0_greatestPrice 45 = .ok (.getfield 22, 3) := dk_180 0 22 (dk_at dksX0_greatestPrice_1 21 rfl rfl)
theorem dX0_greatestPrice_48 : decode cX0_greatestPrice 48 = .ok (.iload_n 1, 1) := dk_27 (dk_at dksX0_greatestPrice_2 0 rfl rfl)
theorem dX0_greatestPrice_49 : decode cX0_greatestPrice 49 = .ok (.iload_n 2, 1) := dk_28 (dk_at dksX0_greatestPrice_2 1 rfl rfl)
theorem dX0_greatestPrice_50 : decode cX0_greatestPrice 50 = .ok (.invokevirtual 162, 3) := dk_182 0 162 (dk_at dksX0_greatestPrice_2 2 rfl rfl)
theorem dX0_greatestPrice_53 : decode cX0_greatestPrice 53 = .ok (.invokevirtual 386, 3) := dk_182 1 130 (dk_at dksX0_greatestPrice_2 5 rfl rfl)
theorem dX0_greatestPrice_56 : decode cX0_greatestPrice 56 = .ok (.ifCond .eq 9, 3) := dk_153 0 9 (dk_at dksX0_greatestPrice_2 8 rfl rfl)
theorem dX0_greatestPrice_59 : decode cX0_greatestPrice 59 = .ok (.iinc 5 (-1), 3) := dk_132 5 255 (dk_at dksX0_greatestPrice_2 11 rfl rfl)
theorem dX0_greatestPrice_62 : decode cX0_greatestPrice 62 = .ok (.goto (-23), 3) := dk_167 255 233 (dk_at dksX0_greatestPrice_2 14 rfl rfl)
theorem dX0_greatestPrice_65 : decode cX0_greatestPrice 65 = .ok (.iload 5, 2) := dk_21 5 (dk_at dksX0_greatestPrice_2 17 rfl rfl)
theorem dX0_greatestPrice_67 : decode cX0_greatestPrice 67 = .ok (.ireturn, 1) := dk_172 (dk_at dksX0_greatestPrice_2 19 rfl rfl)
abbrev cX0_value : ByteArray := prog_1_method_48_code
def yX0_value : MethodName := ⟨RX0, "value", "(I)D"⟩
def dkwX0_value_3 : List UInt8 := [180, 0, 22, 3, 182, 1, 134, 167, 0, 16, 42, 180, 0, 22, 182, 1, 138, 167, 0, 6, 184, 1, 74, 175]
abbrev dktX0_value_3 : List UInt8 := dkwX0_value_3 ++ []
def dkwX0_value_2 : List UInt8 := [42, 180, 0, 22, 180, 0, 121, 167, 0, 38, 42, 180, 0, 22, 4, 182, 1, 134, 167, 0, 27, 42]
abbrev dktX0_value_2 : List UInt8 := dkwX0_value_2 ++ dktX0_value_3
def dkwX0_value_1 : List UInt8 := [170, 0, 0, 0, 0, 0, 73, 0, 0, 0, 0, 0, 0, 0, 3, 0, 0, 0, 31, 0, 0, 0, 41, 0, 0, 0, 52, 0, 0, 0, 63]
abbrev dktX0_value_1 : List UInt8 := dkwX0_value_1 ++ dktX0_value_2
def dkwX0_value_0 : List UInt8 := [27]
abbrev dktX0_value_0 : List UInt8 := dkwX0_value_0 ++ dktX0_value_1
theorem dksX0_value_0 : cX0_value.data.toList.drop 0 = dktX0_value_0 := by decide +kernel
theorem dksX0_value_1 : cX0_value.data.toList.drop 1 = dktX0_value_1 := dk_seg dksX0_value_0 1 rfl rfl
theorem dksX0_value_2 : cX0_value.data.toList.drop 32 = dktX0_value_2 := dk_seg dksX0_value_1 31 rfl rfl
theorem dksX0_value_3 : cX0_value.data.toList.drop 54 = dktX0_value_3 := dk_seg dksX0_value_2 22 rfl rfl
theorem dX0_value_0 : decode cX0_value 0 = .ok (.iload_n 1, 1) := dk_27 (dk_at dksX0_value_0 0 rfl rfl)
theorem dX0_value_1 : decode cX0_value 1 = .ok (.tableswitch 73 0 3 #[31, 41, 52, 63], 31) := by decide +kernel
theorem dX0_value_32 : decode cX0_value 32 = .ok (.aload_n 0, 1) := dk_42 (dk_at dksX0_value_2 0 rfl rfl)
theorem dX0_value_33 : decode cX0_value 33 = .ok (.getfield 22, 3) := dk_180 0 22 (dk_at dksX0_value_2 1 rfl rfl)
theorem dX0_value_36 : decode cX0_value 36 = .ok (.getfield 121, 3) := dk_180 0 121 (dk_at dksX0_value_2 4 rfl rfl)
theorem dX0_value_39 : decode cX0_value 39 = .ok (.goto 38, 3) := dk_167 0 38 (dk_at dksX0_value_2 7 rfl rfl)
theorem dX0_value_42 : decode cX0_value 42 = .ok (.aload_n 0, 1) := dk_42 (dk_at dksX0_value_2 10 rfl rfl)
theorem dX0_value_43 : decode cX0_value 43 = .ok (.getfield 22, 3) := dk_180 0 22 (dk_at dksX0_value_2 11 rfl rfl)
theorem dX0_value_46 : decode cX0_value 46 = .ok (.iconst 1, 1) := dk_4 (dk_at dksX0_value_2 14 rfl rfl)
theorem dX0_value_47 : decode cX0_value 47 = .ok (.invokevirtual 390, 3) := dk_182 1 134 (dk_at dksX0_value_2 15 rfl rfl)
theorem dX0_value_50 : decode cX0_value 50 = .ok (.goto 27, 3) := dk_167 0 27 (dk_at dksX0_value_2 18 rfl rfl)
theorem dX0_value_53 : decode cX0_value 53 = .ok (.aload_n 0, 1) := dk_42 (dk_at dksX0_value_2 21 rfl rfl)
theorem dX0_value_54 : decode cX0_value 54 = .ok (.getfield 22, 3) := dk_180 0 22 (dk_at dksX0_value_3 0 rfl rfl)
theorem dX0_value_57 : decode cX0_value 57 = .ok (.iconst 0, 1) := dk_3 (dk_at dksX0_value_3 3 rfl rfl)
theorem dX0_value_58 : decode cX0_value 58 = .ok (.invokevirtual 390, 3) := dk_182 1 134 (dk_at dksX0_value_3 4 rfl rfl)
theorem dX0_value_61 : decode cX0_value 61 = .ok (.goto 16, 3) := dk_167 0 16 (dk_at dksX0_value_3 7 rfl rfl)
theorem dX0_value_64 : decode cX0_value 64 = .ok (.aload_n 0, 1) := dk_42 (dk_at dksX0_value_3 10 rfl rfl)
theorem dX0_value_65 : decode cX0_value 65 = .ok (.getfield 22, 3) := dk_180 0 22 (dk_at dksX0_value_3 11 rfl rfl)
theorem dX0_value_68 : decode cX0_value 68 = .ok (.invokevirtual 394, 3) := dk_182 1 138 (dk_at dksX0_value_3 14 rfl rfl)
theorem dX0_value_71 : decode cX0_value 71 = .ok (.goto 6, 3) := dk_167 0 6 (dk_at dksX0_value_3 17 rfl rfl)
theorem dX0_value_74 : decode cX0_value 74 = .ok (.invokestatic 330, 3) := dk_184 1 74 (dk_at dksX0_value_3 20 rfl rfl)
theorem dX0_value_77 : decode cX0_value 77 = .ok (.dreturn, 1) := dk_175 (dk_at dksX0_value_3 23 rfl rfl)
abbrev cX0_takes : ByteArray := prog_1_method_49_code
def yX0_takes : MethodName := ⟨RX0, "takes", "(IZI)I"⟩
def dkwX0_takes_4 : List UInt8 := [29, 182, 0, 96, 83, 4, 172, 58, 5, 3, 172]
abbrev dktX0_takes_4 : List UInt8 := dkwX0_takes_4 ++ []
def dkwX0_takes_3 : List UInt8 := [153, 0, 17, 42, 180, 0, 22, 180, 0, 211, 29, 182, 0, 96, 167, 0, 14, 42, 180, 0, 22, 180, 0, 130]
abbrev dktX0_takes_3 : List UInt8 := dkwX0_takes_3 ++ dktX0_takes_4
def dkwX0_takes_2 : List UInt8 := [16, 254, 172, 27, 154, 0, 10, 4, 189, 0, 133, 167, 0, 7, 4, 189, 1, 5, 58, 4, 25, 4, 3, 28]
abbrev dktX0_takes_2 : List UInt8 := dkwX0_takes_2 ++ dktX0_takes_3
def dkwX0_takes_1 : List UInt8 := [180, 0, 22, 180, 0, 130, 29, 182, 0, 82, 154, 0, 5, 2, 172, 27, 3, 4, 184, 0, 56, 154, 0, 6]
abbrev dktX0_takes_1 : List UInt8 := dkwX0_takes_1 ++ dktX0_takes_2
def dkwX0_takes_0 : List UInt8 := [28, 153, 0, 20, 42, 180, 0, 22, 180, 0, 211, 29, 182, 0, 82, 154, 0, 22, 167, 0, 17, 42]
abbrev dktX0_takes_0 : List UInt8 := dkwX0_takes_0 ++ dktX0_takes_1
theorem dksX0_takes_0 : cX0_takes.data.toList.drop 0 = dktX0_takes_0 := by decide +kernel
theorem dksX0_takes_1 : cX0_takes.data.toList.drop 22 = dktX0_takes_1 := dk_seg dksX0_takes_0 22 rfl rfl
theorem dksX0_takes_2 : cX0_takes.data.toList.drop 46 = dktX0_takes_2 := dk_seg dksX0_takes_1 24 rfl rfl
theorem dksX0_takes_3 : cX0_takes.data.toList.drop 70 = dktX0_takes_3 := dk_seg dksX0_takes_2 24 rfl rfl
theorem dksX0_takes_4 : cX0_takes.data.toList.drop 94 = dktX0_takes_4 := dk_seg dksX0_takes_3 24 rfl rfl
theorem dX0_takes_0 : decode cX0_takes 0 = .ok (.iload_n 2, 1) := dk_28 (dk_at dksX0_takes_0 0 rfl rfl)
theorem dX0_takes_1 : decode cX0_takes 1 = .ok (.ifCond .eq 20, 3) := dk_153 0 20 (dk_at dksX0_takes_0 1 rfl rfl)
theorem dX0_takes_4 : decode cX0_takes 4 = .ok (.aload_n 0, 1) := dk_42 (dk_at dksX0_takes_0 4 rfl rfl)
theorem dX0_takes_5 : decode cX0_takes 5 = .ok (.getfield 22, 3) := dk_180 0 22 (dk_at dksX0_takes_0 5 rfl rfl)
theorem dX0_takes_8 : decode cX0_takes 8 = .ok (.getfield 211, 3) := dk_180 0 211 (dk_at dksX0_takes_0 8 rfl rfl)
theorem dX0_takes_11 : decode cX0_takes 11 = .ok (.iload_n 3, 1) := dk_29 (dk_at dksX0_takes_0 11 rfl rfl)
theorem dX0_takes_12 : decode cX0_takes 12 = .ok (.invokevirtual 82, 3) := dk_182 0 82 (dk_at dksX0_takes_0 12 rfl rfl)
theorem dX0_takes_15 : decode cX0_takes 15 = .ok (.ifCond .ne 22, 3) := dk_154 0 22 (dk_at dksX0_takes_0 15 rfl rfl)
theorem dX0_takes_18 : decode cX0_takes 18 = .ok (.goto 17, 3) := dk_167 0 17 (dk_at dksX0_takes_0 18 rfl rfl)
theorem dX0_takes_21 : decode cX0_takes 21 = .ok (.aload_n 0, 1) := dk_42 (dk_at dksX0_takes_0 21 rfl rfl)
theorem dX0_takes_22 : decode cX0_takes 22 = .ok (.getfield 22, 3) := dk_180 0 22 (dk_at dksX0_takes_1 0 rfl rfl)
theorem dX0_takes_25 : decode cX0_takes 25 = .ok (.getfield 130, 3) := dk_180 0 130 (dk_at dksX0_takes_1 3 rfl rfl)
theorem dX0_takes_28 : decode cX0_takes 28 = .ok (.iload_n 3, 1) := dk_29 (dk_at dksX0_takes_1 6 rfl rfl)
theorem dX0_takes_29 : decode cX0_takes 29 = .ok (.invokevirtual 82, 3) := dk_182 0 82 (dk_at dksX0_takes_1 7 rfl rfl)
theorem dX0_takes_32 : decode cX0_takes 32 = .ok (.ifCond .ne 5, 3) := dk_154 0 5 (dk_at dksX0_takes_1 10 rfl rfl)
theorem dX0_takes_35 : decode cX0_takes 35 = .ok (.iconst (-1), 1) := dk_2 (dk_at dksX0_takes_1 13 rfl rfl)
theorem dX0_takes_36 : decode cX0_takes 36 = .ok (.ireturn, 1) := dk_172 (dk_at dksX0_takes_1 14 rfl rfl)
theorem dX0_takes_37 : decode cX0_takes 37 = .ok (.iload_n 1, 1) := dk_27 (dk_at dksX0_takes_1 15 rfl rfl)
theorem dX0_takes_38 : decode cX0_takes 38 = .ok (.iconst 0, 1) := dk_3 (dk_at dksX0_takes_1 16 rfl rfl)
theorem dX0_takes_39 : decode cX0_takes 39 = .ok (.iconst 1, 1) := dk_4 (dk_at dksX0_takes_1 17 rfl rfl)
theorem dX0_takes_40 : decode cX0_takes 40 = .ok (.invokestatic 56, 3) := dk_184 0 56 (dk_at dksX0_takes_1 18 rfl rfl)
theorem dX0_takes_43 : decode cX0_takes 43 = .ok (.ifCond .ne 6, 3) := dk_154 0 6 (dk_at dksX0_takes_1 21 rfl rfl)
theorem dX0_takes_46 : decode cX0_takes 46 = .ok (.bipush (-2), 2) := dk_16 254 (dk_at dksX0_takes_2 0 rfl rfl)
theorem dX0_takes_48 : decode cX0_takes 48 = .ok (.ireturn, 1) := dk_172 (dk_at dksX0_takes_2 2 rfl rfl)
theorem dX0_takes_49 : decode cX0_takes 49 = .ok (.iload_n 1, 1) := dk_27 (dk_at dksX0_takes_2 3 rfl rfl)
theorem dX0_takes_50 : decode cX0_takes 50 = .ok (.ifCond .ne 10, 3) := dk_154 0 10 (dk_at dksX0_takes_2 4 rfl rfl)
theorem dX0_takes_53 : decode cX0_takes 53 = .ok (.iconst 1, 1) := dk_4 (dk_at dksX0_takes_2 7 rfl rfl)
theorem dX0_takes_54 : decode cX0_takes 54 = .ok (.anewarray 133, 3) := dk_189 0 133 (dk_at dksX0_takes_2 8 rfl rfl)
theorem dX0_takes_57 : decode cX0_takes 57 = .ok (.goto 7, 3) := dk_167 0 7 (dk_at dksX0_takes_2 11 rfl rfl)
theorem dX0_takes_60 : decode cX0_takes 60 = .ok (.iconst 1, 1) := dk_4 (dk_at dksX0_takes_2 14 rfl rfl)
theorem dX0_takes_61 : decode cX0_takes 61 = .ok (.anewarray 261, 3) := dk_189 1 5 (dk_at dksX0_takes_2 15 rfl rfl)
theorem dX0_takes_64 : decode cX0_takes 64 = .ok (.astore 4, 2) := dk_58 4 (dk_at dksX0_takes_2 18 rfl rfl)
theorem dX0_takes_66 : decode cX0_takes 66 = .ok (.aload 4, 2) := dk_25 4 (dk_at dksX0_takes_2 20 rfl rfl)
theorem dX0_takes_68 : decode cX0_takes 68 = .ok (.iconst 0, 1) := dk_3 (dk_at dksX0_takes_2 22 rfl rfl)
theorem dX0_takes_69 : decode cX0_takes 69 = .ok (.iload_n 2, 1) := dk_28 (dk_at dksX0_takes_2 23 rfl rfl)
theorem dX0_takes_70 : decode cX0_takes 70 = .ok (.ifCond .eq 17, 3) := dk_153 0 17 (dk_at dksX0_takes_3 0 rfl rfl)
theorem dX0_takes_73 : decode cX0_takes 73 = .ok (.aload_n 0, 1) := dk_42 (dk_at dksX0_takes_3 3 rfl rfl)
theorem dX0_takes_74 : decode cX0_takes 74 = .ok (.getfield 22, 3) := dk_180 0 22 (dk_at dksX0_takes_3 4 rfl rfl)
theorem dX0_takes_77 : decode cX0_takes 77 = .ok (.getfield 211, 3) := dk_180 0 211 (dk_at dksX0_takes_3 7 rfl rfl)
theorem dX0_takes_80 : decode cX0_takes 80 = .ok (.iload_n 3, 1) := dk_29 (dk_at dksX0_takes_3 10 rfl rfl)
theorem dX0_takes_81 : decode cX0_takes 81 = .ok (.invokevirtual 96, 3) := dk_182 0 96 (dk_at dksX0_takes_3 11 rfl rfl)
theorem dX0_takes_84 : decode cX0_takes 84 = .ok (.goto 14, 3) := dk_167 0 14 (dk_at dksX0_takes_3 14 rfl rfl)
theorem dX0_takes_87 : decode cX0_takes 87 = .ok (.aload_n 0, 1) := dk_42 (dk_at dksX0_takes_3 17 rfl rfl)
theorem dX0_takes_88 : decode cX0_takes 88 = .ok (.getfield 22, 3) := dk_180 0 22 (dk_at dksX0_takes_3 18 rfl rfl)
theorem dX0_takes_91 : decode cX0_takes 91 = .ok (.getfield 130, 3) := dk_180 0 130 (dk_at dksX0_takes_3 21 rfl rfl)
theorem dX0_takes_94 : decode cX0_takes 94 = .ok (.iload_n 3, 1) := dk_29 (dk_at dksX0_takes_4 0 rfl rfl)
theorem dX0_takes_95 : decode cX0_takes 95 = .ok (.invokevirtual 96, 3) := dk_182 0 96 (dk_at dksX0_takes_4 1 rfl rfl)
theorem dX0_takes_98 : decode cX0_takes 98 = .ok (.aastore, 1) := dk_83 (dk_at dksX0_takes_4 4 rfl rfl)
theorem dX0_takes_99 : decode cX0_takes 99 = .ok (.iconst 1, 1) := dk_4 (dk_at dksX0_takes_4 5 rfl rfl)
theorem dX0_takes_100 : decode cX0_takes 100 = .ok (.ireturn, 1) := dk_172 (dk_at dksX0_takes_4 6 rfl rfl)
theorem dX0_takes_101 : decode cX0_takes 101 = .ok (.astore 5, 2) := dk_58 5 (dk_at dksX0_takes_4 7 rfl rfl)
theorem dX0_takes_103 : decode cX0_takes 103 = .ok (.iconst 0, 1) := dk_3 (dk_at dksX0_takes_4 9 rfl rfl)
theorem dX0_takes_104 : decode cX0_takes 104 = .ok (.ireturn, 1) := dk_172 (dk_at dksX0_takes_4 10 rfl rfl)
abbrev cX0_event : ByteArray := prog_1_method_50_code
def yX0_event : MethodName := ⟨RX0, "event", "(II)I"⟩
def dkwX0_event_2 : List UInt8 := [167, 0, 5, 16, 251, 172]
abbrev dktX0_event_2 : List UInt8 := dkwX0_event_2 ++ []
def dkwX0_event_1 : List UInt8 := [182, 1, 147, 162, 0, 24, 42, 180, 0, 22, 180, 1, 143, 27, 182, 1, 150, 192, 1, 153, 28, 182, 1, 155]
abbrev dktX0_event_1 : List UInt8 := dkwX0_event_1 ++ dktX0_event_2
def dkwX0_event_0 : List UInt8 := [27, 155, 0, 12, 28, 3, 6, 184, 0, 56, 154, 0, 6, 16, 254, 172, 27, 42, 180, 0, 22, 180, 1, 143]
abbrev dktX0_event_0 : List UInt8 := dkwX0_event_0 ++ dktX0_event_1
theorem dksX0_event_0 : cX0_event.data.toList.drop 0 = dktX0_event_0 := by decide +kernel
theorem dksX0_event_1 : cX0_event.data.toList.drop 24 = dktX0_event_1 := dk_seg dksX0_event_0 24 rfl rfl
theorem dksX0_event_2 : cX0_event.data.toList.drop 48 = dktX0_event_2 := dk_seg dksX0_event_1 24 rfl rfl
theorem dX0_event_0 : decode cX0_event 0 = .ok (.iload_n 1, 1) := dk_27 (dk_at dksX0_event_0 0 rfl rfl)
theorem dX0_event_1 : decode cX0_event 1 = .ok (.ifCond .lt 12, 3) := dk_155 0 12 (dk_at dksX0_event_0 1 rfl rfl)
theorem dX0_event_4 : decode cX0_event 4 = .ok (.iload_n 2, 1) := dk_28 (dk_at dksX0_event_0 4 rfl rfl)
theorem dX0_event_5 : decode cX0_event 5 = .ok (.iconst 0, 1) := dk_3 (dk_at dksX0_event_0 5 rfl rfl)
theorem dX0_event_6 : decode cX0_event 6 = .ok (.iconst 3, 1) := dk_6 (dk_at dksX0_event_0 6 rfl rfl)
theorem dX0_event_7 : decode cX0_event 7 = .ok (.invokestatic 56, 3) := dk_184 0 56 (dk_at dksX0_event_0 7 rfl rfl)
theorem dX0_event_10 : decode cX0_event 10 = .ok (.ifCond .ne 6, 3) := dk_154 0 6 (dk_at dksX0_event_0 10 rfl rfl)
theorem dX0_event_13 : decode cX0_event 13 = .ok (.bipush (-2), 2) := dk_16 254 (dk_at dksX0_event_0 13 rfl rfl)
theorem dX0_event_15 : decode cX0_event 15 = .ok (.ireturn, 1) := dk_172 (dk_at dksX0_event_0 15 rfl rfl)
theorem dX0_event_16 : decode cX0_event 16 = .ok (.iload_n 1, 1) := dk_27 (dk_at dksX0_event_0 16 rfl rfl)
theorem dX0_event_17 : decode cX0_event 17 = .ok (.aload_n 0, 1) := dk_42 (dk_at dksX0_event_0 17 rfl rfl)
theorem dX0_event_18 : decode cX0_event 18 = .ok (.getfield 22, 3) := dk_180 0 22 (dk_at dksX0_event_0 18 rfl rfl)
theorem dX0_event_21 : decode cX0_event 21 = .ok (.getfield 399, 3) := dk_180 1 143 (dk_at dksX0_event_0 21 rfl rfl)
theorem dX0_event_24 : decode cX0_event 24 = .ok (.invokevirtual 403, 3) := dk_182 1 147 (dk_at dksX0_event_1 0 rfl rfl)
theorem dX0_event_27 : decode cX0_event 27 = .ok (.if_icmp .ge 24, 3) := dk_162 0 24 (dk_at dksX0_event_1 3 rfl rfl)
theorem dX0_event_30 : decode cX0_event 30 = .ok (.aload_n 0, 1) := dk_42 (dk_at dksX0_event_1 6 rfl rfl)
theorem dX0_event_31 : decode cX0_event 31 = .ok (.getfield 22, 3) := dk_180 0 22 (dk_at dksX0_event_1 7 rfl rfl)
theorem dX0_event_34 : decode cX0_event 34 = .ok (.getfield 399, 3) := dk_180 1 143 (dk_at dksX0_event_1 10 rfl rfl)
theorem dX0_event_37 : decode cX0_event 37 = .ok (.iload_n 1, 1) := dk_27 (dk_at dksX0_event_1 13 rfl rfl)
theorem dX0_event_38 : decode cX0_event 38 = .ok (.invokevirtual 406, 3) := dk_182 1 150 (dk_at dksX0_event_1 14 rfl rfl)
theorem dX0_event_41 : decode cX0_event 41 = .ok (.checkcast 409, 3) := dk_192 1 153 (dk_at dksX0_event_1 17 rfl rfl)
theorem dX0_event_44 : decode cX0_event 44 = .ok (.iload_n 2, 1) := dk_28 (dk_at dksX0_event_1 20 rfl rfl)
theorem dX0_event_45 : decode cX0_event 45 = .ok (.invokevirtual 411, 3) := dk_182 1 155 (dk_at dksX0_event_1 21 rfl rfl)
theorem dX0_event_48 : decode cX0_event 48 = .ok (.goto 5, 3) := dk_167 0 5 (dk_at dksX0_event_2 0 rfl rfl)
theorem dX0_event_51 : decode cX0_event 51 = .ok (.bipush (-5), 2) := dk_16 251 (dk_at dksX0_event_2 3 rfl rfl)
theorem dX0_event_53 : decode cX0_event 53 = .ok (.ireturn, 1) := dk_172 (dk_at dksX0_event_2 5 rfl rfl)
abbrev cX0_count : ByteArray := prog_1_method_51_code
def yX0_count : MethodName := ⟨RX0, "count", "(I)I"⟩
def dkwX0_count_7 : List UInt8 := [180, 0, 31, 182, 0, 48, 167, 0, 15, 42, 180, 0, 40, 182, 1, 40, 167, 0, 5, 16, 254, 172]
abbrev dktX0_count_7 : List UInt8 := dkwX0_count_7 ++ []
def dkwX0_count_6 : List UInt8 := [167, 0, 45, 42, 180, 0, 22, 180, 0, 127, 167, 0, 35, 42, 180, 0, 22, 180, 0, 124, 167, 0, 25, 42]
abbrev dktX0_count_6 : List UInt8 := dkwX0_count_6 ++ dktX0_count_7
def dkwX0_count_5 : List UInt8 := [167, 0, 68, 42, 180, 0, 22, 180, 0, 60, 184, 1, 164, 167, 0, 55, 42, 180, 0, 22, 180, 1, 170]
abbrev dktX0_count_5 : List UInt8 := dkwX0_count_5 ++ dktX0_count_6
def dkwX0_count_4 : List UInt8 := [167, 0, 92, 42, 180, 0, 22, 27, 7, 100, 182, 1, 158, 167, 0, 79, 42, 180, 0, 22, 27, 182, 1, 161]
abbrev dktX0_count_4 : List UInt8 := dkwX0_count_4 ++ dktX0_count_5
def dkwX0_count_3 : List UInt8 := [180, 0, 22, 180, 0, 130, 182, 0, 64, 167, 0, 105, 42, 180, 0, 22, 180, 0, 211, 182, 0, 64]
abbrev dktX0_count_3 : List UInt8 := dkwX0_count_3 ++ dktX0_count_4
def dkwX0_count_2 : List UInt8 := [42, 180, 0, 22, 180, 1, 34, 167, 0, 131, 42, 180, 0, 22, 180, 0, 60, 182, 0, 64, 167, 0, 118, 42]
abbrev dktX0_count_2 : List UInt8 := dkwX0_count_2 ++ dktX0_count_3
def dkwX0_count_1 : List UInt8 := [170, 0, 0, 0, 0, 0, 223, 0, 0, 0, 0, 0, 0, 0, 17, 0, 0, 0, 87, 0, 0, 0, 97, 0, 0, 0, 110, 0, 0, 0, 123, 0, 0, 0, 136, 0, 0, 0, 136, 0, 0, 0, 136, 0, 0, 0, 136, 0, 0, 0, 136, 0, 0, 0, 149, 0, 0, 0, 160, 0, 0, 0, 173, 0, 0, 0, 149, 0, 0, 0, 149, 0, 0, 0, 183, 0, 0, 0, 193, 0, 0, 0, 203, 0, 0, 0, 213]
abbrev dktX0_count_1 : List UInt8 := dkwX0_count_1 ++ dktX0_count_2
def dkwX0_count_0 : List UInt8 := [27]
abbrev dktX0_count_0 : List UInt8 := dkwX0_count_0 ++ dktX0_count_1
theorem dksX0_count_0 : cX0_count.data.toList.drop 0 = dktX0_count_0 := by decide +kernel
theorem dksX0_count_1 : cX0_count.data.toList.drop 1 = dktX0_count_1 := dk_seg dksX0_count_0 1 rfl rfl
theorem dksX0_count_2 : cX0_count.data.toList.drop 88 = dktX0_count_2 := dk_seg dksX0_count_1 87 rfl rfl
theorem dksX0_count_3 : cX0_count.data.toList.drop 112 = dktX0_count_3 := dk_seg dksX0_count_2 24 rfl rfl
theorem dksX0_count_4 : cX0_count.data.toList.drop 134 = dktX0_count_4 := dk_seg dksX0_count_3 22 rfl rfl
theorem dksX0_count_5 : cX0_count.data.toList.drop 158 = dktX0_count_5 := dk_seg dksX0_count_4 24 rfl rfl
theorem dksX0_count_6 : cX0_count.data.toList.drop 181 = dktX0_count_6 := dk_seg dksX0_count_5 23 rfl rfl
theorem dksX0_count_7 : cX0_count.data.toList.drop 205 = dktX0_count_7 := dk_seg dksX0_count_6 24 rfl rfl
theorem dX0_count_0 : decode cX0_count 0 = .ok (.iload_n 1, 1) := dk_27 (dk_at dksX0_count_0 0 rfl rfl)
theorem dX0_count_1 : decode cX0_count 1 = .ok (.tableswitch 223 0 17 #[87, 97, 110, 123, 136, 136, 136, 136, 136, 149, 160, 173, 149, 149, 183, 193, 203, 213], 87) := by decide +kernel
theorem dX0_count_88 : decode cX0_count 88 = .ok (.aload_n 0, 1) := dk_42 (dk_at dksX0_count_2 0 rfl rfl)
theorem dX0_count_89 : decode cX0_count 89 = .ok (.getfield 22, 3) := dk_180 0 22 (dk_at dksX0_count_2 1 rfl rfl)
theorem dX0_count_92 : decode cX0_count 92 = .ok (.getfield 290, 3) := dk_180 1 34 (dk_at dksX0_count_2 4 rfl rfl)
theorem dX0_count_95 : decode cX0_count 95 = .ok (.goto 131, 3) := dk_167 0 131 (dk_at dksX0_count_2 7 rfl rfl)
theorem dX0_count_98 : decode cX0_count 98 = .ok (.aload_n 0, 1) := dk_42 (dk_at dksX0_count_2 10 rfl rfl)
theorem dX0_count_99 : decode cX0_count 99 = .ok (.getfield 22, 3) := dk_180 0 22 (dk_at dksX0_count_2 11 rfl rfl)
theorem dX0_count_102 : decode cX0_count 102 = .ok (.getfield 60, 3) := dk_180 0 60 (dk_at dksX0_count_2 14 rfl rfl)
theorem dX0_count_105 : decode cX0_count 105 = .ok (.invokevirtual 64, 3) := dk_182 0 64 (dk_at dksX0_count_2 17 rfl rfl)
theorem dX0_count_108 : decode cX0_count 108 = .ok (.goto 118, 3) := dk_167 0 118 (dk_at dksX0_count_2 20 rfl rfl)
theorem dX0_count_111 : decode cX0_count 111 = .ok (.aload_n 0, 1) := dk_42 (dk_at dksX0_count_2 23 rfl rfl)
theorem dX0_count_112 : decode cX0_count 112 = .ok (.getfield 22, 3) := dk_180 0 22 (dk_at dksX0_count_3 0 rfl rfl)
theorem dX0_count_115 : decode cX0_count 115 = .ok (.getfield 130, 3) := dk_180 0 130 (dk_at dksX0_count_3 3 rfl rfl)
theorem dX0_count_118 : decode cX0_count 118 = .ok (.invokevirtual 64, 3) := dk_182 0 64 (dk_at dksX0_count_3 6 rfl rfl)
theorem dX0_count_121 : decode cX0_count 121 = .ok (.goto 105, 3) := dk_167 0 105 (dk_at dksX0_count_3 9 rfl rfl)
theorem dX0_count_124 : decode cX0_count 124 = .ok (.aload_n 0, 1) := dk_42 (dk_at dksX0_count_3 12 rfl rfl)
theorem dX0_count_125 : decode cX0_count 125 = .ok (.getfield 22, 3) := dk_180 0 22 (dk_at dksX0_count_3 13 rfl rfl)
theorem dX0_count_128 : decode cX0_count 128 = .ok (.getfield 211, 3) := dk_180 0 211 (dk_at dksX0_count_3 16 rfl rfl)
theorem dX0_count_131 : decode cX0_count 131 = .ok (.invokevirtual 64, 3) := dk_182 0 64 (dk_at dksX0_count_3 19 rfl rfl)
theorem dX0_count_134 : decode cX0_count 134 = .ok (.goto 92, 3) := dk_167 0 92 (dk_at dksX0_count_4 0 rfl rfl)
theorem dX0_count_137 : decode cX0_count 137 = .ok (.aload_n 0, 1) := dk_42 (dk_at dksX0_count_4 3 rfl rfl)
theorem dX0_count_138 : decode cX0_count 138 = .ok (.getfield 22, 3) := dk_180 0 22 (dk_at dksX0_count_4 4 rfl rfl)
theorem dX0_count_141 : decode cX0_count 141 = .ok (.iload_n 1, 1) := dk_27 (dk_at dksX0_count_4 7 rfl rfl)
theorem dX0_count_142 : decode cX0_count 142 = .ok (.iconst 4, 1) := dk_7 (dk_at dksX0_count_4 8 rfl rfl)
theorem dX0_count_143 : decode cX0_count 143 = .ok (.isub, 1) := dk_100 (dk_at dksX0_count_4 9 rfl rfl)
theorem dX0_count_144 : decode cX0_count 144 = .ok (.invokevirtual 414, 3) := dk_182 1 158 (dk_at dksX0_count_4 10 rfl rfl)
theorem dX0_count_147 : decode cX0_count 147 = .ok (.goto 79, 3) := dk_167 0 79 (dk_at dksX0_count_4 13 rfl rfl)
theorem dX0_count_150 : decode cX0_count 150 = .ok (.aload_n 0, 1) := dk_42 (dk_at dksX0_count_4 16 rfl rfl)
theorem dX0_count_151 : decode cX0_count 151 = .ok (.getfield 22, 3) := dk_180 0 22 (dk_at dksX0_count_4 17 rfl rfl)
theorem dX0_count_154 : decode cX0_count 154 = .ok (.iload_n 1, 1) := dk_27 (dk_at dksX0_count_4 20 rfl rfl)
theorem dX0_count_155 : decode cX0_count 155 = .ok (.invokevirtual 417, 3) := dk_182 1 161 (dk_at dksX0_count_4 21 rfl rfl)
theorem dX0_count_158 : decode cX0_count 158 = .ok (.goto 68, 3) := dk_167 0 68 (dk_at dksX0_count_5 0 rfl rfl)
theorem dX0_count_161 : decode cX0_count 161 = .ok (.aload_n 0, 1) := dk_42 (dk_at dksX0_count_5 3 rfl rfl)
theorem dX0_count_162 : decode cX0_count 162 = .ok (.getfield 22, 3) := dk_180 0 22 (dk_at dksX0_count_5 4 rfl rfl)
theorem dX0_count_165 : decode cX0_count 165 = .ok (.getfield 60, 3) := dk_180 0 60 (dk_at dksX0_count_5 7 rfl rfl)
theorem dX0_count_168 : decode cX0_count 168 = .ok (.invokestatic 420, 3) := dk_184 1 164 (dk_at dksX0_count_5 10 rfl rfl)
theorem dX0_count_171 : decode cX0_count 171 = .ok (.goto 55, 3) := dk_167 0 55 (dk_at dksX0_count_5 13 rfl rfl)
theorem dX0_count_174 : decode cX0_count 174 = .ok (.aload_n 0, 1) := dk_42 (dk_at dksX0_count_5 16 rfl rfl)
theorem dX0_count_175 : decode cX0_count 175 = .ok (.getfield 22, 3) := dk_180 0 22 (dk_at dksX0_count_5 17 rfl rfl)
theorem dX0_count_178 : decode cX0_count 178 = .ok (.getfield 426, 3) := dk_180 1 170 (dk_at dksX0_count_5 20 rfl rfl)
theorem dX0_count_181 : decode cX0_count 181 = .ok (.goto 45, 3) := dk_167 0 45 (dk_at dksX0_count_6 0 rfl rfl)
theorem dX0_count_184 : decode cX0_count 184 = .ok (.aload_n 0, 1) := dk_42 (dk_at dksX0_count_6 3 rfl rfl)
theorem dX0_count_185 : decode cX0_count 185 = .ok (.getfield 22, 3) := dk_180 0 22 (dk_at dksX0_count_6 4 rfl rfl)
theorem dX0_count_188 : decode cX0_count 188 = .ok (.getfield 127, 3) := dk_180 0 127 (dk_at dksX0_count_6 7 rfl rfl)
theorem dX0_count_191 : decode cX0_count 191 = .ok (.goto 35, 3) := dk_167 0 35 (dk_at dksX0_count_6 10 rfl rfl)
theorem dX0_count_194 : decode cX0_count 194 = .ok (.aload_n 0, 1) := dk_42 (dk_at dksX0_count_6 13 rfl rfl)
theorem dX0_count_195 : decode cX0_count 195 = .ok (.getfield 22, 3) := dk_180 0 22 (dk_at dksX0_count_6 14 rfl rfl)
theorem dX0_count_198 : decode cX0_count 198 = .ok (.getfield 124, 3) := dk_180 0 124 (dk_at dksX0_count_6 17 rfl rfl)
theorem dX0_count_201 : decode cX0_count 201 = .ok (.goto 25, 3) := dk_167 0 25 (dk_at dksX0_count_6 20 rfl rfl)
theorem dX0_count_204 : decode cX0_count 204 = .ok (.aload_n 0, 1) := dk_42 (dk_at dksX0_count_6 23 rfl rfl)
theorem dX0_count_205 : decode cX0_count 205 = .ok (.getfield 31, 3) := dk_180 0 31 (dk_at dksX0_count_7 0 rfl rfl)
theorem dX0_count_208 : decode cX0_count 208 = .ok (.invokevirtual 48, 3) := dk_182 0 48 (dk_at dksX0_count_7 3 rfl rfl)
theorem dX0_count_211 : decode cX0_count 211 = .ok (.goto 15, 3) := dk_167 0 15 (dk_at dksX0_count_7 6 rfl rfl)
theorem dX0_count_214 : decode cX0_count 214 = .ok (.aload_n 0, 1) := dk_42 (dk_at dksX0_count_7 9 rfl rfl)
theorem dX0_count_215 : decode cX0_count 215 = .ok (.getfield 40, 3) := dk_180 0 40 (dk_at dksX0_count_7 10 rfl rfl)
theorem dX0_count_218 : decode cX0_count 218 = .ok (.invokevirtual 296, 3) := dk_182 1 40 (dk_at dksX0_count_7 13 rfl rfl)
theorem dX0_count_221 : decode cX0_count 221 = .ok (.goto 5, 3) := dk_167 0 5 (dk_at dksX0_count_7 16 rfl rfl)
theorem dX0_count_224 : decode cX0_count 224 = .ok (.bipush (-2), 2) := dk_16 254 (dk_at dksX0_count_7 19 rfl rfl)
theorem dX0_count_226 : decode cX0_count 226 = .ok (.ireturn, 1) := dk_172 (dk_at dksX0_count_7 21 rfl rfl)
theorem q74 : (Jvm.Cond.initialized "PayMatch") ∈ lw_all := lw_g (lw_at lw_m1 1 rfl) rfl
theorem q118 : (Jvm.Cond.instantiable "PayMatch" (4 : Nat)) ∈ lw_all := lw_g (lw_at lw_m1 45 rfl) rfl
theorem q120 : (Jvm.Cond.instanceMethod ({ cls := "PayMatch", name := "<init>", desc := "()V" } : Jvm.MethodName)) ∈ lw_all := lw_g (lw_at lw_m1 47 rfl) rfl
theorem q121 : (Jvm.Cond.code ({ cls := "PayMatch", name := "<init>", desc := "()V" } : Jvm.MethodName) prog_1_method_4_code (1 : Nat) (Option.none : Option Jvm.ClassFile.FieldType)) ∈ lw_all := lw_g (lw_at lw_m1 48 rfl) rfl
theorem q122 : (Jvm.Cond.methodLink "PayMatch" (13 : Nat) ({ cls := "java/lang/Object", name := "<init>", desc := "()V" } : Jvm.MethodName)) ∈ lw_all := lw_g (lw_at lw_m1 49 rfl) rfl
theorem q125 : (Jvm.Cond.classLink "PayMatch" (19 : Nat) "PayMatch$State") ∈ lw_all := lw_g (lw_at lw_m1 52 rfl) rfl
theorem q127 : (Jvm.Cond.methodLinkNest "PayMatch" (21 : Nat) ({ cls := "PayMatch$State", name := "<init>", desc := "()V" } : Jvm.MethodName) "PayMatch") ∈ lw_tbl := lw_at lw_m1 54 rfl
theorem q197 : (Jvm.Cond.fieldLinkNest "PayMatch" (60 : Nat) "PayMatch$State" "suppliers" "LPayMatch$Book;" "PayMatch") ∈ lw_tbl := lw_at lw_m1 124 rfl
theorem q199 : (Jvm.Cond.fieldLinkNest "PayMatch" (130 : Nat) "PayMatch$State" "orders" "LPayMatch$Book;" "PayMatch") ∈ lw_tbl := lw_at lw_m1 126 rfl
theorem q201 : (Jvm.Cond.fieldLinkNest "PayMatch" (211 : Nat) "PayMatch$State" "invoices" "LPayMatch$Book;" "PayMatch") ∈ lw_tbl := lw_at lw_m1 128 rfl
theorem q203 : (Jvm.Cond.fieldLinkNest "PayMatch" (399 : Nat) "PayMatch$State" "log" "Ljava/util/LinkedList;" "PayMatch") ∈ lw_tbl := lw_at lw_m1 130 rfl
theorem q205 : (Jvm.Cond.fieldLinkNest "PayMatch" (121 : Nat) "PayMatch$State" "discount" "D" "PayMatch") ∈ lw_tbl := lw_at lw_m1 132 rfl
theorem q207 : (Jvm.Cond.fieldLinkNest "PayMatch" (127 : Nat) "PayMatch$State" "discountDays" "I" "PayMatch") ∈ lw_tbl := lw_at lw_m1 134 rfl
theorem q209 : (Jvm.Cond.fieldLinkNest "PayMatch" (124 : Nat) "PayMatch$State" "term" "I" "PayMatch") ∈ lw_tbl := lw_at lw_m1 136 rfl
theorem q211 : (Jvm.Cond.fieldLinkNest "PayMatch" (290 : Nat) "PayMatch$State" "day" "I" "PayMatch") ∈ lw_tbl := lw_at lw_m1 138 rfl
theorem q213 : (Jvm.Cond.fieldLinkNest "PayMatch" (426 : Nat) "PayMatch$State" "notes" "I" "PayMatch") ∈ lw_tbl := lw_at lw_m1 140 rfl
theorem q233 : (Jvm.Cond.classLink "PayMatch" (28 : Nat) "java/util/ArrayDeque") ∈ lw_all := lw_g (lw_at lw_m1 160 rfl) rfl
theorem q235 : (Jvm.Cond.methodLink "PayMatch" (30 : Nat) ({ cls := "java/util/ArrayDeque", name := "<init>", desc := "()V" } : Jvm.MethodName)) ∈ lw_all := lw_g (lw_at lw_m1 162 rfl) rfl
theorem q253 : (Jvm.Cond.classLink "PayMatch" (35 : Nat) "java/lang/StringBuilder") ∈ lw_all := lw_g (lw_at lw_m1 180 rfl) rfl
theorem q255 : (Jvm.Cond.methodLink "PayMatch" (37 : Nat) ({ cls := "java/lang/StringBuilder", name := "<init>", desc := "(I)V" } : Jvm.MethodName)) ∈ lw_all := lw_g (lw_at lw_m1 182 rfl) rfl
theorem q286 : (Jvm.Cond.fieldLink "PayMatch" (22 : Nat) "PayMatch" "now" "LPayMatch$State;") ∈ lw_all := lw_g (lw_at lw_m1 213 rfl) rfl
theorem q287 : (Jvm.Cond.fieldLink "PayMatch" (312 : Nat) "PayMatch" "snapshot" "LPayMatch$State;") ∈ lw_all := lw_g (lw_at lw_m1 214 rfl) rfl
theorem q288 : (Jvm.Cond.fieldLink "PayMatch" (31 : Nat) "PayMatch" "history" "Ljava/util/ArrayDeque;") ∈ lw_all := lw_g (lw_at lw_m1 215 rfl) rfl
theorem q289 : (Jvm.Cond.fieldLink "PayMatch" (40 : Nat) "PayMatch" "text" "Ljava/lang/StringBuilder;") ∈ lw_all := lw_g (lw_at lw_m1 216 rfl) rfl
theorem q290 : (Jvm.Cond.lays "PayMatch" "PayMatch" "now" "LPayMatch$State;") ∈ lw_all := lw_g (lw_at lw_m1 217 rfl) rfl
theorem q291 : (Jvm.Cond.soleField "PayMatch" "now") ∈ lw_all := lw_g (lw_at lw_m1 218 rfl) rfl
theorem q292 : (Jvm.Cond.lays "PayMatch" "PayMatch" "snapshot" "LPayMatch$State;") ∈ lw_all := lw_g (lw_at lw_m1 219 rfl) rfl
theorem q293 : (Jvm.Cond.soleField "PayMatch" "snapshot") ∈ lw_all := lw_g (lw_at lw_m1 220 rfl) rfl
theorem q294 : (Jvm.Cond.laysFinal "PayMatch" "PayMatch" "history" "Ljava/util/ArrayDeque;") ∈ lw_all := lw_g (lw_at lw_m1 221 rfl) rfl
theorem q295 : (Jvm.Cond.soleField "PayMatch" "history") ∈ lw_all := lw_g (lw_at lw_m1 222 rfl) rfl
theorem q296 : (Jvm.Cond.laysFinal "PayMatch" "PayMatch" "text" "Ljava/lang/StringBuilder;") ∈ lw_all := lw_g (lw_at lw_m1 223 rfl) rfl
theorem q297 : (Jvm.Cond.soleField "PayMatch" "text") ∈ lw_all := lw_g (lw_at lw_m1 224 rfl) rfl
theorem q298 : (Jvm.Cond.superclass "PayMatch" "java/lang/Object") ∈ lw_all := lw_g (lw_at lw_m1 225 rfl) rfl
theorem q300 : (Jvm.Cond.instanceMethod ({ cls := "PayMatch", name := "addSupplier", desc := "()I" } : Jvm.MethodName)) ∈ lw_all := lw_g (lw_at lw_m1 227 rfl) rfl
theorem q301 : (Jvm.Cond.selects "PayMatch" ({ cls := "PayMatch", name := "addSupplier", desc := "()I" } : Jvm.MethodName) ({ cls := "PayMatch", name := "addSupplier", desc := "()I" } : Jvm.MethodName)) ∈ lw_all := lw_g (lw_at lw_m1 228 rfl) rfl
theorem q302 : (Jvm.Cond.code ({ cls := "PayMatch", name := "addSupplier", desc := "()I" } : Jvm.MethodName) prog_1_method_8_code (3 : Nat) (Option.some Jvm.ClassFile.FieldType.int)) ∈ lw_all := lw_g (lw_at lw_m1 229 rfl) rfl
theorem q303 : (Jvm.Cond.methodLink "PayMatch" (64 : Nat) ({ cls := "PayMatch$Book", name := "size", desc := "()I" } : Jvm.MethodName)) ∈ lw_all := lw_g (lw_at lw_m1 230 rfl) rfl
theorem q323 : (Jvm.Cond.methodLink "PayMatch" (67 : Nat) ({ cls := "PayMatch$State", name := "copy", desc := "()LPayMatch$State;" } : Jvm.MethodName)) ∈ lw_all := lw_g (lw_at lw_m2 10 rfl) rfl
theorem q579 : (Jvm.Cond.selects "PayMatch" ({ cls := "java/lang/Object", name := "getClass", desc := "()Ljava/lang/Class;" } : Jvm.MethodName) ({ cls := "java/lang/Object", name := "getClass", desc := "()Ljava/lang/Class;" } : Jvm.MethodName)) ∈ lw_all := lw_g (lw_at lw_m3 26 rfl) rfl
theorem q879 : (Jvm.Cond.fieldLinkNest "PayMatch" (372 : Nat) "PayMatch$Invoice" "reference" "I" "PayMatch") ∈ lw_tbl := lw_at lw_m4 86 rfl
theorem q882 : (Jvm.Cond.fieldLinkNest "PayMatch" (286 : Nat) "PayMatch$Invoice" "order" "I" "PayMatch") ∈ lw_tbl := lw_at lw_m4 89 rfl
theorem q885 : (Jvm.Cond.fieldLinkNest "PayMatch" (373 : Nat) "PayMatch$Invoice" "day" "I" "PayMatch") ∈ lw_tbl := lw_at lw_m4 92 rfl
theorem q888 : (Jvm.Cond.fieldLinkNest "PayMatch" (374 : Nat) "PayMatch$Invoice" "entries" "[LPayMatch$Entry;" "PayMatch") ∈ lw_tbl := lw_at lw_m4 95 rfl
theorem q891 : (Jvm.Cond.fieldLinkNest "PayMatch" (266 : Nat) "PayMatch$Invoice" "state" "I" "PayMatch") ∈ lw_tbl := lw_at lw_m4 98 rfl
theorem q894 : (Jvm.Cond.fieldLinkNest "PayMatch" (267 : Nat) "PayMatch$Invoice" "reasons" "I" "PayMatch") ∈ lw_tbl := lw_at lw_m4 101 rfl
theorem q897 : (Jvm.Cond.fieldLinkNest "PayMatch" (378 : Nat) "PayMatch$Invoice" "noted" "I" "PayMatch") ∈ lw_tbl := lw_at lw_m4 104 rfl
theorem q900 : (Jvm.Cond.fieldLinkNest "PayMatch" (379 : Nat) "PayMatch$Invoice" "cash" "I" "PayMatch") ∈ lw_tbl := lw_at lw_m4 107 rfl
theorem q903 : (Jvm.Cond.fieldLinkNest "PayMatch" (380 : Nat) "PayMatch$Invoice" "discount" "I" "PayMatch") ∈ lw_tbl := lw_at lw_m4 110 rfl
theorem q906 : (Jvm.Cond.fieldLinkNest "PayMatch" (382 : Nat) "PayMatch$Invoice" "credit" "I" "PayMatch") ∈ lw_tbl := lw_at lw_m4 113 rfl
theorem q956 : (Jvm.Cond.fieldLinkNest "PayMatch" (352 : Nat) "PayMatch$Line" "item" "I" "PayMatch") ∈ lw_tbl := lw_at lw_m4 163 rfl
theorem q958 : (Jvm.Cond.fieldLinkNest "PayMatch" (172 : Nat) "PayMatch$Line" "ordered" "I" "PayMatch") ∈ lw_tbl := lw_at lw_m4 165 rfl
theorem q962 : (Jvm.Cond.fieldLinkNest "PayMatch" (175 : Nat) "PayMatch$Line" "price" "I" "PayMatch") ∈ lw_tbl := lw_at lw_m4 169 rfl
theorem q966 : (Jvm.Cond.fieldLinkNest "PayMatch" (166 : Nat) "PayMatch$Line" "received" "I" "PayMatch") ∈ lw_tbl := lw_at lw_m4 173 rfl
theorem q969 : (Jvm.Cond.fieldLinkNest "PayMatch" (355 : Nat) "PayMatch$Line" "rejected" "I" "PayMatch") ∈ lw_tbl := lw_at lw_m4 176 rfl
theorem q972 : (Jvm.Cond.fieldLinkNest "PayMatch" (169 : Nat) "PayMatch$Line" "billed" "I" "PayMatch") ∈ lw_tbl := lw_at lw_m4 179 rfl
theorem q975 : (Jvm.Cond.fieldLinkNest "PayMatch" (358 : Nat) "PayMatch$Line" "paid" "I" "PayMatch") ∈ lw_tbl := lw_at lw_m4 182 rfl
theorem q977 : (Jvm.Cond.fieldLinkNest "PayMatch" (361 : Nat) "PayMatch$Line" "claimed" "I" "PayMatch") ∈ lw_tbl := lw_at lw_m4 184 rfl
theorem q1018 : (Jvm.Cond.fieldLinkNest "PayMatch" (346 : Nat) "PayMatch$Order" "supplier" "I" "PayMatch") ∈ lw_tbl := lw_at lw_m4 225 rfl
theorem q1021 : (Jvm.Cond.fieldLinkNest "PayMatch" (150 : Nat) "PayMatch$Order" "lines" "LPayMatch$Book;" "PayMatch") ∈ lw_tbl := lw_at lw_m4 228 rfl
theorem q1023 : (Jvm.Cond.fieldLinkNest "PayMatch" (138 : Nat) "PayMatch$Order" "state" "I" "PayMatch") ∈ lw_tbl := lw_at lw_m4 230 rfl
theorem q1026 : (Jvm.Cond.fieldLinkNest "PayMatch" (178 : Nat) "PayMatch$Order" "changes" "I" "PayMatch") ∈ lw_tbl := lw_at lw_m4 233 rfl
theorem q1057 : (Jvm.Cond.fieldLinkNest "PayMatch" (104 : Nat) "PayMatch$Supplier" "priceTolerance" "D" "PayMatch") ∈ lw_tbl := lw_at lw_m5 24 rfl
theorem q1059 : (Jvm.Cond.fieldLinkNest "PayMatch" (100 : Nat) "PayMatch$Supplier" "unitTolerance" "D" "PayMatch") ∈ lw_tbl := lw_at lw_m5 26 rfl
theorem q1061 : (Jvm.Cond.fieldLinkNest "PayMatch" (107 : Nat) "PayMatch$Supplier" "trifle" "I" "PayMatch") ∈ lw_tbl := lw_at lw_m5 28 rfl
theorem q1064 : (Jvm.Cond.fieldLinkNest "PayMatch" (315 : Nat) "PayMatch$Supplier" "credit" "I" "PayMatch") ∈ lw_tbl := lw_at lw_m5 31 rfl
theorem q1067 : (Jvm.Cond.fieldLinkNest "PayMatch" (321 : Nat) "PayMatch$Supplier" "cash" "I" "PayMatch") ∈ lw_tbl := lw_at lw_m5 34 rfl
theorem q1070 : (Jvm.Cond.fieldLinkNest "PayMatch" (324 : Nat) "PayMatch$Supplier" "noted" "I" "PayMatch") ∈ lw_tbl := lw_at lw_m5 37 rfl
theorem q1073 : (Jvm.Cond.fieldLinkNest "PayMatch" (327 : Nat) "PayMatch$Supplier" "discounted" "I" "PayMatch") ∈ lw_tbl := lw_at lw_m5 40 rfl
theorem q1075 : (Jvm.Cond.fieldLinkNest "PayMatch" (111 : Nat) "PayMatch$Supplier" "isBlocked" "Z" "PayMatch") ∈ lw_tbl := lw_at lw_m5 42 rfl
theorem q1176 : (Jvm.Cond.classLink "PayMatch" (71 : Nat) "PayMatch$Supplier") ∈ lw_all := lw_g (lw_at lw_m5 143 rfl) rfl
theorem q1177 : (Jvm.Cond.methodLink "PayMatch" (73 : Nat) ({ cls := "PayMatch$Supplier", name := "<init>", desc := "(I)V" } : Jvm.MethodName)) ∈ lw_all := lw_g (lw_at lw_m5 144 rfl) rfl
theorem q1181 : (Jvm.Cond.methodLink "PayMatch" (74 : Nat) ({ cls := "PayMatch$Book", name := "add", desc := "(LPayMatch$Paper;)LPayMatch$Paper;" } : Jvm.MethodName)) ∈ lw_all := lw_g (lw_at lw_m5 148 rfl) rfl
theorem q1182 : (Jvm.Cond.methodLink "PayMatch" (78 : Nat) ({ cls := "PayMatch", name := "become", desc := "(LPayMatch$State;I)I" } : Jvm.MethodName)) ∈ lw_all := lw_g (lw_at lw_m5 149 rfl) rfl
theorem q1183 : (Jvm.Cond.privateMethod ({ cls := "PayMatch", name := "become", desc := "(LPayMatch$State;I)I" } : Jvm.MethodName)) ∈ lw_tbl := lw_at lw_m5 150 rfl
theorem q1184 : (Jvm.Cond.instanceMethod ({ cls := "PayMatch", name := "become", desc := "(LPayMatch$State;I)I" } : Jvm.MethodName)) ∈ lw_all := lw_g (lw_at lw_m5 151 rfl) rfl
theorem q1185 : (Jvm.Cond.code ({ cls := "PayMatch", name := "become", desc := "(LPayMatch$State;I)I" } : Jvm.MethodName) prog_1_method_5_code (3 : Nat) (Option.some Jvm.ClassFile.FieldType.int)) ∈ lw_all := lw_g (lw_at lw_m5 152 rfl) rfl
theorem q1186 : (Jvm.Cond.methodLink "PayMatch" (44 : Nat) ({ cls := "java/util/ArrayDeque", name := "addLast", desc := "(Ljava/lang/Object;)V" } : Jvm.MethodName)) ∈ lw_all := lw_g (lw_at lw_m5 153 rfl) rfl
theorem q1203 : (Jvm.Cond.methodLink "PayMatch" (48 : Nat) ({ cls := "java/util/ArrayDeque", name := "size", desc := "()I" } : Jvm.MethodName)) ∈ lw_all := lw_g (lw_at lw_m5 170 rfl) rfl
theorem q1210 : (Jvm.Cond.methodLink "PayMatch" (52 : Nat) ({ cls := "java/util/ArrayDeque", name := "removeFirst", desc := "()Ljava/lang/Object;" } : Jvm.MethodName)) ∈ lw_all := lw_g (lw_at lw_m5 177 rfl) rfl
theorem q1222 : (Jvm.Cond.instanceMethod ({ cls := "PayMatch", name := "setTolerance", desc := "(IZJ)I" } : Jvm.MethodName)) ∈ lw_all := lw_g (lw_at lw_m5 189 rfl) rfl
theorem q1223 : (Jvm.Cond.selects "PayMatch" ({ cls := "PayMatch", name := "setTolerance", desc := "(IZJ)I" } : Jvm.MethodName) ({ cls := "PayMatch", name := "setTolerance", desc := "(IZJ)I" } : Jvm.MethodName)) ∈ lw_all := lw_g (lw_at lw_m5 190 rfl) rfl
theorem q1224 : (Jvm.Cond.code ({ cls := "PayMatch", name := "setTolerance", desc := "(IZJ)I" } : Jvm.MethodName) prog_1_method_9_code (8 : Nat) (Option.some Jvm.ClassFile.FieldType.int)) ∈ lw_all := lw_g (lw_at lw_m5 191 rfl) rfl
theorem q1225 : (Jvm.Cond.methodLink "PayMatch" (82 : Nat) ({ cls := "PayMatch$Book", name := "has", desc := "(I)Z" } : Jvm.MethodName)) ∈ lw_all := lw_g (lw_at lw_m5 192 rfl) rfl
theorem q1230 : (Jvm.Cond.static ({ cls := "PayMatch", name := "inRange", desc := "(III)Z" } : Jvm.MethodName)) ∈ lw_all := lw_g (lw_at lw_m5 197 rfl) rfl
theorem q1231 : (Jvm.Cond.code ({ cls := "PayMatch", name := "inRange", desc := "(III)Z" } : Jvm.MethodName) prog_1_method_1_code (3 : Nat) (Option.some Jvm.ClassFile.FieldType.boolean)) ∈ lw_all := lw_g (lw_at lw_m5 198 rfl) rfl
theorem q1232 : (Jvm.Cond.constantDouble "PayMatch" (86 : Nat) (4632233691727265792 : UInt64)) ∈ lw_all := lw_g (lw_at lw_m5 199 rfl) rfl
theorem q1233 : (Jvm.Cond.methodLink "PayMatch" (88 : Nat) ({ cls := "PayMatch", name := "isPercent", desc := "(JD)Z" } : Jvm.MethodName)) ∈ lw_all := lw_g (lw_at lw_m5 200 rfl) rfl
theorem q1234 : (Jvm.Cond.static ({ cls := "PayMatch", name := "isPercent", desc := "(JD)Z" } : Jvm.MethodName)) ∈ lw_all := lw_g (lw_at lw_m5 201 rfl) rfl
theorem q1235 : (Jvm.Cond.code ({ cls := "PayMatch", name := "isPercent", desc := "(JD)Z" } : Jvm.MethodName) prog_1_method_2_code (6 : Nat) (Option.some Jvm.ClassFile.FieldType.boolean)) ∈ lw_all := lw_g (lw_at lw_m5 202 rfl) rfl
theorem q1236 : (Jvm.Cond.constantLong "PayMatch" (1 : Nat) (9223372036854775807 : Int64)) ∈ lw_all := lw_g (lw_at lw_m5 203 rfl) rfl
theorem q1237 : (Jvm.Cond.constantLong "PayMatch" (3 : Nat) (9218868437227405312 : Int64)) ∈ lw_all := lw_g (lw_at lw_m5 204 rfl) rfl
theorem q1238 : (Jvm.Cond.methodLink "PayMatch" (5 : Nat) ({ cls := "java/lang/Double", name := "longBitsToDouble", desc := "(J)D" } : Jvm.MethodName)) ∈ lw_all := lw_g (lw_at lw_m5 205 rfl) rfl
theorem q1241 : (Jvm.Cond.methodLink "PayMatch" (92 : Nat) ({ cls := "PayMatch", name := "tolerance", desc := "(IZ)D" } : Jvm.MethodName)) ∈ lw_all := lw_g (lw_at lw_m5 208 rfl) rfl
theorem q1242 : (Jvm.Cond.instanceMethod ({ cls := "PayMatch", name := "tolerance", desc := "(IZ)D" } : Jvm.MethodName)) ∈ lw_all := lw_g (lw_at lw_m5 209 rfl) rfl
theorem q1243 : (Jvm.Cond.selects "PayMatch" ({ cls := "PayMatch", name := "tolerance", desc := "(IZ)D" } : Jvm.MethodName) ({ cls := "PayMatch", name := "tolerance", desc := "(IZ)D" } : Jvm.MethodName)) ∈ lw_all := lw_g (lw_at lw_m5 210 rfl) rfl
theorem q1244 : (Jvm.Cond.code ({ cls := "PayMatch", name := "tolerance", desc := "(IZ)D" } : Jvm.MethodName) prog_1_method_40_code (3 : Nat) (Option.some Jvm.ClassFile.FieldType.double)) ∈ lw_all := lw_g (lw_at lw_m5 211 rfl) rfl
theorem q1245 : (Jvm.Cond.methodLink "PayMatch" (330 : Nat) ({ cls := "PayMatch", name := "nothing", desc := "()D" } : Jvm.MethodName)) ∈ lw_all := lw_g (lw_at lw_m5 212 rfl) rfl
theorem q1246 : (Jvm.Cond.static ({ cls := "PayMatch", name := "nothing", desc := "()D" } : Jvm.MethodName)) ∈ lw_all := lw_g (lw_at lw_m5 213 rfl) rfl
theorem q1247 : (Jvm.Cond.code ({ cls := "PayMatch", name := "nothing", desc := "()D" } : Jvm.MethodName) prog_1_method_3_code (0 : Nat) (Option.some Jvm.ClassFile.FieldType.double)) ∈ lw_all := lw_g (lw_at lw_m5 214 rfl) rfl
theorem q1248 : (Jvm.Cond.constantDouble "PayMatch" (11 : Nat) (9221120237041090560 : UInt64)) ∈ lw_all := lw_g (lw_at lw_m5 215 rfl) rfl
theorem q1249 : (Jvm.Cond.methodLink "PayMatch" (96 : Nat) ({ cls := "PayMatch$Book", name := "get", desc := "(I)LPayMatch$Paper;" } : Jvm.MethodName)) ∈ lw_all := lw_g (lw_at lw_m5 216 rfl) rfl
theorem q1264 : (Jvm.Cond.instanceMethod ({ cls := "PayMatch", name := "setTrifle", desc := "(II)I" } : Jvm.MethodName)) ∈ lw_all := lw_g (lw_at lw_m5 231 rfl) rfl
theorem q1265 : (Jvm.Cond.selects "PayMatch" ({ cls := "PayMatch", name := "setTrifle", desc := "(II)I" } : Jvm.MethodName) ({ cls := "PayMatch", name := "setTrifle", desc := "(II)I" } : Jvm.MethodName)) ∈ lw_all := lw_g (lw_at lw_m5 232 rfl) rfl
theorem q1266 : (Jvm.Cond.code ({ cls := "PayMatch", name := "setTrifle", desc := "(II)I" } : Jvm.MethodName) prog_1_method_10_code (5 : Nat) (Option.some Jvm.ClassFile.FieldType.int)) ∈ lw_all := lw_g (lw_at lw_m5 233 rfl) rfl
theorem q1267 : (Jvm.Cond.methodLink "PayMatch" (56 : Nat) ({ cls := "PayMatch", name := "inRange", desc := "(III)Z" } : Jvm.MethodName)) ∈ lw_all := lw_g (lw_at lw_m5 234 rfl) rfl
theorem q1269 : (Jvm.Cond.instanceMethod ({ cls := "PayMatch", name := "block", desc := "(IZ)I" } : Jvm.MethodName)) ∈ lw_all := lw_g (lw_at lw_m5 236 rfl) rfl
theorem q1270 : (Jvm.Cond.selects "PayMatch" ({ cls := "PayMatch", name := "block", desc := "(IZ)I" } : Jvm.MethodName) ({ cls := "PayMatch", name := "block", desc := "(IZ)I" } : Jvm.MethodName)) ∈ lw_all := lw_g (lw_at lw_m5 237 rfl) rfl
theorem q1271 : (Jvm.Cond.code ({ cls := "PayMatch", name := "block", desc := "(IZ)I" } : Jvm.MethodName) prog_1_method_11_code (4 : Nat) (Option.some Jvm.ClassFile.FieldType.int)) ∈ lw_all := lw_g (lw_at lw_m5 238 rfl) rfl
theorem q1272 : (Jvm.Cond.methodLink "PayMatch" (115 : Nat) ({ cls := "PayMatch$State", name := "invoicesOf", desc := "(IZ)I" } : Jvm.MethodName)) ∈ lw_all := lw_g (lw_at lw_m5 239 rfl) rfl
theorem q1284 : (Jvm.Cond.instanceMethod ({ cls := "PayMatch", name := "setDiscount", desc := "(J)I" } : Jvm.MethodName)) ∈ lw_all := lw_g (lw_at lw_m6 11 rfl) rfl
theorem q1285 : (Jvm.Cond.selects "PayMatch" ({ cls := "PayMatch", name := "setDiscount", desc := "(J)I" } : Jvm.MethodName) ({ cls := "PayMatch", name := "setDiscount", desc := "(J)I" } : Jvm.MethodName)) ∈ lw_all := lw_g (lw_at lw_m6 12 rfl) rfl
theorem q1286 : (Jvm.Cond.code ({ cls := "PayMatch", name := "setDiscount", desc := "(J)I" } : Jvm.MethodName) prog_1_method_12_code (6 : Nat) (Option.some Jvm.ClassFile.FieldType.int)) ∈ lw_all := lw_g (lw_at lw_m6 13 rfl) rfl
theorem q1287 : (Jvm.Cond.constantDouble "PayMatch" (119 : Nat) (4626322717216342016 : UInt64)) ∈ lw_all := lw_g (lw_at lw_m6 14 rfl) rfl
theorem q1289 : (Jvm.Cond.instanceMethod ({ cls := "PayMatch", name := "setTerms", desc := "(II)I" } : Jvm.MethodName)) ∈ lw_all := lw_g (lw_at lw_m6 16 rfl) rfl
theorem q1290 : (Jvm.Cond.selects "PayMatch" ({ cls := "PayMatch", name := "setTerms", desc := "(II)I" } : Jvm.MethodName) ({ cls := "PayMatch", name := "setTerms", desc := "(II)I" } : Jvm.MethodName)) ∈ lw_all := lw_g (lw_at lw_m6 17 rfl) rfl
theorem q1291 : (Jvm.Cond.code ({ cls := "PayMatch", name := "setTerms", desc := "(II)I" } : Jvm.MethodName) prog_1_method_13_code (5 : Nat) (Option.some Jvm.ClassFile.FieldType.int)) ∈ lw_all := lw_g (lw_at lw_m6 18 rfl) rfl
theorem q1293 : (Jvm.Cond.instanceMethod ({ cls := "PayMatch", name := "addOrder", desc := "(I)I" } : Jvm.MethodName)) ∈ lw_all := lw_g (lw_at lw_m6 20 rfl) rfl
theorem q1294 : (Jvm.Cond.selects "PayMatch" ({ cls := "PayMatch", name := "addOrder", desc := "(I)I" } : Jvm.MethodName) ({ cls := "PayMatch", name := "addOrder", desc := "(I)I" } : Jvm.MethodName)) ∈ lw_all := lw_g (lw_at lw_m6 21 rfl) rfl
theorem q1295 : (Jvm.Cond.code ({ cls := "PayMatch", name := "addOrder", desc := "(I)I" } : Jvm.MethodName) prog_1_method_14_code (4 : Nat) (Option.some Jvm.ClassFile.FieldType.int)) ∈ lw_all := lw_g (lw_at lw_m6 22 rfl) rfl
theorem q1296 : (Jvm.Cond.classLink "PayMatch" (133 : Nat) "PayMatch$Order") ∈ lw_all := lw_g (lw_at lw_m6 23 rfl) rfl
theorem q1297 : (Jvm.Cond.methodLink "PayMatch" (135 : Nat) ({ cls := "PayMatch$Order", name := "<init>", desc := "(II)V" } : Jvm.MethodName)) ∈ lw_all := lw_g (lw_at lw_m6 24 rfl) rfl
theorem q1299 : (Jvm.Cond.instanceMethod ({ cls := "PayMatch", name := "addLine", desc := "(IIII)I" } : Jvm.MethodName)) ∈ lw_all := lw_g (lw_at lw_m6 26 rfl) rfl
theorem q1300 : (Jvm.Cond.selects "PayMatch" ({ cls := "PayMatch", name := "addLine", desc := "(IIII)I" } : Jvm.MethodName) ({ cls := "PayMatch", name := "addLine", desc := "(IIII)I" } : Jvm.MethodName)) ∈ lw_all := lw_g (lw_at lw_m6 27 rfl) rfl
theorem q1301 : (Jvm.Cond.code ({ cls := "PayMatch", name := "addLine", desc := "(IIII)I" } : Jvm.MethodName) prog_1_method_16_code (7 : Nat) (Option.some Jvm.ClassFile.FieldType.int)) ∈ lw_all := lw_g (lw_at lw_m6 28 rfl) rfl
theorem q1302 : (Jvm.Cond.methodLink "PayMatch" (141 : Nat) ({ cls := "PayMatch", name := "areUnits", desc := "(I)Z" } : Jvm.MethodName)) ∈ lw_all := lw_g (lw_at lw_m6 29 rfl) rfl
theorem q1303 : (Jvm.Cond.static ({ cls := "PayMatch", name := "areUnits", desc := "(I)Z" } : Jvm.MethodName)) ∈ lw_all := lw_g (lw_at lw_m6 30 rfl) rfl
theorem q1304 : (Jvm.Cond.code ({ cls := "PayMatch", name := "areUnits", desc := "(I)Z" } : Jvm.MethodName) prog_1_method_6_code (1 : Nat) (Option.some Jvm.ClassFile.FieldType.boolean)) ∈ lw_all := lw_g (lw_at lw_m6 31 rfl) rfl
theorem q1305 : (Jvm.Cond.methodLink "PayMatch" (144 : Nat) ({ cls := "PayMatch", name := "isPrice", desc := "(I)Z" } : Jvm.MethodName)) ∈ lw_all := lw_g (lw_at lw_m6 32 rfl) rfl
theorem q1306 : (Jvm.Cond.static ({ cls := "PayMatch", name := "isPrice", desc := "(I)Z" } : Jvm.MethodName)) ∈ lw_all := lw_g (lw_at lw_m6 33 rfl) rfl
theorem q1307 : (Jvm.Cond.code ({ cls := "PayMatch", name := "isPrice", desc := "(I)Z" } : Jvm.MethodName) prog_1_method_7_code (1 : Nat) (Option.some Jvm.ClassFile.FieldType.boolean)) ∈ lw_all := lw_g (lw_at lw_m6 34 rfl) rfl
theorem q1308 : (Jvm.Cond.methodLink "PayMatch" (147 : Nat) ({ cls := "PayMatch", name := "isOpen", desc := "(I)Z" } : Jvm.MethodName)) ∈ lw_all := lw_g (lw_at lw_m6 35 rfl) rfl
theorem q1309 : (Jvm.Cond.privateMethod ({ cls := "PayMatch", name := "isOpen", desc := "(I)Z" } : Jvm.MethodName)) ∈ lw_tbl := lw_at lw_m6 36 rfl
theorem q1310 : (Jvm.Cond.instanceMethod ({ cls := "PayMatch", name := "isOpen", desc := "(I)Z" } : Jvm.MethodName)) ∈ lw_all := lw_g (lw_at lw_m6 37 rfl) rfl
theorem q1311 : (Jvm.Cond.code ({ cls := "PayMatch", name := "isOpen", desc := "(I)Z" } : Jvm.MethodName) prog_1_method_15_code (2 : Nat) (Option.some Jvm.ClassFile.FieldType.boolean)) ∈ lw_all := lw_g (lw_at lw_m6 38 rfl) rfl
theorem q1312 : (Jvm.Cond.classLink "PayMatch" (153 : Nat) "PayMatch$Line") ∈ lw_all := lw_g (lw_at lw_m6 39 rfl) rfl
theorem q1313 : (Jvm.Cond.methodLink "PayMatch" (155 : Nat) ({ cls := "PayMatch$Line", name := "<init>", desc := "(IIII)V" } : Jvm.MethodName)) ∈ lw_all := lw_g (lw_at lw_m6 40 rfl) rfl
theorem q1315 : (Jvm.Cond.instanceMethod ({ cls := "PayMatch", name := "changeLine", desc := "(IIII)I" } : Jvm.MethodName)) ∈ lw_all := lw_g (lw_at lw_m6 42 rfl) rfl
theorem q1316 : (Jvm.Cond.selects "PayMatch" ({ cls := "PayMatch", name := "changeLine", desc := "(IIII)I" } : Jvm.MethodName) ({ cls := "PayMatch", name := "changeLine", desc := "(IIII)I" } : Jvm.MethodName)) ∈ lw_all := lw_g (lw_at lw_m6 43 rfl) rfl
theorem q1317 : (Jvm.Cond.code ({ cls := "PayMatch", name := "changeLine", desc := "(IIII)I" } : Jvm.MethodName) prog_1_method_17_code (7 : Nat) (Option.some Jvm.ClassFile.FieldType.int)) ∈ lw_all := lw_g (lw_at lw_m6 44 rfl) rfl
theorem q1318 : (Jvm.Cond.methodLink "PayMatch" (158 : Nat) ({ cls := "PayMatch$State", name := "hasLine", desc := "(II)Z" } : Jvm.MethodName)) ∈ lw_all := lw_g (lw_at lw_m6 45 rfl) rfl
theorem q1323 : (Jvm.Cond.methodLink "PayMatch" (162 : Nat) ({ cls := "PayMatch$State", name := "line", desc := "(II)LPayMatch$Line;" } : Jvm.MethodName)) ∈ lw_all := lw_g (lw_at lw_m6 50 rfl) rfl
theorem q1329 : (Jvm.Cond.instanceMethod ({ cls := "PayMatch", name := "close", desc := "(I)I" } : Jvm.MethodName)) ∈ lw_all := lw_g (lw_at lw_m6 56 rfl) rfl
theorem q1330 : (Jvm.Cond.selects "PayMatch" ({ cls := "PayMatch", name := "close", desc := "(I)I" } : Jvm.MethodName) ({ cls := "PayMatch", name := "close", desc := "(I)I" } : Jvm.MethodName)) ∈ lw_all := lw_g (lw_at lw_m6 57 rfl) rfl
theorem q1331 : (Jvm.Cond.code ({ cls := "PayMatch", name := "close", desc := "(I)I" } : Jvm.MethodName) prog_1_method_19_code (2 : Nat) (Option.some Jvm.ClassFile.FieldType.int)) ∈ lw_all := lw_g (lw_at lw_m6 58 rfl) rfl
theorem q1332 : (Jvm.Cond.methodLink "PayMatch" (181 : Nat) ({ cls := "PayMatch$Order", name := "weight", desc := "()I" } : Jvm.MethodName)) ∈ lw_all := lw_g (lw_at lw_m6 59 rfl) rfl
theorem q1404 : (Jvm.Cond.methodLink "PayMatch" (184 : Nat) ({ cls := "PayMatch", name := "setState", desc := "(III)I" } : Jvm.MethodName)) ∈ lw_all := lw_g (lw_at lw_m6 131 rfl) rfl
theorem q1405 : (Jvm.Cond.privateMethod ({ cls := "PayMatch", name := "setState", desc := "(III)I" } : Jvm.MethodName)) ∈ lw_tbl := lw_at lw_m6 132 rfl
theorem q1406 : (Jvm.Cond.instanceMethod ({ cls := "PayMatch", name := "setState", desc := "(III)I" } : Jvm.MethodName)) ∈ lw_all := lw_g (lw_at lw_m6 133 rfl) rfl
theorem q1407 : (Jvm.Cond.code ({ cls := "PayMatch", name := "setState", desc := "(III)I" } : Jvm.MethodName) prog_1_method_18_code (5 : Nat) (Option.some Jvm.ClassFile.FieldType.int)) ∈ lw_all := lw_g (lw_at lw_m6 134 rfl) rfl
theorem q1409 : (Jvm.Cond.instanceMethod ({ cls := "PayMatch", name := "cancel", desc := "(I)I" } : Jvm.MethodName)) ∈ lw_all := lw_g (lw_at lw_m6 136 rfl) rfl
theorem q1410 : (Jvm.Cond.selects "PayMatch" ({ cls := "PayMatch", name := "cancel", desc := "(I)I" } : Jvm.MethodName) ({ cls := "PayMatch", name := "cancel", desc := "(I)I" } : Jvm.MethodName)) ∈ lw_all := lw_g (lw_at lw_m6 137 rfl) rfl
theorem q1411 : (Jvm.Cond.code ({ cls := "PayMatch", name := "cancel", desc := "(I)I" } : Jvm.MethodName) prog_1_method_20_code (3 : Nat) (Option.some Jvm.ClassFile.FieldType.int)) ∈ lw_all := lw_g (lw_at lw_m6 138 rfl) rfl
theorem q1412 : (Jvm.Cond.methodLink "PayMatch" (188 : Nat) ({ cls := "PayMatch$Order", name := "isUsed", desc := "()Z" } : Jvm.MethodName)) ∈ lw_all := lw_g (lw_at lw_m6 139 rfl) rfl
theorem q1427 : (Jvm.Cond.instanceMethod ({ cls := "PayMatch", name := "receive", desc := "(IIII)I" } : Jvm.MethodName)) ∈ lw_all := lw_g (lw_at lw_m6 154 rfl) rfl
theorem q1428 : (Jvm.Cond.selects "PayMatch" ({ cls := "PayMatch", name := "receive", desc := "(IIII)I" } : Jvm.MethodName) ({ cls := "PayMatch", name := "receive", desc := "(IIII)I" } : Jvm.MethodName)) ∈ lw_all := lw_g (lw_at lw_m6 155 rfl) rfl
theorem q1429 : (Jvm.Cond.code ({ cls := "PayMatch", name := "receive", desc := "(IIII)I" } : Jvm.MethodName) prog_1_method_22_code (7 : Nat) (Option.some Jvm.ClassFile.FieldType.int)) ∈ lw_all := lw_g (lw_at lw_m6 156 rfl) rfl
theorem q1430 : (Jvm.Cond.methodLink "PayMatch" (200 : Nat) ({ cls := "PayMatch", name := "roomOf", desc := "(II)I" } : Jvm.MethodName)) ∈ lw_all := lw_g (lw_at lw_m6 157 rfl) rfl
theorem q1431 : (Jvm.Cond.privateMethod ({ cls := "PayMatch", name := "roomOf", desc := "(II)I" } : Jvm.MethodName)) ∈ lw_tbl := lw_at lw_m6 158 rfl
theorem q1432 : (Jvm.Cond.instanceMethod ({ cls := "PayMatch", name := "roomOf", desc := "(II)I" } : Jvm.MethodName)) ∈ lw_all := lw_g (lw_at lw_m6 159 rfl) rfl
theorem q1433 : (Jvm.Cond.code ({ cls := "PayMatch", name := "roomOf", desc := "(II)I" } : Jvm.MethodName) prog_1_method_21_code (3 : Nat) (Option.some Jvm.ClassFile.FieldType.int)) ∈ lw_all := lw_g (lw_at lw_m6 160 rfl) rfl
theorem q1434 : (Jvm.Cond.methodLink "PayMatch" (192 : Nat) ({ cls := "PayMatch$State", name := "supplierOf", desc := "(I)LPayMatch$Supplier;" } : Jvm.MethodName)) ∈ lw_all := lw_g (lw_at lw_m6 161 rfl) rfl
theorem q1439 : (Jvm.Cond.methodLink "PayMatch" (196 : Nat) ({ cls := "PayMatch$Supplier", name := "with", desc := "(I)I" } : Jvm.MethodName)) ∈ lw_all := lw_g (lw_at lw_m6 166 rfl) rfl
theorem q1444 : (Jvm.Cond.methodLink "PayMatch" (204 : Nat) ({ cls := "PayMatch$State", name := "receive", desc := "(IIII)I" } : Jvm.MethodName)) ∈ lw_all := lw_g (lw_at lw_m6 171 rfl) rfl
theorem q1489 : (Jvm.Cond.instanceMethod ({ cls := "PayMatch", name := "giveBack", desc := "(III)I" } : Jvm.MethodName)) ∈ lw_all := lw_g (lw_at lw_m6 216 rfl) rfl
theorem q1490 : (Jvm.Cond.selects "PayMatch" ({ cls := "PayMatch", name := "giveBack", desc := "(III)I" } : Jvm.MethodName) ({ cls := "PayMatch", name := "giveBack", desc := "(III)I" } : Jvm.MethodName)) ∈ lw_all := lw_g (lw_at lw_m6 217 rfl) rfl
theorem q1491 : (Jvm.Cond.code ({ cls := "PayMatch", name := "giveBack", desc := "(III)I" } : Jvm.MethodName) prog_1_method_23_code (6 : Nat) (Option.some Jvm.ClassFile.FieldType.int)) ∈ lw_all := lw_g (lw_at lw_m6 218 rfl) rfl
theorem q1492 : (Jvm.Cond.methodLink "PayMatch" (208 : Nat) ({ cls := "PayMatch$State", name := "giveBack", desc := "(III)I" } : Jvm.MethodName)) ∈ lw_all := lw_g (lw_at lw_m6 219 rfl) rfl
theorem q1507 : (Jvm.Cond.instanceMethod ({ cls := "PayMatch", name := "bill", desc := "(IIIII)I" } : Jvm.MethodName)) ∈ lw_all := lw_g (lw_at lw_m6 234 rfl) rfl
theorem q1508 : (Jvm.Cond.selects "PayMatch" ({ cls := "PayMatch", name := "bill", desc := "(IIIII)I" } : Jvm.MethodName) ({ cls := "PayMatch", name := "bill", desc := "(IIIII)I" } : Jvm.MethodName)) ∈ lw_all := lw_g (lw_at lw_m6 235 rfl) rfl
theorem q1509 : (Jvm.Cond.code ({ cls := "PayMatch", name := "bill", desc := "(IIIII)I" } : Jvm.MethodName) prog_1_method_25_code (6 : Nat) (Option.some Jvm.ClassFile.FieldType.int)) ∈ lw_all := lw_g (lw_at lw_m6 236 rfl) rfl
theorem q1510 : (Jvm.Cond.classLink "PayMatch" (218 : Nat) "PayMatch$Entry") ∈ lw_all := lw_g (lw_at lw_m6 237 rfl) rfl
theorem q1512 : (Jvm.Cond.methodLink "PayMatch" (220 : Nat) ({ cls := "PayMatch$Entry", name := "<init>", desc := "(III)V" } : Jvm.MethodName)) ∈ lw_all := lw_g (lw_at lw_m6 239 rfl) rfl
theorem q1518 : (Jvm.Cond.fieldLinkNest "PayMatch" (224 : Nat) "PayMatch$Entry" "line" "I" "PayMatch") ∈ lw_tbl := lw_at lw_m7 5 rfl
theorem q1521 : (Jvm.Cond.fieldLinkNest "PayMatch" (226 : Nat) "PayMatch$Entry" "units" "I" "PayMatch") ∈ lw_tbl := lw_at lw_m7 8 rfl
theorem q1524 : (Jvm.Cond.fieldLinkNest "PayMatch" (229 : Nat) "PayMatch$Entry" "price" "I" "PayMatch") ∈ lw_tbl := lw_at lw_m7 11 rfl
theorem q1532 : (Jvm.Cond.methodLink "PayMatch" (223 : Nat) ({ cls := "PayMatch", name := "enter", desc := "(II[LPayMatch$Entry;)I" } : Jvm.MethodName)) ∈ lw_all := lw_g (lw_at lw_m7 19 rfl) rfl
theorem q1533 : (Jvm.Cond.privateMethod ({ cls := "PayMatch", name := "enter", desc := "(II[LPayMatch$Entry;)I" } : Jvm.MethodName)) ∈ lw_tbl := lw_at lw_m7 20 rfl
theorem q1534 : (Jvm.Cond.instanceMethod ({ cls := "PayMatch", name := "enter", desc := "(II[LPayMatch$Entry;)I" } : Jvm.MethodName)) ∈ lw_all := lw_g (lw_at lw_m7 21 rfl) rfl
theorem q1535 : (Jvm.Cond.code ({ cls := "PayMatch", name := "enter", desc := "(II[LPayMatch$Entry;)I" } : Jvm.MethodName) prog_1_method_24_code (6 : Nat) (Option.some Jvm.ClassFile.FieldType.int)) ∈ lw_all := lw_g (lw_at lw_m7 22 rfl) rfl
theorem q1536 : (Jvm.Cond.methodLink "PayMatch" (214 : Nat) ({ cls := "PayMatch$State", name := "enter", desc := "(II[LPayMatch$Entry;)I" } : Jvm.MethodName)) ∈ lw_all := lw_g (lw_at lw_m7 23 rfl) rfl
theorem q1552 : (Jvm.Cond.instanceMethod ({ cls := "PayMatch", name := "readInvoice", desc := "()I" } : Jvm.MethodName)) ∈ lw_all := lw_g (lw_at lw_m7 39 rfl) rfl
theorem q1553 : (Jvm.Cond.selects "PayMatch" ({ cls := "PayMatch", name := "readInvoice", desc := "()I" } : Jvm.MethodName) ({ cls := "PayMatch", name := "readInvoice", desc := "()I" } : Jvm.MethodName)) ∈ lw_all := lw_g (lw_at lw_m7 40 rfl) rfl
theorem q1554 : (Jvm.Cond.codeWith ({ cls := "PayMatch", name := "readInvoice", desc := "()I" } : Jvm.MethodName) prog_1_method_28_code (3 : Nat) (Option.some Jvm.ClassFile.FieldType.int) [((0 : Nat), (34 : Nat), (61 : Nat), (256 : Nat)), ((35 : Nat), (60 : Nat), (61 : Nat), (256 : Nat))]) ∈ lw_all := lw_g (lw_at lw_m7 41 rfl) rfl
theorem q1555 : (Jvm.Cond.classLink "PayMatch" (256 : Nat) "PayMatch$Fault") ∈ lw_all := lw_g (lw_at lw_m7 42 rfl) rfl
theorem q1556 : (Jvm.Cond.classLink "PayMatch" (230 : Nat) "PayMatch$Reader") ∈ lw_all := lw_g (lw_at lw_m7 43 rfl) rfl
theorem q1558 : (Jvm.Cond.methodLink "PayMatch" (232 : Nat) ({ cls := "PayMatch$Reader", name := "<init>", desc := "(Ljava/lang/CharSequence;)V" } : Jvm.MethodName)) ∈ lw_all := lw_g (lw_at lw_m7 45 rfl) rfl
theorem q1567 : (Jvm.Cond.fieldLinkNest "PayMatch" (253 : Nat) "PayMatch$Reader" "reference" "I" "PayMatch") ∈ lw_tbl := lw_at lw_m7 54 rfl
theorem q1569 : (Jvm.Cond.fieldLinkNest "PayMatch" (242 : Nat) "PayMatch$Reader" "order" "I" "PayMatch") ∈ lw_tbl := lw_at lw_m7 56 rfl
theorem q1582 : (Jvm.Cond.methodLink "PayMatch" (235 : Nat) ({ cls := "PayMatch$Reader", name := "read", desc := "()V" } : Jvm.MethodName)) ∈ lw_all := lw_g (lw_at lw_m7 69 rfl) rfl
theorem q1662 : (Jvm.Cond.fieldLinkNest "PayMatch" (258 : Nat) "PayMatch$Fault" "place" "I" "PayMatch") ∈ lw_tbl := lw_at lw_m7 149 rfl
theorem q1679 : (Jvm.Cond.methodLink "PayMatch" (238 : Nat) ({ cls := "PayMatch$Reader", name := "row", desc := "()[LPayMatch$Entry;" } : Jvm.MethodName)) ∈ lw_all := lw_g (lw_at lw_m7 166 rfl) rfl
theorem q1687 : (Jvm.Cond.methodLink "PayMatch" (245 : Nat) ({ cls := "PayMatch", name := "areKnown", desc := "(I[LPayMatch$Entry;)Z" } : Jvm.MethodName)) ∈ lw_all := lw_g (lw_at lw_m7 174 rfl) rfl
theorem q1688 : (Jvm.Cond.privateMethod ({ cls := "PayMatch", name := "areKnown", desc := "(I[LPayMatch$Entry;)Z" } : Jvm.MethodName)) ∈ lw_tbl := lw_at lw_m7 175 rfl
theorem q1689 : (Jvm.Cond.instanceMethod ({ cls := "PayMatch", name := "areKnown", desc := "(I[LPayMatch$Entry;)Z" } : Jvm.MethodName)) ∈ lw_all := lw_g (lw_at lw_m7 176 rfl) rfl
theorem q1690 : (Jvm.Cond.code ({ cls := "PayMatch", name := "areKnown", desc := "(I[LPayMatch$Entry;)Z" } : Jvm.MethodName) prog_1_method_26_code (8 : Nat) (Option.some Jvm.ClassFile.FieldType.boolean)) ∈ lw_all := lw_g (lw_at lw_m7 177 rfl) rfl
theorem q1691 : (Jvm.Cond.methodLink "PayMatch" (249 : Nat) ({ cls := "PayMatch", name := "areGood", desc := "([LPayMatch$Entry;)Z" } : Jvm.MethodName)) ∈ lw_all := lw_g (lw_at lw_m7 178 rfl) rfl
theorem q1692 : (Jvm.Cond.static ({ cls := "PayMatch", name := "areGood", desc := "([LPayMatch$Entry;)Z" } : Jvm.MethodName)) ∈ lw_all := lw_g (lw_at lw_m7 179 rfl) rfl
theorem q1693 : (Jvm.Cond.code ({ cls := "PayMatch", name := "areGood", desc := "([LPayMatch$Entry;)Z" } : Jvm.MethodName) prog_1_method_27_code (7 : Nat) (Option.some Jvm.ClassFile.FieldType.boolean)) ∈ lw_all := lw_g (lw_at lw_m7 180 rfl) rfl
theorem q1695 : (Jvm.Cond.instanceMethod ({ cls := "PayMatch", name := "match", desc := "(I)I" } : Jvm.MethodName)) ∈ lw_all := lw_g (lw_at lw_m7 182 rfl) rfl
theorem q1696 : (Jvm.Cond.selects "PayMatch" ({ cls := "PayMatch", name := "match", desc := "(I)I" } : Jvm.MethodName) ({ cls := "PayMatch", name := "match", desc := "(I)I" } : Jvm.MethodName)) ∈ lw_all := lw_g (lw_at lw_m7 183 rfl) rfl
theorem q1697 : (Jvm.Cond.code ({ cls := "PayMatch", name := "match", desc := "(I)I" } : Jvm.MethodName) prog_1_method_29_code (5 : Nat) (Option.some Jvm.ClassFile.FieldType.int)) ∈ lw_all := lw_g (lw_at lw_m7 184 rfl) rfl
theorem q1698 : (Jvm.Cond.classLink "PayMatch" (261 : Nat) "PayMatch$Invoice") ∈ lw_all := lw_g (lw_at lw_m7 185 rfl) rfl
theorem q1699 : (Jvm.Cond.methodLink "PayMatch" (263 : Nat) ({ cls := "PayMatch$Invoice", name := "isWaiting", desc := "()Z" } : Jvm.MethodName)) ∈ lw_all := lw_g (lw_at lw_m7 186 rfl) rfl
theorem q1703 : (Jvm.Cond.methodLink "PayMatch" (270 : Nat) ({ cls := "PayMatch$State", name := "against", desc := "(LPayMatch$Invoice;)I" } : Jvm.MethodName)) ∈ lw_all := lw_g (lw_at lw_m7 190 rfl) rfl
theorem q1731 : (Jvm.Cond.methodLink "PayMatch" (274 : Nat) ({ cls := "PayMatch$State", name := "match", desc := "(LPayMatch$Invoice;)I" } : Jvm.MethodName)) ∈ lw_all := lw_g (lw_at lw_m7 218 rfl) rfl
theorem q1741 : (Jvm.Cond.instanceMethod ({ cls := "PayMatch", name := "note", desc := "(I)I" } : Jvm.MethodName)) ∈ lw_all := lw_g (lw_at lw_m7 228 rfl) rfl
theorem q1742 : (Jvm.Cond.selects "PayMatch" ({ cls := "PayMatch", name := "note", desc := "(I)I" } : Jvm.MethodName) ({ cls := "PayMatch", name := "note", desc := "(I)I" } : Jvm.MethodName)) ∈ lw_all := lw_g (lw_at lw_m7 229 rfl) rfl
theorem q1743 : (Jvm.Cond.code ({ cls := "PayMatch", name := "note", desc := "(I)I" } : Jvm.MethodName) prog_1_method_30_code (5 : Nat) (Option.some Jvm.ClassFile.FieldType.int)) ∈ lw_all := lw_g (lw_at lw_m7 230 rfl) rfl
theorem q1744 : (Jvm.Cond.methodLink "PayMatch" (277 : Nat) ({ cls := "PayMatch$State", name := "note", desc := "(LPayMatch$Invoice;)I" } : Jvm.MethodName)) ∈ lw_all := lw_g (lw_at lw_m7 231 rfl) rfl
theorem q1757 : (Jvm.Cond.instanceMethod ({ cls := "PayMatch", name := "reject", desc := "(I)I" } : Jvm.MethodName)) ∈ lw_all := lw_g (lw_at lw_m8 4 rfl) rfl
theorem q1758 : (Jvm.Cond.selects "PayMatch" ({ cls := "PayMatch", name := "reject", desc := "(I)I" } : Jvm.MethodName) ({ cls := "PayMatch", name := "reject", desc := "(I)I" } : Jvm.MethodName)) ∈ lw_all := lw_g (lw_at lw_m8 5 rfl) rfl
theorem q1759 : (Jvm.Cond.code ({ cls := "PayMatch", name := "reject", desc := "(I)I" } : Jvm.MethodName) prog_1_method_31_code (4 : Nat) (Option.some Jvm.ClassFile.FieldType.int)) ∈ lw_all := lw_g (lw_at lw_m8 6 rfl) rfl
theorem q1760 : (Jvm.Cond.methodLink "PayMatch" (280 : Nat) ({ cls := "PayMatch$Invoice", name := "total", desc := "()I" } : Jvm.MethodName)) ∈ lw_all := lw_g (lw_at lw_m8 7 rfl) rfl
theorem q1761 : (Jvm.Cond.methodLink "PayMatch" (283 : Nat) ({ cls := "PayMatch$State", name := "tell", desc := "(III)V" } : Jvm.MethodName)) ∈ lw_all := lw_g (lw_at lw_m8 8 rfl) rfl
theorem q1763 : (Jvm.Cond.instanceMethod ({ cls := "PayMatch", name := "pay", desc := "(I)I" } : Jvm.MethodName)) ∈ lw_all := lw_g (lw_at lw_m8 10 rfl) rfl
theorem q1764 : (Jvm.Cond.selects "PayMatch" ({ cls := "PayMatch", name := "pay", desc := "(I)I" } : Jvm.MethodName) ({ cls := "PayMatch", name := "pay", desc := "(I)I" } : Jvm.MethodName)) ∈ lw_all := lw_g (lw_at lw_m8 11 rfl) rfl
theorem q1765 : (Jvm.Cond.code ({ cls := "PayMatch", name := "pay", desc := "(I)I" } : Jvm.MethodName) prog_1_method_32_code (5 : Nat) (Option.some Jvm.ClassFile.FieldType.int)) ∈ lw_all := lw_g (lw_at lw_m8 12 rfl) rfl
theorem q1766 : (Jvm.Cond.methodLink "PayMatch" (287 : Nat) ({ cls := "PayMatch$State", name := "pay", desc := "(LPayMatch$Invoice;)I" } : Jvm.MethodName)) ∈ lw_all := lw_g (lw_at lw_m8 13 rfl) rfl
theorem q1772 : (Jvm.Cond.instanceMethod ({ cls := "PayMatch", name := "pass", desc := "(I)I" } : Jvm.MethodName)) ∈ lw_all := lw_g (lw_at lw_m8 19 rfl) rfl
theorem q1773 : (Jvm.Cond.selects "PayMatch" ({ cls := "PayMatch", name := "pass", desc := "(I)I" } : Jvm.MethodName) ({ cls := "PayMatch", name := "pass", desc := "(I)I" } : Jvm.MethodName)) ∈ lw_all := lw_g (lw_at lw_m8 20 rfl) rfl
theorem q1774 : (Jvm.Cond.code ({ cls := "PayMatch", name := "pass", desc := "(I)I" } : Jvm.MethodName) prog_1_method_33_code (4 : Nat) (Option.some Jvm.ClassFile.FieldType.int)) ∈ lw_all := lw_g (lw_at lw_m8 21 rfl) rfl
theorem q1775 : (Jvm.Cond.methodLink "PayMatch" (293 : Nat) ({ cls := "PayMatch$State", name := "pass", desc := "(I)I" } : Jvm.MethodName)) ∈ lw_all := lw_g (lw_at lw_m8 22 rfl) rfl
theorem q1785 : (Jvm.Cond.instanceMethod ({ cls := "PayMatch", name := "type", desc := "(C)I" } : Jvm.MethodName)) ∈ lw_all := lw_g (lw_at lw_m8 32 rfl) rfl
theorem q1786 : (Jvm.Cond.selects "PayMatch" ({ cls := "PayMatch", name := "type", desc := "(C)I" } : Jvm.MethodName) ({ cls := "PayMatch", name := "type", desc := "(C)I" } : Jvm.MethodName)) ∈ lw_all := lw_g (lw_at lw_m8 33 rfl) rfl
theorem q1787 : (Jvm.Cond.code ({ cls := "PayMatch", name := "type", desc := "(C)I" } : Jvm.MethodName) prog_1_method_34_code (2 : Nat) (Option.some Jvm.ClassFile.FieldType.int)) ∈ lw_all := lw_g (lw_at lw_m8 34 rfl) rfl
theorem q1788 : (Jvm.Cond.methodLink "PayMatch" (296 : Nat) ({ cls := "java/lang/StringBuilder", name := "length", desc := "()I" } : Jvm.MethodName)) ∈ lw_all := lw_g (lw_at lw_m8 35 rfl) rfl
theorem q1789 : (Jvm.Cond.methodLink "PayMatch" (299 : Nat) ({ cls := "java/lang/StringBuilder", name := "append", desc := "(C)Ljava/lang/StringBuilder;" } : Jvm.MethodName)) ∈ lw_all := lw_g (lw_at lw_m8 36 rfl) rfl
theorem q1803 : (Jvm.Cond.instanceMethod ({ cls := "PayMatch", name := "clearText", desc := "()I" } : Jvm.MethodName)) ∈ lw_all := lw_g (lw_at lw_m8 50 rfl) rfl
theorem q1804 : (Jvm.Cond.selects "PayMatch" ({ cls := "PayMatch", name := "clearText", desc := "()I" } : Jvm.MethodName) ({ cls := "PayMatch", name := "clearText", desc := "()I" } : Jvm.MethodName)) ∈ lw_all := lw_g (lw_at lw_m8 51 rfl) rfl
theorem q1805 : (Jvm.Cond.code ({ cls := "PayMatch", name := "clearText", desc := "()I" } : Jvm.MethodName) prog_1_method_35_code (2 : Nat) (Option.some Jvm.ClassFile.FieldType.int)) ∈ lw_all := lw_g (lw_at lw_m8 52 rfl) rfl
theorem q1806 : (Jvm.Cond.methodLink "PayMatch" (303 : Nat) ({ cls := "java/lang/StringBuilder", name := "setLength", desc := "(I)V" } : Jvm.MethodName)) ∈ lw_all := lw_g (lw_at lw_m8 53 rfl) rfl
theorem q1827 : (Jvm.Cond.instanceMethod ({ cls := "PayMatch", name := "undo", desc := "()I" } : Jvm.MethodName)) ∈ lw_all := lw_g (lw_at lw_m8 74 rfl) rfl
theorem q1828 : (Jvm.Cond.selects "PayMatch" ({ cls := "PayMatch", name := "undo", desc := "()I" } : Jvm.MethodName) ({ cls := "PayMatch", name := "undo", desc := "()I" } : Jvm.MethodName)) ∈ lw_all := lw_g (lw_at lw_m8 75 rfl) rfl
theorem q1829 : (Jvm.Cond.code ({ cls := "PayMatch", name := "undo", desc := "()I" } : Jvm.MethodName) prog_1_method_36_code (1 : Nat) (Option.some Jvm.ClassFile.FieldType.int)) ∈ lw_all := lw_g (lw_at lw_m8 76 rfl) rfl
theorem q1830 : (Jvm.Cond.methodLink "PayMatch" (306 : Nat) ({ cls := "java/util/ArrayDeque", name := "isEmpty", desc := "()Z" } : Jvm.MethodName)) ∈ lw_all := lw_g (lw_at lw_m8 77 rfl) rfl
theorem q1834 : (Jvm.Cond.methodLink "PayMatch" (309 : Nat) ({ cls := "java/util/ArrayDeque", name := "removeLast", desc := "()Ljava/lang/Object;" } : Jvm.MethodName)) ∈ lw_all := lw_g (lw_at lw_m8 81 rfl) rfl
theorem q1846 : (Jvm.Cond.instanceMethod ({ cls := "PayMatch", name := "keep", desc := "()I" } : Jvm.MethodName)) ∈ lw_all := lw_g (lw_at lw_m8 93 rfl) rfl
theorem q1847 : (Jvm.Cond.selects "PayMatch" ({ cls := "PayMatch", name := "keep", desc := "()I" } : Jvm.MethodName) ({ cls := "PayMatch", name := "keep", desc := "()I" } : Jvm.MethodName)) ∈ lw_all := lw_g (lw_at lw_m8 94 rfl) rfl
theorem q1848 : (Jvm.Cond.code ({ cls := "PayMatch", name := "keep", desc := "()I" } : Jvm.MethodName) prog_1_method_37_code (1 : Nat) (Option.some Jvm.ClassFile.FieldType.int)) ∈ lw_all := lw_g (lw_at lw_m8 95 rfl) rfl
theorem q1850 : (Jvm.Cond.instanceMethod ({ cls := "PayMatch", name := "restore", desc := "()I" } : Jvm.MethodName)) ∈ lw_all := lw_g (lw_at lw_m8 97 rfl) rfl
theorem q1851 : (Jvm.Cond.selects "PayMatch" ({ cls := "PayMatch", name := "restore", desc := "()I" } : Jvm.MethodName) ({ cls := "PayMatch", name := "restore", desc := "()I" } : Jvm.MethodName)) ∈ lw_all := lw_g (lw_at lw_m8 98 rfl) rfl
theorem q1852 : (Jvm.Cond.code ({ cls := "PayMatch", name := "restore", desc := "()I" } : Jvm.MethodName) prog_1_method_38_code (1 : Nat) (Option.some Jvm.ClassFile.FieldType.int)) ∈ lw_all := lw_g (lw_at lw_m8 99 rfl) rfl
theorem q1854 : (Jvm.Cond.instanceMethod ({ cls := "PayMatch", name := "supplier", desc := "(II)I" } : Jvm.MethodName)) ∈ lw_all := lw_g (lw_at lw_m8 101 rfl) rfl
theorem q1855 : (Jvm.Cond.selects "PayMatch" ({ cls := "PayMatch", name := "supplier", desc := "(II)I" } : Jvm.MethodName) ({ cls := "PayMatch", name := "supplier", desc := "(II)I" } : Jvm.MethodName)) ∈ lw_all := lw_g (lw_at lw_m8 102 rfl) rfl
theorem q1856 : (Jvm.Cond.code ({ cls := "PayMatch", name := "supplier", desc := "(II)I" } : Jvm.MethodName) prog_1_method_39_code (4 : Nat) (Option.some Jvm.ClassFile.FieldType.int)) ∈ lw_all := lw_g (lw_at lw_m8 103 rfl) rfl
theorem q1857 : (Jvm.Cond.methodLink "PayMatch" (318 : Nat) ({ cls := "PayMatch$State", name := "ordersOf", desc := "(I)I" } : Jvm.MethodName)) ∈ lw_all := lw_g (lw_at lw_m8 104 rfl) rfl
theorem q1863 : (Jvm.Cond.instanceMethod ({ cls := "PayMatch", name := "order", desc := "(II)I" } : Jvm.MethodName)) ∈ lw_all := lw_g (lw_at lw_m8 110 rfl) rfl
theorem q1864 : (Jvm.Cond.selects "PayMatch" ({ cls := "PayMatch", name := "order", desc := "(II)I" } : Jvm.MethodName) ({ cls := "PayMatch", name := "order", desc := "(II)I" } : Jvm.MethodName)) ∈ lw_all := lw_g (lw_at lw_m8 111 rfl) rfl
theorem q1865 : (Jvm.Cond.code ({ cls := "PayMatch", name := "order", desc := "(II)I" } : Jvm.MethodName) prog_1_method_42_code (4 : Nat) (Option.some Jvm.ClassFile.FieldType.int)) ∈ lw_all := lw_g (lw_at lw_m8 112 rfl) rfl
theorem q1866 : (Jvm.Cond.methodLink "PayMatch" (349 : Nat) ({ cls := "PayMatch", name := "invoicesFor", desc := "(I)I" } : Jvm.MethodName)) ∈ lw_all := lw_g (lw_at lw_m8 113 rfl) rfl
theorem q1867 : (Jvm.Cond.privateMethod ({ cls := "PayMatch", name := "invoicesFor", desc := "(I)I" } : Jvm.MethodName)) ∈ lw_tbl := lw_at lw_m8 114 rfl
theorem q1868 : (Jvm.Cond.instanceMethod ({ cls := "PayMatch", name := "invoicesFor", desc := "(I)I" } : Jvm.MethodName)) ∈ lw_all := lw_g (lw_at lw_m8 115 rfl) rfl
theorem q1869 : (Jvm.Cond.code ({ cls := "PayMatch", name := "invoicesFor", desc := "(I)I" } : Jvm.MethodName) prog_1_method_41_code (5 : Nat) (Option.some Jvm.ClassFile.FieldType.int)) ∈ lw_all := lw_g (lw_at lw_m8 116 rfl) rfl
theorem q1870 : (Jvm.Cond.methodLink "PayMatch" (334 : Nat) ({ cls := "PayMatch$Book", name := "iterator", desc := "()Ljava/util/Iterator;" } : Jvm.MethodName)) ∈ lw_all := lw_g (lw_at lw_m8 117 rfl) rfl
theorem q1871 : (Jvm.Cond.interfaceEntry "PayMatch" (338 : Nat)) ∈ lw_tbl := lw_at lw_m8 118 rfl
theorem q1872 : (Jvm.Cond.methodLink "PayMatch" (338 : Nat) ({ cls := "java/util/Iterator", name := "hasNext", desc := "()Z" } : Jvm.MethodName)) ∈ lw_all := lw_g (lw_at lw_m8 119 rfl) rfl
theorem q1873 : (Jvm.Cond.interfaceEntry "PayMatch" (343 : Nat)) ∈ lw_tbl := lw_at lw_m8 120 rfl
theorem q1874 : (Jvm.Cond.methodLink "PayMatch" (343 : Nat) ({ cls := "java/util/Iterator", name := "next", desc := "()Ljava/lang/Object;" } : Jvm.MethodName)) ∈ lw_all := lw_g (lw_at lw_m8 121 rfl) rfl
theorem q1876 : (Jvm.Cond.instanceMethod ({ cls := "PayMatch", name := "line", desc := "(III)I" } : Jvm.MethodName)) ∈ lw_all := lw_g (lw_at lw_m8 123 rfl) rfl
theorem q1877 : (Jvm.Cond.selects "PayMatch" ({ cls := "PayMatch", name := "line", desc := "(III)I" } : Jvm.MethodName) ({ cls := "PayMatch", name := "line", desc := "(III)I" } : Jvm.MethodName)) ∈ lw_all := lw_g (lw_at lw_m8 124 rfl) rfl
theorem q1878 : (Jvm.Cond.code ({ cls := "PayMatch", name := "line", desc := "(III)I" } : Jvm.MethodName) prog_1_method_43_code (5 : Nat) (Option.some Jvm.ClassFile.FieldType.int)) ∈ lw_all := lw_g (lw_at lw_m8 125 rfl) rfl
theorem q1879 : (Jvm.Cond.methodLink "PayMatch" (364 : Nat) ({ cls := "java/lang/Math", name := "max", desc := "(II)I" } : Jvm.MethodName)) ∈ lw_all := lw_g (lw_at lw_m8 126 rfl) rfl
theorem q1880 : (Jvm.Cond.methodLink "PayMatch" (369 : Nat) ({ cls := "PayMatch$State", name := "left", desc := "(II)I" } : Jvm.MethodName)) ∈ lw_all := lw_g (lw_at lw_m8 127 rfl) rfl
theorem q1882 : (Jvm.Cond.instanceMethod ({ cls := "PayMatch", name := "invoice", desc := "(II)I" } : Jvm.MethodName)) ∈ lw_all := lw_g (lw_at lw_m8 129 rfl) rfl
theorem q1883 : (Jvm.Cond.selects "PayMatch" ({ cls := "PayMatch", name := "invoice", desc := "(II)I" } : Jvm.MethodName) ({ cls := "PayMatch", name := "invoice", desc := "(II)I" } : Jvm.MethodName)) ∈ lw_all := lw_g (lw_at lw_m8 130 rfl) rfl
theorem q1884 : (Jvm.Cond.code ({ cls := "PayMatch", name := "invoice", desc := "(II)I" } : Jvm.MethodName) prog_1_method_44_code (4 : Nat) (Option.some Jvm.ClassFile.FieldType.int)) ∈ lw_all := lw_g (lw_at lw_m8 131 rfl) rfl
theorem q1886 : (Jvm.Cond.instanceMethod ({ cls := "PayMatch", name := "entry", desc := "(III)I" } : Jvm.MethodName)) ∈ lw_all := lw_g (lw_at lw_m8 133 rfl) rfl
theorem q1887 : (Jvm.Cond.selects "PayMatch" ({ cls := "PayMatch", name := "entry", desc := "(III)I" } : Jvm.MethodName) ({ cls := "PayMatch", name := "entry", desc := "(III)I" } : Jvm.MethodName)) ∈ lw_all := lw_g (lw_at lw_m8 134 rfl) rfl
theorem q1888 : (Jvm.Cond.code ({ cls := "PayMatch", name := "entry", desc := "(III)I" } : Jvm.MethodName) prog_1_method_45_code (5 : Nat) (Option.some Jvm.ClassFile.FieldType.int)) ∈ lw_all := lw_g (lw_at lw_m8 135 rfl) rfl
theorem q1890 : (Jvm.Cond.instanceMethod ({ cls := "PayMatch", name := "wouldMatch", desc := "(IIII)I" } : Jvm.MethodName)) ∈ lw_all := lw_g (lw_at lw_m8 137 rfl) rfl
theorem q1891 : (Jvm.Cond.selects "PayMatch" ({ cls := "PayMatch", name := "wouldMatch", desc := "(IIII)I" } : Jvm.MethodName) ({ cls := "PayMatch", name := "wouldMatch", desc := "(IIII)I" } : Jvm.MethodName)) ∈ lw_all := lw_g (lw_at lw_m8 138 rfl) rfl
theorem q1892 : (Jvm.Cond.code ({ cls := "PayMatch", name := "wouldMatch", desc := "(IIII)I" } : Jvm.MethodName) prog_1_method_46_code (7 : Nat) (Option.some Jvm.ClassFile.FieldType.int)) ∈ lw_all := lw_g (lw_at lw_m8 139 rfl) rfl
theorem q1893 : (Jvm.Cond.methodLink "PayMatch" (383 : Nat) ({ cls := "PayMatch$Invoice", name := "<init>", desc := "(IIII[LPayMatch$Entry;)V" } : Jvm.MethodName)) ∈ lw_all := lw_g (lw_at lw_m8 140 rfl) rfl
theorem q1895 : (Jvm.Cond.instanceMethod ({ cls := "PayMatch", name := "greatestPrice", desc := "(III)I" } : Jvm.MethodName)) ∈ lw_all := lw_g (lw_at lw_m8 142 rfl) rfl
theorem q1896 : (Jvm.Cond.selects "PayMatch" ({ cls := "PayMatch", name := "greatestPrice", desc := "(III)I" } : Jvm.MethodName) ({ cls := "PayMatch", name := "greatestPrice", desc := "(III)I" } : Jvm.MethodName)) ∈ lw_all := lw_g (lw_at lw_m8 143 rfl) rfl
theorem q1897 : (Jvm.Cond.code ({ cls := "PayMatch", name := "greatestPrice", desc := "(III)I" } : Jvm.MethodName) prog_1_method_47_code (6 : Nat) (Option.some Jvm.ClassFile.FieldType.int)) ∈ lw_all := lw_g (lw_at lw_m8 144 rfl) rfl
theorem q1898 : (Jvm.Cond.methodLink "PayMatch" (386 : Nat) ({ cls := "PayMatch$Supplier", name := "isTooDear", desc := "(IILPayMatch$Line;)Z" } : Jvm.MethodName)) ∈ lw_all := lw_g (lw_at lw_m8 145 rfl) rfl
theorem q1900 : (Jvm.Cond.instanceMethod ({ cls := "PayMatch", name := "value", desc := "(I)D" } : Jvm.MethodName)) ∈ lw_all := lw_g (lw_at lw_m8 147 rfl) rfl
theorem q1901 : (Jvm.Cond.selects "PayMatch" ({ cls := "PayMatch", name := "value", desc := "(I)D" } : Jvm.MethodName) ({ cls := "PayMatch", name := "value", desc := "(I)D" } : Jvm.MethodName)) ∈ lw_all := lw_g (lw_at lw_m8 148 rfl) rfl
theorem q1902 : (Jvm.Cond.code ({ cls := "PayMatch", name := "value", desc := "(I)D" } : Jvm.MethodName) prog_1_method_48_code (2 : Nat) (Option.some Jvm.ClassFile.FieldType.double)) ∈ lw_all := lw_g (lw_at lw_m8 149 rfl) rfl
theorem q1903 : (Jvm.Cond.methodLink "PayMatch" (390 : Nat) ({ cls := "PayMatch$State", name := "open", desc := "(Z)D" } : Jvm.MethodName)) ∈ lw_all := lw_g (lw_at lw_m8 150 rfl) rfl
theorem q1907 : (Jvm.Cond.methodLink "PayMatch" (394 : Nat) ({ cls := "PayMatch$State", name := "firstShare", desc := "()D" } : Jvm.MethodName)) ∈ lw_all := lw_g (lw_at lw_m8 154 rfl) rfl
theorem q1912 : (Jvm.Cond.instanceMethod ({ cls := "PayMatch", name := "takes", desc := "(IZI)I" } : Jvm.MethodName)) ∈ lw_all := lw_g (lw_at lw_m8 159 rfl) rfl
theorem q1913 : (Jvm.Cond.selects "PayMatch" ({ cls := "PayMatch", name := "takes", desc := "(IZI)I" } : Jvm.MethodName) ({ cls := "PayMatch", name := "takes", desc := "(IZI)I" } : Jvm.MethodName)) ∈ lw_all := lw_g (lw_at lw_m8 160 rfl) rfl
theorem q1914 : (Jvm.Cond.codeWith ({ cls := "PayMatch", name := "takes", desc := "(IZI)I" } : Jvm.MethodName) prog_1_method_49_code (6 : Nat) (Option.some Jvm.ClassFile.FieldType.int) [((66 : Nat), (100 : Nat), (101 : Nat), (397 : Nat))]) ∈ lw_all := lw_g (lw_at lw_m8 161 rfl) rfl
theorem q1915 : (Jvm.Cond.classLink "PayMatch" (397 : Nat) "java/lang/ArrayStoreException") ∈ lw_all := lw_g (lw_at lw_m8 162 rfl) rfl
theorem q1940 : (Jvm.Cond.instanceMethod ({ cls := "PayMatch", name := "event", desc := "(II)I" } : Jvm.MethodName)) ∈ lw_all := lw_g (lw_at lw_m8 187 rfl) rfl
theorem q1941 : (Jvm.Cond.selects "PayMatch" ({ cls := "PayMatch", name := "event", desc := "(II)I" } : Jvm.MethodName) ({ cls := "PayMatch", name := "event", desc := "(II)I" } : Jvm.MethodName)) ∈ lw_all := lw_g (lw_at lw_m8 188 rfl) rfl
theorem q1942 : (Jvm.Cond.code ({ cls := "PayMatch", name := "event", desc := "(II)I" } : Jvm.MethodName) prog_1_method_50_code (3 : Nat) (Option.some Jvm.ClassFile.FieldType.int)) ∈ lw_all := lw_g (lw_at lw_m8 189 rfl) rfl
theorem q1943 : (Jvm.Cond.methodLink "PayMatch" (403 : Nat) ({ cls := "java/util/LinkedList", name := "size", desc := "()I" } : Jvm.MethodName)) ∈ lw_all := lw_g (lw_at lw_m8 190 rfl) rfl
theorem q1944 : (Jvm.Cond.methodLink "PayMatch" (406 : Nat) ({ cls := "java/util/LinkedList", name := "get", desc := "(I)Ljava/lang/Object;" } : Jvm.MethodName)) ∈ lw_all := lw_g (lw_at lw_m8 191 rfl) rfl
theorem q1945 : (Jvm.Cond.classLink "PayMatch" (409 : Nat) "PayMatch$Event") ∈ lw_all := lw_g (lw_at lw_m8 192 rfl) rfl
theorem q1946 : (Jvm.Cond.methodLink "PayMatch" (411 : Nat) ({ cls := "PayMatch$Event", name := "told", desc := "(I)I" } : Jvm.MethodName)) ∈ lw_all := lw_g (lw_at lw_m8 193 rfl) rfl
theorem q1951 : (Jvm.Cond.instanceMethod ({ cls := "PayMatch", name := "count", desc := "(I)I" } : Jvm.MethodName)) ∈ lw_all := lw_g (lw_at lw_m8 198 rfl) rfl
theorem q1952 : (Jvm.Cond.selects "PayMatch" ({ cls := "PayMatch", name := "count", desc := "(I)I" } : Jvm.MethodName) ({ cls := "PayMatch", name := "count", desc := "(I)I" } : Jvm.MethodName)) ∈ lw_all := lw_g (lw_at lw_m8 199 rfl) rfl
theorem q1953 : (Jvm.Cond.code ({ cls := "PayMatch", name := "count", desc := "(I)I" } : Jvm.MethodName) prog_1_method_51_code (2 : Nat) (Option.some Jvm.ClassFile.FieldType.int)) ∈ lw_all := lw_g (lw_at lw_m8 200 rfl) rfl
theorem q1954 : (Jvm.Cond.methodLink "PayMatch" (414 : Nat) ({ cls := "PayMatch$State", name := "invoicesIn", desc := "(I)I" } : Jvm.MethodName)) ∈ lw_all := lw_g (lw_at lw_m8 201 rfl) rfl
theorem q1958 : (Jvm.Cond.methodLink "PayMatch" (417 : Nat) ({ cls := "PayMatch$State", name := "sum", desc := "(I)I" } : Jvm.MethodName)) ∈ lw_all := lw_g (lw_at lw_m8 205 rfl) rfl
theorem q1962 : (Jvm.Cond.methodLink "PayMatch" (420 : Nat) ({ cls := "PayMatch$Paper", name := "weightOf", desc := "(Ljava/lang/Iterable;)I" } : Jvm.MethodName)) ∈ lw_all := lw_g (lw_at lw_m8 209 rfl) rfl
theorem q2387 : (Jvm.Cond.castable "PayMatch" "java/lang/Object") ∈ lw_tbl := lw_at lw_m10 154 rfl
theorem in_X0 : ∀ w ∈ wsX00, w ∈ lw_all := lw_in wsX00 [290, 292, 294, 296] (by decide +kernel) (by decide +kernel)
