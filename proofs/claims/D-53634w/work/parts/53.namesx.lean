/-! PayMatch$State -/
set_option maxRecDepth 100000
def RX1 : String := "PayMatch$State"
def TX1 : u_T := fun k => match k with
  | 0 => ("PayMatch$State", "suppliers", "LPayMatch$Book;", false)
  | 1 => ("PayMatch$State", "orders", "LPayMatch$Book;", false)
  | 2 => ("PayMatch$State", "invoices", "LPayMatch$Book;", false)
  | 3 => ("PayMatch$State", "log", "Ljava/util/LinkedList;", true)
  | 4 => ("PayMatch$State", "discount", "D", false)
  | 5 => ("PayMatch$State", "discountDays", "I", false)
  | 6 => ("PayMatch$State", "term", "I", false)
  | 7 => ("PayMatch$State", "day", "I", false)
  | _ => ("PayMatch$State", "notes", "I", false)
def tyX1 : Nat → FieldType := fun k => match k with
  | 0 => .object "PayMatch$Book"
  | 1 => .object "PayMatch$Book"
  | 2 => .object "PayMatch$Book"
  | 3 => .object "java/util/LinkedList"
  | 4 => .double
  | 5 => .int
  | 6 => .int
  | 7 => .int
  | _ => .int
abbrev wsX10 : List Cond := u_ws RX1 TX1 9
theorem nmX1 : ∀ a, a < 9 → ∀ b, b < 9 → a ≠ b → (TX1 a).2.1 ≠ (TX1 b).2.1 := by decide +kernel
theorem tyX1_ok : ∀ k, k < 9 → parseFieldDescriptor (TX1 k).2.2.1 = some (tyX1 k) := by decide +kernel
abbrev cX1_init : ByteArray := prog_11_method_1_code
def yX1_init : MethodName := ⟨RX1, "<init>", "()V"⟩
def dkwX1_init_2 : List UInt8 := [181, 0, 27, 42, 20, 0, 31, 181, 0, 33, 42, 16, 10, 181, 0, 37, 42, 16, 30, 181, 0, 41, 177]
abbrev dktX1_init_2 : List UInt8 := dkwX1_init_2 ++ []
def dkwX1_init_1 : List UInt8 := [181, 0, 18, 42, 187, 0, 9, 89, 183, 0, 11, 181, 0, 21, 42, 187, 0, 24, 89, 183, 0, 26]
abbrev dktX1_init_1 : List UInt8 := dkwX1_init_1 ++ dktX1_init_2
def dkwX1_init_0 : List UInt8 := [42, 183, 0, 3, 42, 187, 0, 9, 89, 183, 0, 11, 181, 0, 12, 42, 187, 0, 9, 89, 183, 0, 11]
abbrev dktX1_init_0 : List UInt8 := dkwX1_init_0 ++ dktX1_init_1
theorem dksX1_init_0 : cX1_init.data.toList.drop 0 = dktX1_init_0 := by decide +kernel
theorem dksX1_init_1 : cX1_init.data.toList.drop 23 = dktX1_init_1 := dk_seg dksX1_init_0 23 rfl rfl
theorem dksX1_init_2 : cX1_init.data.toList.drop 45 = dktX1_init_2 := dk_seg dksX1_init_1 22 rfl rfl
theorem dX1_init_0 : decode cX1_init 0 = .ok (.aload_n 0, 1) := dk_42 (dk_at dksX1_init_0 0 rfl rfl)
theorem dX1_init_1 : decode cX1_init 1 = .ok (.invokespecial 3, 3) := dk_183 0 3 (dk_at dksX1_init_0 1 rfl rfl)
theorem dX1_init_4 : decode cX1_init 4 = .ok (.aload_n 0, 1) := dk_42 (dk_at dksX1_init_0 4 rfl rfl)
theorem dX1_init_5 : decode cX1_init 5 = .ok (.new 9, 3) := dk_187 0 9 (dk_at dksX1_init_0 5 rfl rfl)
theorem dX1_init_8 : decode cX1_init 8 = .ok (.dup, 1) := dk_89 (dk_at dksX1_init_0 8 rfl rfl)
theorem dX1_init_9 : decode cX1_init 9 = .ok (.invokespecial 11, 3) := dk_183 0 11 (dk_at dksX1_init_0 9 rfl rfl)
theorem dX1_init_12 : decode cX1_init 12 = .ok (.putfield 12, 3) := dk_181 0 12 (dk_at dksX1_init_0 12 rfl rfl)
theorem dX1_init_15 : decode cX1_init 15 = .ok (.aload_n 0, 1) := dk_42 (dk_at dksX1_init_0 15 rfl rfl)
theorem dX1_init_16 : decode cX1_init 16 = .ok (.new 9, 3) := dk_187 0 9 (dk_at dksX1_init_0 16 rfl rfl)
theorem dX1_init_19 : decode cX1_init 19 = .ok (.dup, 1) := dk_89 (dk_at dksX1_init_0 19 rfl rfl)
theorem dX1_init_20 : decode cX1_init 20 = .ok (.invokespecial 11, 3) := dk_183 0 11 (dk_at dksX1_init_0 20 rfl rfl)
theorem dX1_init_23 : decode cX1_init 23 = .ok (.putfield 18, 3) := dk_181 0 18 (dk_at dksX1_init_1 0 rfl rfl)
theorem dX1_init_26 : decode cX1_init 26 = .ok (.aload_n 0, 1) := dk_42 (dk_at dksX1_init_1 3 rfl rfl)
theorem dX1_init_27 : decode cX1_init 27 = .ok (.new 9, 3) := dk_187 0 9 (dk_at dksX1_init_1 4 rfl rfl)
theorem dX1_init_30 : decode cX1_init 30 = .ok (.dup, 1) := dk_89 (dk_at dksX1_init_1 7 rfl rfl)
theorem dX1_init_31 : decode cX1_init 31 = .ok (.invokespecial 11, 3) := dk_183 0 11 (dk_at dksX1_init_1 8 rfl rfl)
theorem dX1_init_34 : decode cX1_init 34 = .ok (.putfield 21, 3) := dk_181 0 21 (dk_at dksX1_init_1 11 rfl rfl)
theorem dX1_init_37 : decode cX1_init 37 = .ok (.aload_n 0, 1) := dk_42 (dk_at dksX1_init_1 14 rfl rfl)
theorem dX1_init_38 : decode cX1_init 38 = .ok (.new 24, 3) := dk_187 0 24 (dk_at dksX1_init_1 15 rfl rfl)
theorem dX1_init_41 : decode cX1_init 41 = .ok (.dup, 1) := dk_89 (dk_at dksX1_init_1 18 rfl rfl)
theorem dX1_init_42 : decode cX1_init 42 = .ok (.invokespecial 26, 3) := dk_183 0 26 (dk_at dksX1_init_1 19 rfl rfl)
theorem dX1_init_45 : decode cX1_init 45 = .ok (.putfield 27, 3) := dk_181 0 27 (dk_at dksX1_init_2 0 rfl rfl)
theorem dX1_init_48 : decode cX1_init 48 = .ok (.aload_n 0, 1) := dk_42 (dk_at dksX1_init_2 3 rfl rfl)
theorem dX1_init_49 : decode cX1_init 49 = .ok (.ldc2_w 31, 3) := dk_20 0 31 (dk_at dksX1_init_2 4 rfl rfl)
theorem dX1_init_52 : decode cX1_init 52 = .ok (.putfield 33, 3) := dk_181 0 33 (dk_at dksX1_init_2 7 rfl rfl)
theorem dX1_init_55 : decode cX1_init 55 = .ok (.aload_n 0, 1) := dk_42 (dk_at dksX1_init_2 10 rfl rfl)
theorem dX1_init_56 : decode cX1_init 56 = .ok (.bipush 10, 2) := dk_16 10 (dk_at dksX1_init_2 11 rfl rfl)
theorem dX1_init_58 : decode cX1_init 58 = .ok (.putfield 37, 3) := dk_181 0 37 (dk_at dksX1_init_2 13 rfl rfl)
theorem dX1_init_61 : decode cX1_init 61 = .ok (.aload_n 0, 1) := dk_42 (dk_at dksX1_init_2 16 rfl rfl)
theorem dX1_init_62 : decode cX1_init 62 = .ok (.bipush 30, 2) := dk_16 30 (dk_at dksX1_init_2 17 rfl rfl)
theorem dX1_init_64 : decode cX1_init 64 = .ok (.putfield 41, 3) := dk_181 0 41 (dk_at dksX1_init_2 19 rfl rfl)
theorem dX1_init_67 : decode cX1_init 67 = .ok (.return_, 1) := dk_177 (dk_at dksX1_init_2 22 rfl rfl)
abbrev cX1_copy : ByteArray := prog_11_method_2_code
def yX1_copy : MethodName := ⟨RX1, "copy", "()LPayMatch$State;"⟩
def dkwX1_copy_4 : List UInt8 := [180, 0, 41, 181, 0, 41, 43, 42, 180, 0, 69, 181, 0, 69, 43, 42, 180, 0, 72, 181, 0, 72, 43, 176]
abbrev dktX1_copy_4 : List UInt8 := dkwX1_copy_4 ++ []
def dkwX1_copy_3 : List UInt8 := [182, 0, 65, 167, 255, 231, 43, 42, 180, 0, 33, 181, 0, 33, 43, 42, 180, 0, 37, 181, 0, 37, 43, 42]
abbrev dktX1_copy_3 : List UInt8 := dkwX1_copy_3 ++ dktX1_copy_4
def dkwX1_copy_2 : List UInt8 := [77, 44, 185, 0, 53, 1, 0, 153, 0, 22, 43, 180, 0, 27, 44, 185, 0, 59, 1, 0, 192, 0, 63]
abbrev dktX1_copy_2 : List UInt8 := dkwX1_copy_2 ++ dktX1_copy_3
def dkwX1_copy_1 : List UInt8 := [182, 0, 45, 181, 0, 18, 43, 42, 180, 0, 21, 182, 0, 45, 181, 0, 21, 42, 180, 0, 27, 182, 0, 49]
abbrev dktX1_copy_1 : List UInt8 := dkwX1_copy_1 ++ dktX1_copy_2
def dkwX1_copy_0 : List UInt8 := [187, 0, 13, 89, 183, 0, 44, 76, 43, 42, 180, 0, 12, 182, 0, 45, 181, 0, 12, 43, 42, 180, 0, 18]
abbrev dktX1_copy_0 : List UInt8 := dkwX1_copy_0 ++ dktX1_copy_1
theorem dksX1_copy_0 : cX1_copy.data.toList.drop 0 = dktX1_copy_0 := by decide +kernel
theorem dksX1_copy_1 : cX1_copy.data.toList.drop 24 = dktX1_copy_1 := dk_seg dksX1_copy_0 24 rfl rfl
theorem dksX1_copy_2 : cX1_copy.data.toList.drop 48 = dktX1_copy_2 := dk_seg dksX1_copy_1 24 rfl rfl
theorem dksX1_copy_3 : cX1_copy.data.toList.drop 71 = dktX1_copy_3 := dk_seg dksX1_copy_2 23 rfl rfl
theorem dksX1_copy_4 : cX1_copy.data.toList.drop 95 = dktX1_copy_4 := dk_seg dksX1_copy_3 24 rfl rfl
theorem dX1_copy_0 : decode cX1_copy 0 = .ok (.new 13, 3) := dk_187 0 13 (dk_at dksX1_copy_0 0 rfl rfl)
theorem dX1_copy_3 : decode cX1_copy 3 = .ok (.dup, 1) := dk_89 (dk_at dksX1_copy_0 3 rfl rfl)
theorem dX1_copy_4 : decode cX1_copy 4 = .ok (.invokespecial 44, 3) := dk_183 0 44 (dk_at dksX1_copy_0 4 rfl rfl)
theorem dX1_copy_7 : decode cX1_copy 7 = .ok (.astore_n 1, 1) := dk_76 (dk_at dksX1_copy_0 7 rfl rfl)
theorem dX1_copy_8 : decode cX1_copy 8 = .ok (.aload_n 1, 1) := dk_43 (dk_at dksX1_copy_0 8 rfl rfl)
theorem dX1_copy_9 : decode cX1_copy 9 = .ok (.aload_n 0, 1) := dk_42 (dk_at dksX1_copy_0 9 rfl rfl)
theorem dX1_copy_10 : decode cX1_copy 10 = .ok (.getfield 12, 3) := dk_180 0 12 (dk_at dksX1_copy_0 10 rfl rfl)
theorem dX1_copy_13 : decode cX1_copy 13 = .ok (.invokevirtual 45, 3) := dk_182 0 45 (dk_at dksX1_copy_0 13 rfl rfl)
theorem dX1_copy_16 : decode cX1_copy 16 = .ok (.putfield 12, 3) := dk_181 0 12 (dk_at dksX1_copy_0 16 rfl rfl)
theorem dX1_copy_19 : decode cX1_copy 19 = .ok (.aload_n 1, 1) := dk_43 (dk_at dksX1_copy_0 19 rfl rfl)
theorem dX1_copy_20 : decode cX1_copy 20 = .ok (.aload_n 0, 1) := dk_42 (dk_at dksX1_copy_0 20 rfl rfl)
theorem dX1_copy_21 : decode cX1_copy 21 = .ok (.getfield 18, 3) := dk_180 0 18 (dk_at dksX1_copy_0 21 rfl rfl)
theorem dX1_copy_24 : decode cX1_copy 24 = .ok (.invokevirtual 45, 3) := dk_182 0 45 (dk_at dksX1_copy_1 0 rfl rfl)
theorem dX1_copy_27 : decode cX1_copy 27 = .ok (.putfield 18, 3) := dk_181 0 18 (dk_at dksX1_copy_1 3 rfl rfl)
theorem dX1_copy_30 : decode cX1_copy 30 = .ok (.aload_n 1, 1) := dk_43 (dk_at dksX1_copy_1 6 rfl rfl)
theorem dX1_copy_31 : decode cX1_copy 31 = .ok (.aload_n 0, 1) := dk_42 (dk_at dksX1_copy_1 7 rfl rfl)
theorem dX1_copy_32 : decode cX1_copy 32 = .ok (.getfield 21, 3) := dk_180 0 21 (dk_at dksX1_copy_1 8 rfl rfl)
theorem dX1_copy_35 : decode cX1_copy 35 = .ok (.invokevirtual 45, 3) := dk_182 0 45 (dk_at dksX1_copy_1 11 rfl rfl)
theorem dX1_copy_38 : decode cX1_copy 38 = .ok (.putfield 21, 3) := dk_181 0 21 (dk_at dksX1_copy_1 14 rfl rfl)
theorem dX1_copy_41 : decode cX1_copy 41 = .ok (.aload_n 0, 1) := dk_42 (dk_at dksX1_copy_1 17 rfl rfl)
theorem dX1_copy_42 : decode cX1_copy 42 = .ok (.getfield 27, 3) := dk_180 0 27 (dk_at dksX1_copy_1 18 rfl rfl)
theorem dX1_copy_45 : decode cX1_copy 45 = .ok (.invokevirtual 49, 3) := dk_182 0 49 (dk_at dksX1_copy_1 21 rfl rfl)
theorem dX1_copy_48 : decode cX1_copy 48 = .ok (.astore_n 2, 1) := dk_77 (dk_at dksX1_copy_2 0 rfl rfl)
theorem dX1_copy_49 : decode cX1_copy 49 = .ok (.aload_n 2, 1) := dk_44 (dk_at dksX1_copy_2 1 rfl rfl)
theorem dX1_copy_50 : decode cX1_copy 50 = .ok (.invokeinterface 53 1, 5) := by decide +kernel
theorem dX1_copy_55 : decode cX1_copy 55 = .ok (.ifCond .eq 22, 3) := dk_153 0 22 (dk_at dksX1_copy_2 7 rfl rfl)
theorem dX1_copy_58 : decode cX1_copy 58 = .ok (.aload_n 1, 1) := dk_43 (dk_at dksX1_copy_2 10 rfl rfl)
theorem dX1_copy_59 : decode cX1_copy 59 = .ok (.getfield 27, 3) := dk_180 0 27 (dk_at dksX1_copy_2 11 rfl rfl)
theorem dX1_copy_62 : decode cX1_copy 62 = .ok (.aload_n 2, 1) := dk_44 (dk_at dksX1_copy_2 14 rfl rfl)
theorem dX1_copy_63 : decode cX1_copy 63 = .ok (.invokeinterface 59 1, 5) := by decide +kernel
theorem dX1_copy_68 : decode cX1_copy 68 = .ok (.checkcast 63, 3) := dk_192 0 63 (dk_at dksX1_copy_2 20 rfl rfl)
theorem dX1_copy_71 : decode cX1_copy 71 = .ok (.invokevirtual 65, 3) := dk_182 0 65 (dk_at dksX1_copy_3 0 rfl rfl)
theorem dX1_copy_74 : decode cX1_copy 74 = .ok (.goto (-25), 3) := dk_167 255 231 (dk_at dksX1_copy_3 3 rfl rfl)
theorem dX1_copy_77 : decode cX1_copy 77 = .ok (.aload_n 1, 1) := dk_43 (dk_at dksX1_copy_3 6 rfl rfl)
theorem dX1_copy_78 : decode cX1_copy 78 = .ok (.aload_n 0, 1) := dk_42 (dk_at dksX1_copy_3 7 rfl rfl)
theorem dX1_copy_79 : decode cX1_copy 79 = .ok (.getfield 33, 3) := dk_180 0 33 (dk_at dksX1_copy_3 8 rfl rfl)
theorem dX1_copy_82 : decode cX1_copy 82 = .ok (.putfield 33, 3) := dk_181 0 33 (dk_at dksX1_copy_3 11 rfl rfl)
theorem dX1_copy_85 : decode cX1_copy 85 = .ok (.aload_n 1, 1) := dk_43 (dk_at dksX1_copy_3 14 rfl rfl)
theorem dX1_copy_86 : decode cX1_copy 86 = .ok (.aload_n 0, 1) := dk_42 (dk_at dksX1_copy_3 15 rfl rfl)
theorem dX1_copy_87 : decode cX1_copy 87 = .ok (.getfield 37, 3) := dk_180 0 37 (dk_at dksX1_copy_3 16 rfl rfl)
theorem dX1_copy_90 : decode cX1_copy 90 = .ok (.putfield 37, 3) := dk_181 0 37 (dk_at dksX1_copy_3 19 rfl rfl)
theorem dX1_copy_93 : decode cX1_copy 93 = .ok (.aload_n 1, 1) := dk_43 (dk_at dksX1_copy_3 22 rfl rfl)
theorem dX1_copy_94 : decode cX1_copy 94 = .ok (.aload_n 0, 1) := dk_42 (dk_at dksX1_copy_3 23 rfl rfl)
theorem dX1_copy_95 : decode cX1_copy 95 = .ok (.getfield 41, 3) := dk_180 0 41 (dk_at dksX1_copy_4 0 rfl rfl)
theorem dX1_copy_98 : decode cX1_copy 98 = .ok (.putfield 41, 3) := dk_181 0 41 (dk_at dksX1_copy_4 3 rfl rfl)
theorem dX1_copy_101 : decode cX1_copy 101 = .ok (.aload_n 1, 1) := dk_43 (dk_at dksX1_copy_4 6 rfl rfl)
theorem dX1_copy_102 : decode cX1_copy 102 = .ok (.aload_n 0, 1) := dk_42 (dk_at dksX1_copy_4 7 rfl rfl)
theorem dX1_copy_103 : decode cX1_copy 103 = .ok (.getfield 69, 3) := dk_180 0 69 (dk_at dksX1_copy_4 8 rfl rfl)
theorem dX1_copy_106 : decode cX1_copy 106 = .ok (.putfield 69, 3) := dk_181 0 69 (dk_at dksX1_copy_4 11 rfl rfl)
theorem dX1_copy_109 : decode cX1_copy 109 = .ok (.aload_n 1, 1) := dk_43 (dk_at dksX1_copy_4 14 rfl rfl)
theorem dX1_copy_110 : decode cX1_copy 110 = .ok (.aload_n 0, 1) := dk_42 (dk_at dksX1_copy_4 15 rfl rfl)
theorem dX1_copy_111 : decode cX1_copy 111 = .ok (.getfield 72, 3) := dk_180 0 72 (dk_at dksX1_copy_4 16 rfl rfl)
theorem dX1_copy_114 : decode cX1_copy 114 = .ok (.putfield 72, 3) := dk_181 0 72 (dk_at dksX1_copy_4 19 rfl rfl)
theorem dX1_copy_117 : decode cX1_copy 117 = .ok (.aload_n 1, 1) := dk_43 (dk_at dksX1_copy_4 22 rfl rfl)
theorem dX1_copy_118 : decode cX1_copy 118 = .ok (.areturn, 1) := dk_176 (dk_at dksX1_copy_4 23 rfl rfl)
abbrev cX1_invoicesOf : ByteArray := prog_11_method_24_code
def yX1_invoicesOf : MethodName := ⟨RX1, "invoicesOf", "(IZ)I"⟩
def dkwX1_invoicesOf_3 : List UInt8 := [25, 5, 180, 0, 168, 7, 159, 0, 7, 4, 167, 0, 4, 3, 96, 62, 167, 255, 182, 29, 172]
abbrev dktX1_invoicesOf_3 : List UInt8 := dkwX1_invoicesOf_3 ++ []
def dkwX1_invoicesOf_2 : List UInt8 := [192, 0, 92, 180, 0, 94, 27, 160, 0, 29, 28, 154, 0, 21, 25, 5, 180, 0, 168, 6, 159, 0, 16]
abbrev dktX1_invoicesOf_2 : List UInt8 := dkwX1_invoicesOf_2 ++ dktX1_invoicesOf_3
def dkwX1_invoicesOf_1 : List UInt8 := [185, 0, 59, 1, 0, 192, 0, 109, 58, 5, 29, 42, 180, 0, 18, 25, 5, 180, 0, 108, 182, 0, 88]
abbrev dktX1_invoicesOf_1 : List UInt8 := dkwX1_invoicesOf_1 ++ dktX1_invoicesOf_2
def dkwX1_invoicesOf_0 : List UInt8 := [3, 62, 42, 180, 0, 21, 182, 1, 4, 58, 4, 25, 4, 185, 0, 53, 1, 0, 153, 0, 70, 25, 4]
abbrev dktX1_invoicesOf_0 : List UInt8 := dkwX1_invoicesOf_0 ++ dktX1_invoicesOf_1
theorem dksX1_invoicesOf_0 : cX1_invoicesOf.data.toList.drop 0 = dktX1_invoicesOf_0 := by decide +kernel
theorem dksX1_invoicesOf_1 : cX1_invoicesOf.data.toList.drop 23 = dktX1_invoicesOf_1 := dk_seg dksX1_invoicesOf_0 23 rfl rfl
theorem dksX1_invoicesOf_2 : cX1_invoicesOf.data.toList.drop 46 = dktX1_invoicesOf_2 := dk_seg dksX1_invoicesOf_1 23 rfl rfl
theorem dksX1_invoicesOf_3 : cX1_invoicesOf.data.toList.drop 69 = dktX1_invoicesOf_3 := dk_seg dksX1_invoicesOf_2 23 rfl rfl
theorem dX1_invoicesOf_0 : decode cX1_invoicesOf 0 = .ok (.iconst 0, 1) := dk_3 (dk_at dksX1_invoicesOf_0 0 rfl rfl)
theorem dX1_invoicesOf_1 : decode cX1_invoicesOf 1 = .ok (.istore_n 3, 1) := dk_62 (dk_at dksX1_invoicesOf_0 1 rfl rfl)
theorem dX1_invoicesOf_2 : decode cX1_invoicesOf 2 = .ok (.aload_n 0, 1) := dk_42 (dk_at dksX1_invoicesOf_0 2 rfl rfl)
theorem dX1_invoicesOf_3 : decode cX1_invoicesOf 3 = .ok (.getfield 21, 3) := dk_180 0 21 (dk_at dksX1_invoicesOf_0 3 rfl rfl)
theorem dX1_invoicesOf_6 : decode cX1_invoicesOf 6 = .ok (.invokevirtual 260, 3) := dk_182 1 4 (dk_at dksX1_invoicesOf_0 6 rfl rfl)
theorem dX1_invoicesOf_9 : decode cX1_invoicesOf 9 = .ok (.astore 4, 2) := dk_58 4 (dk_at dksX1_invoicesOf_0 9 rfl rfl)
theorem dX1_invoicesOf_11 : decode cX1_invoicesOf 11 = .ok (.aload 4, 2) := dk_25 4 (dk_at dksX1_invoicesOf_0 11 rfl rfl)
theorem dX1_invoicesOf_13 : decode cX1_invoicesOf 13 = .ok (.invokeinterface 53 1, 5) := by decide +kernel
theorem dX1_invoicesOf_18 : decode cX1_invoicesOf 18 = .ok (.ifCond .eq 70, 3) := dk_153 0 70 (dk_at dksX1_invoicesOf_0 18 rfl rfl)
theorem dX1_invoicesOf_21 : decode cX1_invoicesOf 21 = .ok (.aload 4, 2) := dk_25 4 (dk_at dksX1_invoicesOf_0 21 rfl rfl)
theorem dX1_invoicesOf_23 : decode cX1_invoicesOf 23 = .ok (.invokeinterface 59 1, 5) := by decide +kernel
theorem dX1_invoicesOf_28 : decode cX1_invoicesOf 28 = .ok (.checkcast 109, 3) := dk_192 0 109 (dk_at dksX1_invoicesOf_1 5 rfl rfl)
theorem dX1_invoicesOf_31 : decode cX1_invoicesOf 31 = .ok (.astore 5, 2) := dk_58 5 (dk_at dksX1_invoicesOf_1 8 rfl rfl)
theorem dX1_invoicesOf_33 : decode cX1_invoicesOf 33 = .ok (.iload_n 3, 1) := dk_29 (dk_at dksX1_invoicesOf_1 10 rfl rfl)
theorem dX1_invoicesOf_34 : decode cX1_invoicesOf 34 = .ok (.aload_n 0, 1) := dk_42 (dk_at dksX1_invoicesOf_1 11 rfl rfl)
theorem dX1_invoicesOf_35 : decode cX1_invoicesOf 35 = .ok (.getfield 18, 3) := dk_180 0 18 (dk_at dksX1_invoicesOf_1 12 rfl rfl)
theorem dX1_invoicesOf_38 : decode cX1_invoicesOf 38 = .ok (.aload 5, 2) := dk_25 5 (dk_at dksX1_invoicesOf_1 15 rfl rfl)
theorem dX1_invoicesOf_40 : decode cX1_invoicesOf 40 = .ok (.getfield 108, 3) := dk_180 0 108 (dk_at dksX1_invoicesOf_1 17 rfl rfl)
theorem dX1_invoicesOf_43 : decode cX1_invoicesOf 43 = .ok (.invokevirtual 88, 3) := dk_182 0 88 (dk_at dksX1_invoicesOf_1 20 rfl rfl)
theorem dX1_invoicesOf_46 : decode cX1_invoicesOf 46 = .ok (.checkcast 92, 3) := dk_192 0 92 (dk_at dksX1_invoicesOf_2 0 rfl rfl)
theorem dX1_invoicesOf_49 : decode cX1_invoicesOf 49 = .ok (.getfield 94, 3) := dk_180 0 94 (dk_at dksX1_invoicesOf_2 3 rfl rfl)
theorem dX1_invoicesOf_52 : decode cX1_invoicesOf 52 = .ok (.iload_n 1, 1) := dk_27 (dk_at dksX1_invoicesOf_2 6 rfl rfl)
theorem dX1_invoicesOf_53 : decode cX1_invoicesOf 53 = .ok (.if_icmp .ne 29, 3) := dk_160 0 29 (dk_at dksX1_invoicesOf_2 7 rfl rfl)
theorem dX1_invoicesOf_56 : decode cX1_invoicesOf 56 = .ok (.iload_n 2, 1) := dk_28 (dk_at dksX1_invoicesOf_2 10 rfl rfl)
theorem dX1_invoicesOf_57 : decode cX1_invoicesOf 57 = .ok (.ifCond .ne 21, 3) := dk_154 0 21 (dk_at dksX1_invoicesOf_2 11 rfl rfl)
theorem dX1_invoicesOf_60 : decode cX1_invoicesOf 60 = .ok (.aload 5, 2) := dk_25 5 (dk_at dksX1_invoicesOf_2 14 rfl rfl)
theorem dX1_invoicesOf_62 : decode cX1_invoicesOf 62 = .ok (.getfield 168, 3) := dk_180 0 168 (dk_at dksX1_invoicesOf_2 16 rfl rfl)
theorem dX1_invoicesOf_65 : decode cX1_invoicesOf 65 = .ok (.iconst 3, 1) := dk_6 (dk_at dksX1_invoicesOf_2 19 rfl rfl)
theorem dX1_invoicesOf_66 : decode cX1_invoicesOf 66 = .ok (.if_icmp .eq 16, 3) := dk_159 0 16 (dk_at dksX1_invoicesOf_2 20 rfl rfl)
theorem dX1_invoicesOf_69 : decode cX1_invoicesOf 69 = .ok (.aload 5, 2) := dk_25 5 (dk_at dksX1_invoicesOf_3 0 rfl rfl)
theorem dX1_invoicesOf_71 : decode cX1_invoicesOf 71 = .ok (.getfield 168, 3) := dk_180 0 168 (dk_at dksX1_invoicesOf_3 2 rfl rfl)
theorem dX1_invoicesOf_74 : decode cX1_invoicesOf 74 = .ok (.iconst 4, 1) := dk_7 (dk_at dksX1_invoicesOf_3 5 rfl rfl)
theorem dX1_invoicesOf_75 : decode cX1_invoicesOf 75 = .ok (.if_icmp .eq 7, 3) := dk_159 0 7 (dk_at dksX1_invoicesOf_3 6 rfl rfl)
theorem dX1_invoicesOf_78 : decode cX1_invoicesOf 78 = .ok (.iconst 1, 1) := dk_4 (dk_at dksX1_invoicesOf_3 9 rfl rfl)
theorem dX1_invoicesOf_79 : decode cX1_invoicesOf 79 = .ok (.goto 4, 3) := dk_167 0 4 (dk_at dksX1_invoicesOf_3 10 rfl rfl)
theorem dX1_invoicesOf_82 : decode cX1_invoicesOf 82 = .ok (.iconst 0, 1) := dk_3 (dk_at dksX1_invoicesOf_3 13 rfl rfl)
theorem dX1_invoicesOf_83 : decode cX1_invoicesOf 83 = .ok (.iadd, 1) := dk_96 (dk_at dksX1_invoicesOf_3 14 rfl rfl)
theorem dX1_invoicesOf_84 : decode cX1_invoicesOf 84 = .ok (.istore_n 3, 1) := dk_62 (dk_at dksX1_invoicesOf_3 15 rfl rfl)
theorem dX1_invoicesOf_85 : decode cX1_invoicesOf 85 = .ok (.goto (-74), 3) := dk_167 255 182 (dk_at dksX1_invoicesOf_3 16 rfl rfl)
theorem dX1_invoicesOf_88 : decode cX1_invoicesOf 88 = .ok (.iload_n 3, 1) := dk_29 (dk_at dksX1_invoicesOf_3 19 rfl rfl)
theorem dX1_invoicesOf_89 : decode cX1_invoicesOf 89 = .ok (.ireturn, 1) := dk_172 (dk_at dksX1_invoicesOf_3 20 rfl rfl)
abbrev cX1_hasLine : ByteArray := prog_11_method_5_code
def yX1_hasLine : MethodName := ⟨RX1, "hasLine", "(II)Z"⟩
def dkwX1_hasLine_1 : List UInt8 := [180, 0, 103, 28, 182, 0, 99, 153, 0, 7, 4, 167, 0, 4, 3, 172]
abbrev dktX1_hasLine_1 : List UInt8 := dkwX1_hasLine_1 ++ []
def dkwX1_hasLine_0 : List UInt8 := [42, 180, 0, 18, 27, 182, 0, 99, 153, 0, 28, 42, 180, 0, 18, 27, 182, 0, 88, 192, 0, 92]
abbrev dktX1_hasLine_0 : List UInt8 := dkwX1_hasLine_0 ++ dktX1_hasLine_1
theorem dksX1_hasLine_0 : cX1_hasLine.data.toList.drop 0 = dktX1_hasLine_0 := by decide +kernel
theorem dksX1_hasLine_1 : cX1_hasLine.data.toList.drop 22 = dktX1_hasLine_1 := dk_seg dksX1_hasLine_0 22 rfl rfl
theorem dX1_hasLine_0 : decode cX1_hasLine 0 = .ok (.aload_n 0, 1) := dk_42 (dk_at dksX1_hasLine_0 0 rfl rfl)
theorem dX1_hasLine_1 : decode cX1_hasLine 1 = .ok (.getfield 18, 3) := dk_180 0 18 (dk_at dksX1_hasLine_0 1 rfl rfl)
theorem dX1_hasLine_4 : decode cX1_hasLine 4 = .ok (.iload_n 1, 1) := dk_27 (dk_at dksX1_hasLine_0 4 rfl rfl)
theorem dX1_hasLine_5 : decode cX1_hasLine 5 = .ok (.invokevirtual 99, 3) := dk_182 0 99 (dk_at dksX1_hasLine_0 5 rfl rfl)
theorem dX1_hasLine_8 : decode cX1_hasLine 8 = .ok (.ifCond .eq 28, 3) := dk_153 0 28 (dk_at dksX1_hasLine_0 8 rfl rfl)
theorem dX1_hasLine_11 : decode cX1_hasLine 11 = .ok (.aload_n 0, 1) := dk_42 (dk_at dksX1_hasLine_0 11 rfl rfl)
theorem dX1_hasLine_12 : decode cX1_hasLine 12 = .ok (.getfield 18, 3) := dk_180 0 18 (dk_at dksX1_hasLine_0 12 rfl rfl)
theorem dX1_hasLine_15 : decode cX1_hasLine 15 = .ok (.iload_n 1, 1) := dk_27 (dk_at dksX1_hasLine_0 15 rfl rfl)
theorem dX1_hasLine_16 : decode cX1_hasLine 16 = .ok (.invokevirtual 88, 3) := dk_182 0 88 (dk_at dksX1_hasLine_0 16 rfl rfl)
theorem dX1_hasLine_19 : decode cX1_hasLine 19 = .ok (.checkcast 92, 3) := dk_192 0 92 (dk_at dksX1_hasLine_0 19 rfl rfl)
theorem dX1_hasLine_22 : decode cX1_hasLine 22 = .ok (.getfield 103, 3) := dk_180 0 103 (dk_at dksX1_hasLine_1 0 rfl rfl)
theorem dX1_hasLine_25 : decode cX1_hasLine 25 = .ok (.iload_n 2, 1) := dk_28 (dk_at dksX1_hasLine_1 3 rfl rfl)
theorem dX1_hasLine_26 : decode cX1_hasLine 26 = .ok (.invokevirtual 99, 3) := dk_182 0 99 (dk_at dksX1_hasLine_1 4 rfl rfl)
theorem dX1_hasLine_29 : decode cX1_hasLine 29 = .ok (.ifCond .eq 7, 3) := dk_153 0 7 (dk_at dksX1_hasLine_1 7 rfl rfl)
theorem dX1_hasLine_32 : decode cX1_hasLine 32 = .ok (.iconst 1, 1) := dk_4 (dk_at dksX1_hasLine_1 10 rfl rfl)
theorem dX1_hasLine_33 : decode cX1_hasLine 33 = .ok (.goto 4, 3) := dk_167 0 4 (dk_at dksX1_hasLine_1 11 rfl rfl)
theorem dX1_hasLine_36 : decode cX1_hasLine 36 = .ok (.iconst 0, 1) := dk_3 (dk_at dksX1_hasLine_1 14 rfl rfl)
theorem dX1_hasLine_37 : decode cX1_hasLine 37 = .ok (.ireturn, 1) := dk_172 (dk_at dksX1_hasLine_1 15 rfl rfl)
abbrev cX1_line : ByteArray := prog_11_method_6_code
def yX1_line : MethodName := ⟨RX1, "line", "(II)LPayMatch$Line;"⟩
def dkwX1_line_0 : List UInt8 := [42, 180, 0, 18, 27, 182, 0, 88, 192, 0, 92, 180, 0, 103, 28, 182, 0, 88, 192, 0, 106, 176]
abbrev dktX1_line_0 : List UInt8 := dkwX1_line_0 ++ []
theorem dksX1_line_0 : cX1_line.data.toList.drop 0 = dktX1_line_0 := by decide +kernel
theorem dX1_line_0 : decode cX1_line 0 = .ok (.aload_n 0, 1) := dk_42 (dk_at dksX1_line_0 0 rfl rfl)
theorem dX1_line_1 : decode cX1_line 1 = .ok (.getfield 18, 3) := dk_180 0 18 (dk_at dksX1_line_0 1 rfl rfl)
theorem dX1_line_4 : decode cX1_line 4 = .ok (.iload_n 1, 1) := dk_27 (dk_at dksX1_line_0 4 rfl rfl)
theorem dX1_line_5 : decode cX1_line 5 = .ok (.invokevirtual 88, 3) := dk_182 0 88 (dk_at dksX1_line_0 5 rfl rfl)
theorem dX1_line_8 : decode cX1_line 8 = .ok (.checkcast 92, 3) := dk_192 0 92 (dk_at dksX1_line_0 8 rfl rfl)
theorem dX1_line_11 : decode cX1_line 11 = .ok (.getfield 103, 3) := dk_180 0 103 (dk_at dksX1_line_0 11 rfl rfl)
theorem dX1_line_14 : decode cX1_line 14 = .ok (.iload_n 2, 1) := dk_28 (dk_at dksX1_line_0 14 rfl rfl)
theorem dX1_line_15 : decode cX1_line 15 = .ok (.invokevirtual 88, 3) := dk_182 0 88 (dk_at dksX1_line_0 15 rfl rfl)
theorem dX1_line_18 : decode cX1_line 18 = .ok (.checkcast 106, 3) := dk_192 0 106 (dk_at dksX1_line_0 18 rfl rfl)
theorem dX1_line_21 : decode cX1_line 21 = .ok (.areturn, 1) := dk_176 (dk_at dksX1_line_0 21 rfl rfl)
abbrev cX1_supplierOf : ByteArray := prog_11_method_4_code
def yX1_supplierOf : MethodName := ⟨RX1, "supplierOf", "(I)LPayMatch$Supplier;"⟩
def dkwX1_supplierOf_1 : List UInt8 := [176]
abbrev dktX1_supplierOf_1 : List UInt8 := dkwX1_supplierOf_1 ++ []
def dkwX1_supplierOf_0 : List UInt8 := [42, 180, 0, 12, 42, 180, 0, 18, 27, 182, 0, 88, 192, 0, 92, 180, 0, 94, 182, 0, 88, 192, 0, 97]
abbrev dktX1_supplierOf_0 : List UInt8 := dkwX1_supplierOf_0 ++ dktX1_supplierOf_1
theorem dksX1_supplierOf_0 : cX1_supplierOf.data.toList.drop 0 = dktX1_supplierOf_0 := by decide +kernel
theorem dksX1_supplierOf_1 : cX1_supplierOf.data.toList.drop 24 = dktX1_supplierOf_1 := dk_seg dksX1_supplierOf_0 24 rfl rfl
theorem dX1_supplierOf_0 : decode cX1_supplierOf 0 = .ok (.aload_n 0, 1) := dk_42 (dk_at dksX1_supplierOf_0 0 rfl rfl)
theorem dX1_supplierOf_1 : decode cX1_supplierOf 1 = .ok (.getfield 12, 3) := dk_180 0 12 (dk_at dksX1_supplierOf_0 1 rfl rfl)
theorem dX1_supplierOf_4 : decode cX1_supplierOf 4 = .ok (.aload_n 0, 1) := dk_42 (dk_at dksX1_supplierOf_0 4 rfl rfl)
theorem dX1_supplierOf_5 : decode cX1_supplierOf 5 = .ok (.getfield 18, 3) := dk_180 0 18 (dk_at dksX1_supplierOf_0 5 rfl rfl)
theorem dX1_supplierOf_8 : decode cX1_supplierOf 8 = .ok (.iload_n 1, 1) := dk_27 (dk_at dksX1_supplierOf_0 8 rfl rfl)
theorem dX1_supplierOf_9 : decode cX1_supplierOf 9 = .ok (.invokevirtual 88, 3) := dk_182 0 88 (dk_at dksX1_supplierOf_0 9 rfl rfl)
theorem dX1_supplierOf_12 : decode cX1_supplierOf 12 = .ok (.checkcast 92, 3) := dk_192 0 92 (dk_at dksX1_supplierOf_0 12 rfl rfl)
theorem dX1_supplierOf_15 : decode cX1_supplierOf 15 = .ok (.getfield 94, 3) := dk_180 0 94 (dk_at dksX1_supplierOf_0 15 rfl rfl)
theorem dX1_supplierOf_18 : decode cX1_supplierOf 18 = .ok (.invokevirtual 88, 3) := dk_182 0 88 (dk_at dksX1_supplierOf_0 18 rfl rfl)
theorem dX1_supplierOf_21 : decode cX1_supplierOf 21 = .ok (.checkcast 97, 3) := dk_192 0 97 (dk_at dksX1_supplierOf_0 21 rfl rfl)
theorem dX1_supplierOf_24 : decode cX1_supplierOf 24 = .ok (.areturn, 1) := dk_176 (dk_at dksX1_supplierOf_1 0 rfl rfl)
abbrev cX1_receive : ByteArray := prog_11_method_8_code
def yX1_receive : MethodName := ⟨RX1, "receive", "(IIII)I"⟩
def dkwX1_receive_1 : List UInt8 := [180, 0, 124, 21, 4, 96, 181, 0, 124, 42, 3, 27, 29, 182, 0, 127, 25, 5, 180, 0, 121, 172]
abbrev dktX1_receive_1 : List UInt8 := dkwX1_receive_1 ++ []
def dkwX1_receive_0 : List UInt8 := [42, 27, 28, 182, 0, 118, 58, 5, 25, 5, 89, 180, 0, 121, 29, 96, 181, 0, 121, 25, 5, 89]
abbrev dktX1_receive_0 : List UInt8 := dkwX1_receive_0 ++ dktX1_receive_1
theorem dksX1_receive_0 : cX1_receive.data.toList.drop 0 = dktX1_receive_0 := by decide +kernel
theorem dksX1_receive_1 : cX1_receive.data.toList.drop 22 = dktX1_receive_1 := dk_seg dksX1_receive_0 22 rfl rfl
theorem dX1_receive_0 : decode cX1_receive 0 = .ok (.aload_n 0, 1) := dk_42 (dk_at dksX1_receive_0 0 rfl rfl)
theorem dX1_receive_1 : decode cX1_receive 1 = .ok (.iload_n 1, 1) := dk_27 (dk_at dksX1_receive_0 1 rfl rfl)
theorem dX1_receive_2 : decode cX1_receive 2 = .ok (.iload_n 2, 1) := dk_28 (dk_at dksX1_receive_0 2 rfl rfl)
theorem dX1_receive_3 : decode cX1_receive 3 = .ok (.invokevirtual 118, 3) := dk_182 0 118 (dk_at dksX1_receive_0 3 rfl rfl)
theorem dX1_receive_6 : decode cX1_receive 6 = .ok (.astore 5, 2) := dk_58 5 (dk_at dksX1_receive_0 6 rfl rfl)
theorem dX1_receive_8 : decode cX1_receive 8 = .ok (.aload 5, 2) := dk_25 5 (dk_at dksX1_receive_0 8 rfl rfl)
theorem dX1_receive_10 : decode cX1_receive 10 = .ok (.dup, 1) := dk_89 (dk_at dksX1_receive_0 10 rfl rfl)
theorem dX1_receive_11 : decode cX1_receive 11 = .ok (.getfield 121, 3) := dk_180 0 121 (dk_at dksX1_receive_0 11 rfl rfl)
theorem dX1_receive_14 : decode cX1_receive 14 = .ok (.iload_n 3, 1) := dk_29 (dk_at dksX1_receive_0 14 rfl rfl)
theorem dX1_receive_15 : decode cX1_receive 15 = .ok (.iadd, 1) := dk_96 (dk_at dksX1_receive_0 15 rfl rfl)
theorem dX1_receive_16 : decode cX1_receive 16 = .ok (.putfield 121, 3) := dk_181 0 121 (dk_at dksX1_receive_0 16 rfl rfl)
theorem dX1_receive_19 : decode cX1_receive 19 = .ok (.aload 5, 2) := dk_25 5 (dk_at dksX1_receive_0 19 rfl rfl)
theorem dX1_receive_21 : decode cX1_receive 21 = .ok (.dup, 1) := dk_89 (dk_at dksX1_receive_0 21 rfl rfl)
theorem dX1_receive_22 : decode cX1_receive 22 = .ok (.getfield 124, 3) := dk_180 0 124 (dk_at dksX1_receive_1 0 rfl rfl)
theorem dX1_receive_25 : decode cX1_receive 25 = .ok (.iload 4, 2) := dk_21 4 (dk_at dksX1_receive_1 3 rfl rfl)
theorem dX1_receive_27 : decode cX1_receive 27 = .ok (.iadd, 1) := dk_96 (dk_at dksX1_receive_1 5 rfl rfl)
theorem dX1_receive_28 : decode cX1_receive 28 = .ok (.putfield 124, 3) := dk_181 0 124 (dk_at dksX1_receive_1 6 rfl rfl)
theorem dX1_receive_31 : decode cX1_receive 31 = .ok (.aload_n 0, 1) := dk_42 (dk_at dksX1_receive_1 9 rfl rfl)
theorem dX1_receive_32 : decode cX1_receive 32 = .ok (.iconst 0, 1) := dk_3 (dk_at dksX1_receive_1 10 rfl rfl)
theorem dX1_receive_33 : decode cX1_receive 33 = .ok (.iload_n 1, 1) := dk_27 (dk_at dksX1_receive_1 11 rfl rfl)
theorem dX1_receive_34 : decode cX1_receive 34 = .ok (.iload_n 3, 1) := dk_29 (dk_at dksX1_receive_1 12 rfl rfl)
theorem dX1_receive_35 : decode cX1_receive 35 = .ok (.invokevirtual 127, 3) := dk_182 0 127 (dk_at dksX1_receive_1 13 rfl rfl)
theorem dX1_receive_38 : decode cX1_receive 38 = .ok (.aload 5, 2) := dk_25 5 (dk_at dksX1_receive_1 16 rfl rfl)
theorem dX1_receive_40 : decode cX1_receive 40 = .ok (.getfield 121, 3) := dk_180 0 121 (dk_at dksX1_receive_1 18 rfl rfl)
theorem dX1_receive_43 : decode cX1_receive 43 = .ok (.ireturn, 1) := dk_172 (dk_at dksX1_receive_1 21 rfl rfl)
abbrev cX1_tell : ByteArray := prog_11_method_3_code
def yX1_tell : MethodName := ⟨RX1, "tell", "(III)V"⟩
def dkwX1_tell_1 : List UInt8 := [180, 0, 27, 182, 0, 81, 16, 10, 164, 0, 11, 42, 180, 0, 27, 182, 0, 85, 87, 177]
abbrev dktX1_tell_1 : List UInt8 := dkwX1_tell_1 ++ []
def dkwX1_tell_0 : List UInt8 := [42, 180, 0, 27, 187, 0, 63, 89, 27, 28, 29, 42, 180, 0, 69, 183, 0, 75, 182, 0, 78, 42]
abbrev dktX1_tell_0 : List UInt8 := dkwX1_tell_0 ++ dktX1_tell_1
theorem dksX1_tell_0 : cX1_tell.data.toList.drop 0 = dktX1_tell_0 := by decide +kernel
theorem dksX1_tell_1 : cX1_tell.data.toList.drop 22 = dktX1_tell_1 := dk_seg dksX1_tell_0 22 rfl rfl
theorem dX1_tell_0 : decode cX1_tell 0 = .ok (.aload_n 0, 1) := dk_42 (dk_at dksX1_tell_0 0 rfl rfl)
theorem dX1_tell_1 : decode cX1_tell 1 = .ok (.getfield 27, 3) := dk_180 0 27 (dk_at dksX1_tell_0 1 rfl rfl)
theorem dX1_tell_4 : decode cX1_tell 4 = .ok (.new 63, 3) := dk_187 0 63 (dk_at dksX1_tell_0 4 rfl rfl)
theorem dX1_tell_7 : decode cX1_tell 7 = .ok (.dup, 1) := dk_89 (dk_at dksX1_tell_0 7 rfl rfl)
theorem dX1_tell_8 : decode cX1_tell 8 = .ok (.iload_n 1, 1) := dk_27 (dk_at dksX1_tell_0 8 rfl rfl)
theorem dX1_tell_9 : decode cX1_tell 9 = .ok (.iload_n 2, 1) := dk_28 (dk_at dksX1_tell_0 9 rfl rfl)
theorem dX1_tell_10 : decode cX1_tell 10 = .ok (.iload_n 3, 1) := dk_29 (dk_at dksX1_tell_0 10 rfl rfl)
theorem dX1_tell_11 : decode cX1_tell 11 = .ok (.aload_n 0, 1) := dk_42 (dk_at dksX1_tell_0 11 rfl rfl)
theorem dX1_tell_12 : decode cX1_tell 12 = .ok (.getfield 69, 3) := dk_180 0 69 (dk_at dksX1_tell_0 12 rfl rfl)
theorem dX1_tell_15 : decode cX1_tell 15 = .ok (.invokespecial 75, 3) := dk_183 0 75 (dk_at dksX1_tell_0 15 rfl rfl)
theorem dX1_tell_18 : decode cX1_tell 18 = .ok (.invokevirtual 78, 3) := dk_182 0 78 (dk_at dksX1_tell_0 18 rfl rfl)
theorem dX1_tell_21 : decode cX1_tell 21 = .ok (.aload_n 0, 1) := dk_42 (dk_at dksX1_tell_0 21 rfl rfl)
theorem dX1_tell_22 : decode cX1_tell 22 = .ok (.getfield 27, 3) := dk_180 0 27 (dk_at dksX1_tell_1 0 rfl rfl)
theorem dX1_tell_25 : decode cX1_tell 25 = .ok (.invokevirtual 81, 3) := dk_182 0 81 (dk_at dksX1_tell_1 3 rfl rfl)
theorem dX1_tell_28 : decode cX1_tell 28 = .ok (.bipush 10, 2) := dk_16 10 (dk_at dksX1_tell_1 6 rfl rfl)
theorem dX1_tell_30 : decode cX1_tell 30 = .ok (.if_icmp .le 11, 3) := dk_164 0 11 (dk_at dksX1_tell_1 8 rfl rfl)
theorem dX1_tell_33 : decode cX1_tell 33 = .ok (.aload_n 0, 1) := dk_42 (dk_at dksX1_tell_1 11 rfl rfl)
theorem dX1_tell_34 : decode cX1_tell 34 = .ok (.getfield 27, 3) := dk_180 0 27 (dk_at dksX1_tell_1 12 rfl rfl)
theorem dX1_tell_37 : decode cX1_tell 37 = .ok (.invokevirtual 85, 3) := dk_182 0 85 (dk_at dksX1_tell_1 15 rfl rfl)
theorem dX1_tell_40 : decode cX1_tell 40 = .ok (.pop, 1) := dk_87 (dk_at dksX1_tell_1 18 rfl rfl)
theorem dX1_tell_41 : decode cX1_tell 41 = .ok (.return_, 1) := dk_177 (dk_at dksX1_tell_1 19 rfl rfl)
abbrev cX1_giveBack : ByteArray := prog_11_method_9_code
def yX1_giveBack : MethodName := ⟨RX1, "giveBack", "(III)I"⟩
def dkwX1_giveBack_1 : List UInt8 := [182, 0, 127, 42, 42, 27, 182, 0, 131, 25, 4, 182, 0, 135, 172]
abbrev dktX1_giveBack_1 : List UInt8 := dkwX1_giveBack_1 ++ []
def dkwX1_giveBack_0 : List UInt8 := [42, 27, 28, 182, 0, 118, 58, 4, 25, 4, 89, 180, 0, 121, 29, 100, 181, 0, 121, 42, 4, 27, 29]
abbrev dktX1_giveBack_0 : List UInt8 := dkwX1_giveBack_0 ++ dktX1_giveBack_1
theorem dksX1_giveBack_0 : cX1_giveBack.data.toList.drop 0 = dktX1_giveBack_0 := by decide +kernel
theorem dksX1_giveBack_1 : cX1_giveBack.data.toList.drop 23 = dktX1_giveBack_1 := dk_seg dksX1_giveBack_0 23 rfl rfl
theorem dX1_giveBack_0 : decode cX1_giveBack 0 = .ok (.aload_n 0, 1) := dk_42 (dk_at dksX1_giveBack_0 0 rfl rfl)
theorem dX1_giveBack_1 : decode cX1_giveBack 1 = .ok (.iload_n 1, 1) := dk_27 (dk_at dksX1_giveBack_0 1 rfl rfl)
theorem dX1_giveBack_2 : decode cX1_giveBack 2 = .ok (.iload_n 2, 1) := dk_28 (dk_at dksX1_giveBack_0 2 rfl rfl)
theorem dX1_giveBack_3 : decode cX1_giveBack 3 = .ok (.invokevirtual 118, 3) := dk_182 0 118 (dk_at dksX1_giveBack_0 3 rfl rfl)
theorem dX1_giveBack_6 : decode cX1_giveBack 6 = .ok (.astore 4, 2) := dk_58 4 (dk_at dksX1_giveBack_0 6 rfl rfl)
theorem dX1_giveBack_8 : decode cX1_giveBack 8 = .ok (.aload 4, 2) := dk_25 4 (dk_at dksX1_giveBack_0 8 rfl rfl)
theorem dX1_giveBack_10 : decode cX1_giveBack 10 = .ok (.dup, 1) := dk_89 (dk_at dksX1_giveBack_0 10 rfl rfl)
theorem dX1_giveBack_11 : decode cX1_giveBack 11 = .ok (.getfield 121, 3) := dk_180 0 121 (dk_at dksX1_giveBack_0 11 rfl rfl)
theorem dX1_giveBack_14 : decode cX1_giveBack 14 = .ok (.iload_n 3, 1) := dk_29 (dk_at dksX1_giveBack_0 14 rfl rfl)
theorem dX1_giveBack_15 : decode cX1_giveBack 15 = .ok (.isub, 1) := dk_100 (dk_at dksX1_giveBack_0 15 rfl rfl)
theorem dX1_giveBack_16 : decode cX1_giveBack 16 = .ok (.putfield 121, 3) := dk_181 0 121 (dk_at dksX1_giveBack_0 16 rfl rfl)
theorem dX1_giveBack_19 : decode cX1_giveBack 19 = .ok (.aload_n 0, 1) := dk_42 (dk_at dksX1_giveBack_0 19 rfl rfl)
theorem dX1_giveBack_20 : decode cX1_giveBack 20 = .ok (.iconst 1, 1) := dk_4 (dk_at dksX1_giveBack_0 20 rfl rfl)
theorem dX1_giveBack_21 : decode cX1_giveBack 21 = .ok (.iload_n 1, 1) := dk_27 (dk_at dksX1_giveBack_0 21 rfl rfl)
theorem dX1_giveBack_22 : decode cX1_giveBack 22 = .ok (.iload_n 3, 1) := dk_29 (dk_at dksX1_giveBack_0 22 rfl rfl)
theorem dX1_giveBack_23 : decode cX1_giveBack 23 = .ok (.invokevirtual 127, 3) := dk_182 0 127 (dk_at dksX1_giveBack_1 0 rfl rfl)
theorem dX1_giveBack_26 : decode cX1_giveBack 26 = .ok (.aload_n 0, 1) := dk_42 (dk_at dksX1_giveBack_1 3 rfl rfl)
theorem dX1_giveBack_27 : decode cX1_giveBack 27 = .ok (.aload_n 0, 1) := dk_42 (dk_at dksX1_giveBack_1 4 rfl rfl)
theorem dX1_giveBack_28 : decode cX1_giveBack 28 = .ok (.iload_n 1, 1) := dk_27 (dk_at dksX1_giveBack_1 5 rfl rfl)
theorem dX1_giveBack_29 : decode cX1_giveBack 29 = .ok (.invokevirtual 131, 3) := dk_182 0 131 (dk_at dksX1_giveBack_1 6 rfl rfl)
theorem dX1_giveBack_32 : decode cX1_giveBack 32 = .ok (.aload 4, 2) := dk_25 4 (dk_at dksX1_giveBack_1 9 rfl rfl)
theorem dX1_giveBack_34 : decode cX1_giveBack 34 = .ok (.invokevirtual 135, 3) := dk_182 0 135 (dk_at dksX1_giveBack_1 11 rfl rfl)
theorem dX1_giveBack_37 : decode cX1_giveBack 37 = .ok (.ireturn, 1) := dk_172 (dk_at dksX1_giveBack_1 14 rfl rfl)
abbrev cX1_claim : ByteArray := prog_11_method_10_code
def yX1_claim : MethodName := ⟨RX1, "claim", "(LPayMatch$Supplier;LPayMatch$Line;)I"⟩
def dkwX1_claim_1 : List UInt8 := [172]
abbrev dktX1_claim_1 : List UInt8 := dkwX1_claim_1 ++ []
def dkwX1_claim_0 : List UInt8 := [44, 43, 44, 180, 0, 121, 182, 0, 139, 182, 0, 143, 62, 43, 89, 180, 0, 145, 29, 96, 181, 0, 145, 29]
abbrev dktX1_claim_0 : List UInt8 := dkwX1_claim_0 ++ dktX1_claim_1
theorem dksX1_claim_0 : cX1_claim.data.toList.drop 0 = dktX1_claim_0 := by decide +kernel
theorem dksX1_claim_1 : cX1_claim.data.toList.drop 24 = dktX1_claim_1 := dk_seg dksX1_claim_0 24 rfl rfl
theorem dX1_claim_0 : decode cX1_claim 0 = .ok (.aload_n 2, 1) := dk_44 (dk_at dksX1_claim_0 0 rfl rfl)
theorem dX1_claim_1 : decode cX1_claim 1 = .ok (.aload_n 1, 1) := dk_43 (dk_at dksX1_claim_0 1 rfl rfl)
theorem dX1_claim_2 : decode cX1_claim 2 = .ok (.aload_n 2, 1) := dk_44 (dk_at dksX1_claim_0 2 rfl rfl)
theorem dX1_claim_3 : decode cX1_claim 3 = .ok (.getfield 121, 3) := dk_180 0 121 (dk_at dksX1_claim_0 3 rfl rfl)
theorem dX1_claim_6 : decode cX1_claim 6 = .ok (.invokevirtual 139, 3) := dk_182 0 139 (dk_at dksX1_claim_0 6 rfl rfl)
theorem dX1_claim_9 : decode cX1_claim 9 = .ok (.invokevirtual 143, 3) := dk_182 0 143 (dk_at dksX1_claim_0 9 rfl rfl)
theorem dX1_claim_12 : decode cX1_claim 12 = .ok (.istore_n 3, 1) := dk_62 (dk_at dksX1_claim_0 12 rfl rfl)
theorem dX1_claim_13 : decode cX1_claim 13 = .ok (.aload_n 1, 1) := dk_43 (dk_at dksX1_claim_0 13 rfl rfl)
theorem dX1_claim_14 : decode cX1_claim 14 = .ok (.dup, 1) := dk_89 (dk_at dksX1_claim_0 14 rfl rfl)
theorem dX1_claim_15 : decode cX1_claim 15 = .ok (.getfield 145, 3) := dk_180 0 145 (dk_at dksX1_claim_0 15 rfl rfl)
theorem dX1_claim_18 : decode cX1_claim 18 = .ok (.iload_n 3, 1) := dk_29 (dk_at dksX1_claim_0 18 rfl rfl)
theorem dX1_claim_19 : decode cX1_claim 19 = .ok (.iadd, 1) := dk_96 (dk_at dksX1_claim_0 19 rfl rfl)
theorem dX1_claim_20 : decode cX1_claim 20 = .ok (.putfield 145, 3) := dk_181 0 145 (dk_at dksX1_claim_0 20 rfl rfl)
theorem dX1_claim_23 : decode cX1_claim 23 = .ok (.iload_n 3, 1) := dk_29 (dk_at dksX1_claim_0 23 rfl rfl)
theorem dX1_claim_24 : decode cX1_claim 24 = .ok (.ireturn, 1) := dk_172 (dk_at dksX1_claim_1 0 rfl rfl)
abbrev cX1_enter : ByteArray := prog_11_method_12_code
def yX1_enter : MethodName := ⟨RX1, "enter", "(II[LPayMatch$Entry;)I"⟩
def dkwX1_enter_2 : List UInt8 := [182, 0, 127, 25, 4, 180, 0, 159, 172]
abbrev dktX1_enter_2 : List UInt8 := dkwX1_enter_2 ++ []
def dkwX1_enter_1 : List UInt8 := [183, 0, 152, 182, 0, 155, 192, 0, 109, 58, 4, 42, 5, 25, 4, 180, 0, 159, 25, 4, 182, 0, 162]
abbrev dktX1_enter_1 : List UInt8 := dkwX1_enter_1 ++ dktX1_enter_2
def dkwX1_enter_0 : List UInt8 := [42, 180, 0, 21, 187, 0, 109, 89, 42, 180, 0, 21, 182, 0, 151, 27, 28, 42, 180, 0, 69, 45]
abbrev dktX1_enter_0 : List UInt8 := dkwX1_enter_0 ++ dktX1_enter_1
theorem dksX1_enter_0 : cX1_enter.data.toList.drop 0 = dktX1_enter_0 := by decide +kernel
theorem dksX1_enter_1 : cX1_enter.data.toList.drop 22 = dktX1_enter_1 := dk_seg dksX1_enter_0 22 rfl rfl
theorem dksX1_enter_2 : cX1_enter.data.toList.drop 45 = dktX1_enter_2 := dk_seg dksX1_enter_1 23 rfl rfl
theorem dX1_enter_0 : decode cX1_enter 0 = .ok (.aload_n 0, 1) := dk_42 (dk_at dksX1_enter_0 0 rfl rfl)
theorem dX1_enter_1 : decode cX1_enter 1 = .ok (.getfield 21, 3) := dk_180 0 21 (dk_at dksX1_enter_0 1 rfl rfl)
theorem dX1_enter_4 : decode cX1_enter 4 = .ok (.new 109, 3) := dk_187 0 109 (dk_at dksX1_enter_0 4 rfl rfl)
theorem dX1_enter_7 : decode cX1_enter 7 = .ok (.dup, 1) := dk_89 (dk_at dksX1_enter_0 7 rfl rfl)
theorem dX1_enter_8 : decode cX1_enter 8 = .ok (.aload_n 0, 1) := dk_42 (dk_at dksX1_enter_0 8 rfl rfl)
theorem dX1_enter_9 : decode cX1_enter 9 = .ok (.getfield 21, 3) := dk_180 0 21 (dk_at dksX1_enter_0 9 rfl rfl)
theorem dX1_enter_12 : decode cX1_enter 12 = .ok (.invokevirtual 151, 3) := dk_182 0 151 (dk_at dksX1_enter_0 12 rfl rfl)
theorem dX1_enter_15 : decode cX1_enter 15 = .ok (.iload_n 1, 1) := dk_27 (dk_at dksX1_enter_0 15 rfl rfl)
theorem dX1_enter_16 : decode cX1_enter 16 = .ok (.iload_n 2, 1) := dk_28 (dk_at dksX1_enter_0 16 rfl rfl)
theorem dX1_enter_17 : decode cX1_enter 17 = .ok (.aload_n 0, 1) := dk_42 (dk_at dksX1_enter_0 17 rfl rfl)
theorem dX1_enter_18 : decode cX1_enter 18 = .ok (.getfield 69, 3) := dk_180 0 69 (dk_at dksX1_enter_0 18 rfl rfl)
theorem dX1_enter_21 : decode cX1_enter 21 = .ok (.aload_n 3, 1) := dk_45 (dk_at dksX1_enter_0 21 rfl rfl)
theorem dX1_enter_22 : decode cX1_enter 22 = .ok (.invokespecial 152, 3) := dk_183 0 152 (dk_at dksX1_enter_1 0 rfl rfl)
theorem dX1_enter_25 : decode cX1_enter 25 = .ok (.invokevirtual 155, 3) := dk_182 0 155 (dk_at dksX1_enter_1 3 rfl rfl)
theorem dX1_enter_28 : decode cX1_enter 28 = .ok (.checkcast 109, 3) := dk_192 0 109 (dk_at dksX1_enter_1 6 rfl rfl)
theorem dX1_enter_31 : decode cX1_enter 31 = .ok (.astore 4, 2) := dk_58 4 (dk_at dksX1_enter_1 9 rfl rfl)
theorem dX1_enter_33 : decode cX1_enter 33 = .ok (.aload_n 0, 1) := dk_42 (dk_at dksX1_enter_1 11 rfl rfl)
theorem dX1_enter_34 : decode cX1_enter 34 = .ok (.iconst 2, 1) := dk_5 (dk_at dksX1_enter_1 12 rfl rfl)
theorem dX1_enter_35 : decode cX1_enter 35 = .ok (.aload 4, 2) := dk_25 4 (dk_at dksX1_enter_1 13 rfl rfl)
theorem dX1_enter_37 : decode cX1_enter 37 = .ok (.getfield 159, 3) := dk_180 0 159 (dk_at dksX1_enter_1 15 rfl rfl)
theorem dX1_enter_40 : decode cX1_enter 40 = .ok (.aload 4, 2) := dk_25 4 (dk_at dksX1_enter_1 18 rfl rfl)
theorem dX1_enter_42 : decode cX1_enter 42 = .ok (.invokevirtual 162, 3) := dk_182 0 162 (dk_at dksX1_enter_1 20 rfl rfl)
theorem dX1_enter_45 : decode cX1_enter 45 = .ok (.invokevirtual 127, 3) := dk_182 0 127 (dk_at dksX1_enter_2 0 rfl rfl)
theorem dX1_enter_48 : decode cX1_enter 48 = .ok (.aload 4, 2) := dk_25 4 (dk_at dksX1_enter_2 3 rfl rfl)
theorem dX1_enter_50 : decode cX1_enter 50 = .ok (.getfield 159, 3) := dk_180 0 159 (dk_at dksX1_enter_2 5 rfl rfl)
theorem dX1_enter_53 : decode cX1_enter 53 = .ok (.ireturn, 1) := dk_172 (dk_at dksX1_enter_2 8 rfl rfl)
abbrev cX1_against : ByteArray := prog_11_method_15_code
def yX1_against : MethodName := ⟨RX1, "against", "(LPayMatch$Invoice;)I"⟩
def dkwX1_against_6 : List UInt8 := [164, 0, 8, 16, 16, 167, 0, 4, 3, 128, 62, 132, 6, 1, 167, 255, 182, 29, 172]
abbrev dktX1_against_6 : List UInt8 := dkwX1_against_6 ++ []
def dkwX1_against_5 : List UInt8 := [153, 0, 8, 16, 8, 167, 0, 4, 3, 128, 62, 29, 25, 7, 180, 0, 178, 42, 43, 25, 7, 182, 0, 205]
abbrev dktX1_against_5 : List UInt8 := dkwX1_against_5 ++ dktX1_against_6
def dkwX1_against_4 : List UInt8 := [29, 44, 25, 7, 180, 0, 194, 25, 7, 180, 0, 178, 42, 43, 25, 7, 182, 0, 197, 182, 0, 201]
abbrev dktX1_against_4 : List UInt8 := dkwX1_against_4 ++ dktX1_against_5
def dkwX1_against_3 : List UInt8 := [58, 4, 25, 4, 190, 54, 5, 3, 54, 6, 21, 6, 21, 5, 162, 0, 73, 25, 4, 21, 6, 50, 58, 7]
abbrev dktX1_against_3 : List UInt8 := dkwX1_against_3 ++ dktX1_against_4
def dkwX1_against_2 : List UInt8 := [182, 0, 88, 192, 0, 92, 180, 0, 189, 5, 160, 0, 7, 7, 167, 0, 4, 3, 128, 62, 43, 180, 0, 190]
abbrev dktX1_against_2 : List UInt8 := dkwX1_against_2 ++ dktX1_against_3
def dkwX1_against_1 : List UInt8 := [43, 182, 0, 185, 153, 0, 7, 5, 167, 0, 4, 3, 128, 62, 29, 42, 180, 0, 18, 43, 180, 0, 108]
abbrev dktX1_against_1 : List UInt8 := dkwX1_against_1 ++ dktX1_against_2
def dkwX1_against_0 : List UInt8 := [42, 43, 180, 0, 108, 182, 0, 131, 77, 44, 180, 0, 181, 153, 0, 7, 4, 167, 0, 4, 3, 62, 29, 42]
abbrev dktX1_against_0 : List UInt8 := dkwX1_against_0 ++ dktX1_against_1
theorem dksX1_against_0 : cX1_against.data.toList.drop 0 = dktX1_against_0 := by decide +kernel
theorem dksX1_against_1 : cX1_against.data.toList.drop 24 = dktX1_against_1 := dk_seg dksX1_against_0 24 rfl rfl
theorem dksX1_against_2 : cX1_against.data.toList.drop 47 = dktX1_against_2 := dk_seg dksX1_against_1 23 rfl rfl
theorem dksX1_against_3 : cX1_against.data.toList.drop 71 = dktX1_against_3 := dk_seg dksX1_against_2 24 rfl rfl
theorem dksX1_against_4 : cX1_against.data.toList.drop 95 = dktX1_against_4 := dk_seg dksX1_against_3 24 rfl rfl
theorem dksX1_against_5 : cX1_against.data.toList.drop 117 = dktX1_against_5 := dk_seg dksX1_against_4 22 rfl rfl
theorem dksX1_against_6 : cX1_against.data.toList.drop 141 = dktX1_against_6 := dk_seg dksX1_against_5 24 rfl rfl
theorem dX1_against_0 : decode cX1_against 0 = .ok (.aload_n 0, 1) := dk_42 (dk_at dksX1_against_0 0 rfl rfl)
theorem dX1_against_1 : decode cX1_against 1 = .ok (.aload_n 1, 1) := dk_43 (dk_at dksX1_against_0 1 rfl rfl)
theorem dX1_against_2 : decode cX1_against 2 = .ok (.getfield 108, 3) := dk_180 0 108 (dk_at dksX1_against_0 2 rfl rfl)
theorem dX1_against_5 : decode cX1_against 5 = .ok (.invokevirtual 131, 3) := dk_182 0 131 (dk_at dksX1_against_0 5 rfl rfl)
theorem dX1_against_8 : decode cX1_against 8 = .ok (.astore_n 2, 1) := dk_77 (dk_at dksX1_against_0 8 rfl rfl)
theorem dX1_against_9 : decode cX1_against 9 = .ok (.aload_n 2, 1) := dk_44 (dk_at dksX1_against_0 9 rfl rfl)
theorem dX1_against_10 : decode cX1_against 10 = .ok (.getfield 181, 3) := dk_180 0 181 (dk_at dksX1_against_0 10 rfl rfl)
theorem dX1_against_13 : decode cX1_against 13 = .ok (.ifCond .eq 7, 3) := dk_153 0 7 (dk_at dksX1_against_0 13 rfl rfl)
theorem dX1_against_16 : decode cX1_against 16 = .ok (.iconst 1, 1) := dk_4 (dk_at dksX1_against_0 16 rfl rfl)
theorem dX1_against_17 : decode cX1_against 17 = .ok (.goto 4, 3) := dk_167 0 4 (dk_at dksX1_against_0 17 rfl rfl)
theorem dX1_against_20 : decode cX1_against 20 = .ok (.iconst 0, 1) := dk_3 (dk_at dksX1_against_0 20 rfl rfl)
theorem dX1_against_21 : decode cX1_against 21 = .ok (.istore_n 3, 1) := dk_62 (dk_at dksX1_against_0 21 rfl rfl)
theorem dX1_against_22 : decode cX1_against 22 = .ok (.iload_n 3, 1) := dk_29 (dk_at dksX1_against_0 22 rfl rfl)
theorem dX1_against_23 : decode cX1_against 23 = .ok (.aload_n 0, 1) := dk_42 (dk_at dksX1_against_0 23 rfl rfl)
theorem dX1_against_24 : decode cX1_against 24 = .ok (.aload_n 1, 1) := dk_43 (dk_at dksX1_against_1 0 rfl rfl)
theorem dX1_against_25 : decode cX1_against 25 = .ok (.invokevirtual 185, 3) := dk_182 0 185 (dk_at dksX1_against_1 1 rfl rfl)
theorem dX1_against_28 : decode cX1_against 28 = .ok (.ifCond .eq 7, 3) := dk_153 0 7 (dk_at dksX1_against_1 4 rfl rfl)
theorem dX1_against_31 : decode cX1_against 31 = .ok (.iconst 2, 1) := dk_5 (dk_at dksX1_against_1 7 rfl rfl)
theorem dX1_against_32 : decode cX1_against 32 = .ok (.goto 4, 3) := dk_167 0 4 (dk_at dksX1_against_1 8 rfl rfl)
theorem dX1_against_35 : decode cX1_against 35 = .ok (.iconst 0, 1) := dk_3 (dk_at dksX1_against_1 11 rfl rfl)
theorem dX1_against_36 : decode cX1_against 36 = .ok (.ior, 1) := dk_128 (dk_at dksX1_against_1 12 rfl rfl)
theorem dX1_against_37 : decode cX1_against 37 = .ok (.istore_n 3, 1) := dk_62 (dk_at dksX1_against_1 13 rfl rfl)
theorem dX1_against_38 : decode cX1_against 38 = .ok (.iload_n 3, 1) := dk_29 (dk_at dksX1_against_1 14 rfl rfl)
theorem dX1_against_39 : decode cX1_against 39 = .ok (.aload_n 0, 1) := dk_42 (dk_at dksX1_against_1 15 rfl rfl)
theorem dX1_against_40 : decode cX1_against 40 = .ok (.getfield 18, 3) := dk_180 0 18 (dk_at dksX1_against_1 16 rfl rfl)
theorem dX1_against_43 : decode cX1_against 43 = .ok (.aload_n 1, 1) := dk_43 (dk_at dksX1_against_1 19 rfl rfl)
theorem dX1_against_44 : decode cX1_against 44 = .ok (.getfield 108, 3) := dk_180 0 108 (dk_at dksX1_against_1 20 rfl rfl)
theorem dX1_against_47 : decode cX1_against 47 = .ok (.invokevirtual 88, 3) := dk_182 0 88 (dk_at dksX1_against_2 0 rfl rfl)
theorem dX1_against_50 : decode cX1_against 50 = .ok (.checkcast 92, 3) := dk_192 0 92 (dk_at dksX1_against_2 3 rfl rfl)
theorem dX1_against_53 : decode cX1_against 53 = .ok (.getfield 189, 3) := dk_180 0 189 (dk_at dksX1_against_2 6 rfl rfl)
theorem dX1_against_56 : decode cX1_against 56 = .ok (.iconst 2, 1) := dk_5 (dk_at dksX1_against_2 9 rfl rfl)
theorem dX1_against_57 : decode cX1_against 57 = .ok (.if_icmp .ne 7, 3) := dk_160 0 7 (dk_at dksX1_against_2 10 rfl rfl)
theorem dX1_against_60 : decode cX1_against 60 = .ok (.iconst 4, 1) := dk_7 (dk_at dksX1_against_2 13 rfl rfl)
theorem dX1_against_61 : decode cX1_against 61 = .ok (.goto 4, 3) := dk_167 0 4 (dk_at dksX1_against_2 14 rfl rfl)
theorem dX1_against_64 : decode cX1_against 64 = .ok (.iconst 0, 1) := dk_3 (dk_at dksX1_against_2 17 rfl rfl)
theorem dX1_against_65 : decode cX1_against 65 = .ok (.ior, 1) := dk_128 (dk_at dksX1_against_2 18 rfl rfl)
theorem dX1_against_66 : decode cX1_against 66 = .ok (.istore_n 3, 1) := dk_62 (dk_at dksX1_against_2 19 rfl rfl)
theorem dX1_against_67 : decode cX1_against 67 = .ok (.aload_n 1, 1) := dk_43 (dk_at dksX1_against_2 20 rfl rfl)
theorem dX1_against_68 : decode cX1_against 68 = .ok (.getfield 190, 3) := dk_180 0 190 (dk_at dksX1_against_2 21 rfl rfl)
theorem dX1_against_71 : decode cX1_against 71 = .ok (.astore 4, 2) := dk_58 4 (dk_at dksX1_against_3 0 rfl rfl)
theorem dX1_against_73 : decode cX1_against 73 = .ok (.aload 4, 2) := dk_25 4 (dk_at dksX1_against_3 2 rfl rfl)
theorem dX1_against_75 : decode cX1_against 75 = .ok (.arraylength, 1) := dk_190 (dk_at dksX1_against_3 4 rfl rfl)
theorem dX1_against_76 : decode cX1_against 76 = .ok (.istore 5, 2) := dk_54 5 (dk_at dksX1_against_3 5 rfl rfl)
theorem dX1_against_78 : decode cX1_against 78 = .ok (.iconst 0, 1) := dk_3 (dk_at dksX1_against_3 7 rfl rfl)
theorem dX1_against_79 : decode cX1_against 79 = .ok (.istore 6, 2) := dk_54 6 (dk_at dksX1_against_3 8 rfl rfl)
theorem dX1_against_81 : decode cX1_against 81 = .ok (.iload 6, 2) := dk_21 6 (dk_at dksX1_against_3 10 rfl rfl)
theorem dX1_against_83 : decode cX1_against 83 = .ok (.iload 5, 2) := dk_21 5 (dk_at dksX1_against_3 12 rfl rfl)
theorem dX1_against_85 : decode cX1_against 85 = .ok (.if_icmp .ge 73, 3) := dk_162 0 73 (dk_at dksX1_against_3 14 rfl rfl)
theorem dX1_against_88 : decode cX1_against 88 = .ok (.aload 4, 2) := dk_25 4 (dk_at dksX1_against_3 17 rfl rfl)
theorem dX1_against_90 : decode cX1_against 90 = .ok (.iload 6, 2) := dk_21 6 (dk_at dksX1_against_3 19 rfl rfl)
theorem dX1_against_92 : decode cX1_against 92 = .ok (.aaload, 1) := dk_50 (dk_at dksX1_against_3 21 rfl rfl)
theorem dX1_against_93 : decode cX1_against 93 = .ok (.astore 7, 2) := dk_58 7 (dk_at dksX1_against_3 22 rfl rfl)
theorem dX1_against_95 : decode cX1_against 95 = .ok (.iload_n 3, 1) := dk_29 (dk_at dksX1_against_4 0 rfl rfl)
theorem dX1_against_96 : decode cX1_against 96 = .ok (.aload_n 2, 1) := dk_44 (dk_at dksX1_against_4 1 rfl rfl)
theorem dX1_against_97 : decode cX1_against 97 = .ok (.aload 7, 2) := dk_25 7 (dk_at dksX1_against_4 2 rfl rfl)
theorem dX1_against_99 : decode cX1_against 99 = .ok (.getfield 194, 3) := dk_180 0 194 (dk_at dksX1_against_4 4 rfl rfl)
theorem dX1_against_102 : decode cX1_against 102 = .ok (.aload 7, 2) := dk_25 7 (dk_at dksX1_against_4 7 rfl rfl)
theorem dX1_against_104 : decode cX1_against 104 = .ok (.getfield 178, 3) := dk_180 0 178 (dk_at dksX1_against_4 9 rfl rfl)
theorem dX1_against_107 : decode cX1_against 107 = .ok (.aload_n 0, 1) := dk_42 (dk_at dksX1_against_4 12 rfl rfl)
theorem dX1_against_108 : decode cX1_against 108 = .ok (.aload_n 1, 1) := dk_43 (dk_at dksX1_against_4 13 rfl rfl)
theorem dX1_against_109 : decode cX1_against 109 = .ok (.aload 7, 2) := dk_25 7 (dk_at dksX1_against_4 14 rfl rfl)
theorem dX1_against_111 : decode cX1_against 111 = .ok (.invokevirtual 197, 3) := dk_182 0 197 (dk_at dksX1_against_4 16 rfl rfl)
theorem dX1_against_114 : decode cX1_against 114 = .ok (.invokevirtual 201, 3) := dk_182 0 201 (dk_at dksX1_against_4 19 rfl rfl)
theorem dX1_against_117 : decode cX1_against 117 = .ok (.ifCond .eq 8, 3) := dk_153 0 8 (dk_at dksX1_against_5 0 rfl rfl)
theorem dX1_against_120 : decode cX1_against 120 = .ok (.bipush 8, 2) := dk_16 8 (dk_at dksX1_against_5 3 rfl rfl)
theorem dX1_against_122 : decode cX1_against 122 = .ok (.goto 4, 3) := dk_167 0 4 (dk_at dksX1_against_5 5 rfl rfl)
theorem dX1_against_125 : decode cX1_against 125 = .ok (.iconst 0, 1) := dk_3 (dk_at dksX1_against_5 8 rfl rfl)
theorem dX1_against_126 : decode cX1_against 126 = .ok (.ior, 1) := dk_128 (dk_at dksX1_against_5 9 rfl rfl)
theorem dX1_against_127 : decode cX1_against 127 = .ok (.istore_n 3, 1) := dk_62 (dk_at dksX1_against_5 10 rfl rfl)
theorem dX1_against_128 : decode cX1_against 128 = .ok (.iload_n 3, 1) := dk_29 (dk_at dksX1_against_5 11 rfl rfl)
theorem dX1_against_129 : decode cX1_against 129 = .ok (.aload 7, 2) := dk_25 7 (dk_at dksX1_against_5 12 rfl rfl)
theorem dX1_against_131 : decode cX1_against 131 = .ok (.getfield 178, 3) := dk_180 0 178 (dk_at dksX1_against_5 14 rfl rfl)
theorem dX1_against_134 : decode cX1_against 134 = .ok (.aload_n 0, 1) := dk_42 (dk_at dksX1_against_5 17 rfl rfl)
theorem dX1_against_135 : decode cX1_against 135 = .ok (.aload_n 1, 1) := dk_43 (dk_at dksX1_against_5 18 rfl rfl)
theorem dX1_against_136 : decode cX1_against 136 = .ok (.aload 7, 2) := dk_25 7 (dk_at dksX1_against_5 19 rfl rfl)
theorem dX1_against_138 : decode cX1_against 138 = .ok (.invokevirtual 205, 3) := dk_182 0 205 (dk_at dksX1_against_5 21 rfl rfl)
theorem dX1_against_141 : decode cX1_against 141 = .ok (.if_icmp .le 8, 3) := dk_164 0 8 (dk_at dksX1_against_6 0 rfl rfl)
theorem dX1_against_144 : decode cX1_against 144 = .ok (.bipush 16, 2) := dk_16 16 (dk_at dksX1_against_6 3 rfl rfl)
theorem dX1_against_146 : decode cX1_against 146 = .ok (.goto 4, 3) := dk_167 0 4 (dk_at dksX1_against_6 5 rfl rfl)
theorem dX1_against_149 : decode cX1_against 149 = .ok (.iconst 0, 1) := dk_3 (dk_at dksX1_against_6 8 rfl rfl)
theorem dX1_against_150 : decode cX1_against 150 = .ok (.ior, 1) := dk_128 (dk_at dksX1_against_6 9 rfl rfl)
theorem dX1_against_151 : decode cX1_against 151 = .ok (.istore_n 3, 1) := dk_62 (dk_at dksX1_against_6 10 rfl rfl)
theorem dX1_against_152 : decode cX1_against 152 = .ok (.iinc 6 1, 3) := dk_132 6 1 (dk_at dksX1_against_6 11 rfl rfl)
theorem dX1_against_155 : decode cX1_against 155 = .ok (.goto (-74), 3) := dk_167 255 182 (dk_at dksX1_against_6 14 rfl rfl)
theorem dX1_against_158 : decode cX1_against 158 = .ok (.iload_n 3, 1) := dk_29 (dk_at dksX1_against_6 17 rfl rfl)
theorem dX1_against_159 : decode cX1_against 159 = .ok (.ireturn, 1) := dk_172 (dk_at dksX1_against_6 18 rfl rfl)
abbrev cX1_isTwice : ByteArray := prog_11_method_13_code
def yX1_isTwice : MethodName := ⟨RX1, "isTwice", "(LPayMatch$Invoice;)Z"⟩
def dkwX1_isTwice_3 : List UInt8 := [167, 0, 4, 3, 61, 132, 3, 1, 167, 255, 181, 28, 172]
abbrev dktX1_isTwice_3 : List UInt8 := dkwX1_isTwice_3 ++ []
def dkwX1_isTwice_2 : List UInt8 := [159, 0, 27, 42, 25, 4, 180, 0, 108, 182, 0, 131, 42, 43, 180, 0, 108, 182, 0, 131, 166, 0, 7, 4]
abbrev dktX1_isTwice_2 : List UInt8 := dkwX1_isTwice_2 ++ dktX1_isTwice_3
def dkwX1_isTwice_1 : List UInt8 := [58, 4, 28, 154, 0, 44, 25, 4, 180, 0, 165, 43, 180, 0, 165, 160, 0, 36, 25, 4, 180, 0, 168, 7]
abbrev dktX1_isTwice_1 : List UInt8 := dkwX1_isTwice_1 ++ dktX1_isTwice_2
def dkwX1_isTwice_0 : List UInt8 := [3, 61, 3, 62, 29, 43, 180, 0, 159, 162, 0, 73, 42, 180, 0, 21, 29, 182, 0, 88, 192, 0, 109]
abbrev dktX1_isTwice_0 : List UInt8 := dkwX1_isTwice_0 ++ dktX1_isTwice_1
theorem dksX1_isTwice_0 : cX1_isTwice.data.toList.drop 0 = dktX1_isTwice_0 := by decide +kernel
theorem dksX1_isTwice_1 : cX1_isTwice.data.toList.drop 23 = dktX1_isTwice_1 := dk_seg dksX1_isTwice_0 23 rfl rfl
theorem dksX1_isTwice_2 : cX1_isTwice.data.toList.drop 47 = dktX1_isTwice_2 := dk_seg dksX1_isTwice_1 24 rfl rfl
theorem dksX1_isTwice_3 : cX1_isTwice.data.toList.drop 71 = dktX1_isTwice_3 := dk_seg dksX1_isTwice_2 24 rfl rfl
theorem dX1_isTwice_0 : decode cX1_isTwice 0 = .ok (.iconst 0, 1) := dk_3 (dk_at dksX1_isTwice_0 0 rfl rfl)
theorem dX1_isTwice_1 : decode cX1_isTwice 1 = .ok (.istore_n 2, 1) := dk_61 (dk_at dksX1_isTwice_0 1 rfl rfl)
theorem dX1_isTwice_2 : decode cX1_isTwice 2 = .ok (.iconst 0, 1) := dk_3 (dk_at dksX1_isTwice_0 2 rfl rfl)
theorem dX1_isTwice_3 : decode cX1_isTwice 3 = .ok (.istore_n 3, 1) := dk_62 (dk_at dksX1_isTwice_0 3 rfl rfl)
theorem dX1_isTwice_4 : decode cX1_isTwice 4 = .ok (.iload_n 3, 1) := dk_29 (dk_at dksX1_isTwice_0 4 rfl rfl)
theorem dX1_isTwice_5 : decode cX1_isTwice 5 = .ok (.aload_n 1, 1) := dk_43 (dk_at dksX1_isTwice_0 5 rfl rfl)
theorem dX1_isTwice_6 : decode cX1_isTwice 6 = .ok (.getfield 159, 3) := dk_180 0 159 (dk_at dksX1_isTwice_0 6 rfl rfl)
theorem dX1_isTwice_9 : decode cX1_isTwice 9 = .ok (.if_icmp .ge 73, 3) := dk_162 0 73 (dk_at dksX1_isTwice_0 9 rfl rfl)
theorem dX1_isTwice_12 : decode cX1_isTwice 12 = .ok (.aload_n 0, 1) := dk_42 (dk_at dksX1_isTwice_0 12 rfl rfl)
theorem dX1_isTwice_13 : decode cX1_isTwice 13 = .ok (.getfield 21, 3) := dk_180 0 21 (dk_at dksX1_isTwice_0 13 rfl rfl)
theorem dX1_isTwice_16 : decode cX1_isTwice 16 = .ok (.iload_n 3, 1) := dk_29 (dk_at dksX1_isTwice_0 16 rfl rfl)
theorem dX1_isTwice_17 : decode cX1_isTwice 17 = .ok (.invokevirtual 88, 3) := dk_182 0 88 (dk_at dksX1_isTwice_0 17 rfl rfl)
theorem dX1_isTwice_20 : decode cX1_isTwice 20 = .ok (.checkcast 109, 3) := dk_192 0 109 (dk_at dksX1_isTwice_0 20 rfl rfl)
theorem dX1_isTwice_23 : decode cX1_isTwice 23 = .ok (.astore 4, 2) := dk_58 4 (dk_at dksX1_isTwice_1 0 rfl rfl)
theorem dX1_isTwice_25 : decode cX1_isTwice 25 = .ok (.iload_n 2, 1) := dk_28 (dk_at dksX1_isTwice_1 2 rfl rfl)
theorem dX1_isTwice_26 : decode cX1_isTwice 26 = .ok (.ifCond .ne 44, 3) := dk_154 0 44 (dk_at dksX1_isTwice_1 3 rfl rfl)
theorem dX1_isTwice_29 : decode cX1_isTwice 29 = .ok (.aload 4, 2) := dk_25 4 (dk_at dksX1_isTwice_1 6 rfl rfl)
theorem dX1_isTwice_31 : decode cX1_isTwice 31 = .ok (.getfield 165, 3) := dk_180 0 165 (dk_at dksX1_isTwice_1 8 rfl rfl)
theorem dX1_isTwice_34 : decode cX1_isTwice 34 = .ok (.aload_n 1, 1) := dk_43 (dk_at dksX1_isTwice_1 11 rfl rfl)
theorem dX1_isTwice_35 : decode cX1_isTwice 35 = .ok (.getfield 165, 3) := dk_180 0 165 (dk_at dksX1_isTwice_1 12 rfl rfl)
theorem dX1_isTwice_38 : decode cX1_isTwice 38 = .ok (.if_icmp .ne 36, 3) := dk_160 0 36 (dk_at dksX1_isTwice_1 15 rfl rfl)
theorem dX1_isTwice_41 : decode cX1_isTwice 41 = .ok (.aload 4, 2) := dk_25 4 (dk_at dksX1_isTwice_1 18 rfl rfl)
theorem dX1_isTwice_43 : decode cX1_isTwice 43 = .ok (.getfield 168, 3) := dk_180 0 168 (dk_at dksX1_isTwice_1 20 rfl rfl)
theorem dX1_isTwice_46 : decode cX1_isTwice 46 = .ok (.iconst 4, 1) := dk_7 (dk_at dksX1_isTwice_1 23 rfl rfl)
theorem dX1_isTwice_47 : decode cX1_isTwice 47 = .ok (.if_icmp .eq 27, 3) := dk_159 0 27 (dk_at dksX1_isTwice_2 0 rfl rfl)
theorem dX1_isTwice_50 : decode cX1_isTwice 50 = .ok (.aload_n 0, 1) := dk_42 (dk_at dksX1_isTwice_2 3 rfl rfl)
theorem dX1_isTwice_51 : decode cX1_isTwice 51 = .ok (.aload 4, 2) := dk_25 4 (dk_at dksX1_isTwice_2 4 rfl rfl)
theorem dX1_isTwice_53 : decode cX1_isTwice 53 = .ok (.getfield 108, 3) := dk_180 0 108 (dk_at dksX1_isTwice_2 6 rfl rfl)
theorem dX1_isTwice_56 : decode cX1_isTwice 56 = .ok (.invokevirtual 131, 3) := dk_182 0 131 (dk_at dksX1_isTwice_2 9 rfl rfl)
theorem dX1_isTwice_59 : decode cX1_isTwice 59 = .ok (.aload_n 0, 1) := dk_42 (dk_at dksX1_isTwice_2 12 rfl rfl)
theorem dX1_isTwice_60 : decode cX1_isTwice 60 = .ok (.aload_n 1, 1) := dk_43 (dk_at dksX1_isTwice_2 13 rfl rfl)
theorem dX1_isTwice_61 : decode cX1_isTwice 61 = .ok (.getfield 108, 3) := dk_180 0 108 (dk_at dksX1_isTwice_2 14 rfl rfl)
theorem dX1_isTwice_64 : decode cX1_isTwice 64 = .ok (.invokevirtual 131, 3) := dk_182 0 131 (dk_at dksX1_isTwice_2 17 rfl rfl)
theorem dX1_isTwice_67 : decode cX1_isTwice 67 = .ok (.if_acmp .ne 7, 3) := dk_166 0 7 (dk_at dksX1_isTwice_2 20 rfl rfl)
theorem dX1_isTwice_70 : decode cX1_isTwice 70 = .ok (.iconst 1, 1) := dk_4 (dk_at dksX1_isTwice_2 23 rfl rfl)
theorem dX1_isTwice_71 : decode cX1_isTwice 71 = .ok (.goto 4, 3) := dk_167 0 4 (dk_at dksX1_isTwice_3 0 rfl rfl)
theorem dX1_isTwice_74 : decode cX1_isTwice 74 = .ok (.iconst 0, 1) := dk_3 (dk_at dksX1_isTwice_3 3 rfl rfl)
theorem dX1_isTwice_75 : decode cX1_isTwice 75 = .ok (.istore_n 2, 1) := dk_61 (dk_at dksX1_isTwice_3 4 rfl rfl)
theorem dX1_isTwice_76 : decode cX1_isTwice 76 = .ok (.iinc 3 1, 3) := dk_132 3 1 (dk_at dksX1_isTwice_3 5 rfl rfl)
theorem dX1_isTwice_79 : decode cX1_isTwice 79 = .ok (.goto (-75), 3) := dk_167 255 181 (dk_at dksX1_isTwice_3 8 rfl rfl)
theorem dX1_isTwice_82 : decode cX1_isTwice 82 = .ok (.iload_n 2, 1) := dk_28 (dk_at dksX1_isTwice_3 11 rfl rfl)
theorem dX1_isTwice_83 : decode cX1_isTwice 83 = .ok (.ireturn, 1) := dk_172 (dk_at dksX1_isTwice_3 12 rfl rfl)
abbrev cX1_lineOf : ByteArray := prog_11_method_7_code
def yX1_lineOf : MethodName := ⟨RX1, "lineOf", "(LPayMatch$Invoice;LPayMatch$Entry;)LPayMatch$Line;"⟩
def dkwX1_lineOf_0 : List UInt8 := [42, 43, 180, 0, 108, 44, 180, 0, 113, 182, 0, 118, 176]
abbrev dktX1_lineOf_0 : List UInt8 := dkwX1_lineOf_0 ++ []
theorem dksX1_lineOf_0 : cX1_lineOf.data.toList.drop 0 = dktX1_lineOf_0 := by decide +kernel
theorem dX1_lineOf_0 : decode cX1_lineOf 0 = .ok (.aload_n 0, 1) := dk_42 (dk_at dksX1_lineOf_0 0 rfl rfl)
theorem dX1_lineOf_1 : decode cX1_lineOf 1 = .ok (.aload_n 1, 1) := dk_43 (dk_at dksX1_lineOf_0 1 rfl rfl)
theorem dX1_lineOf_2 : decode cX1_lineOf 2 = .ok (.getfield 108, 3) := dk_180 0 108 (dk_at dksX1_lineOf_0 2 rfl rfl)
theorem dX1_lineOf_5 : decode cX1_lineOf 5 = .ok (.aload_n 2, 1) := dk_44 (dk_at dksX1_lineOf_0 5 rfl rfl)
theorem dX1_lineOf_6 : decode cX1_lineOf 6 = .ok (.getfield 113, 3) := dk_180 0 113 (dk_at dksX1_lineOf_0 6 rfl rfl)
theorem dX1_lineOf_9 : decode cX1_lineOf 9 = .ok (.invokevirtual 118, 3) := dk_182 0 118 (dk_at dksX1_lineOf_0 9 rfl rfl)
theorem dX1_lineOf_12 : decode cX1_lineOf 12 = .ok (.areturn, 1) := dk_176 (dk_at dksX1_lineOf_0 12 rfl rfl)
abbrev cX1_leftFor : ByteArray := prog_11_method_14_code
def yX1_leftFor : MethodName := ⟨RX1, "leftFor", "(LPayMatch$Invoice;LPayMatch$Entry;)I"⟩
def dkwX1_leftFor_1 : List UInt8 := [167, 0, 4, 3, 96, 172]
abbrev dktX1_leftFor_1 : List UInt8 := dkwX1_leftFor_1 ++ []
def dkwX1_leftFor_0 : List UInt8 := [42, 43, 180, 0, 108, 44, 180, 0, 113, 182, 0, 171, 43, 182, 0, 175, 153, 0, 10, 44, 180, 0, 178]
abbrev dktX1_leftFor_0 : List UInt8 := dkwX1_leftFor_0 ++ dktX1_leftFor_1
theorem dksX1_leftFor_0 : cX1_leftFor.data.toList.drop 0 = dktX1_leftFor_0 := by decide +kernel
theorem dksX1_leftFor_1 : cX1_leftFor.data.toList.drop 23 = dktX1_leftFor_1 := dk_seg dksX1_leftFor_0 23 rfl rfl
theorem dX1_leftFor_0 : decode cX1_leftFor 0 = .ok (.aload_n 0, 1) := dk_42 (dk_at dksX1_leftFor_0 0 rfl rfl)
theorem dX1_leftFor_1 : decode cX1_leftFor 1 = .ok (.aload_n 1, 1) := dk_43 (dk_at dksX1_leftFor_0 1 rfl rfl)
theorem dX1_leftFor_2 : decode cX1_leftFor 2 = .ok (.getfield 108, 3) := dk_180 0 108 (dk_at dksX1_leftFor_0 2 rfl rfl)
theorem dX1_leftFor_5 : decode cX1_leftFor 5 = .ok (.aload_n 2, 1) := dk_44 (dk_at dksX1_leftFor_0 5 rfl rfl)
theorem dX1_leftFor_6 : decode cX1_leftFor 6 = .ok (.getfield 113, 3) := dk_180 0 113 (dk_at dksX1_leftFor_0 6 rfl rfl)
theorem dX1_leftFor_9 : decode cX1_leftFor 9 = .ok (.invokevirtual 171, 3) := dk_182 0 171 (dk_at dksX1_leftFor_0 9 rfl rfl)
theorem dX1_leftFor_12 : decode cX1_leftFor 12 = .ok (.aload_n 1, 1) := dk_43 (dk_at dksX1_leftFor_0 12 rfl rfl)
theorem dX1_leftFor_13 : decode cX1_leftFor 13 = .ok (.invokevirtual 175, 3) := dk_182 0 175 (dk_at dksX1_leftFor_0 13 rfl rfl)
theorem dX1_leftFor_16 : decode cX1_leftFor 16 = .ok (.ifCond .eq 10, 3) := dk_153 0 10 (dk_at dksX1_leftFor_0 16 rfl rfl)
theorem dX1_leftFor_19 : decode cX1_leftFor 19 = .ok (.aload_n 2, 1) := dk_44 (dk_at dksX1_leftFor_0 19 rfl rfl)
theorem dX1_leftFor_20 : decode cX1_leftFor 20 = .ok (.getfield 178, 3) := dk_180 0 178 (dk_at dksX1_leftFor_0 20 rfl rfl)
theorem dX1_leftFor_23 : decode cX1_leftFor 23 = .ok (.goto 4, 3) := dk_167 0 4 (dk_at dksX1_leftFor_1 0 rfl rfl)
theorem dX1_leftFor_26 : decode cX1_leftFor 26 = .ok (.iconst 0, 1) := dk_3 (dk_at dksX1_leftFor_1 3 rfl rfl)
theorem dX1_leftFor_27 : decode cX1_leftFor 27 = .ok (.iadd, 1) := dk_96 (dk_at dksX1_leftFor_1 4 rfl rfl)
theorem dX1_leftFor_28 : decode cX1_leftFor 28 = .ok (.ireturn, 1) := dk_172 (dk_at dksX1_leftFor_1 5 rfl rfl)
abbrev cX1_left : ByteArray := prog_11_method_11_code
def yX1_left : MethodName := ⟨RX1, "left", "(II)I"⟩
def dkwX1_left_1 : List UInt8 := [180, 0, 148, 100, 172]
abbrev dktX1_left_1 : List UInt8 := dkwX1_left_1 ++ []
def dkwX1_left_0 : List UInt8 := [42, 27, 182, 0, 131, 42, 27, 28, 182, 0, 118, 180, 0, 121, 182, 0, 139, 42, 27, 28, 182, 0, 118]
abbrev dktX1_left_0 : List UInt8 := dkwX1_left_0 ++ dktX1_left_1
theorem dksX1_left_0 : cX1_left.data.toList.drop 0 = dktX1_left_0 := by decide +kernel
theorem dksX1_left_1 : cX1_left.data.toList.drop 23 = dktX1_left_1 := dk_seg dksX1_left_0 23 rfl rfl
theorem dX1_left_0 : decode cX1_left 0 = .ok (.aload_n 0, 1) := dk_42 (dk_at dksX1_left_0 0 rfl rfl)
theorem dX1_left_1 : decode cX1_left 1 = .ok (.iload_n 1, 1) := dk_27 (dk_at dksX1_left_0 1 rfl rfl)
theorem dX1_left_2 : decode cX1_left 2 = .ok (.invokevirtual 131, 3) := dk_182 0 131 (dk_at dksX1_left_0 2 rfl rfl)
theorem dX1_left_5 : decode cX1_left 5 = .ok (.aload_n 0, 1) := dk_42 (dk_at dksX1_left_0 5 rfl rfl)
theorem dX1_left_6 : decode cX1_left 6 = .ok (.iload_n 1, 1) := dk_27 (dk_at dksX1_left_0 6 rfl rfl)
theorem dX1_left_7 : decode cX1_left 7 = .ok (.iload_n 2, 1) := dk_28 (dk_at dksX1_left_0 7 rfl rfl)
theorem dX1_left_8 : decode cX1_left 8 = .ok (.invokevirtual 118, 3) := dk_182 0 118 (dk_at dksX1_left_0 8 rfl rfl)
theorem dX1_left_11 : decode cX1_left 11 = .ok (.getfield 121, 3) := dk_180 0 121 (dk_at dksX1_left_0 11 rfl rfl)
theorem dX1_left_14 : decode cX1_left 14 = .ok (.invokevirtual 139, 3) := dk_182 0 139 (dk_at dksX1_left_0 14 rfl rfl)
theorem dX1_left_17 : decode cX1_left 17 = .ok (.aload_n 0, 1) := dk_42 (dk_at dksX1_left_0 17 rfl rfl)
theorem dX1_left_18 : decode cX1_left 18 = .ok (.iload_n 1, 1) := dk_27 (dk_at dksX1_left_0 18 rfl rfl)
theorem dX1_left_19 : decode cX1_left 19 = .ok (.iload_n 2, 1) := dk_28 (dk_at dksX1_left_0 19 rfl rfl)
theorem dX1_left_20 : decode cX1_left 20 = .ok (.invokevirtual 118, 3) := dk_182 0 118 (dk_at dksX1_left_0 20 rfl rfl)
theorem dX1_left_23 : decode cX1_left 23 = .ok (.getfield 148, 3) := dk_180 0 148 (dk_at dksX1_left_1 0 rfl rfl)
theorem dX1_left_26 : decode cX1_left 26 = .ok (.isub, 1) := dk_100 (dk_at dksX1_left_1 3 rfl rfl)
theorem dX1_left_27 : decode cX1_left 27 = .ok (.ireturn, 1) := dk_172 (dk_at dksX1_left_1 4 rfl rfl)
abbrev cX1_match : ByteArray := prog_11_method_17_code
def yX1_match : MethodName := ⟨RX1, "match", "(LPayMatch$Invoice;)I"⟩
def dkwX1_match_3 : List UInt8 := [182, 0, 127, 28, 172]
abbrev dktX1_match_3 : List UInt8 := dkwX1_match_3 ++ []
def dkwX1_match_2 : List UInt8 := [154, 0, 11, 42, 43, 182, 0, 222, 167, 0, 18, 43, 5, 181, 0, 168, 42, 7, 43, 180, 0, 159, 28]
abbrev dktX1_match_2 : List UInt8 := dkwX1_match_2 ++ dktX1_match_3
def dkwX1_match_1 : List UInt8 := [154, 0, 7, 4, 167, 0, 4, 3, 181, 0, 216, 43, 4, 181, 0, 213, 43, 28, 181, 0, 219, 28]
abbrev dktX1_match_1 : List UInt8 := dkwX1_match_1 ++ dktX1_match_2
def dkwX1_match_0 : List UInt8 := [42, 43, 182, 0, 209, 61, 43, 43, 180, 0, 213, 153, 0, 10, 43, 180, 0, 216, 167, 0, 12, 28]
abbrev dktX1_match_0 : List UInt8 := dkwX1_match_0 ++ dktX1_match_1
theorem dksX1_match_0 : cX1_match.data.toList.drop 0 = dktX1_match_0 := by decide +kernel
theorem dksX1_match_1 : cX1_match.data.toList.drop 22 = dktX1_match_1 := dk_seg dksX1_match_0 22 rfl rfl
theorem dksX1_match_2 : cX1_match.data.toList.drop 44 = dktX1_match_2 := dk_seg dksX1_match_1 22 rfl rfl
theorem dksX1_match_3 : cX1_match.data.toList.drop 67 = dktX1_match_3 := dk_seg dksX1_match_2 23 rfl rfl
theorem dX1_match_0 : decode cX1_match 0 = .ok (.aload_n 0, 1) := dk_42 (dk_at dksX1_match_0 0 rfl rfl)
theorem dX1_match_1 : decode cX1_match 1 = .ok (.aload_n 1, 1) := dk_43 (dk_at dksX1_match_0 1 rfl rfl)
theorem dX1_match_2 : decode cX1_match 2 = .ok (.invokevirtual 209, 3) := dk_182 0 209 (dk_at dksX1_match_0 2 rfl rfl)
theorem dX1_match_5 : decode cX1_match 5 = .ok (.istore_n 2, 1) := dk_61 (dk_at dksX1_match_0 5 rfl rfl)
theorem dX1_match_6 : decode cX1_match 6 = .ok (.aload_n 1, 1) := dk_43 (dk_at dksX1_match_0 6 rfl rfl)
theorem dX1_match_7 : decode cX1_match 7 = .ok (.aload_n 1, 1) := dk_43 (dk_at dksX1_match_0 7 rfl rfl)
theorem dX1_match_8 : decode cX1_match 8 = .ok (.getfield 213, 3) := dk_180 0 213 (dk_at dksX1_match_0 8 rfl rfl)
theorem dX1_match_11 : decode cX1_match 11 = .ok (.ifCond .eq 10, 3) := dk_153 0 10 (dk_at dksX1_match_0 11 rfl rfl)
theorem dX1_match_14 : decode cX1_match 14 = .ok (.aload_n 1, 1) := dk_43 (dk_at dksX1_match_0 14 rfl rfl)
theorem dX1_match_15 : decode cX1_match 15 = .ok (.getfield 216, 3) := dk_180 0 216 (dk_at dksX1_match_0 15 rfl rfl)
theorem dX1_match_18 : decode cX1_match 18 = .ok (.goto 12, 3) := dk_167 0 12 (dk_at dksX1_match_0 18 rfl rfl)
theorem dX1_match_21 : decode cX1_match 21 = .ok (.iload_n 2, 1) := dk_28 (dk_at dksX1_match_0 21 rfl rfl)
theorem dX1_match_22 : decode cX1_match 22 = .ok (.ifCond .ne 7, 3) := dk_154 0 7 (dk_at dksX1_match_1 0 rfl rfl)
theorem dX1_match_25 : decode cX1_match 25 = .ok (.iconst 1, 1) := dk_4 (dk_at dksX1_match_1 3 rfl rfl)
theorem dX1_match_26 : decode cX1_match 26 = .ok (.goto 4, 3) := dk_167 0 4 (dk_at dksX1_match_1 4 rfl rfl)
theorem dX1_match_29 : decode cX1_match 29 = .ok (.iconst 0, 1) := dk_3 (dk_at dksX1_match_1 7 rfl rfl)
theorem dX1_match_30 : decode cX1_match 30 = .ok (.putfield 216, 3) := dk_181 0 216 (dk_at dksX1_match_1 8 rfl rfl)
theorem dX1_match_33 : decode cX1_match 33 = .ok (.aload_n 1, 1) := dk_43 (dk_at dksX1_match_1 11 rfl rfl)
theorem dX1_match_34 : decode cX1_match 34 = .ok (.iconst 1, 1) := dk_4 (dk_at dksX1_match_1 12 rfl rfl)
theorem dX1_match_35 : decode cX1_match 35 = .ok (.putfield 213, 3) := dk_181 0 213 (dk_at dksX1_match_1 13 rfl rfl)
theorem dX1_match_38 : decode cX1_match 38 = .ok (.aload_n 1, 1) := dk_43 (dk_at dksX1_match_1 16 rfl rfl)
theorem dX1_match_39 : decode cX1_match 39 = .ok (.iload_n 2, 1) := dk_28 (dk_at dksX1_match_1 17 rfl rfl)
theorem dX1_match_40 : decode cX1_match 40 = .ok (.putfield 219, 3) := dk_181 0 219 (dk_at dksX1_match_1 18 rfl rfl)
theorem dX1_match_43 : decode cX1_match 43 = .ok (.iload_n 2, 1) := dk_28 (dk_at dksX1_match_1 21 rfl rfl)
theorem dX1_match_44 : decode cX1_match 44 = .ok (.ifCond .ne 11, 3) := dk_154 0 11 (dk_at dksX1_match_2 0 rfl rfl)
theorem dX1_match_47 : decode cX1_match 47 = .ok (.aload_n 0, 1) := dk_42 (dk_at dksX1_match_2 3 rfl rfl)
theorem dX1_match_48 : decode cX1_match 48 = .ok (.aload_n 1, 1) := dk_43 (dk_at dksX1_match_2 4 rfl rfl)
theorem dX1_match_49 : decode cX1_match 49 = .ok (.invokevirtual 222, 3) := dk_182 0 222 (dk_at dksX1_match_2 5 rfl rfl)
theorem dX1_match_52 : decode cX1_match 52 = .ok (.goto 18, 3) := dk_167 0 18 (dk_at dksX1_match_2 8 rfl rfl)
theorem dX1_match_55 : decode cX1_match 55 = .ok (.aload_n 1, 1) := dk_43 (dk_at dksX1_match_2 11 rfl rfl)
theorem dX1_match_56 : decode cX1_match 56 = .ok (.iconst 2, 1) := dk_5 (dk_at dksX1_match_2 12 rfl rfl)
theorem dX1_match_57 : decode cX1_match 57 = .ok (.putfield 168, 3) := dk_181 0 168 (dk_at dksX1_match_2 13 rfl rfl)
theorem dX1_match_60 : decode cX1_match 60 = .ok (.aload_n 0, 1) := dk_42 (dk_at dksX1_match_2 16 rfl rfl)
theorem dX1_match_61 : decode cX1_match 61 = .ok (.iconst 4, 1) := dk_7 (dk_at dksX1_match_2 17 rfl rfl)
theorem dX1_match_62 : decode cX1_match 62 = .ok (.aload_n 1, 1) := dk_43 (dk_at dksX1_match_2 18 rfl rfl)
theorem dX1_match_63 : decode cX1_match 63 = .ok (.getfield 159, 3) := dk_180 0 159 (dk_at dksX1_match_2 19 rfl rfl)
theorem dX1_match_66 : decode cX1_match 66 = .ok (.iload_n 2, 1) := dk_28 (dk_at dksX1_match_2 22 rfl rfl)
theorem dX1_match_67 : decode cX1_match 67 = .ok (.invokevirtual 127, 3) := dk_182 0 127 (dk_at dksX1_match_3 0 rfl rfl)
theorem dX1_match_70 : decode cX1_match 70 = .ok (.iload_n 2, 1) := dk_28 (dk_at dksX1_match_3 3 rfl rfl)
theorem dX1_match_71 : decode cX1_match 71 = .ok (.ireturn, 1) := dk_172 (dk_at dksX1_match_3 4 rfl rfl)
abbrev cX1_approve : ByteArray := prog_11_method_16_code
def yX1_approve : MethodName := ⟨RX1, "approve", "(LPayMatch$Invoice;)V"⟩
def dkwX1_approve_2 : List UInt8 := [181, 0, 148, 132, 4, 1, 167, 255, 221, 42, 6, 43, 180, 0, 159, 43, 182, 0, 162, 182, 0, 127, 177]
abbrev dktX1_approve_2 : List UInt8 := dkwX1_approve_2 ++ []
def dkwX1_approve_1 : List UInt8 := [21, 4, 50, 58, 5, 42, 43, 25, 5, 182, 0, 197, 89, 180, 0, 148, 25, 5, 180, 0, 178, 96]
abbrev dktX1_approve_1 : List UInt8 := dkwX1_approve_1 ++ dktX1_approve_2
def dkwX1_approve_0 : List UInt8 := [43, 4, 181, 0, 168, 43, 180, 0, 190, 77, 44, 190, 62, 3, 54, 4, 21, 4, 29, 162, 0, 35, 44]
abbrev dktX1_approve_0 : List UInt8 := dkwX1_approve_0 ++ dktX1_approve_1
theorem dksX1_approve_0 : cX1_approve.data.toList.drop 0 = dktX1_approve_0 := by decide +kernel
theorem dksX1_approve_1 : cX1_approve.data.toList.drop 23 = dktX1_approve_1 := dk_seg dksX1_approve_0 23 rfl rfl
theorem dksX1_approve_2 : cX1_approve.data.toList.drop 45 = dktX1_approve_2 := dk_seg dksX1_approve_1 22 rfl rfl
theorem dX1_approve_0 : decode cX1_approve 0 = .ok (.aload_n 1, 1) := dk_43 (dk_at dksX1_approve_0 0 rfl rfl)
theorem dX1_approve_1 : decode cX1_approve 1 = .ok (.iconst 1, 1) := dk_4 (dk_at dksX1_approve_0 1 rfl rfl)
theorem dX1_approve_2 : decode cX1_approve 2 = .ok (.putfield 168, 3) := dk_181 0 168 (dk_at dksX1_approve_0 2 rfl rfl)
theorem dX1_approve_5 : decode cX1_approve 5 = .ok (.aload_n 1, 1) := dk_43 (dk_at dksX1_approve_0 5 rfl rfl)
theorem dX1_approve_6 : decode cX1_approve 6 = .ok (.getfield 190, 3) := dk_180 0 190 (dk_at dksX1_approve_0 6 rfl rfl)
theorem dX1_approve_9 : decode cX1_approve 9 = .ok (.astore_n 2, 1) := dk_77 (dk_at dksX1_approve_0 9 rfl rfl)
theorem dX1_approve_10 : decode cX1_approve 10 = .ok (.aload_n 2, 1) := dk_44 (dk_at dksX1_approve_0 10 rfl rfl)
theorem dX1_approve_11 : decode cX1_approve 11 = .ok (.arraylength, 1) := dk_190 (dk_at dksX1_approve_0 11 rfl rfl)
theorem dX1_approve_12 : decode cX1_approve 12 = .ok (.istore_n 3, 1) := dk_62 (dk_at dksX1_approve_0 12 rfl rfl)
theorem dX1_approve_13 : decode cX1_approve 13 = .ok (.iconst 0, 1) := dk_3 (dk_at dksX1_approve_0 13 rfl rfl)
theorem dX1_approve_14 : decode cX1_approve 14 = .ok (.istore 4, 2) := dk_54 4 (dk_at dksX1_approve_0 14 rfl rfl)
theorem dX1_approve_16 : decode cX1_approve 16 = .ok (.iload 4, 2) := dk_21 4 (dk_at dksX1_approve_0 16 rfl rfl)
theorem dX1_approve_18 : decode cX1_approve 18 = .ok (.iload_n 3, 1) := dk_29 (dk_at dksX1_approve_0 18 rfl rfl)
theorem dX1_approve_19 : decode cX1_approve 19 = .ok (.if_icmp .ge 35, 3) := dk_162 0 35 (dk_at dksX1_approve_0 19 rfl rfl)
theorem dX1_approve_22 : decode cX1_approve 22 = .ok (.aload_n 2, 1) := dk_44 (dk_at dksX1_approve_0 22 rfl rfl)
theorem dX1_approve_23 : decode cX1_approve 23 = .ok (.iload 4, 2) := dk_21 4 (dk_at dksX1_approve_1 0 rfl rfl)
theorem dX1_approve_25 : decode cX1_approve 25 = .ok (.aaload, 1) := dk_50 (dk_at dksX1_approve_1 2 rfl rfl)
theorem dX1_approve_26 : decode cX1_approve 26 = .ok (.astore 5, 2) := dk_58 5 (dk_at dksX1_approve_1 3 rfl rfl)
theorem dX1_approve_28 : decode cX1_approve 28 = .ok (.aload_n 0, 1) := dk_42 (dk_at dksX1_approve_1 5 rfl rfl)
theorem dX1_approve_29 : decode cX1_approve 29 = .ok (.aload_n 1, 1) := dk_43 (dk_at dksX1_approve_1 6 rfl rfl)
theorem dX1_approve_30 : decode cX1_approve 30 = .ok (.aload 5, 2) := dk_25 5 (dk_at dksX1_approve_1 7 rfl rfl)
theorem dX1_approve_32 : decode cX1_approve 32 = .ok (.invokevirtual 197, 3) := dk_182 0 197 (dk_at dksX1_approve_1 9 rfl rfl)
theorem dX1_approve_35 : decode cX1_approve 35 = .ok (.dup, 1) := dk_89 (dk_at dksX1_approve_1 12 rfl rfl)
theorem dX1_approve_36 : decode cX1_approve 36 = .ok (.getfield 148, 3) := dk_180 0 148 (dk_at dksX1_approve_1 13 rfl rfl)
theorem dX1_approve_39 : decode cX1_approve 39 = .ok (.aload 5, 2) := dk_25 5 (dk_at dksX1_approve_1 16 rfl rfl)
theorem dX1_approve_41 : decode cX1_approve 41 = .ok (.getfield 178, 3) := dk_180 0 178 (dk_at dksX1_approve_1 18 rfl rfl)
theorem dX1_approve_44 : decode cX1_approve 44 = .ok (.iadd, 1) := dk_96 (dk_at dksX1_approve_1 21 rfl rfl)
theorem dX1_approve_45 : decode cX1_approve 45 = .ok (.putfield 148, 3) := dk_181 0 148 (dk_at dksX1_approve_2 0 rfl rfl)
theorem dX1_approve_48 : decode cX1_approve 48 = .ok (.iinc 4 1, 3) := dk_132 4 1 (dk_at dksX1_approve_2 3 rfl rfl)
theorem dX1_approve_51 : decode cX1_approve 51 = .ok (.goto (-35), 3) := dk_167 255 221 (dk_at dksX1_approve_2 6 rfl rfl)
theorem dX1_approve_54 : decode cX1_approve 54 = .ok (.aload_n 0, 1) := dk_42 (dk_at dksX1_approve_2 9 rfl rfl)
theorem dX1_approve_55 : decode cX1_approve 55 = .ok (.iconst 3, 1) := dk_6 (dk_at dksX1_approve_2 10 rfl rfl)
theorem dX1_approve_56 : decode cX1_approve 56 = .ok (.aload_n 1, 1) := dk_43 (dk_at dksX1_approve_2 11 rfl rfl)
theorem dX1_approve_57 : decode cX1_approve 57 = .ok (.getfield 159, 3) := dk_180 0 159 (dk_at dksX1_approve_2 12 rfl rfl)
theorem dX1_approve_60 : decode cX1_approve 60 = .ok (.aload_n 1, 1) := dk_43 (dk_at dksX1_approve_2 15 rfl rfl)
theorem dX1_approve_61 : decode cX1_approve 61 = .ok (.invokevirtual 162, 3) := dk_182 0 162 (dk_at dksX1_approve_2 16 rfl rfl)
theorem dX1_approve_64 : decode cX1_approve 64 = .ok (.invokevirtual 127, 3) := dk_182 0 127 (dk_at dksX1_approve_2 19 rfl rfl)
theorem dX1_approve_67 : decode cX1_approve 67 = .ok (.return_, 1) := dk_177 (dk_at dksX1_approve_2 22 rfl rfl)
abbrev cX1_note : ByteArray := prog_11_method_19_code
def yX1_note : MethodName := ⟨RX1, "note", "(LPayMatch$Invoice;)I"⟩
def dkwX1_note_4 : List UInt8 := [172]
abbrev dktX1_note_4 : List UInt8 := dkwX1_note_4 ++ []
def dkwX1_note_3 : List UInt8 := [180, 0, 72, 4, 96, 181, 0, 72, 42, 8, 43, 180, 0, 159, 29, 182, 0, 127, 42, 43, 182, 0, 222, 29]
abbrev dktX1_note_3 : List UInt8 := dkwX1_note_3 ++ dktX1_note_4
def dkwX1_note_2 : List UInt8 := [181, 0, 241, 42, 43, 180, 0, 108, 182, 0, 131, 89, 180, 0, 243, 29, 96, 181, 0, 243, 42, 89]
abbrev dktX1_note_2 : List UInt8 := dkwX1_note_2 ++ dktX1_note_3
def dkwX1_note_1 : List UInt8 := [180, 0, 190, 29, 50, 182, 0, 237, 83, 132, 3, 1, 167, 255, 227, 28, 43, 182, 0, 162, 100, 62, 43, 29]
abbrev dktX1_note_1 : List UInt8 := dkwX1_note_1 ++ dktX1_note_2
def dkwX1_note_0 : List UInt8 := [43, 182, 0, 162, 61, 3, 62, 29, 43, 180, 0, 190, 190, 162, 0, 26, 43, 180, 0, 190, 29, 42, 43, 43]
abbrev dktX1_note_0 : List UInt8 := dkwX1_note_0 ++ dktX1_note_1
theorem dksX1_note_0 : cX1_note.data.toList.drop 0 = dktX1_note_0 := by decide +kernel
theorem dksX1_note_1 : cX1_note.data.toList.drop 24 = dktX1_note_1 := dk_seg dksX1_note_0 24 rfl rfl
theorem dksX1_note_2 : cX1_note.data.toList.drop 48 = dktX1_note_2 := dk_seg dksX1_note_1 24 rfl rfl
theorem dksX1_note_3 : cX1_note.data.toList.drop 70 = dktX1_note_3 := dk_seg dksX1_note_2 22 rfl rfl
theorem dksX1_note_4 : cX1_note.data.toList.drop 94 = dktX1_note_4 := dk_seg dksX1_note_3 24 rfl rfl
theorem dX1_note_0 : decode cX1_note 0 = .ok (.aload_n 1, 1) := dk_43 (dk_at dksX1_note_0 0 rfl rfl)
theorem dX1_note_1 : decode cX1_note 1 = .ok (.invokevirtual 162, 3) := dk_182 0 162 (dk_at dksX1_note_0 1 rfl rfl)
theorem dX1_note_4 : decode cX1_note 4 = .ok (.istore_n 2, 1) := dk_61 (dk_at dksX1_note_0 4 rfl rfl)
theorem dX1_note_5 : decode cX1_note 5 = .ok (.iconst 0, 1) := dk_3 (dk_at dksX1_note_0 5 rfl rfl)
theorem dX1_note_6 : decode cX1_note 6 = .ok (.istore_n 3, 1) := dk_62 (dk_at dksX1_note_0 6 rfl rfl)
theorem dX1_note_7 : decode cX1_note 7 = .ok (.iload_n 3, 1) := dk_29 (dk_at dksX1_note_0 7 rfl rfl)
theorem dX1_note_8 : decode cX1_note 8 = .ok (.aload_n 1, 1) := dk_43 (dk_at dksX1_note_0 8 rfl rfl)
theorem dX1_note_9 : decode cX1_note 9 = .ok (.getfield 190, 3) := dk_180 0 190 (dk_at dksX1_note_0 9 rfl rfl)
theorem dX1_note_12 : decode cX1_note 12 = .ok (.arraylength, 1) := dk_190 (dk_at dksX1_note_0 12 rfl rfl)
theorem dX1_note_13 : decode cX1_note 13 = .ok (.if_icmp .ge 26, 3) := dk_162 0 26 (dk_at dksX1_note_0 13 rfl rfl)
theorem dX1_note_16 : decode cX1_note 16 = .ok (.aload_n 1, 1) := dk_43 (dk_at dksX1_note_0 16 rfl rfl)
theorem dX1_note_17 : decode cX1_note 17 = .ok (.getfield 190, 3) := dk_180 0 190 (dk_at dksX1_note_0 17 rfl rfl)
theorem dX1_note_20 : decode cX1_note 20 = .ok (.iload_n 3, 1) := dk_29 (dk_at dksX1_note_0 20 rfl rfl)
theorem dX1_note_21 : decode cX1_note 21 = .ok (.aload_n 0, 1) := dk_42 (dk_at dksX1_note_0 21 rfl rfl)
theorem dX1_note_22 : decode cX1_note 22 = .ok (.aload_n 1, 1) := dk_43 (dk_at dksX1_note_0 22 rfl rfl)
theorem dX1_note_23 : decode cX1_note 23 = .ok (.aload_n 1, 1) := dk_43 (dk_at dksX1_note_0 23 rfl rfl)
theorem dX1_note_24 : decode cX1_note 24 = .ok (.getfield 190, 3) := dk_180 0 190 (dk_at dksX1_note_1 0 rfl rfl)
theorem dX1_note_27 : decode cX1_note 27 = .ok (.iload_n 3, 1) := dk_29 (dk_at dksX1_note_1 3 rfl rfl)
theorem dX1_note_28 : decode cX1_note 28 = .ok (.aaload, 1) := dk_50 (dk_at dksX1_note_1 4 rfl rfl)
theorem dX1_note_29 : decode cX1_note 29 = .ok (.invokevirtual 237, 3) := dk_182 0 237 (dk_at dksX1_note_1 5 rfl rfl)
theorem dX1_note_32 : decode cX1_note 32 = .ok (.aastore, 1) := dk_83 (dk_at dksX1_note_1 8 rfl rfl)
theorem dX1_note_33 : decode cX1_note 33 = .ok (.iinc 3 1, 3) := dk_132 3 1 (dk_at dksX1_note_1 9 rfl rfl)
theorem dX1_note_36 : decode cX1_note 36 = .ok (.goto (-29), 3) := dk_167 255 227 (dk_at dksX1_note_1 12 rfl rfl)
theorem dX1_note_39 : decode cX1_note 39 = .ok (.iload_n 2, 1) := dk_28 (dk_at dksX1_note_1 15 rfl rfl)
theorem dX1_note_40 : decode cX1_note 40 = .ok (.aload_n 1, 1) := dk_43 (dk_at dksX1_note_1 16 rfl rfl)
theorem dX1_note_41 : decode cX1_note 41 = .ok (.invokevirtual 162, 3) := dk_182 0 162 (dk_at dksX1_note_1 17 rfl rfl)
theorem dX1_note_44 : decode cX1_note 44 = .ok (.isub, 1) := dk_100 (dk_at dksX1_note_1 20 rfl rfl)
theorem dX1_note_45 : decode cX1_note 45 = .ok (.istore_n 3, 1) := dk_62 (dk_at dksX1_note_1 21 rfl rfl)
theorem dX1_note_46 : decode cX1_note 46 = .ok (.aload_n 1, 1) := dk_43 (dk_at dksX1_note_1 22 rfl rfl)
theorem dX1_note_47 : decode cX1_note 47 = .ok (.iload_n 3, 1) := dk_29 (dk_at dksX1_note_1 23 rfl rfl)
theorem dX1_note_48 : decode cX1_note 48 = .ok (.putfield 241, 3) := dk_181 0 241 (dk_at dksX1_note_2 0 rfl rfl)
theorem dX1_note_51 : decode cX1_note 51 = .ok (.aload_n 0, 1) := dk_42 (dk_at dksX1_note_2 3 rfl rfl)
theorem dX1_note_52 : decode cX1_note 52 = .ok (.aload_n 1, 1) := dk_43 (dk_at dksX1_note_2 4 rfl rfl)
theorem dX1_note_53 : decode cX1_note 53 = .ok (.getfield 108, 3) := dk_180 0 108 (dk_at dksX1_note_2 5 rfl rfl)
theorem dX1_note_56 : decode cX1_note 56 = .ok (.invokevirtual 131, 3) := dk_182 0 131 (dk_at dksX1_note_2 8 rfl rfl)
theorem dX1_note_59 : decode cX1_note 59 = .ok (.dup, 1) := dk_89 (dk_at dksX1_note_2 11 rfl rfl)
theorem dX1_note_60 : decode cX1_note 60 = .ok (.getfield 243, 3) := dk_180 0 243 (dk_at dksX1_note_2 12 rfl rfl)
theorem dX1_note_63 : decode cX1_note 63 = .ok (.iload_n 3, 1) := dk_29 (dk_at dksX1_note_2 15 rfl rfl)
theorem dX1_note_64 : decode cX1_note 64 = .ok (.iadd, 1) := dk_96 (dk_at dksX1_note_2 16 rfl rfl)
theorem dX1_note_65 : decode cX1_note 65 = .ok (.putfield 243, 3) := dk_181 0 243 (dk_at dksX1_note_2 17 rfl rfl)
theorem dX1_note_68 : decode cX1_note 68 = .ok (.aload_n 0, 1) := dk_42 (dk_at dksX1_note_2 20 rfl rfl)
theorem dX1_note_69 : decode cX1_note 69 = .ok (.dup, 1) := dk_89 (dk_at dksX1_note_2 21 rfl rfl)
theorem dX1_note_70 : decode cX1_note 70 = .ok (.getfield 72, 3) := dk_180 0 72 (dk_at dksX1_note_3 0 rfl rfl)
theorem dX1_note_73 : decode cX1_note 73 = .ok (.iconst 1, 1) := dk_4 (dk_at dksX1_note_3 3 rfl rfl)
theorem dX1_note_74 : decode cX1_note 74 = .ok (.iadd, 1) := dk_96 (dk_at dksX1_note_3 4 rfl rfl)
theorem dX1_note_75 : decode cX1_note 75 = .ok (.putfield 72, 3) := dk_181 0 72 (dk_at dksX1_note_3 5 rfl rfl)
theorem dX1_note_78 : decode cX1_note 78 = .ok (.aload_n 0, 1) := dk_42 (dk_at dksX1_note_3 8 rfl rfl)
theorem dX1_note_79 : decode cX1_note 79 = .ok (.iconst 5, 1) := dk_8 (dk_at dksX1_note_3 9 rfl rfl)
theorem dX1_note_80 : decode cX1_note 80 = .ok (.aload_n 1, 1) := dk_43 (dk_at dksX1_note_3 10 rfl rfl)
theorem dX1_note_81 : decode cX1_note 81 = .ok (.getfield 159, 3) := dk_180 0 159 (dk_at dksX1_note_3 11 rfl rfl)
theorem dX1_note_84 : decode cX1_note 84 = .ok (.iload_n 3, 1) := dk_29 (dk_at dksX1_note_3 14 rfl rfl)
theorem dX1_note_85 : decode cX1_note 85 = .ok (.invokevirtual 127, 3) := dk_182 0 127 (dk_at dksX1_note_3 15 rfl rfl)
theorem dX1_note_88 : decode cX1_note 88 = .ok (.aload_n 0, 1) := dk_42 (dk_at dksX1_note_3 18 rfl rfl)
theorem dX1_note_89 : decode cX1_note 89 = .ok (.aload_n 1, 1) := dk_43 (dk_at dksX1_note_3 19 rfl rfl)
theorem dX1_note_90 : decode cX1_note 90 = .ok (.invokevirtual 222, 3) := dk_182 0 222 (dk_at dksX1_note_3 20 rfl rfl)
theorem dX1_note_93 : decode cX1_note 93 = .ok (.iload_n 3, 1) := dk_29 (dk_at dksX1_note_3 23 rfl rfl)
theorem dX1_note_94 : decode cX1_note 94 = .ok (.ireturn, 1) := dk_172 (dk_at dksX1_note_4 0 rfl rfl)
abbrev cX1_noted : ByteArray := prog_11_method_18_code
def yX1_noted : MethodName := ⟨RX1, "noted", "(LPayMatch$Invoice;LPayMatch$Entry;)LPayMatch$Entry;"⟩
def dkwX1_noted_3 : List UInt8 := [44, 180, 0, 113, 21, 5, 21, 4, 183, 0, 235, 176]
abbrev dktX1_noted_3 : List UInt8 := dkwX1_noted_3 ++ []
def dkwX1_noted_2 : List UInt8 := [42, 43, 180, 0, 108, 44, 180, 0, 113, 182, 0, 171, 184, 0, 227, 184, 0, 232, 54, 5, 187, 0, 114, 89]
abbrev dktX1_noted_2 : List UInt8 := dkwX1_noted_2 ++ dktX1_noted_3
def dkwX1_noted_1 : List UInt8 := [182, 0, 201, 153, 0, 10, 45, 180, 0, 226, 167, 0, 7, 44, 180, 0, 194, 54, 4, 44, 180, 0, 178, 3]
abbrev dktX1_noted_1 : List UInt8 := dkwX1_noted_1 ++ dktX1_noted_2
def dkwX1_noted_0 : List UInt8 := [42, 43, 44, 182, 0, 197, 78, 42, 43, 180, 0, 108, 182, 0, 131, 44, 180, 0, 194, 44, 180, 0, 178, 45]
abbrev dktX1_noted_0 : List UInt8 := dkwX1_noted_0 ++ dktX1_noted_1
theorem dksX1_noted_0 : cX1_noted.data.toList.drop 0 = dktX1_noted_0 := by decide +kernel
theorem dksX1_noted_1 : cX1_noted.data.toList.drop 24 = dktX1_noted_1 := dk_seg dksX1_noted_0 24 rfl rfl
theorem dksX1_noted_2 : cX1_noted.data.toList.drop 48 = dktX1_noted_2 := dk_seg dksX1_noted_1 24 rfl rfl
theorem dksX1_noted_3 : cX1_noted.data.toList.drop 72 = dktX1_noted_3 := dk_seg dksX1_noted_2 24 rfl rfl
theorem dX1_noted_0 : decode cX1_noted 0 = .ok (.aload_n 0, 1) := dk_42 (dk_at dksX1_noted_0 0 rfl rfl)
theorem dX1_noted_1 : decode cX1_noted 1 = .ok (.aload_n 1, 1) := dk_43 (dk_at dksX1_noted_0 1 rfl rfl)
theorem dX1_noted_2 : decode cX1_noted 2 = .ok (.aload_n 2, 1) := dk_44 (dk_at dksX1_noted_0 2 rfl rfl)
theorem dX1_noted_3 : decode cX1_noted 3 = .ok (.invokevirtual 197, 3) := dk_182 0 197 (dk_at dksX1_noted_0 3 rfl rfl)
theorem dX1_noted_6 : decode cX1_noted 6 = .ok (.astore_n 3, 1) := dk_78 (dk_at dksX1_noted_0 6 rfl rfl)
theorem dX1_noted_7 : decode cX1_noted 7 = .ok (.aload_n 0, 1) := dk_42 (dk_at dksX1_noted_0 7 rfl rfl)
theorem dX1_noted_8 : decode cX1_noted 8 = .ok (.aload_n 1, 1) := dk_43 (dk_at dksX1_noted_0 8 rfl rfl)
theorem dX1_noted_9 : decode cX1_noted 9 = .ok (.getfield 108, 3) := dk_180 0 108 (dk_at dksX1_noted_0 9 rfl rfl)
theorem dX1_noted_12 : decode cX1_noted 12 = .ok (.invokevirtual 131, 3) := dk_182 0 131 (dk_at dksX1_noted_0 12 rfl rfl)
theorem dX1_noted_15 : decode cX1_noted 15 = .ok (.aload_n 2, 1) := dk_44 (dk_at dksX1_noted_0 15 rfl rfl)
theorem dX1_noted_16 : decode cX1_noted 16 = .ok (.getfield 194, 3) := dk_180 0 194 (dk_at dksX1_noted_0 16 rfl rfl)
theorem dX1_noted_19 : decode cX1_noted 19 = .ok (.aload_n 2, 1) := dk_44 (dk_at dksX1_noted_0 19 rfl rfl)
theorem dX1_noted_20 : decode cX1_noted 20 = .ok (.getfield 178, 3) := dk_180 0 178 (dk_at dksX1_noted_0 20 rfl rfl)
theorem dX1_noted_23 : decode cX1_noted 23 = .ok (.aload_n 3, 1) := dk_45 (dk_at dksX1_noted_0 23 rfl rfl)
theorem dX1_noted_24 : decode cX1_noted 24 = .ok (.invokevirtual 201, 3) := dk_182 0 201 (dk_at dksX1_noted_1 0 rfl rfl)
theorem dX1_noted_27 : decode cX1_noted 27 = .ok (.ifCond .eq 10, 3) := dk_153 0 10 (dk_at dksX1_noted_1 3 rfl rfl)
theorem dX1_noted_30 : decode cX1_noted 30 = .ok (.aload_n 3, 1) := dk_45 (dk_at dksX1_noted_1 6 rfl rfl)
theorem dX1_noted_31 : decode cX1_noted 31 = .ok (.getfield 226, 3) := dk_180 0 226 (dk_at dksX1_noted_1 7 rfl rfl)
theorem dX1_noted_34 : decode cX1_noted 34 = .ok (.goto 7, 3) := dk_167 0 7 (dk_at dksX1_noted_1 10 rfl rfl)
theorem dX1_noted_37 : decode cX1_noted 37 = .ok (.aload_n 2, 1) := dk_44 (dk_at dksX1_noted_1 13 rfl rfl)
theorem dX1_noted_38 : decode cX1_noted 38 = .ok (.getfield 194, 3) := dk_180 0 194 (dk_at dksX1_noted_1 14 rfl rfl)
theorem dX1_noted_41 : decode cX1_noted 41 = .ok (.istore 4, 2) := dk_54 4 (dk_at dksX1_noted_1 17 rfl rfl)
theorem dX1_noted_43 : decode cX1_noted 43 = .ok (.aload_n 2, 1) := dk_44 (dk_at dksX1_noted_1 19 rfl rfl)
theorem dX1_noted_44 : decode cX1_noted 44 = .ok (.getfield 178, 3) := dk_180 0 178 (dk_at dksX1_noted_1 20 rfl rfl)
theorem dX1_noted_47 : decode cX1_noted 47 = .ok (.iconst 0, 1) := dk_3 (dk_at dksX1_noted_1 23 rfl rfl)
theorem dX1_noted_48 : decode cX1_noted 48 = .ok (.aload_n 0, 1) := dk_42 (dk_at dksX1_noted_2 0 rfl rfl)
theorem dX1_noted_49 : decode cX1_noted 49 = .ok (.aload_n 1, 1) := dk_43 (dk_at dksX1_noted_2 1 rfl rfl)
theorem dX1_noted_50 : decode cX1_noted 50 = .ok (.getfield 108, 3) := dk_180 0 108 (dk_at dksX1_noted_2 2 rfl rfl)
theorem dX1_noted_53 : decode cX1_noted 53 = .ok (.aload_n 2, 1) := dk_44 (dk_at dksX1_noted_2 5 rfl rfl)
theorem dX1_noted_54 : decode cX1_noted 54 = .ok (.getfield 113, 3) := dk_180 0 113 (dk_at dksX1_noted_2 6 rfl rfl)
theorem dX1_noted_57 : decode cX1_noted 57 = .ok (.invokevirtual 171, 3) := dk_182 0 171 (dk_at dksX1_noted_2 9 rfl rfl)
theorem dX1_noted_60 : decode cX1_noted 60 = .ok (.invokestatic 227, 3) := dk_184 0 227 (dk_at dksX1_noted_2 12 rfl rfl)
theorem dX1_noted_63 : decode cX1_noted 63 = .ok (.invokestatic 232, 3) := dk_184 0 232 (dk_at dksX1_noted_2 15 rfl rfl)
theorem dX1_noted_66 : decode cX1_noted 66 = .ok (.istore 5, 2) := dk_54 5 (dk_at dksX1_noted_2 18 rfl rfl)
theorem dX1_noted_68 : decode cX1_noted 68 = .ok (.new 114, 3) := dk_187 0 114 (dk_at dksX1_noted_2 20 rfl rfl)
theorem dX1_noted_71 : decode cX1_noted 71 = .ok (.dup, 1) := dk_89 (dk_at dksX1_noted_2 23 rfl rfl)
theorem dX1_noted_72 : decode cX1_noted 72 = .ok (.aload_n 2, 1) := dk_44 (dk_at dksX1_noted_3 0 rfl rfl)
theorem dX1_noted_73 : decode cX1_noted 73 = .ok (.getfield 113, 3) := dk_180 0 113 (dk_at dksX1_noted_3 1 rfl rfl)
theorem dX1_noted_76 : decode cX1_noted 76 = .ok (.iload 5, 2) := dk_21 5 (dk_at dksX1_noted_3 4 rfl rfl)
theorem dX1_noted_78 : decode cX1_noted 78 = .ok (.iload 4, 2) := dk_21 4 (dk_at dksX1_noted_3 6 rfl rfl)
theorem dX1_noted_80 : decode cX1_noted 80 = .ok (.invokespecial 235, 3) := dk_183 0 235 (dk_at dksX1_noted_3 8 rfl rfl)
theorem dX1_noted_83 : decode cX1_noted 83 = .ok (.areturn, 1) := dk_176 (dk_at dksX1_noted_3 11 rfl rfl)
abbrev cX1_pay : ByteArray := prog_11_method_20_code
def yX1_pay : MethodName := ⟨RX1, "pay", "(LPayMatch$Invoice;)I"⟩
def dkwX1_pay_8 : List UInt8 := [167, 255, 207, 42, 16, 6, 43, 180, 0, 159, 43, 180, 0, 250, 182, 0, 127, 43, 180, 0, 250, 172]
abbrev dktX1_pay_8 : List UInt8 := dkwX1_pay_8 ++ []
def dkwX1_pay_7 : List UInt8 := [180, 1, 1, 25, 8, 180, 0, 178, 96, 181, 1, 1, 42, 44, 25, 9, 182, 0, 135, 87, 132, 7, 1]
abbrev dktX1_pay_7 : List UInt8 := dkwX1_pay_7 ++ dktX1_pay_8
def dkwX1_pay_6 : List UInt8 := [21, 6, 162, 0, 48, 25, 5, 21, 7, 50, 58, 8, 42, 43, 25, 8, 182, 0, 197, 58, 9, 25, 9, 89]
abbrev dktX1_pay_6 : List UInt8 := dkwX1_pay_6 ++ dktX1_pay_7
def dkwX1_pay_5 : List UInt8 := [181, 0, 254, 43, 6, 181, 0, 168, 43, 180, 0, 190, 58, 5, 25, 5, 190, 54, 6, 3, 54, 7, 21, 7]
abbrev dktX1_pay_5 : List UInt8 := dkwX1_pay_5 ++ dktX1_pay_6
def dkwX1_pay_4 : List UInt8 := [44, 89, 180, 0, 253, 43, 180, 0, 250, 96, 181, 0, 253, 44, 89, 180, 0, 254, 43, 180, 0, 247, 96]
abbrev dktX1_pay_4 : List UInt8 := dkwX1_pay_4 ++ dktX1_pay_5
def dkwX1_pay_3 : List UInt8 := [43, 21, 4, 43, 180, 0, 249, 100, 181, 0, 250, 44, 89, 180, 0, 145, 43, 180, 0, 249, 100, 181, 0, 145]
abbrev dktX1_pay_3 : List UInt8 := dkwX1_pay_3 ++ dktX1_pay_4
def dkwX1_pay_2 : List UInt8 := [181, 0, 247, 29, 43, 180, 0, 247, 100, 54, 4, 43, 21, 4, 44, 180, 0, 145, 184, 0, 232, 181, 0, 249]
abbrev dktX1_pay_2 : List UInt8 := dkwX1_pay_2 ++ dktX1_pay_3
def dkwX1_pay_1 : List UInt8 := [180, 0, 37, 96, 163, 0, 18, 29, 135, 42, 180, 0, 33, 107, 20, 0, 245, 111, 142, 167, 0, 4, 3]
abbrev dktX1_pay_1 : List UInt8 := dkwX1_pay_1 ++ dktX1_pay_2
def dkwX1_pay_0 : List UInt8 := [42, 43, 180, 0, 108, 182, 0, 131, 77, 43, 182, 0, 162, 62, 43, 42, 180, 0, 69, 43, 180, 0, 244, 42]
abbrev dktX1_pay_0 : List UInt8 := dkwX1_pay_0 ++ dktX1_pay_1
theorem dksX1_pay_0 : cX1_pay.data.toList.drop 0 = dktX1_pay_0 := by decide +kernel
theorem dksX1_pay_1 : cX1_pay.data.toList.drop 24 = dktX1_pay_1 := dk_seg dksX1_pay_0 24 rfl rfl
theorem dksX1_pay_2 : cX1_pay.data.toList.drop 47 = dktX1_pay_2 := dk_seg dksX1_pay_1 23 rfl rfl
theorem dksX1_pay_3 : cX1_pay.data.toList.drop 71 = dktX1_pay_3 := dk_seg dksX1_pay_2 24 rfl rfl
theorem dksX1_pay_4 : cX1_pay.data.toList.drop 95 = dktX1_pay_4 := dk_seg dksX1_pay_3 24 rfl rfl
theorem dksX1_pay_5 : cX1_pay.data.toList.drop 118 = dktX1_pay_5 := dk_seg dksX1_pay_4 23 rfl rfl
theorem dksX1_pay_6 : cX1_pay.data.toList.drop 142 = dktX1_pay_6 := dk_seg dksX1_pay_5 24 rfl rfl
theorem dksX1_pay_7 : cX1_pay.data.toList.drop 166 = dktX1_pay_7 := dk_seg dksX1_pay_6 24 rfl rfl
theorem dksX1_pay_8 : cX1_pay.data.toList.drop 189 = dktX1_pay_8 := dk_seg dksX1_pay_7 23 rfl rfl
theorem dX1_pay_0 : decode cX1_pay 0 = .ok (.aload_n 0, 1) := dk_42 (dk_at dksX1_pay_0 0 rfl rfl)
theorem dX1_pay_1 : decode cX1_pay 1 = .ok (.aload_n 1, 1) := dk_43 (dk_at dksX1_pay_0 1 rfl rfl)
theorem dX1_pay_2 : decode cX1_pay 2 = .ok (.getfield 108, 3) := dk_180 0 108 (dk_at dksX1_pay_0 2 rfl rfl)
theorem dX1_pay_5 : decode cX1_pay 5 = .ok (.invokevirtual 131, 3) := dk_182 0 131 (dk_at dksX1_pay_0 5 rfl rfl)
theorem dX1_pay_8 : decode cX1_pay 8 = .ok (.astore_n 2, 1) := dk_77 (dk_at dksX1_pay_0 8 rfl rfl)
theorem dX1_pay_9 : decode cX1_pay 9 = .ok (.aload_n 1, 1) := dk_43 (dk_at dksX1_pay_0 9 rfl rfl)
theorem dX1_pay_10 : decode cX1_pay 10 = .ok (.invokevirtual 162, 3) := dk_182 0 162 (dk_at dksX1_pay_0 10 rfl rfl)
theorem dX1_pay_13 : decode cX1_pay 13 = .ok (.istore_n 3, 1) := dk_62 (dk_at dksX1_pay_0 13 rfl rfl)
theorem dX1_pay_14 : decode cX1_pay 14 = .ok (.aload_n 1, 1) := dk_43 (dk_at dksX1_pay_0 14 rfl rfl)
theorem dX1_pay_15 : decode cX1_pay 15 = .ok (.aload_n 0, 1) := dk_42 (dk_at dksX1_pay_0 15 rfl rfl)
theorem dX1_pay_16 : decode cX1_pay 16 = .ok (.getfield 69, 3) := dk_180 0 69 (dk_at dksX1_pay_0 16 rfl rfl)
theorem dX1_pay_19 : decode cX1_pay 19 = .ok (.aload_n 1, 1) := dk_43 (dk_at dksX1_pay_0 19 rfl rfl)
theorem dX1_pay_20 : decode cX1_pay 20 = .ok (.getfield 244, 3) := dk_180 0 244 (dk_at dksX1_pay_0 20 rfl rfl)
theorem dX1_pay_23 : decode cX1_pay 23 = .ok (.aload_n 0, 1) := dk_42 (dk_at dksX1_pay_0 23 rfl rfl)
theorem dX1_pay_24 : decode cX1_pay 24 = .ok (.getfield 37, 3) := dk_180 0 37 (dk_at dksX1_pay_1 0 rfl rfl)
theorem dX1_pay_27 : decode cX1_pay 27 = .ok (.iadd, 1) := dk_96 (dk_at dksX1_pay_1 3 rfl rfl)
theorem dX1_pay_28 : decode cX1_pay 28 = .ok (.if_icmp .gt 18, 3) := dk_163 0 18 (dk_at dksX1_pay_1 4 rfl rfl)
theorem dX1_pay_31 : decode cX1_pay 31 = .ok (.iload_n 3, 1) := dk_29 (dk_at dksX1_pay_1 7 rfl rfl)
theorem dX1_pay_32 : decode cX1_pay 32 = .ok (.i2d, 1) := dk_135 (dk_at dksX1_pay_1 8 rfl rfl)
theorem dX1_pay_33 : decode cX1_pay 33 = .ok (.aload_n 0, 1) := dk_42 (dk_at dksX1_pay_1 9 rfl rfl)
theorem dX1_pay_34 : decode cX1_pay 34 = .ok (.getfield 33, 3) := dk_180 0 33 (dk_at dksX1_pay_1 10 rfl rfl)
theorem dX1_pay_37 : decode cX1_pay 37 = .ok (.dmul, 1) := dk_107 (dk_at dksX1_pay_1 13 rfl rfl)
theorem dX1_pay_38 : decode cX1_pay 38 = .ok (.ldc2_w 245, 3) := dk_20 0 245 (dk_at dksX1_pay_1 14 rfl rfl)
theorem dX1_pay_41 : decode cX1_pay 41 = .ok (.ddiv, 1) := dk_111 (dk_at dksX1_pay_1 17 rfl rfl)
theorem dX1_pay_42 : decode cX1_pay 42 = .ok (.d2i, 1) := dk_142 (dk_at dksX1_pay_1 18 rfl rfl)
theorem dX1_pay_43 : decode cX1_pay 43 = .ok (.goto 4, 3) := dk_167 0 4 (dk_at dksX1_pay_1 19 rfl rfl)
theorem dX1_pay_46 : decode cX1_pay 46 = .ok (.iconst 0, 1) := dk_3 (dk_at dksX1_pay_1 22 rfl rfl)
theorem dX1_pay_47 : decode cX1_pay 47 = .ok (.putfield 247, 3) := dk_181 0 247 (dk_at dksX1_pay_2 0 rfl rfl)
theorem dX1_pay_50 : decode cX1_pay 50 = .ok (.iload_n 3, 1) := dk_29 (dk_at dksX1_pay_2 3 rfl rfl)
theorem dX1_pay_51 : decode cX1_pay 51 = .ok (.aload_n 1, 1) := dk_43 (dk_at dksX1_pay_2 4 rfl rfl)
theorem dX1_pay_52 : decode cX1_pay 52 = .ok (.getfield 247, 3) := dk_180 0 247 (dk_at dksX1_pay_2 5 rfl rfl)
theorem dX1_pay_55 : decode cX1_pay 55 = .ok (.isub, 1) := dk_100 (dk_at dksX1_pay_2 8 rfl rfl)
theorem dX1_pay_56 : decode cX1_pay 56 = .ok (.istore 4, 2) := dk_54 4 (dk_at dksX1_pay_2 9 rfl rfl)
theorem dX1_pay_58 : decode cX1_pay 58 = .ok (.aload_n 1, 1) := dk_43 (dk_at dksX1_pay_2 11 rfl rfl)
theorem dX1_pay_59 : decode cX1_pay 59 = .ok (.iload 4, 2) := dk_21 4 (dk_at dksX1_pay_2 12 rfl rfl)
theorem dX1_pay_61 : decode cX1_pay 61 = .ok (.aload_n 2, 1) := dk_44 (dk_at dksX1_pay_2 14 rfl rfl)
theorem dX1_pay_62 : decode cX1_pay 62 = .ok (.getfield 145, 3) := dk_180 0 145 (dk_at dksX1_pay_2 15 rfl rfl)
theorem dX1_pay_65 : decode cX1_pay 65 = .ok (.invokestatic 232, 3) := dk_184 0 232 (dk_at dksX1_pay_2 18 rfl rfl)
theorem dX1_pay_68 : decode cX1_pay 68 = .ok (.putfield 249, 3) := dk_181 0 249 (dk_at dksX1_pay_2 21 rfl rfl)
theorem dX1_pay_71 : decode cX1_pay 71 = .ok (.aload_n 1, 1) := dk_43 (dk_at dksX1_pay_3 0 rfl rfl)
theorem dX1_pay_72 : decode cX1_pay 72 = .ok (.iload 4, 2) := dk_21 4 (dk_at dksX1_pay_3 1 rfl rfl)
theorem dX1_pay_74 : decode cX1_pay 74 = .ok (.aload_n 1, 1) := dk_43 (dk_at dksX1_pay_3 3 rfl rfl)
theorem dX1_pay_75 : decode cX1_pay 75 = .ok (.getfield 249, 3) := dk_180 0 249 (dk_at dksX1_pay_3 4 rfl rfl)
theorem dX1_pay_78 : decode cX1_pay 78 = .ok (.isub, 1) := dk_100 (dk_at dksX1_pay_3 7 rfl rfl)
theorem dX1_pay_79 : decode cX1_pay 79 = .ok (.putfield 250, 3) := dk_181 0 250 (dk_at dksX1_pay_3 8 rfl rfl)
theorem dX1_pay_82 : decode cX1_pay 82 = .ok (.aload_n 2, 1) := dk_44 (dk_at dksX1_pay_3 11 rfl rfl)
theorem dX1_pay_83 : decode cX1_pay 83 = .ok (.dup, 1) := dk_89 (dk_at dksX1_pay_3 12 rfl rfl)
theorem dX1_pay_84 : decode cX1_pay 84 = .ok (.getfield 145, 3) := dk_180 0 145 (dk_at dksX1_pay_3 13 rfl rfl)
theorem dX1_pay_87 : decode cX1_pay 87 = .ok (.aload_n 1, 1) := dk_43 (dk_at dksX1_pay_3 16 rfl rfl)
theorem dX1_pay_88 : decode cX1_pay 88 = .ok (.getfield 249, 3) := dk_180 0 249 (dk_at dksX1_pay_3 17 rfl rfl)
theorem dX1_pay_91 : decode cX1_pay 91 = .ok (.isub, 1) := dk_100 (dk_at dksX1_pay_3 20 rfl rfl)
theorem dX1_pay_92 : decode cX1_pay 92 = .ok (.putfield 145, 3) := dk_181 0 145 (dk_at dksX1_pay_3 21 rfl rfl)
theorem dX1_pay_95 : decode cX1_pay 95 = .ok (.aload_n 2, 1) := dk_44 (dk_at dksX1_pay_4 0 rfl rfl)
theorem dX1_pay_96 : decode cX1_pay 96 = .ok (.dup, 1) := dk_89 (dk_at dksX1_pay_4 1 rfl rfl)
theorem dX1_pay_97 : decode cX1_pay 97 = .ok (.getfield 253, 3) := dk_180 0 253 (dk_at dksX1_pay_4 2 rfl rfl)
theorem dX1_pay_100 : decode cX1_pay 100 = .ok (.aload_n 1, 1) := dk_43 (dk_at dksX1_pay_4 5 rfl rfl)
theorem dX1_pay_101 : decode cX1_pay 101 = .ok (.getfield 250, 3) := dk_180 0 250 (dk_at dksX1_pay_4 6 rfl rfl)
theorem dX1_pay_104 : decode cX1_pay 104 = .ok (.iadd, 1) := dk_96 (dk_at dksX1_pay_4 9 rfl rfl)
theorem dX1_pay_105 : decode cX1_pay 105 = .ok (.putfield 253, 3) := dk_181 0 253 (dk_at dksX1_pay_4 10 rfl rfl)
theorem dX1_pay_108 : decode cX1_pay 108 = .ok (.aload_n 2, 1) := dk_44 (dk_at dksX1_pay_4 13 rfl rfl)
theorem dX1_pay_109 : decode cX1_pay 109 = .ok (.dup, 1) := dk_89 (dk_at dksX1_pay_4 14 rfl rfl)
theorem dX1_pay_110 : decode cX1_pay 110 = .ok (.getfield 254, 3) := dk_180 0 254 (dk_at dksX1_pay_4 15 rfl rfl)
theorem dX1_pay_113 : decode cX1_pay 113 = .ok (.aload_n 1, 1) := dk_43 (dk_at dksX1_pay_4 18 rfl rfl)
theorem dX1_pay_114 : decode cX1_pay 114 = .ok (.getfield 247, 3) := dk_180 0 247 (dk_at dksX1_pay_4 19 rfl rfl)
theorem dX1_pay_117 : decode cX1_pay 117 = .ok (.iadd, 1) := dk_96 (dk_at dksX1_pay_4 22 rfl rfl)
theorem dX1_pay_118 : decode cX1_pay 118 = .ok (.putfield 254, 3) := dk_181 0 254 (dk_at dksX1_pay_5 0 rfl rfl)
theorem dX1_pay_121 : decode cX1_pay 121 = .ok (.aload_n 1, 1) := dk_43 (dk_at dksX1_pay_5 3 rfl rfl)
theorem dX1_pay_122 : decode cX1_pay 122 = .ok (.iconst 3, 1) := dk_6 (dk_at dksX1_pay_5 4 rfl rfl)
theorem dX1_pay_123 : decode cX1_pay 123 = .ok (.putfield 168, 3) := dk_181 0 168 (dk_at dksX1_pay_5 5 rfl rfl)
theorem dX1_pay_126 : decode cX1_pay 126 = .ok (.aload_n 1, 1) := dk_43 (dk_at dksX1_pay_5 8 rfl rfl)
theorem dX1_pay_127 : decode cX1_pay 127 = .ok (.getfield 190, 3) := dk_180 0 190 (dk_at dksX1_pay_5 9 rfl rfl)
theorem dX1_pay_130 : decode cX1_pay 130 = .ok (.astore 5, 2) := dk_58 5 (dk_at dksX1_pay_5 12 rfl rfl)
theorem dX1_pay_132 : decode cX1_pay 132 = .ok (.aload 5, 2) := dk_25 5 (dk_at dksX1_pay_5 14 rfl rfl)
theorem dX1_pay_134 : decode cX1_pay 134 = .ok (.arraylength, 1) := dk_190 (dk_at dksX1_pay_5 16 rfl rfl)
theorem dX1_pay_135 : decode cX1_pay 135 = .ok (.istore 6, 2) := dk_54 6 (dk_at dksX1_pay_5 17 rfl rfl)
theorem dX1_pay_137 : decode cX1_pay 137 = .ok (.iconst 0, 1) := dk_3 (dk_at dksX1_pay_5 19 rfl rfl)
theorem dX1_pay_138 : decode cX1_pay 138 = .ok (.istore 7, 2) := dk_54 7 (dk_at dksX1_pay_5 20 rfl rfl)
theorem dX1_pay_140 : decode cX1_pay 140 = .ok (.iload 7, 2) := dk_21 7 (dk_at dksX1_pay_5 22 rfl rfl)
theorem dX1_pay_142 : decode cX1_pay 142 = .ok (.iload 6, 2) := dk_21 6 (dk_at dksX1_pay_6 0 rfl rfl)
theorem dX1_pay_144 : decode cX1_pay 144 = .ok (.if_icmp .ge 48, 3) := dk_162 0 48 (dk_at dksX1_pay_6 2 rfl rfl)
theorem dX1_pay_147 : decode cX1_pay 147 = .ok (.aload 5, 2) := dk_25 5 (dk_at dksX1_pay_6 5 rfl rfl)
theorem dX1_pay_149 : decode cX1_pay 149 = .ok (.iload 7, 2) := dk_21 7 (dk_at dksX1_pay_6 7 rfl rfl)
theorem dX1_pay_151 : decode cX1_pay 151 = .ok (.aaload, 1) := dk_50 (dk_at dksX1_pay_6 9 rfl rfl)
theorem dX1_pay_152 : decode cX1_pay 152 = .ok (.astore 8, 2) := dk_58 8 (dk_at dksX1_pay_6 10 rfl rfl)
theorem dX1_pay_154 : decode cX1_pay 154 = .ok (.aload_n 0, 1) := dk_42 (dk_at dksX1_pay_6 12 rfl rfl)
theorem dX1_pay_155 : decode cX1_pay 155 = .ok (.aload_n 1, 1) := dk_43 (dk_at dksX1_pay_6 13 rfl rfl)
theorem dX1_pay_156 : decode cX1_pay 156 = .ok (.aload 8, 2) := dk_25 8 (dk_at dksX1_pay_6 14 rfl rfl)
theorem dX1_pay_158 : decode cX1_pay 158 = .ok (.invokevirtual 197, 3) := dk_182 0 197 (dk_at dksX1_pay_6 16 rfl rfl)
theorem dX1_pay_161 : decode cX1_pay 161 = .ok (.astore 9, 2) := dk_58 9 (dk_at dksX1_pay_6 19 rfl rfl)
theorem dX1_pay_163 : decode cX1_pay 163 = .ok (.aload 9, 2) := dk_25 9 (dk_at dksX1_pay_6 21 rfl rfl)
theorem dX1_pay_165 : decode cX1_pay 165 = .ok (.dup, 1) := dk_89 (dk_at dksX1_pay_6 23 rfl rfl)
theorem dX1_pay_166 : decode cX1_pay 166 = .ok (.getfield 257, 3) := dk_180 1 1 (dk_at dksX1_pay_7 0 rfl rfl)
theorem dX1_pay_169 : decode cX1_pay 169 = .ok (.aload 8, 2) := dk_25 8 (dk_at dksX1_pay_7 3 rfl rfl)
theorem dX1_pay_171 : decode cX1_pay 171 = .ok (.getfield 178, 3) := dk_180 0 178 (dk_at dksX1_pay_7 5 rfl rfl)
theorem dX1_pay_174 : decode cX1_pay 174 = .ok (.iadd, 1) := dk_96 (dk_at dksX1_pay_7 8 rfl rfl)
theorem dX1_pay_175 : decode cX1_pay 175 = .ok (.putfield 257, 3) := dk_181 1 1 (dk_at dksX1_pay_7 9 rfl rfl)
theorem dX1_pay_178 : decode cX1_pay 178 = .ok (.aload_n 0, 1) := dk_42 (dk_at dksX1_pay_7 12 rfl rfl)
theorem dX1_pay_179 : decode cX1_pay 179 = .ok (.aload_n 2, 1) := dk_44 (dk_at dksX1_pay_7 13 rfl rfl)
theorem dX1_pay_180 : decode cX1_pay 180 = .ok (.aload 9, 2) := dk_25 9 (dk_at dksX1_pay_7 14 rfl rfl)
theorem dX1_pay_182 : decode cX1_pay 182 = .ok (.invokevirtual 135, 3) := dk_182 0 135 (dk_at dksX1_pay_7 16 rfl rfl)
theorem dX1_pay_185 : decode cX1_pay 185 = .ok (.pop, 1) := dk_87 (dk_at dksX1_pay_7 19 rfl rfl)
theorem dX1_pay_186 : decode cX1_pay 186 = .ok (.iinc 7 1, 3) := dk_132 7 1 (dk_at dksX1_pay_7 20 rfl rfl)
theorem dX1_pay_189 : decode cX1_pay 189 = .ok (.goto (-49), 3) := dk_167 255 207 (dk_at dksX1_pay_8 0 rfl rfl)
theorem dX1_pay_192 : decode cX1_pay 192 = .ok (.aload_n 0, 1) := dk_42 (dk_at dksX1_pay_8 3 rfl rfl)
theorem dX1_pay_193 : decode cX1_pay 193 = .ok (.bipush 6, 2) := dk_16 6 (dk_at dksX1_pay_8 4 rfl rfl)
theorem dX1_pay_195 : decode cX1_pay 195 = .ok (.aload_n 1, 1) := dk_43 (dk_at dksX1_pay_8 6 rfl rfl)
theorem dX1_pay_196 : decode cX1_pay 196 = .ok (.getfield 159, 3) := dk_180 0 159 (dk_at dksX1_pay_8 7 rfl rfl)
theorem dX1_pay_199 : decode cX1_pay 199 = .ok (.aload_n 1, 1) := dk_43 (dk_at dksX1_pay_8 10 rfl rfl)
theorem dX1_pay_200 : decode cX1_pay 200 = .ok (.getfield 250, 3) := dk_180 0 250 (dk_at dksX1_pay_8 11 rfl rfl)
theorem dX1_pay_203 : decode cX1_pay 203 = .ok (.invokevirtual 127, 3) := dk_182 0 127 (dk_at dksX1_pay_8 14 rfl rfl)
theorem dX1_pay_206 : decode cX1_pay 206 = .ok (.aload_n 1, 1) := dk_43 (dk_at dksX1_pay_8 17 rfl rfl)
theorem dX1_pay_207 : decode cX1_pay 207 = .ok (.getfield 250, 3) := dk_180 0 250 (dk_at dksX1_pay_8 18 rfl rfl)
theorem dX1_pay_210 : decode cX1_pay 210 = .ok (.ireturn, 1) := dk_172 (dk_at dksX1_pay_8 21 rfl rfl)
abbrev cX1_pass : ByteArray := prog_11_method_22_code
def yX1_pass : MethodName := ⟨RX1, "pass", "(I)I"⟩
def dkwX1_pass_1 : List UInt8 := [96, 61, 132, 3, 1, 167, 255, 231, 28, 172]
abbrev dktX1_pass_1 : List UInt8 := dkwX1_pass_1 ++ []
def dkwX1_pass_0 : List UInt8 := [3, 61, 3, 62, 29, 27, 162, 0, 26, 42, 89, 180, 0, 69, 4, 96, 181, 0, 69, 28, 42, 182, 1, 8]
abbrev dktX1_pass_0 : List UInt8 := dkwX1_pass_0 ++ dktX1_pass_1
theorem dksX1_pass_0 : cX1_pass.data.toList.drop 0 = dktX1_pass_0 := by decide +kernel
theorem dksX1_pass_1 : cX1_pass.data.toList.drop 24 = dktX1_pass_1 := dk_seg dksX1_pass_0 24 rfl rfl
theorem dX1_pass_0 : decode cX1_pass 0 = .ok (.iconst 0, 1) := dk_3 (dk_at dksX1_pass_0 0 rfl rfl)
theorem dX1_pass_1 : decode cX1_pass 1 = .ok (.istore_n 2, 1) := dk_61 (dk_at dksX1_pass_0 1 rfl rfl)
theorem dX1_pass_2 : decode cX1_pass 2 = .ok (.iconst 0, 1) := dk_3 (dk_at dksX1_pass_0 2 rfl rfl)
theorem dX1_pass_3 : decode cX1_pass 3 = .ok (.istore_n 3, 1) := dk_62 (dk_at dksX1_pass_0 3 rfl rfl)
theorem dX1_pass_4 : decode cX1_pass 4 = .ok (.iload_n 3, 1) := dk_29 (dk_at dksX1_pass_0 4 rfl rfl)
theorem dX1_pass_5 : decode cX1_pass 5 = .ok (.iload_n 1, 1) := dk_27 (dk_at dksX1_pass_0 5 rfl rfl)
theorem dX1_pass_6 : decode cX1_pass 6 = .ok (.if_icmp .ge 26, 3) := dk_162 0 26 (dk_at dksX1_pass_0 6 rfl rfl)
theorem dX1_pass_9 : decode cX1_pass 9 = .ok (.aload_n 0, 1) := dk_42 (dk_at dksX1_pass_0 9 rfl rfl)
theorem dX1_pass_10 : decode cX1_pass 10 = .ok (.dup, 1) := dk_89 (dk_at dksX1_pass_0 10 rfl rfl)
theorem dX1_pass_11 : decode cX1_pass 11 = .ok (.getfield 69, 3) := dk_180 0 69 (dk_at dksX1_pass_0 11 rfl rfl)
theorem dX1_pass_14 : decode cX1_pass 14 = .ok (.iconst 1, 1) := dk_4 (dk_at dksX1_pass_0 14 rfl rfl)
theorem dX1_pass_15 : decode cX1_pass 15 = .ok (.iadd, 1) := dk_96 (dk_at dksX1_pass_0 15 rfl rfl)
theorem dX1_pass_16 : decode cX1_pass 16 = .ok (.putfield 69, 3) := dk_181 0 69 (dk_at dksX1_pass_0 16 rfl rfl)
theorem dX1_pass_19 : decode cX1_pass 19 = .ok (.iload_n 2, 1) := dk_28 (dk_at dksX1_pass_0 19 rfl rfl)
theorem dX1_pass_20 : decode cX1_pass 20 = .ok (.aload_n 0, 1) := dk_42 (dk_at dksX1_pass_0 20 rfl rfl)
theorem dX1_pass_21 : decode cX1_pass 21 = .ok (.invokevirtual 264, 3) := dk_182 1 8 (dk_at dksX1_pass_0 21 rfl rfl)
theorem dX1_pass_24 : decode cX1_pass 24 = .ok (.iadd, 1) := dk_96 (dk_at dksX1_pass_1 0 rfl rfl)
theorem dX1_pass_25 : decode cX1_pass 25 = .ok (.istore_n 2, 1) := dk_61 (dk_at dksX1_pass_1 1 rfl rfl)
theorem dX1_pass_26 : decode cX1_pass 26 = .ok (.iinc 3 1, 3) := dk_132 3 1 (dk_at dksX1_pass_1 2 rfl rfl)
theorem dX1_pass_29 : decode cX1_pass 29 = .ok (.goto (-25), 3) := dk_167 255 231 (dk_at dksX1_pass_1 5 rfl rfl)
theorem dX1_pass_32 : decode cX1_pass 32 = .ok (.iload_n 2, 1) := dk_28 (dk_at dksX1_pass_1 8 rfl rfl)
theorem dX1_pass_33 : decode cX1_pass 33 = .ok (.ireturn, 1) := dk_172 (dk_at dksX1_pass_1 9 rfl rfl)
abbrev cX1_payDue : ByteArray := prog_11_method_21_code
def yX1_payDue : MethodName := ⟨RX1, "payDue", "()I"⟩
def dkwX1_payDue_3 : List UInt8 := [153, 0, 6, 167, 255, 199, 42, 45, 182, 1, 5, 87, 132, 1, 1, 167, 255, 187, 27, 172]
abbrev dktX1_payDue_3 : List UInt8 := dkwX1_payDue_3 ++ []
def dkwX1_payDue_2 : List UInt8 := [180, 0, 244, 100, 42, 180, 0, 41, 161, 255, 216, 42, 45, 180, 0, 108, 182, 0, 131, 180, 0, 181]
abbrev dktX1_payDue_2 : List UInt8 := dkwX1_payDue_2 ++ dktX1_payDue_3
def dkwX1_payDue_1 : List UInt8 := [185, 0, 59, 1, 0, 192, 0, 109, 78, 45, 180, 0, 168, 4, 160, 255, 232, 42, 180, 0, 69, 45]
abbrev dktX1_payDue_1 : List UInt8 := dkwX1_payDue_1 ++ dktX1_payDue_2
def dkwX1_payDue_0 : List UInt8 := [3, 60, 42, 180, 0, 21, 182, 1, 4, 77, 44, 185, 0, 53, 1, 0, 153, 0, 66, 44]
abbrev dktX1_payDue_0 : List UInt8 := dkwX1_payDue_0 ++ dktX1_payDue_1
theorem dksX1_payDue_0 : cX1_payDue.data.toList.drop 0 = dktX1_payDue_0 := by decide +kernel
theorem dksX1_payDue_1 : cX1_payDue.data.toList.drop 20 = dktX1_payDue_1 := dk_seg dksX1_payDue_0 20 rfl rfl
theorem dksX1_payDue_2 : cX1_payDue.data.toList.drop 42 = dktX1_payDue_2 := dk_seg dksX1_payDue_1 22 rfl rfl
theorem dksX1_payDue_3 : cX1_payDue.data.toList.drop 64 = dktX1_payDue_3 := dk_seg dksX1_payDue_2 22 rfl rfl
theorem dX1_payDue_0 : decode cX1_payDue 0 = .ok (.iconst 0, 1) := dk_3 (dk_at dksX1_payDue_0 0 rfl rfl)
theorem dX1_payDue_1 : decode cX1_payDue 1 = .ok (.istore_n 1, 1) := dk_60 (dk_at dksX1_payDue_0 1 rfl rfl)
theorem dX1_payDue_2 : decode cX1_payDue 2 = .ok (.aload_n 0, 1) := dk_42 (dk_at dksX1_payDue_0 2 rfl rfl)
theorem dX1_payDue_3 : decode cX1_payDue 3 = .ok (.getfield 21, 3) := dk_180 0 21 (dk_at dksX1_payDue_0 3 rfl rfl)
theorem dX1_payDue_6 : decode cX1_payDue 6 = .ok (.invokevirtual 260, 3) := dk_182 1 4 (dk_at dksX1_payDue_0 6 rfl rfl)
theorem dX1_payDue_9 : decode cX1_payDue 9 = .ok (.astore_n 2, 1) := dk_77 (dk_at dksX1_payDue_0 9 rfl rfl)
theorem dX1_payDue_10 : decode cX1_payDue 10 = .ok (.aload_n 2, 1) := dk_44 (dk_at dksX1_payDue_0 10 rfl rfl)
theorem dX1_payDue_11 : decode cX1_payDue 11 = .ok (.invokeinterface 53 1, 5) := by decide +kernel
theorem dX1_payDue_16 : decode cX1_payDue 16 = .ok (.ifCond .eq 66, 3) := dk_153 0 66 (dk_at dksX1_payDue_0 16 rfl rfl)
theorem dX1_payDue_19 : decode cX1_payDue 19 = .ok (.aload_n 2, 1) := dk_44 (dk_at dksX1_payDue_0 19 rfl rfl)
theorem dX1_payDue_20 : decode cX1_payDue 20 = .ok (.invokeinterface 59 1, 5) := by decide +kernel
theorem dX1_payDue_25 : decode cX1_payDue 25 = .ok (.checkcast 109, 3) := dk_192 0 109 (dk_at dksX1_payDue_1 5 rfl rfl)
theorem dX1_payDue_28 : decode cX1_payDue 28 = .ok (.astore_n 3, 1) := dk_78 (dk_at dksX1_payDue_1 8 rfl rfl)
theorem dX1_payDue_29 : decode cX1_payDue 29 = .ok (.aload_n 3, 1) := dk_45 (dk_at dksX1_payDue_1 9 rfl rfl)
theorem dX1_payDue_30 : decode cX1_payDue 30 = .ok (.getfield 168, 3) := dk_180 0 168 (dk_at dksX1_payDue_1 10 rfl rfl)
theorem dX1_payDue_33 : decode cX1_payDue 33 = .ok (.iconst 1, 1) := dk_4 (dk_at dksX1_payDue_1 13 rfl rfl)
theorem dX1_payDue_34 : decode cX1_payDue 34 = .ok (.if_icmp .ne (-24), 3) := dk_160 255 232 (dk_at dksX1_payDue_1 14 rfl rfl)
theorem dX1_payDue_37 : decode cX1_payDue 37 = .ok (.aload_n 0, 1) := dk_42 (dk_at dksX1_payDue_1 17 rfl rfl)
theorem dX1_payDue_38 : decode cX1_payDue 38 = .ok (.getfield 69, 3) := dk_180 0 69 (dk_at dksX1_payDue_1 18 rfl rfl)
theorem dX1_payDue_41 : decode cX1_payDue 41 = .ok (.aload_n 3, 1) := dk_45 (dk_at dksX1_payDue_1 21 rfl rfl)
theorem dX1_payDue_42 : decode cX1_payDue 42 = .ok (.getfield 244, 3) := dk_180 0 244 (dk_at dksX1_payDue_2 0 rfl rfl)
theorem dX1_payDue_45 : decode cX1_payDue 45 = .ok (.isub, 1) := dk_100 (dk_at dksX1_payDue_2 3 rfl rfl)
theorem dX1_payDue_46 : decode cX1_payDue 46 = .ok (.aload_n 0, 1) := dk_42 (dk_at dksX1_payDue_2 4 rfl rfl)
theorem dX1_payDue_47 : decode cX1_payDue 47 = .ok (.getfield 41, 3) := dk_180 0 41 (dk_at dksX1_payDue_2 5 rfl rfl)
theorem dX1_payDue_50 : decode cX1_payDue 50 = .ok (.if_icmp .lt (-40), 3) := dk_161 255 216 (dk_at dksX1_payDue_2 8 rfl rfl)
theorem dX1_payDue_53 : decode cX1_payDue 53 = .ok (.aload_n 0, 1) := dk_42 (dk_at dksX1_payDue_2 11 rfl rfl)
theorem dX1_payDue_54 : decode cX1_payDue 54 = .ok (.aload_n 3, 1) := dk_45 (dk_at dksX1_payDue_2 12 rfl rfl)
theorem dX1_payDue_55 : decode cX1_payDue 55 = .ok (.getfield 108, 3) := dk_180 0 108 (dk_at dksX1_payDue_2 13 rfl rfl)
theorem dX1_payDue_58 : decode cX1_payDue 58 = .ok (.invokevirtual 131, 3) := dk_182 0 131 (dk_at dksX1_payDue_2 16 rfl rfl)
theorem dX1_payDue_61 : decode cX1_payDue 61 = .ok (.getfield 181, 3) := dk_180 0 181 (dk_at dksX1_payDue_2 19 rfl rfl)
theorem dX1_payDue_64 : decode cX1_payDue 64 = .ok (.ifCond .eq 6, 3) := dk_153 0 6 (dk_at dksX1_payDue_3 0 rfl rfl)
theorem dX1_payDue_67 : decode cX1_payDue 67 = .ok (.goto (-57), 3) := dk_167 255 199 (dk_at dksX1_payDue_3 3 rfl rfl)
theorem dX1_payDue_70 : decode cX1_payDue 70 = .ok (.aload_n 0, 1) := dk_42 (dk_at dksX1_payDue_3 6 rfl rfl)
theorem dX1_payDue_71 : decode cX1_payDue 71 = .ok (.aload_n 3, 1) := dk_45 (dk_at dksX1_payDue_3 7 rfl rfl)
theorem dX1_payDue_72 : decode cX1_payDue 72 = .ok (.invokevirtual 261, 3) := dk_182 1 5 (dk_at dksX1_payDue_3 8 rfl rfl)
theorem dX1_payDue_75 : decode cX1_payDue 75 = .ok (.pop, 1) := dk_87 (dk_at dksX1_payDue_3 11 rfl rfl)
theorem dX1_payDue_76 : decode cX1_payDue 76 = .ok (.iinc 1 1, 3) := dk_132 1 1 (dk_at dksX1_payDue_3 12 rfl rfl)
theorem dX1_payDue_79 : decode cX1_payDue 79 = .ok (.goto (-69), 3) := dk_167 255 187 (dk_at dksX1_payDue_3 15 rfl rfl)
theorem dX1_payDue_82 : decode cX1_payDue 82 = .ok (.iload_n 1, 1) := dk_27 (dk_at dksX1_payDue_3 18 rfl rfl)
theorem dX1_payDue_83 : decode cX1_payDue 83 = .ok (.ireturn, 1) := dk_172 (dk_at dksX1_payDue_3 19 rfl rfl)
abbrev cX1_ordersOf : ByteArray := prog_11_method_23_code
def yX1_ordersOf : MethodName := ⟨RX1, "ordersOf", "(I)I"⟩
def dkwX1_ordersOf_2 : List UInt8 := [3, 96, 61, 167, 255, 219, 28, 172]
abbrev dktX1_ordersOf_2 : List UInt8 := dkwX1_ordersOf_2 ++ []
def dkwX1_ordersOf_1 : List UInt8 := [185, 0, 59, 1, 0, 192, 0, 92, 58, 4, 28, 25, 4, 180, 0, 94, 27, 160, 0, 7, 4, 167, 0, 4]
abbrev dktX1_ordersOf_1 : List UInt8 := dkwX1_ordersOf_1 ++ dktX1_ordersOf_2
def dkwX1_ordersOf_0 : List UInt8 := [3, 61, 42, 180, 0, 18, 182, 1, 4, 78, 45, 185, 0, 53, 1, 0, 153, 0, 34, 45]
abbrev dktX1_ordersOf_0 : List UInt8 := dkwX1_ordersOf_0 ++ dktX1_ordersOf_1
theorem dksX1_ordersOf_0 : cX1_ordersOf.data.toList.drop 0 = dktX1_ordersOf_0 := by decide +kernel
theorem dksX1_ordersOf_1 : cX1_ordersOf.data.toList.drop 20 = dktX1_ordersOf_1 := dk_seg dksX1_ordersOf_0 20 rfl rfl
theorem dksX1_ordersOf_2 : cX1_ordersOf.data.toList.drop 44 = dktX1_ordersOf_2 := dk_seg dksX1_ordersOf_1 24 rfl rfl
theorem dX1_ordersOf_0 : decode cX1_ordersOf 0 = .ok (.iconst 0, 1) := dk_3 (dk_at dksX1_ordersOf_0 0 rfl rfl)
theorem dX1_ordersOf_1 : decode cX1_ordersOf 1 = .ok (.istore_n 2, 1) := dk_61 (dk_at dksX1_ordersOf_0 1 rfl rfl)
theorem dX1_ordersOf_2 : decode cX1_ordersOf 2 = .ok (.aload_n 0, 1) := dk_42 (dk_at dksX1_ordersOf_0 2 rfl rfl)
theorem dX1_ordersOf_3 : decode cX1_ordersOf 3 = .ok (.getfield 18, 3) := dk_180 0 18 (dk_at dksX1_ordersOf_0 3 rfl rfl)
theorem dX1_ordersOf_6 : decode cX1_ordersOf 6 = .ok (.invokevirtual 260, 3) := dk_182 1 4 (dk_at dksX1_ordersOf_0 6 rfl rfl)
theorem dX1_ordersOf_9 : decode cX1_ordersOf 9 = .ok (.astore_n 3, 1) := dk_78 (dk_at dksX1_ordersOf_0 9 rfl rfl)
theorem dX1_ordersOf_10 : decode cX1_ordersOf 10 = .ok (.aload_n 3, 1) := dk_45 (dk_at dksX1_ordersOf_0 10 rfl rfl)
theorem dX1_ordersOf_11 : decode cX1_ordersOf 11 = .ok (.invokeinterface 53 1, 5) := by decide +kernel
theorem dX1_ordersOf_16 : decode cX1_ordersOf 16 = .ok (.ifCond .eq 34, 3) := dk_153 0 34 (dk_at dksX1_ordersOf_0 16 rfl rfl)
theorem dX1_ordersOf_19 : decode cX1_ordersOf 19 = .ok (.aload_n 3, 1) := dk_45 (dk_at dksX1_ordersOf_0 19 rfl rfl)
theorem dX1_ordersOf_20 : decode cX1_ordersOf 20 = .ok (.invokeinterface 59 1, 5) := by decide +kernel
theorem dX1_ordersOf_25 : decode cX1_ordersOf 25 = .ok (.checkcast 92, 3) := dk_192 0 92 (dk_at dksX1_ordersOf_1 5 rfl rfl)
theorem dX1_ordersOf_28 : decode cX1_ordersOf 28 = .ok (.astore 4, 2) := dk_58 4 (dk_at dksX1_ordersOf_1 8 rfl rfl)
theorem dX1_ordersOf_30 : decode cX1_ordersOf 30 = .ok (.iload_n 2, 1) := dk_28 (dk_at dksX1_ordersOf_1 10 rfl rfl)
theorem dX1_ordersOf_31 : decode cX1_ordersOf 31 = .ok (.aload 4, 2) := dk_25 4 (dk_at dksX1_ordersOf_1 11 rfl rfl)
theorem dX1_ordersOf_33 : decode cX1_ordersOf 33 = .ok (.getfield 94, 3) := dk_180 0 94 (dk_at dksX1_ordersOf_1 13 rfl rfl)
theorem dX1_ordersOf_36 : decode cX1_ordersOf 36 = .ok (.iload_n 1, 1) := dk_27 (dk_at dksX1_ordersOf_1 16 rfl rfl)
theorem dX1_ordersOf_37 : decode cX1_ordersOf 37 = .ok (.if_icmp .ne 7, 3) := dk_160 0 7 (dk_at dksX1_ordersOf_1 17 rfl rfl)
theorem dX1_ordersOf_40 : decode cX1_ordersOf 40 = .ok (.iconst 1, 1) := dk_4 (dk_at dksX1_ordersOf_1 20 rfl rfl)
theorem dX1_ordersOf_41 : decode cX1_ordersOf 41 = .ok (.goto 4, 3) := dk_167 0 4 (dk_at dksX1_ordersOf_1 21 rfl rfl)
theorem dX1_ordersOf_44 : decode cX1_ordersOf 44 = .ok (.iconst 0, 1) := dk_3 (dk_at dksX1_ordersOf_2 0 rfl rfl)
theorem dX1_ordersOf_45 : decode cX1_ordersOf 45 = .ok (.iadd, 1) := dk_96 (dk_at dksX1_ordersOf_2 1 rfl rfl)
theorem dX1_ordersOf_46 : decode cX1_ordersOf 46 = .ok (.istore_n 2, 1) := dk_61 (dk_at dksX1_ordersOf_2 2 rfl rfl)
theorem dX1_ordersOf_47 : decode cX1_ordersOf 47 = .ok (.goto (-37), 3) := dk_167 255 219 (dk_at dksX1_ordersOf_2 3 rfl rfl)
theorem dX1_ordersOf_50 : decode cX1_ordersOf 50 = .ok (.iload_n 2, 1) := dk_28 (dk_at dksX1_ordersOf_2 6 rfl rfl)
theorem dX1_ordersOf_51 : decode cX1_ordersOf 51 = .ok (.ireturn, 1) := dk_172 (dk_at dksX1_ordersOf_2 7 rfl rfl)
abbrev cX1_open : ByteArray := prog_11_method_27_code
def yX1_open : MethodName := ⟨RX1, "open", "(Z)D"⟩
def dkwX1_open_5 : List UInt8 := [25, 7, 180, 0, 226, 104, 135, 99, 73, 167, 255, 174, 167, 255, 139, 40, 175]
abbrev dktX1_open_5 : List UInt8 := dkwX1_open_5 ++ []
def dkwX1_open_4 : List UInt8 := [180, 1, 11, 25, 7, 180, 0, 121, 100, 167, 0, 4, 3, 54, 8, 21, 8, 158, 0, 15, 40, 21, 8]
abbrev dktX1_open_4 : List UInt8 := dkwX1_open_4 ++ dktX1_open_5
def dkwX1_open_3 : List UInt8 := [25, 7, 180, 0, 121, 25, 7, 180, 0, 148, 100, 167, 0, 26, 25, 5, 180, 0, 189, 154, 0, 17, 25, 7]
abbrev dktX1_open_3 : List UInt8 := dkwX1_open_3 ++ dktX1_open_4
def dkwX1_open_2 : List UInt8 := [185, 0, 53, 1, 0, 153, 0, 78, 25, 6, 185, 0, 59, 1, 0, 192, 0, 106, 58, 7, 27, 153, 0, 17]
abbrev dktX1_open_2 : List UInt8 := dkwX1_open_2 ++ dktX1_open_3
def dkwX1_open_1 : List UInt8 := [185, 0, 59, 1, 0, 192, 0, 92, 58, 5, 25, 5, 180, 0, 103, 182, 1, 4, 58, 6, 25, 6]
abbrev dktX1_open_1 : List UInt8 := dkwX1_open_1 ++ dktX1_open_2
def dkwX1_open_0 : List UInt8 := [14, 73, 42, 180, 0, 18, 182, 1, 4, 58, 4, 25, 4, 185, 0, 53, 1, 0, 153, 0, 113, 25, 4]
abbrev dktX1_open_0 : List UInt8 := dkwX1_open_0 ++ dktX1_open_1
theorem dksX1_open_0 : cX1_open.data.toList.drop 0 = dktX1_open_0 := by decide +kernel
theorem dksX1_open_1 : cX1_open.data.toList.drop 23 = dktX1_open_1 := dk_seg dksX1_open_0 23 rfl rfl
theorem dksX1_open_2 : cX1_open.data.toList.drop 45 = dktX1_open_2 := dk_seg dksX1_open_1 22 rfl rfl
theorem dksX1_open_3 : cX1_open.data.toList.drop 69 = dktX1_open_3 := dk_seg dksX1_open_2 24 rfl rfl
theorem dksX1_open_4 : cX1_open.data.toList.drop 93 = dktX1_open_4 := dk_seg dksX1_open_3 24 rfl rfl
theorem dksX1_open_5 : cX1_open.data.toList.drop 116 = dktX1_open_5 := dk_seg dksX1_open_4 23 rfl rfl
theorem dX1_open_0 : decode cX1_open 0 = .ok (.dconst 0, 1) := dk_14 (dk_at dksX1_open_0 0 rfl rfl)
theorem dX1_open_1 : decode cX1_open 1 = .ok (.dstore_n 2, 1) := dk_73 (dk_at dksX1_open_0 1 rfl rfl)
theorem dX1_open_2 : decode cX1_open 2 = .ok (.aload_n 0, 1) := dk_42 (dk_at dksX1_open_0 2 rfl rfl)
theorem dX1_open_3 : decode cX1_open 3 = .ok (.getfield 18, 3) := dk_180 0 18 (dk_at dksX1_open_0 3 rfl rfl)
theorem dX1_open_6 : decode cX1_open 6 = .ok (.invokevirtual 260, 3) := dk_182 1 4 (dk_at dksX1_open_0 6 rfl rfl)
theorem dX1_open_9 : decode cX1_open 9 = .ok (.astore 4, 2) := dk_58 4 (dk_at dksX1_open_0 9 rfl rfl)
theorem dX1_open_11 : decode cX1_open 11 = .ok (.aload 4, 2) := dk_25 4 (dk_at dksX1_open_0 11 rfl rfl)
theorem dX1_open_13 : decode cX1_open 13 = .ok (.invokeinterface 53 1, 5) := by decide +kernel
theorem dX1_open_18 : decode cX1_open 18 = .ok (.ifCond .eq 113, 3) := dk_153 0 113 (dk_at dksX1_open_0 18 rfl rfl)
theorem dX1_open_21 : decode cX1_open 21 = .ok (.aload 4, 2) := dk_25 4 (dk_at dksX1_open_0 21 rfl rfl)
theorem dX1_open_23 : decode cX1_open 23 = .ok (.invokeinterface 59 1, 5) := by decide +kernel
theorem dX1_open_28 : decode cX1_open 28 = .ok (.checkcast 92, 3) := dk_192 0 92 (dk_at dksX1_open_1 5 rfl rfl)
theorem dX1_open_31 : decode cX1_open 31 = .ok (.astore 5, 2) := dk_58 5 (dk_at dksX1_open_1 8 rfl rfl)
theorem dX1_open_33 : decode cX1_open 33 = .ok (.aload 5, 2) := dk_25 5 (dk_at dksX1_open_1 10 rfl rfl)
theorem dX1_open_35 : decode cX1_open 35 = .ok (.getfield 103, 3) := dk_180 0 103 (dk_at dksX1_open_1 12 rfl rfl)
theorem dX1_open_38 : decode cX1_open 38 = .ok (.invokevirtual 260, 3) := dk_182 1 4 (dk_at dksX1_open_1 15 rfl rfl)
theorem dX1_open_41 : decode cX1_open 41 = .ok (.astore 6, 2) := dk_58 6 (dk_at dksX1_open_1 18 rfl rfl)
theorem dX1_open_43 : decode cX1_open 43 = .ok (.aload 6, 2) := dk_25 6 (dk_at dksX1_open_1 20 rfl rfl)
theorem dX1_open_45 : decode cX1_open 45 = .ok (.invokeinterface 53 1, 5) := by decide +kernel
theorem dX1_open_50 : decode cX1_open 50 = .ok (.ifCond .eq 78, 3) := dk_153 0 78 (dk_at dksX1_open_2 5 rfl rfl)
theorem dX1_open_53 : decode cX1_open 53 = .ok (.aload 6, 2) := dk_25 6 (dk_at dksX1_open_2 8 rfl rfl)
theorem dX1_open_55 : decode cX1_open 55 = .ok (.invokeinterface 59 1, 5) := by decide +kernel
theorem dX1_open_60 : decode cX1_open 60 = .ok (.checkcast 106, 3) := dk_192 0 106 (dk_at dksX1_open_2 15 rfl rfl)
theorem dX1_open_63 : decode cX1_open 63 = .ok (.astore 7, 2) := dk_58 7 (dk_at dksX1_open_2 18 rfl rfl)
theorem dX1_open_65 : decode cX1_open 65 = .ok (.iload_n 1, 1) := dk_27 (dk_at dksX1_open_2 20 rfl rfl)
theorem dX1_open_66 : decode cX1_open 66 = .ok (.ifCond .eq 17, 3) := dk_153 0 17 (dk_at dksX1_open_2 21 rfl rfl)
theorem dX1_open_69 : decode cX1_open 69 = .ok (.aload 7, 2) := dk_25 7 (dk_at dksX1_open_3 0 rfl rfl)
theorem dX1_open_71 : decode cX1_open 71 = .ok (.getfield 121, 3) := dk_180 0 121 (dk_at dksX1_open_3 2 rfl rfl)
theorem dX1_open_74 : decode cX1_open 74 = .ok (.aload 7, 2) := dk_25 7 (dk_at dksX1_open_3 5 rfl rfl)
theorem dX1_open_76 : decode cX1_open 76 = .ok (.getfield 148, 3) := dk_180 0 148 (dk_at dksX1_open_3 7 rfl rfl)
theorem dX1_open_79 : decode cX1_open 79 = .ok (.isub, 1) := dk_100 (dk_at dksX1_open_3 10 rfl rfl)
theorem dX1_open_80 : decode cX1_open 80 = .ok (.goto 26, 3) := dk_167 0 26 (dk_at dksX1_open_3 11 rfl rfl)
theorem dX1_open_83 : decode cX1_open 83 = .ok (.aload 5, 2) := dk_25 5 (dk_at dksX1_open_3 14 rfl rfl)
theorem dX1_open_85 : decode cX1_open 85 = .ok (.getfield 189, 3) := dk_180 0 189 (dk_at dksX1_open_3 16 rfl rfl)
theorem dX1_open_88 : decode cX1_open 88 = .ok (.ifCond .ne 17, 3) := dk_154 0 17 (dk_at dksX1_open_3 19 rfl rfl)
theorem dX1_open_91 : decode cX1_open 91 = .ok (.aload 7, 2) := dk_25 7 (dk_at dksX1_open_3 22 rfl rfl)
theorem dX1_open_93 : decode cX1_open 93 = .ok (.getfield 267, 3) := dk_180 1 11 (dk_at dksX1_open_4 0 rfl rfl)
theorem dX1_open_96 : decode cX1_open 96 = .ok (.aload 7, 2) := dk_25 7 (dk_at dksX1_open_4 3 rfl rfl)
theorem dX1_open_98 : decode cX1_open 98 = .ok (.getfield 121, 3) := dk_180 0 121 (dk_at dksX1_open_4 5 rfl rfl)
theorem dX1_open_101 : decode cX1_open 101 = .ok (.isub, 1) := dk_100 (dk_at dksX1_open_4 8 rfl rfl)
theorem dX1_open_102 : decode cX1_open 102 = .ok (.goto 4, 3) := dk_167 0 4 (dk_at dksX1_open_4 9 rfl rfl)
theorem dX1_open_105 : decode cX1_open 105 = .ok (.iconst 0, 1) := dk_3 (dk_at dksX1_open_4 12 rfl rfl)
theorem dX1_open_106 : decode cX1_open 106 = .ok (.istore 8, 2) := dk_54 8 (dk_at dksX1_open_4 13 rfl rfl)
theorem dX1_open_108 : decode cX1_open 108 = .ok (.iload 8, 2) := dk_21 8 (dk_at dksX1_open_4 15 rfl rfl)
theorem dX1_open_110 : decode cX1_open 110 = .ok (.ifCond .le 15, 3) := dk_158 0 15 (dk_at dksX1_open_4 17 rfl rfl)
theorem dX1_open_113 : decode cX1_open 113 = .ok (.dload_n 2, 1) := dk_40 (dk_at dksX1_open_4 20 rfl rfl)
theorem dX1_open_114 : decode cX1_open 114 = .ok (.iload 8, 2) := dk_21 8 (dk_at dksX1_open_4 21 rfl rfl)
theorem dX1_open_116 : decode cX1_open 116 = .ok (.aload 7, 2) := dk_25 7 (dk_at dksX1_open_5 0 rfl rfl)
theorem dX1_open_118 : decode cX1_open 118 = .ok (.getfield 226, 3) := dk_180 0 226 (dk_at dksX1_open_5 2 rfl rfl)
theorem dX1_open_121 : decode cX1_open 121 = .ok (.imul, 1) := dk_104 (dk_at dksX1_open_5 5 rfl rfl)
theorem dX1_open_122 : decode cX1_open 122 = .ok (.i2d, 1) := dk_135 (dk_at dksX1_open_5 6 rfl rfl)
theorem dX1_open_123 : decode cX1_open 123 = .ok (.dadd, 1) := dk_99 (dk_at dksX1_open_5 7 rfl rfl)
theorem dX1_open_124 : decode cX1_open 124 = .ok (.dstore_n 2, 1) := dk_73 (dk_at dksX1_open_5 8 rfl rfl)
theorem dX1_open_125 : decode cX1_open 125 = .ok (.goto (-82), 3) := dk_167 255 174 (dk_at dksX1_open_5 9 rfl rfl)
theorem dX1_open_128 : decode cX1_open 128 = .ok (.goto (-117), 3) := dk_167 255 139 (dk_at dksX1_open_5 12 rfl rfl)
theorem dX1_open_131 : decode cX1_open 131 = .ok (.dload_n 2, 1) := dk_40 (dk_at dksX1_open_5 15 rfl rfl)
theorem dX1_open_132 : decode cX1_open 132 = .ok (.dreturn, 1) := dk_175 (dk_at dksX1_open_5 16 rfl rfl)
abbrev cX1_firstShare : ByteArray := prog_11_method_28_code
def yX1_firstShare : MethodName := ⟨RX1, "firstShare", "()D"⟩
def dkwX1_firstShare_3 : List UInt8 := [154, 0, 7, 14, 167, 0, 8, 27, 135, 28, 135, 111, 175]
abbrev dktX1_firstShare_3 : List UInt8 := dkwX1_firstShare_3 ++ []
def dkwX1_firstShare_2 : List UInt8 := [96, 61, 27, 25, 4, 180, 0, 216, 153, 0, 7, 4, 167, 0, 4, 3, 96, 60, 167, 255, 204, 28]
abbrev dktX1_firstShare_2 : List UInt8 := dkwX1_firstShare_2 ++ dktX1_firstShare_3
def dkwX1_firstShare_1 : List UInt8 := [185, 0, 59, 1, 0, 192, 0, 109, 58, 4, 28, 25, 4, 180, 0, 213, 153, 0, 7, 4, 167, 0, 4, 3]
abbrev dktX1_firstShare_1 : List UInt8 := dkwX1_firstShare_1 ++ dktX1_firstShare_2
def dkwX1_firstShare_0 : List UInt8 := [3, 60, 3, 61, 42, 180, 0, 21, 182, 1, 4, 78, 45, 185, 0, 53, 1, 0, 153, 0, 49, 45]
abbrev dktX1_firstShare_0 : List UInt8 := dkwX1_firstShare_0 ++ dktX1_firstShare_1
theorem dksX1_firstShare_0 : cX1_firstShare.data.toList.drop 0 = dktX1_firstShare_0 := by decide +kernel
theorem dksX1_firstShare_1 : cX1_firstShare.data.toList.drop 22 = dktX1_firstShare_1 := dk_seg dksX1_firstShare_0 22 rfl rfl
theorem dksX1_firstShare_2 : cX1_firstShare.data.toList.drop 46 = dktX1_firstShare_2 := dk_seg dksX1_firstShare_1 24 rfl rfl
theorem dksX1_firstShare_3 : cX1_firstShare.data.toList.drop 68 = dktX1_firstShare_3 := dk_seg dksX1_firstShare_2 22 rfl rfl
theorem dX1_firstShare_0 : decode cX1_firstShare 0 = .ok (.iconst 0, 1) := dk_3 (dk_at dksX1_firstShare_0 0 rfl rfl)
theorem dX1_firstShare_1 : decode cX1_firstShare 1 = .ok (.istore_n 1, 1) := dk_60 (dk_at dksX1_firstShare_0 1 rfl rfl)
theorem dX1_firstShare_2 : decode cX1_firstShare 2 = .ok (.iconst 0, 1) := dk_3 (dk_at dksX1_firstShare_0 2 rfl rfl)
theorem dX1_firstShare_3 : decode cX1_firstShare 3 = .ok (.istore_n 2, 1) := dk_61 (dk_at dksX1_firstShare_0 3 rfl rfl)
theorem dX1_firstShare_4 : decode cX1_firstShare 4 = .ok (.aload_n 0, 1) := dk_42 (dk_at dksX1_firstShare_0 4 rfl rfl)
theorem dX1_firstShare_5 : decode cX1_firstShare 5 = .ok (.getfield 21, 3) := dk_180 0 21 (dk_at dksX1_firstShare_0 5 rfl rfl)
theorem dX1_firstShare_8 : decode cX1_firstShare 8 = .ok (.invokevirtual 260, 3) := dk_182 1 4 (dk_at dksX1_firstShare_0 8 rfl rfl)
theorem dX1_firstShare_11 : decode cX1_firstShare 11 = .ok (.astore_n 3, 1) := dk_78 (dk_at dksX1_firstShare_0 11 rfl rfl)
theorem dX1_firstShare_12 : decode cX1_firstShare 12 = .ok (.aload_n 3, 1) := dk_45 (dk_at dksX1_firstShare_0 12 rfl rfl)
theorem dX1_firstShare_13 : decode cX1_firstShare 13 = .ok (.invokeinterface 53 1, 5) := by decide +kernel
theorem dX1_firstShare_18 : decode cX1_firstShare 18 = .ok (.ifCond .eq 49, 3) := dk_153 0 49 (dk_at dksX1_firstShare_0 18 rfl rfl)
theorem dX1_firstShare_21 : decode cX1_firstShare 21 = .ok (.aload_n 3, 1) := dk_45 (dk_at dksX1_firstShare_0 21 rfl rfl)
theorem dX1_firstShare_22 : decode cX1_firstShare 22 = .ok (.invokeinterface 59 1, 5) := by decide +kernel
theorem dX1_firstShare_27 : decode cX1_firstShare 27 = .ok (.checkcast 109, 3) := dk_192 0 109 (dk_at dksX1_firstShare_1 5 rfl rfl)
theorem dX1_firstShare_30 : decode cX1_firstShare 30 = .ok (.astore 4, 2) := dk_58 4 (dk_at dksX1_firstShare_1 8 rfl rfl)
theorem dX1_firstShare_32 : decode cX1_firstShare 32 = .ok (.iload_n 2, 1) := dk_28 (dk_at dksX1_firstShare_1 10 rfl rfl)
theorem dX1_firstShare_33 : decode cX1_firstShare 33 = .ok (.aload 4, 2) := dk_25 4 (dk_at dksX1_firstShare_1 11 rfl rfl)
theorem dX1_firstShare_35 : decode cX1_firstShare 35 = .ok (.getfield 213, 3) := dk_180 0 213 (dk_at dksX1_firstShare_1 13 rfl rfl)
theorem dX1_firstShare_38 : decode cX1_firstShare 38 = .ok (.ifCond .eq 7, 3) := dk_153 0 7 (dk_at dksX1_firstShare_1 16 rfl rfl)
theorem dX1_firstShare_41 : decode cX1_firstShare 41 = .ok (.iconst 1, 1) := dk_4 (dk_at dksX1_firstShare_1 19 rfl rfl)
theorem dX1_firstShare_42 : decode cX1_firstShare 42 = .ok (.goto 4, 3) := dk_167 0 4 (dk_at dksX1_firstShare_1 20 rfl rfl)
theorem dX1_firstShare_45 : decode cX1_firstShare 45 = .ok (.iconst 0, 1) := dk_3 (dk_at dksX1_firstShare_1 23 rfl rfl)
theorem dX1_firstShare_46 : decode cX1_firstShare 46 = .ok (.iadd, 1) := dk_96 (dk_at dksX1_firstShare_2 0 rfl rfl)
theorem dX1_firstShare_47 : decode cX1_firstShare 47 = .ok (.istore_n 2, 1) := dk_61 (dk_at dksX1_firstShare_2 1 rfl rfl)
theorem dX1_firstShare_48 : decode cX1_firstShare 48 = .ok (.iload_n 1, 1) := dk_27 (dk_at dksX1_firstShare_2 2 rfl rfl)
theorem dX1_firstShare_49 : decode cX1_firstShare 49 = .ok (.aload 4, 2) := dk_25 4 (dk_at dksX1_firstShare_2 3 rfl rfl)
theorem dX1_firstShare_51 : decode cX1_firstShare 51 = .ok (.getfield 216, 3) := dk_180 0 216 (dk_at dksX1_firstShare_2 5 rfl rfl)
theorem dX1_firstShare_54 : decode cX1_firstShare 54 = .ok (.ifCond .eq 7, 3) := dk_153 0 7 (dk_at dksX1_firstShare_2 8 rfl rfl)
theorem dX1_firstShare_57 : decode cX1_firstShare 57 = .ok (.iconst 1, 1) := dk_4 (dk_at dksX1_firstShare_2 11 rfl rfl)
theorem dX1_firstShare_58 : decode cX1_firstShare 58 = .ok (.goto 4, 3) := dk_167 0 4 (dk_at dksX1_firstShare_2 12 rfl rfl)
theorem dX1_firstShare_61 : decode cX1_firstShare 61 = .ok (.iconst 0, 1) := dk_3 (dk_at dksX1_firstShare_2 15 rfl rfl)
theorem dX1_firstShare_62 : decode cX1_firstShare 62 = .ok (.iadd, 1) := dk_96 (dk_at dksX1_firstShare_2 16 rfl rfl)
theorem dX1_firstShare_63 : decode cX1_firstShare 63 = .ok (.istore_n 1, 1) := dk_60 (dk_at dksX1_firstShare_2 17 rfl rfl)
theorem dX1_firstShare_64 : decode cX1_firstShare 64 = .ok (.goto (-52), 3) := dk_167 255 204 (dk_at dksX1_firstShare_2 18 rfl rfl)
theorem dX1_firstShare_67 : decode cX1_firstShare 67 = .ok (.iload_n 2, 1) := dk_28 (dk_at dksX1_firstShare_2 21 rfl rfl)
theorem dX1_firstShare_68 : decode cX1_firstShare 68 = .ok (.ifCond .ne 7, 3) := dk_154 0 7 (dk_at dksX1_firstShare_3 0 rfl rfl)
theorem dX1_firstShare_71 : decode cX1_firstShare 71 = .ok (.dconst 0, 1) := dk_14 (dk_at dksX1_firstShare_3 3 rfl rfl)
theorem dX1_firstShare_72 : decode cX1_firstShare 72 = .ok (.goto 8, 3) := dk_167 0 8 (dk_at dksX1_firstShare_3 4 rfl rfl)
theorem dX1_firstShare_75 : decode cX1_firstShare 75 = .ok (.iload_n 1, 1) := dk_27 (dk_at dksX1_firstShare_3 7 rfl rfl)
theorem dX1_firstShare_76 : decode cX1_firstShare 76 = .ok (.i2d, 1) := dk_135 (dk_at dksX1_firstShare_3 8 rfl rfl)
theorem dX1_firstShare_77 : decode cX1_firstShare 77 = .ok (.iload_n 2, 1) := dk_28 (dk_at dksX1_firstShare_3 9 rfl rfl)
theorem dX1_firstShare_78 : decode cX1_firstShare 78 = .ok (.i2d, 1) := dk_135 (dk_at dksX1_firstShare_3 10 rfl rfl)
theorem dX1_firstShare_79 : decode cX1_firstShare 79 = .ok (.ddiv, 1) := dk_111 (dk_at dksX1_firstShare_3 11 rfl rfl)
theorem dX1_firstShare_80 : decode cX1_firstShare 80 = .ok (.dreturn, 1) := dk_175 (dk_at dksX1_firstShare_3 12 rfl rfl)
abbrev cX1_invoicesIn : ByteArray := prog_11_method_25_code
def yX1_invoicesIn : MethodName := ⟨RX1, "invoicesIn", "(I)I"⟩
def dkwX1_invoicesIn_2 : List UInt8 := [3, 96, 61, 167, 255, 219, 28, 172]
abbrev dktX1_invoicesIn_2 : List UInt8 := dkwX1_invoicesIn_2 ++ []
def dkwX1_invoicesIn_1 : List UInt8 := [185, 0, 59, 1, 0, 192, 0, 109, 58, 4, 28, 25, 4, 180, 0, 168, 27, 160, 0, 7, 4, 167, 0, 4]
abbrev dktX1_invoicesIn_1 : List UInt8 := dkwX1_invoicesIn_1 ++ dktX1_invoicesIn_2
def dkwX1_invoicesIn_0 : List UInt8 := [3, 61, 42, 180, 0, 21, 182, 1, 4, 78, 45, 185, 0, 53, 1, 0, 153, 0, 34, 45]
abbrev dktX1_invoicesIn_0 : List UInt8 := dkwX1_invoicesIn_0 ++ dktX1_invoicesIn_1
theorem dksX1_invoicesIn_0 : cX1_invoicesIn.data.toList.drop 0 = dktX1_invoicesIn_0 := by decide +kernel
theorem dksX1_invoicesIn_1 : cX1_invoicesIn.data.toList.drop 20 = dktX1_invoicesIn_1 := dk_seg dksX1_invoicesIn_0 20 rfl rfl
theorem dksX1_invoicesIn_2 : cX1_invoicesIn.data.toList.drop 44 = dktX1_invoicesIn_2 := dk_seg dksX1_invoicesIn_1 24 rfl rfl
theorem dX1_invoicesIn_0 : decode cX1_invoicesIn 0 = .ok (.iconst 0, 1) := dk_3 (dk_at dksX1_invoicesIn_0 0 rfl rfl)
theorem dX1_invoicesIn_1 : decode cX1_invoicesIn 1 = .ok (.istore_n 2, 1) := dk_61 (dk_at dksX1_invoicesIn_0 1 rfl rfl)
theorem dX1_invoicesIn_2 : decode cX1_invoicesIn 2 = .ok (.aload_n 0, 1) := dk_42 (dk_at dksX1_invoicesIn_0 2 rfl rfl)
theorem dX1_invoicesIn_3 : decode cX1_invoicesIn 3 = .ok (.getfield 21, 3) := dk_180 0 21 (dk_at dksX1_invoicesIn_0 3 rfl rfl)
theorem dX1_invoicesIn_6 : decode cX1_invoicesIn 6 = .ok (.invokevirtual 260, 3) := dk_182 1 4 (dk_at dksX1_invoicesIn_0 6 rfl rfl)
theorem dX1_invoicesIn_9 : decode cX1_invoicesIn 9 = .ok (.astore_n 3, 1) := dk_78 (dk_at dksX1_invoicesIn_0 9 rfl rfl)
theorem dX1_invoicesIn_10 : decode cX1_invoicesIn 10 = .ok (.aload_n 3, 1) := dk_45 (dk_at dksX1_invoicesIn_0 10 rfl rfl)
theorem dX1_invoicesIn_11 : decode cX1_invoicesIn 11 = .ok (.invokeinterface 53 1, 5) := by decide +kernel
theorem dX1_invoicesIn_16 : decode cX1_invoicesIn 16 = .ok (.ifCond .eq 34, 3) := dk_153 0 34 (dk_at dksX1_invoicesIn_0 16 rfl rfl)
theorem dX1_invoicesIn_19 : decode cX1_invoicesIn 19 = .ok (.aload_n 3, 1) := dk_45 (dk_at dksX1_invoicesIn_0 19 rfl rfl)
theorem dX1_invoicesIn_20 : decode cX1_invoicesIn 20 = .ok (.invokeinterface 59 1, 5) := by decide +kernel
theorem dX1_invoicesIn_25 : decode cX1_invoicesIn 25 = .ok (.checkcast 109, 3) := dk_192 0 109 (dk_at dksX1_invoicesIn_1 5 rfl rfl)
theorem dX1_invoicesIn_28 : decode cX1_invoicesIn 28 = .ok (.astore 4, 2) := dk_58 4 (dk_at dksX1_invoicesIn_1 8 rfl rfl)
theorem dX1_invoicesIn_30 : decode cX1_invoicesIn 30 = .ok (.iload_n 2, 1) := dk_28 (dk_at dksX1_invoicesIn_1 10 rfl rfl)
theorem dX1_invoicesIn_31 : decode cX1_invoicesIn 31 = .ok (.aload 4, 2) := dk_25 4 (dk_at dksX1_invoicesIn_1 11 rfl rfl)
theorem dX1_invoicesIn_33 : decode cX1_invoicesIn 33 = .ok (.getfield 168, 3) := dk_180 0 168 (dk_at dksX1_invoicesIn_1 13 rfl rfl)
theorem dX1_invoicesIn_36 : decode cX1_invoicesIn 36 = .ok (.iload_n 1, 1) := dk_27 (dk_at dksX1_invoicesIn_1 16 rfl rfl)
theorem dX1_invoicesIn_37 : decode cX1_invoicesIn 37 = .ok (.if_icmp .ne 7, 3) := dk_160 0 7 (dk_at dksX1_invoicesIn_1 17 rfl rfl)
theorem dX1_invoicesIn_40 : decode cX1_invoicesIn 40 = .ok (.iconst 1, 1) := dk_4 (dk_at dksX1_invoicesIn_1 20 rfl rfl)
theorem dX1_invoicesIn_41 : decode cX1_invoicesIn 41 = .ok (.goto 4, 3) := dk_167 0 4 (dk_at dksX1_invoicesIn_1 21 rfl rfl)
theorem dX1_invoicesIn_44 : decode cX1_invoicesIn 44 = .ok (.iconst 0, 1) := dk_3 (dk_at dksX1_invoicesIn_2 0 rfl rfl)
theorem dX1_invoicesIn_45 : decode cX1_invoicesIn 45 = .ok (.iadd, 1) := dk_96 (dk_at dksX1_invoicesIn_2 1 rfl rfl)
theorem dX1_invoicesIn_46 : decode cX1_invoicesIn 46 = .ok (.istore_n 2, 1) := dk_61 (dk_at dksX1_invoicesIn_2 2 rfl rfl)
theorem dX1_invoicesIn_47 : decode cX1_invoicesIn 47 = .ok (.goto (-37), 3) := dk_167 255 219 (dk_at dksX1_invoicesIn_2 3 rfl rfl)
theorem dX1_invoicesIn_50 : decode cX1_invoicesIn 50 = .ok (.iload_n 2, 1) := dk_28 (dk_at dksX1_invoicesIn_2 6 rfl rfl)
theorem dX1_invoicesIn_51 : decode cX1_invoicesIn 51 = .ok (.ireturn, 1) := dk_172 (dk_at dksX1_invoicesIn_2 7 rfl rfl)
abbrev cX1_sum : ByteArray := prog_11_method_26_code
def yX1_sum : MethodName := ⟨RX1, "sum", "(I)I"⟩
def dkwX1_sum_3 : List UInt8 := [167, 255, 200, 28, 172]
abbrev dktX1_sum_3 : List UInt8 := dkwX1_sum_3 ++ []
def dkwX1_sum_2 : List UInt8 := [167, 0, 22, 27, 16, 12, 160, 0, 11, 25, 4, 180, 0, 243, 167, 0, 8, 25, 4, 180, 0, 254, 96, 61]
abbrev dktX1_sum_2 : List UInt8 := dkwX1_sum_2 ++ dktX1_sum_3
def dkwX1_sum_1 : List UInt8 := [185, 0, 59, 1, 0, 192, 0, 97, 58, 4, 28, 27, 16, 9, 160, 0, 11, 25, 4, 180, 0, 253]
abbrev dktX1_sum_1 : List UInt8 := dkwX1_sum_1 ++ dktX1_sum_2
def dkwX1_sum_0 : List UInt8 := [3, 61, 42, 180, 0, 12, 182, 1, 4, 78, 45, 185, 0, 53, 1, 0, 153, 0, 53, 45]
abbrev dktX1_sum_0 : List UInt8 := dkwX1_sum_0 ++ dktX1_sum_1
theorem dksX1_sum_0 : cX1_sum.data.toList.drop 0 = dktX1_sum_0 := by decide +kernel
theorem dksX1_sum_1 : cX1_sum.data.toList.drop 20 = dktX1_sum_1 := dk_seg dksX1_sum_0 20 rfl rfl
theorem dksX1_sum_2 : cX1_sum.data.toList.drop 42 = dktX1_sum_2 := dk_seg dksX1_sum_1 22 rfl rfl
theorem dksX1_sum_3 : cX1_sum.data.toList.drop 66 = dktX1_sum_3 := dk_seg dksX1_sum_2 24 rfl rfl
theorem dX1_sum_0 : decode cX1_sum 0 = .ok (.iconst 0, 1) := dk_3 (dk_at dksX1_sum_0 0 rfl rfl)
theorem dX1_sum_1 : decode cX1_sum 1 = .ok (.istore_n 2, 1) := dk_61 (dk_at dksX1_sum_0 1 rfl rfl)
theorem dX1_sum_2 : decode cX1_sum 2 = .ok (.aload_n 0, 1) := dk_42 (dk_at dksX1_sum_0 2 rfl rfl)
theorem dX1_sum_3 : decode cX1_sum 3 = .ok (.getfield 12, 3) := dk_180 0 12 (dk_at dksX1_sum_0 3 rfl rfl)
theorem dX1_sum_6 : decode cX1_sum 6 = .ok (.invokevirtual 260, 3) := dk_182 1 4 (dk_at dksX1_sum_0 6 rfl rfl)
theorem dX1_sum_9 : decode cX1_sum 9 = .ok (.astore_n 3, 1) := dk_78 (dk_at dksX1_sum_0 9 rfl rfl)
theorem dX1_sum_10 : decode cX1_sum 10 = .ok (.aload_n 3, 1) := dk_45 (dk_at dksX1_sum_0 10 rfl rfl)
theorem dX1_sum_11 : decode cX1_sum 11 = .ok (.invokeinterface 53 1, 5) := by decide +kernel
theorem dX1_sum_16 : decode cX1_sum 16 = .ok (.ifCond .eq 53, 3) := dk_153 0 53 (dk_at dksX1_sum_0 16 rfl rfl)
theorem dX1_sum_19 : decode cX1_sum 19 = .ok (.aload_n 3, 1) := dk_45 (dk_at dksX1_sum_0 19 rfl rfl)
theorem dX1_sum_20 : decode cX1_sum 20 = .ok (.invokeinterface 59 1, 5) := by decide +kernel
theorem dX1_sum_25 : decode cX1_sum 25 = .ok (.checkcast 97, 3) := dk_192 0 97 (dk_at dksX1_sum_1 5 rfl rfl)
theorem dX1_sum_28 : decode cX1_sum 28 = .ok (.astore 4, 2) := dk_58 4 (dk_at dksX1_sum_1 8 rfl rfl)
theorem dX1_sum_30 : decode cX1_sum 30 = .ok (.iload_n 2, 1) := dk_28 (dk_at dksX1_sum_1 10 rfl rfl)
theorem dX1_sum_31 : decode cX1_sum 31 = .ok (.iload_n 1, 1) := dk_27 (dk_at dksX1_sum_1 11 rfl rfl)
theorem dX1_sum_32 : decode cX1_sum 32 = .ok (.bipush 9, 2) := dk_16 9 (dk_at dksX1_sum_1 12 rfl rfl)
theorem dX1_sum_34 : decode cX1_sum 34 = .ok (.if_icmp .ne 11, 3) := dk_160 0 11 (dk_at dksX1_sum_1 14 rfl rfl)
theorem dX1_sum_37 : decode cX1_sum 37 = .ok (.aload 4, 2) := dk_25 4 (dk_at dksX1_sum_1 17 rfl rfl)
theorem dX1_sum_39 : decode cX1_sum 39 = .ok (.getfield 253, 3) := dk_180 0 253 (dk_at dksX1_sum_1 19 rfl rfl)
theorem dX1_sum_42 : decode cX1_sum 42 = .ok (.goto 22, 3) := dk_167 0 22 (dk_at dksX1_sum_2 0 rfl rfl)
theorem dX1_sum_45 : decode cX1_sum 45 = .ok (.iload_n 1, 1) := dk_27 (dk_at dksX1_sum_2 3 rfl rfl)
theorem dX1_sum_46 : decode cX1_sum 46 = .ok (.bipush 12, 2) := dk_16 12 (dk_at dksX1_sum_2 4 rfl rfl)
theorem dX1_sum_48 : decode cX1_sum 48 = .ok (.if_icmp .ne 11, 3) := dk_160 0 11 (dk_at dksX1_sum_2 6 rfl rfl)
theorem dX1_sum_51 : decode cX1_sum 51 = .ok (.aload 4, 2) := dk_25 4 (dk_at dksX1_sum_2 9 rfl rfl)
theorem dX1_sum_53 : decode cX1_sum 53 = .ok (.getfield 243, 3) := dk_180 0 243 (dk_at dksX1_sum_2 11 rfl rfl)
theorem dX1_sum_56 : decode cX1_sum 56 = .ok (.goto 8, 3) := dk_167 0 8 (dk_at dksX1_sum_2 14 rfl rfl)
theorem dX1_sum_59 : decode cX1_sum 59 = .ok (.aload 4, 2) := dk_25 4 (dk_at dksX1_sum_2 17 rfl rfl)
theorem dX1_sum_61 : decode cX1_sum 61 = .ok (.getfield 254, 3) := dk_180 0 254 (dk_at dksX1_sum_2 19 rfl rfl)
theorem dX1_sum_64 : decode cX1_sum 64 = .ok (.iadd, 1) := dk_96 (dk_at dksX1_sum_2 22 rfl rfl)
theorem dX1_sum_65 : decode cX1_sum 65 = .ok (.istore_n 2, 1) := dk_61 (dk_at dksX1_sum_2 23 rfl rfl)
theorem dX1_sum_66 : decode cX1_sum 66 = .ok (.goto (-56), 3) := dk_167 255 200 (dk_at dksX1_sum_3 0 rfl rfl)
theorem dX1_sum_69 : decode cX1_sum 69 = .ok (.iload_n 2, 1) := dk_28 (dk_at dksX1_sum_3 3 rfl rfl)
theorem dX1_sum_70 : decode cX1_sum 70 = .ok (.ireturn, 1) := dk_172 (dk_at dksX1_sum_3 4 rfl rfl)
theorem q75 : (Jvm.Cond.initialized "PayMatch$State") ∈ lw_all := lw_g (lw_at lw_m1 2 rfl) rfl
theorem q126 : (Jvm.Cond.instantiable "PayMatch$State" (9 : Nat)) ∈ lw_all := lw_g (lw_at lw_m1 53 rfl) rfl
theorem q128 : (Jvm.Cond.instanceMethod ({ cls := "PayMatch$State", name := "<init>", desc := "()V" } : Jvm.MethodName)) ∈ lw_all := lw_g (lw_at lw_m1 55 rfl) rfl
theorem q129 : (Jvm.Cond.code ({ cls := "PayMatch$State", name := "<init>", desc := "()V" } : Jvm.MethodName) prog_11_method_1_code (1 : Nat) (Option.none : Option Jvm.ClassFile.FieldType)) ∈ lw_all := lw_g (lw_at lw_m1 56 rfl) rfl
theorem q130 : (Jvm.Cond.methodLink "PayMatch$State" (3 : Nat) ({ cls := "java/lang/Object", name := "<init>", desc := "()V" } : Jvm.MethodName)) ∈ lw_all := lw_g (lw_at lw_m1 57 rfl) rfl
theorem q131 : (Jvm.Cond.classLink "PayMatch$State" (9 : Nat) "PayMatch$Book") ∈ lw_all := lw_g (lw_at lw_m1 58 rfl) rfl
theorem q133 : (Jvm.Cond.methodLinkNest "PayMatch$State" (11 : Nat) ({ cls := "PayMatch$Book", name := "<init>", desc := "()V" } : Jvm.MethodName) "PayMatch") ∈ lw_tbl := lw_at lw_m1 60 rfl
theorem q174 : (Jvm.Cond.classLink "PayMatch$State" (24 : Nat) "java/util/LinkedList") ∈ lw_all := lw_g (lw_at lw_m1 101 rfl) rfl
theorem q176 : (Jvm.Cond.methodLink "PayMatch$State" (26 : Nat) ({ cls := "java/util/LinkedList", name := "<init>", desc := "()V" } : Jvm.MethodName)) ∈ lw_all := lw_g (lw_at lw_m1 103 rfl) rfl
theorem q195 : (Jvm.Cond.constantDouble "PayMatch$State" (31 : Nat) (4611686018427387904 : UInt64)) ∈ lw_all := lw_g (lw_at lw_m1 122 rfl) rfl
theorem q196 : (Jvm.Cond.fieldLink "PayMatch$State" (12 : Nat) "PayMatch$State" "suppliers" "LPayMatch$Book;") ∈ lw_all := lw_g (lw_at lw_m1 123 rfl) rfl
theorem q198 : (Jvm.Cond.fieldLink "PayMatch$State" (18 : Nat) "PayMatch$State" "orders" "LPayMatch$Book;") ∈ lw_all := lw_g (lw_at lw_m1 125 rfl) rfl
theorem q200 : (Jvm.Cond.fieldLink "PayMatch$State" (21 : Nat) "PayMatch$State" "invoices" "LPayMatch$Book;") ∈ lw_all := lw_g (lw_at lw_m1 127 rfl) rfl
theorem q202 : (Jvm.Cond.fieldLink "PayMatch$State" (27 : Nat) "PayMatch$State" "log" "Ljava/util/LinkedList;") ∈ lw_all := lw_g (lw_at lw_m1 129 rfl) rfl
theorem q204 : (Jvm.Cond.fieldLink "PayMatch$State" (33 : Nat) "PayMatch$State" "discount" "D") ∈ lw_all := lw_g (lw_at lw_m1 131 rfl) rfl
theorem q206 : (Jvm.Cond.fieldLink "PayMatch$State" (37 : Nat) "PayMatch$State" "discountDays" "I") ∈ lw_all := lw_g (lw_at lw_m1 133 rfl) rfl
theorem q208 : (Jvm.Cond.fieldLink "PayMatch$State" (41 : Nat) "PayMatch$State" "term" "I") ∈ lw_all := lw_g (lw_at lw_m1 135 rfl) rfl
theorem q210 : (Jvm.Cond.fieldLink "PayMatch$State" (69 : Nat) "PayMatch$State" "day" "I") ∈ lw_all := lw_g (lw_at lw_m1 137 rfl) rfl
theorem q212 : (Jvm.Cond.fieldLink "PayMatch$State" (72 : Nat) "PayMatch$State" "notes" "I") ∈ lw_all := lw_g (lw_at lw_m1 139 rfl) rfl
theorem q214 : (Jvm.Cond.lays "PayMatch$State" "PayMatch$State" "suppliers" "LPayMatch$Book;") ∈ lw_all := lw_g (lw_at lw_m1 141 rfl) rfl
theorem q215 : (Jvm.Cond.soleField "PayMatch$State" "suppliers") ∈ lw_all := lw_g (lw_at lw_m1 142 rfl) rfl
theorem q216 : (Jvm.Cond.lays "PayMatch$State" "PayMatch$State" "orders" "LPayMatch$Book;") ∈ lw_all := lw_g (lw_at lw_m1 143 rfl) rfl
theorem q217 : (Jvm.Cond.soleField "PayMatch$State" "orders") ∈ lw_all := lw_g (lw_at lw_m1 144 rfl) rfl
theorem q218 : (Jvm.Cond.lays "PayMatch$State" "PayMatch$State" "invoices" "LPayMatch$Book;") ∈ lw_all := lw_g (lw_at lw_m1 145 rfl) rfl
theorem q219 : (Jvm.Cond.soleField "PayMatch$State" "invoices") ∈ lw_all := lw_g (lw_at lw_m1 146 rfl) rfl
theorem q220 : (Jvm.Cond.laysFinal "PayMatch$State" "PayMatch$State" "log" "Ljava/util/LinkedList;") ∈ lw_all := lw_g (lw_at lw_m1 147 rfl) rfl
theorem q221 : (Jvm.Cond.soleField "PayMatch$State" "log") ∈ lw_all := lw_g (lw_at lw_m1 148 rfl) rfl
theorem q222 : (Jvm.Cond.lays "PayMatch$State" "PayMatch$State" "discount" "D") ∈ lw_all := lw_g (lw_at lw_m1 149 rfl) rfl
theorem q223 : (Jvm.Cond.soleField "PayMatch$State" "discount") ∈ lw_all := lw_g (lw_at lw_m1 150 rfl) rfl
theorem q224 : (Jvm.Cond.lays "PayMatch$State" "PayMatch$State" "discountDays" "I") ∈ lw_all := lw_g (lw_at lw_m1 151 rfl) rfl
theorem q225 : (Jvm.Cond.soleField "PayMatch$State" "discountDays") ∈ lw_all := lw_g (lw_at lw_m1 152 rfl) rfl
theorem q226 : (Jvm.Cond.lays "PayMatch$State" "PayMatch$State" "term" "I") ∈ lw_all := lw_g (lw_at lw_m1 153 rfl) rfl
theorem q227 : (Jvm.Cond.soleField "PayMatch$State" "term") ∈ lw_all := lw_g (lw_at lw_m1 154 rfl) rfl
theorem q228 : (Jvm.Cond.lays "PayMatch$State" "PayMatch$State" "day" "I") ∈ lw_all := lw_g (lw_at lw_m1 155 rfl) rfl
theorem q229 : (Jvm.Cond.soleField "PayMatch$State" "day") ∈ lw_all := lw_g (lw_at lw_m1 156 rfl) rfl
theorem q230 : (Jvm.Cond.lays "PayMatch$State" "PayMatch$State" "notes" "I") ∈ lw_all := lw_g (lw_at lw_m1 157 rfl) rfl
theorem q231 : (Jvm.Cond.soleField "PayMatch$State" "notes") ∈ lw_all := lw_g (lw_at lw_m1 158 rfl) rfl
theorem q232 : (Jvm.Cond.superclass "PayMatch$State" "java/lang/Object") ∈ lw_all := lw_g (lw_at lw_m1 159 rfl) rfl
theorem q324 : (Jvm.Cond.instanceMethod ({ cls := "PayMatch$State", name := "copy", desc := "()LPayMatch$State;" } : Jvm.MethodName)) ∈ lw_all := lw_g (lw_at lw_m2 11 rfl) rfl
theorem q325 : (Jvm.Cond.selects "PayMatch$State" ({ cls := "PayMatch$State", name := "copy", desc := "()LPayMatch$State;" } : Jvm.MethodName) ({ cls := "PayMatch$State", name := "copy", desc := "()LPayMatch$State;" } : Jvm.MethodName)) ∈ lw_all := lw_g (lw_at lw_m2 12 rfl) rfl
theorem q326 : (Jvm.Cond.code ({ cls := "PayMatch$State", name := "copy", desc := "()LPayMatch$State;" } : Jvm.MethodName) prog_11_method_2_code (3 : Nat) (Option.some (Jvm.ClassFile.FieldType.object "PayMatch$State"))) ∈ lw_all := lw_g (lw_at lw_m2 13 rfl) rfl
theorem q327 : (Jvm.Cond.classLink "PayMatch$State" (13 : Nat) "PayMatch$State") ∈ lw_all := lw_g (lw_at lw_m2 14 rfl) rfl
theorem q328 : (Jvm.Cond.methodLink "PayMatch$State" (44 : Nat) ({ cls := "PayMatch$State", name := "<init>", desc := "()V" } : Jvm.MethodName)) ∈ lw_all := lw_g (lw_at lw_m2 15 rfl) rfl
theorem q329 : (Jvm.Cond.methodLink "PayMatch$State" (45 : Nat) ({ cls := "PayMatch$Book", name := "copy", desc := "()LPayMatch$Book;" } : Jvm.MethodName)) ∈ lw_all := lw_g (lw_at lw_m2 16 rfl) rfl
theorem q588 : (Jvm.Cond.selects "PayMatch$State" ({ cls := "java/lang/Object", name := "getClass", desc := "()Ljava/lang/Class;" } : Jvm.MethodName) ({ cls := "java/lang/Object", name := "getClass", desc := "()Ljava/lang/Class;" } : Jvm.MethodName)) ∈ lw_all := lw_g (lw_at lw_m3 35 rfl) rfl
theorem q876 : (Jvm.Cond.fieldLinkNest "PayMatch$State" (159 : Nat) "PayMatch$Invoice" "number" "I" "PayMatch") ∈ lw_tbl := lw_at lw_m4 83 rfl
theorem q878 : (Jvm.Cond.fieldLinkNest "PayMatch$State" (165 : Nat) "PayMatch$Invoice" "reference" "I" "PayMatch") ∈ lw_tbl := lw_at lw_m4 85 rfl
theorem q881 : (Jvm.Cond.fieldLinkNest "PayMatch$State" (108 : Nat) "PayMatch$Invoice" "order" "I" "PayMatch") ∈ lw_tbl := lw_at lw_m4 88 rfl
theorem q884 : (Jvm.Cond.fieldLinkNest "PayMatch$State" (244 : Nat) "PayMatch$Invoice" "day" "I" "PayMatch") ∈ lw_tbl := lw_at lw_m4 91 rfl
theorem q887 : (Jvm.Cond.fieldLinkNest "PayMatch$State" (190 : Nat) "PayMatch$Invoice" "entries" "[LPayMatch$Entry;" "PayMatch") ∈ lw_tbl := lw_at lw_m4 94 rfl
theorem q890 : (Jvm.Cond.fieldLinkNest "PayMatch$State" (168 : Nat) "PayMatch$Invoice" "state" "I" "PayMatch") ∈ lw_tbl := lw_at lw_m4 97 rfl
theorem q893 : (Jvm.Cond.fieldLinkNest "PayMatch$State" (219 : Nat) "PayMatch$Invoice" "reasons" "I" "PayMatch") ∈ lw_tbl := lw_at lw_m4 100 rfl
theorem q896 : (Jvm.Cond.fieldLinkNest "PayMatch$State" (241 : Nat) "PayMatch$Invoice" "noted" "I" "PayMatch") ∈ lw_tbl := lw_at lw_m4 103 rfl
theorem q899 : (Jvm.Cond.fieldLinkNest "PayMatch$State" (250 : Nat) "PayMatch$Invoice" "cash" "I" "PayMatch") ∈ lw_tbl := lw_at lw_m4 106 rfl
theorem q902 : (Jvm.Cond.fieldLinkNest "PayMatch$State" (247 : Nat) "PayMatch$Invoice" "discount" "I" "PayMatch") ∈ lw_tbl := lw_at lw_m4 109 rfl
theorem q905 : (Jvm.Cond.fieldLinkNest "PayMatch$State" (249 : Nat) "PayMatch$Invoice" "credit" "I" "PayMatch") ∈ lw_tbl := lw_at lw_m4 112 rfl
theorem q908 : (Jvm.Cond.fieldLinkNest "PayMatch$State" (213 : Nat) "PayMatch$Invoice" "isMatched" "Z" "PayMatch") ∈ lw_tbl := lw_at lw_m4 115 rfl
theorem q910 : (Jvm.Cond.fieldLinkNest "PayMatch$State" (216 : Nat) "PayMatch$Invoice" "isFirst" "Z" "PayMatch") ∈ lw_tbl := lw_at lw_m4 117 rfl
theorem q959 : (Jvm.Cond.fieldLinkNest "PayMatch$State" (267 : Nat) "PayMatch$Line" "ordered" "I" "PayMatch") ∈ lw_tbl := lw_at lw_m4 166 rfl
theorem q963 : (Jvm.Cond.fieldLinkNest "PayMatch$State" (226 : Nat) "PayMatch$Line" "price" "I" "PayMatch") ∈ lw_tbl := lw_at lw_m4 170 rfl
theorem q965 : (Jvm.Cond.fieldLinkNest "PayMatch$State" (121 : Nat) "PayMatch$Line" "received" "I" "PayMatch") ∈ lw_tbl := lw_at lw_m4 172 rfl
theorem q968 : (Jvm.Cond.fieldLinkNest "PayMatch$State" (124 : Nat) "PayMatch$Line" "rejected" "I" "PayMatch") ∈ lw_tbl := lw_at lw_m4 175 rfl
theorem q971 : (Jvm.Cond.fieldLinkNest "PayMatch$State" (148 : Nat) "PayMatch$Line" "billed" "I" "PayMatch") ∈ lw_tbl := lw_at lw_m4 178 rfl
theorem q974 : (Jvm.Cond.fieldLinkNest "PayMatch$State" (257 : Nat) "PayMatch$Line" "paid" "I" "PayMatch") ∈ lw_tbl := lw_at lw_m4 181 rfl
theorem q1017 : (Jvm.Cond.fieldLinkNest "PayMatch$State" (94 : Nat) "PayMatch$Order" "supplier" "I" "PayMatch") ∈ lw_tbl := lw_at lw_m4 224 rfl
theorem q1020 : (Jvm.Cond.fieldLinkNest "PayMatch$State" (103 : Nat) "PayMatch$Order" "lines" "LPayMatch$Book;" "PayMatch") ∈ lw_tbl := lw_at lw_m4 227 rfl
theorem q1024 : (Jvm.Cond.fieldLinkNest "PayMatch$State" (189 : Nat) "PayMatch$Order" "state" "I" "PayMatch") ∈ lw_tbl := lw_at lw_m4 231 rfl
theorem q1063 : (Jvm.Cond.fieldLinkNest "PayMatch$State" (145 : Nat) "PayMatch$Supplier" "credit" "I" "PayMatch") ∈ lw_tbl := lw_at lw_m5 30 rfl
theorem q1066 : (Jvm.Cond.fieldLinkNest "PayMatch$State" (253 : Nat) "PayMatch$Supplier" "cash" "I" "PayMatch") ∈ lw_tbl := lw_at lw_m5 33 rfl
theorem q1069 : (Jvm.Cond.fieldLinkNest "PayMatch$State" (243 : Nat) "PayMatch$Supplier" "noted" "I" "PayMatch") ∈ lw_tbl := lw_at lw_m5 36 rfl
theorem q1072 : (Jvm.Cond.fieldLinkNest "PayMatch$State" (254 : Nat) "PayMatch$Supplier" "discounted" "I" "PayMatch") ∈ lw_tbl := lw_at lw_m5 39 rfl
theorem q1076 : (Jvm.Cond.fieldLinkNest "PayMatch$State" (181 : Nat) "PayMatch$Supplier" "isBlocked" "Z" "PayMatch") ∈ lw_tbl := lw_at lw_m5 43 rfl
theorem q1163 : (Jvm.Cond.methodLink "PayMatch$State" (49 : Nat) ({ cls := "java/util/LinkedList", name := "iterator", desc := "()Ljava/util/Iterator;" } : Jvm.MethodName)) ∈ lw_all := lw_g (lw_at lw_m5 130 rfl) rfl
theorem q1167 : (Jvm.Cond.interfaceEntry "PayMatch$State" (53 : Nat)) ∈ lw_tbl := lw_at lw_m5 134 rfl
theorem q1168 : (Jvm.Cond.methodLink "PayMatch$State" (53 : Nat) ({ cls := "java/util/Iterator", name := "hasNext", desc := "()Z" } : Jvm.MethodName)) ∈ lw_all := lw_g (lw_at lw_m5 135 rfl) rfl
theorem q1169 : (Jvm.Cond.interfaceEntry "PayMatch$State" (59 : Nat)) ∈ lw_tbl := lw_at lw_m5 136 rfl
theorem q1170 : (Jvm.Cond.methodLink "PayMatch$State" (59 : Nat) ({ cls := "java/util/Iterator", name := "next", desc := "()Ljava/lang/Object;" } : Jvm.MethodName)) ∈ lw_all := lw_g (lw_at lw_m5 137 rfl) rfl
theorem q1171 : (Jvm.Cond.classLink "PayMatch$State" (63 : Nat) "PayMatch$Event") ∈ lw_all := lw_g (lw_at lw_m5 138 rfl) rfl
theorem q1172 : (Jvm.Cond.methodLink "PayMatch$State" (65 : Nat) ({ cls := "java/util/LinkedList", name := "addLast", desc := "(Ljava/lang/Object;)V" } : Jvm.MethodName)) ∈ lw_all := lw_g (lw_at lw_m5 139 rfl) rfl
theorem q1273 : (Jvm.Cond.instanceMethod ({ cls := "PayMatch$State", name := "invoicesOf", desc := "(IZ)I" } : Jvm.MethodName)) ∈ lw_all := lw_g (lw_at lw_m6 0 rfl) rfl
theorem q1274 : (Jvm.Cond.selects "PayMatch$State" ({ cls := "PayMatch$State", name := "invoicesOf", desc := "(IZ)I" } : Jvm.MethodName) ({ cls := "PayMatch$State", name := "invoicesOf", desc := "(IZ)I" } : Jvm.MethodName)) ∈ lw_all := lw_g (lw_at lw_m6 1 rfl) rfl
theorem q1275 : (Jvm.Cond.code ({ cls := "PayMatch$State", name := "invoicesOf", desc := "(IZ)I" } : Jvm.MethodName) prog_11_method_24_code (6 : Nat) (Option.some Jvm.ClassFile.FieldType.int)) ∈ lw_all := lw_g (lw_at lw_m6 2 rfl) rfl
theorem q1276 : (Jvm.Cond.methodLink "PayMatch$State" (260 : Nat) ({ cls := "PayMatch$Book", name := "iterator", desc := "()Ljava/util/Iterator;" } : Jvm.MethodName)) ∈ lw_all := lw_g (lw_at lw_m6 3 rfl) rfl
theorem q1280 : (Jvm.Cond.classLink "PayMatch$State" (109 : Nat) "PayMatch$Invoice") ∈ lw_all := lw_g (lw_at lw_m6 7 rfl) rfl
theorem q1281 : (Jvm.Cond.methodLink "PayMatch$State" (88 : Nat) ({ cls := "PayMatch$Book", name := "get", desc := "(I)LPayMatch$Paper;" } : Jvm.MethodName)) ∈ lw_all := lw_g (lw_at lw_m6 8 rfl) rfl
theorem q1282 : (Jvm.Cond.classLink "PayMatch$State" (92 : Nat) "PayMatch$Order") ∈ lw_all := lw_g (lw_at lw_m6 9 rfl) rfl
theorem q1319 : (Jvm.Cond.instanceMethod ({ cls := "PayMatch$State", name := "hasLine", desc := "(II)Z" } : Jvm.MethodName)) ∈ lw_all := lw_g (lw_at lw_m6 46 rfl) rfl
theorem q1320 : (Jvm.Cond.selects "PayMatch$State" ({ cls := "PayMatch$State", name := "hasLine", desc := "(II)Z" } : Jvm.MethodName) ({ cls := "PayMatch$State", name := "hasLine", desc := "(II)Z" } : Jvm.MethodName)) ∈ lw_all := lw_g (lw_at lw_m6 47 rfl) rfl
theorem q1321 : (Jvm.Cond.code ({ cls := "PayMatch$State", name := "hasLine", desc := "(II)Z" } : Jvm.MethodName) prog_11_method_5_code (3 : Nat) (Option.some Jvm.ClassFile.FieldType.boolean)) ∈ lw_all := lw_g (lw_at lw_m6 48 rfl) rfl
theorem q1322 : (Jvm.Cond.methodLink "PayMatch$State" (99 : Nat) ({ cls := "PayMatch$Book", name := "has", desc := "(I)Z" } : Jvm.MethodName)) ∈ lw_all := lw_g (lw_at lw_m6 49 rfl) rfl
theorem q1324 : (Jvm.Cond.instanceMethod ({ cls := "PayMatch$State", name := "line", desc := "(II)LPayMatch$Line;" } : Jvm.MethodName)) ∈ lw_all := lw_g (lw_at lw_m6 51 rfl) rfl
theorem q1325 : (Jvm.Cond.selects "PayMatch$State" ({ cls := "PayMatch$State", name := "line", desc := "(II)LPayMatch$Line;" } : Jvm.MethodName) ({ cls := "PayMatch$State", name := "line", desc := "(II)LPayMatch$Line;" } : Jvm.MethodName)) ∈ lw_all := lw_g (lw_at lw_m6 52 rfl) rfl
theorem q1326 : (Jvm.Cond.code ({ cls := "PayMatch$State", name := "line", desc := "(II)LPayMatch$Line;" } : Jvm.MethodName) prog_11_method_6_code (3 : Nat) (Option.some (Jvm.ClassFile.FieldType.object "PayMatch$Line"))) ∈ lw_all := lw_g (lw_at lw_m6 53 rfl) rfl
theorem q1327 : (Jvm.Cond.classLink "PayMatch$State" (106 : Nat) "PayMatch$Line") ∈ lw_all := lw_g (lw_at lw_m6 54 rfl) rfl
theorem q1435 : (Jvm.Cond.instanceMethod ({ cls := "PayMatch$State", name := "supplierOf", desc := "(I)LPayMatch$Supplier;" } : Jvm.MethodName)) ∈ lw_all := lw_g (lw_at lw_m6 162 rfl) rfl
theorem q1436 : (Jvm.Cond.selects "PayMatch$State" ({ cls := "PayMatch$State", name := "supplierOf", desc := "(I)LPayMatch$Supplier;" } : Jvm.MethodName) ({ cls := "PayMatch$State", name := "supplierOf", desc := "(I)LPayMatch$Supplier;" } : Jvm.MethodName)) ∈ lw_all := lw_g (lw_at lw_m6 163 rfl) rfl
theorem q1437 : (Jvm.Cond.code ({ cls := "PayMatch$State", name := "supplierOf", desc := "(I)LPayMatch$Supplier;" } : Jvm.MethodName) prog_11_method_4_code (2 : Nat) (Option.some (Jvm.ClassFile.FieldType.object "PayMatch$Supplier"))) ∈ lw_all := lw_g (lw_at lw_m6 164 rfl) rfl
theorem q1438 : (Jvm.Cond.classLink "PayMatch$State" (97 : Nat) "PayMatch$Supplier") ∈ lw_all := lw_g (lw_at lw_m6 165 rfl) rfl
theorem q1445 : (Jvm.Cond.instanceMethod ({ cls := "PayMatch$State", name := "receive", desc := "(IIII)I" } : Jvm.MethodName)) ∈ lw_all := lw_g (lw_at lw_m6 172 rfl) rfl
theorem q1446 : (Jvm.Cond.selects "PayMatch$State" ({ cls := "PayMatch$State", name := "receive", desc := "(IIII)I" } : Jvm.MethodName) ({ cls := "PayMatch$State", name := "receive", desc := "(IIII)I" } : Jvm.MethodName)) ∈ lw_all := lw_g (lw_at lw_m6 173 rfl) rfl
theorem q1447 : (Jvm.Cond.code ({ cls := "PayMatch$State", name := "receive", desc := "(IIII)I" } : Jvm.MethodName) prog_11_method_8_code (6 : Nat) (Option.some Jvm.ClassFile.FieldType.int)) ∈ lw_all := lw_g (lw_at lw_m6 174 rfl) rfl
theorem q1448 : (Jvm.Cond.methodLink "PayMatch$State" (118 : Nat) ({ cls := "PayMatch$State", name := "line", desc := "(II)LPayMatch$Line;" } : Jvm.MethodName)) ∈ lw_all := lw_g (lw_at lw_m6 175 rfl) rfl
theorem q1449 : (Jvm.Cond.methodLink "PayMatch$State" (127 : Nat) ({ cls := "PayMatch$State", name := "tell", desc := "(III)V" } : Jvm.MethodName)) ∈ lw_all := lw_g (lw_at lw_m6 176 rfl) rfl
theorem q1450 : (Jvm.Cond.instanceMethod ({ cls := "PayMatch$State", name := "tell", desc := "(III)V" } : Jvm.MethodName)) ∈ lw_all := lw_g (lw_at lw_m6 177 rfl) rfl
theorem q1451 : (Jvm.Cond.selects "PayMatch$State" ({ cls := "PayMatch$State", name := "tell", desc := "(III)V" } : Jvm.MethodName) ({ cls := "PayMatch$State", name := "tell", desc := "(III)V" } : Jvm.MethodName)) ∈ lw_all := lw_g (lw_at lw_m6 178 rfl) rfl
theorem q1452 : (Jvm.Cond.code ({ cls := "PayMatch$State", name := "tell", desc := "(III)V" } : Jvm.MethodName) prog_11_method_3_code (4 : Nat) (Option.none : Option Jvm.ClassFile.FieldType)) ∈ lw_all := lw_g (lw_at lw_m6 179 rfl) rfl
theorem q1454 : (Jvm.Cond.methodLink "PayMatch$State" (75 : Nat) ({ cls := "PayMatch$Event", name := "<init>", desc := "(IIII)V" } : Jvm.MethodName)) ∈ lw_all := lw_g (lw_at lw_m6 181 rfl) rfl
theorem q1471 : (Jvm.Cond.methodLink "PayMatch$State" (78 : Nat) ({ cls := "java/util/LinkedList", name := "addFirst", desc := "(Ljava/lang/Object;)V" } : Jvm.MethodName)) ∈ lw_all := lw_g (lw_at lw_m6 198 rfl) rfl
theorem q1479 : (Jvm.Cond.methodLink "PayMatch$State" (81 : Nat) ({ cls := "java/util/LinkedList", name := "size", desc := "()I" } : Jvm.MethodName)) ∈ lw_all := lw_g (lw_at lw_m6 206 rfl) rfl
theorem q1480 : (Jvm.Cond.methodLink "PayMatch$State" (85 : Nat) ({ cls := "java/util/LinkedList", name := "removeLast", desc := "()Ljava/lang/Object;" } : Jvm.MethodName)) ∈ lw_all := lw_g (lw_at lw_m6 207 rfl) rfl
theorem q1493 : (Jvm.Cond.instanceMethod ({ cls := "PayMatch$State", name := "giveBack", desc := "(III)I" } : Jvm.MethodName)) ∈ lw_all := lw_g (lw_at lw_m6 220 rfl) rfl
theorem q1494 : (Jvm.Cond.selects "PayMatch$State" ({ cls := "PayMatch$State", name := "giveBack", desc := "(III)I" } : Jvm.MethodName) ({ cls := "PayMatch$State", name := "giveBack", desc := "(III)I" } : Jvm.MethodName)) ∈ lw_all := lw_g (lw_at lw_m6 221 rfl) rfl
theorem q1495 : (Jvm.Cond.code ({ cls := "PayMatch$State", name := "giveBack", desc := "(III)I" } : Jvm.MethodName) prog_11_method_9_code (5 : Nat) (Option.some Jvm.ClassFile.FieldType.int)) ∈ lw_all := lw_g (lw_at lw_m6 222 rfl) rfl
theorem q1496 : (Jvm.Cond.methodLink "PayMatch$State" (131 : Nat) ({ cls := "PayMatch$State", name := "supplierOf", desc := "(I)LPayMatch$Supplier;" } : Jvm.MethodName)) ∈ lw_all := lw_g (lw_at lw_m6 223 rfl) rfl
theorem q1497 : (Jvm.Cond.methodLink "PayMatch$State" (135 : Nat) ({ cls := "PayMatch$State", name := "claim", desc := "(LPayMatch$Supplier;LPayMatch$Line;)I" } : Jvm.MethodName)) ∈ lw_all := lw_g (lw_at lw_m6 224 rfl) rfl
theorem q1498 : (Jvm.Cond.privateMethod ({ cls := "PayMatch$State", name := "claim", desc := "(LPayMatch$Supplier;LPayMatch$Line;)I" } : Jvm.MethodName)) ∈ lw_tbl := lw_at lw_m6 225 rfl
theorem q1499 : (Jvm.Cond.instanceMethod ({ cls := "PayMatch$State", name := "claim", desc := "(LPayMatch$Supplier;LPayMatch$Line;)I" } : Jvm.MethodName)) ∈ lw_all := lw_g (lw_at lw_m6 226 rfl) rfl
theorem q1500 : (Jvm.Cond.code ({ cls := "PayMatch$State", name := "claim", desc := "(LPayMatch$Supplier;LPayMatch$Line;)I" } : Jvm.MethodName) prog_11_method_10_code (4 : Nat) (Option.some Jvm.ClassFile.FieldType.int)) ∈ lw_all := lw_g (lw_at lw_m6 227 rfl) rfl
theorem q1501 : (Jvm.Cond.methodLink "PayMatch$State" (139 : Nat) ({ cls := "PayMatch$Supplier", name := "with", desc := "(I)I" } : Jvm.MethodName)) ∈ lw_all := lw_g (lw_at lw_m6 228 rfl) rfl
theorem q1502 : (Jvm.Cond.methodLink "PayMatch$State" (143 : Nat) ({ cls := "PayMatch$Line", name := "claim", desc := "(I)I" } : Jvm.MethodName)) ∈ lw_all := lw_g (lw_at lw_m6 229 rfl) rfl
theorem q1517 : (Jvm.Cond.fieldLinkNest "PayMatch$State" (113 : Nat) "PayMatch$Entry" "line" "I" "PayMatch") ∈ lw_tbl := lw_at lw_m7 4 rfl
theorem q1520 : (Jvm.Cond.fieldLinkNest "PayMatch$State" (178 : Nat) "PayMatch$Entry" "units" "I" "PayMatch") ∈ lw_tbl := lw_at lw_m7 7 rfl
theorem q1523 : (Jvm.Cond.fieldLinkNest "PayMatch$State" (194 : Nat) "PayMatch$Entry" "price" "I" "PayMatch") ∈ lw_tbl := lw_at lw_m7 10 rfl
theorem q1537 : (Jvm.Cond.instanceMethod ({ cls := "PayMatch$State", name := "enter", desc := "(II[LPayMatch$Entry;)I" } : Jvm.MethodName)) ∈ lw_all := lw_g (lw_at lw_m7 24 rfl) rfl
theorem q1538 : (Jvm.Cond.selects "PayMatch$State" ({ cls := "PayMatch$State", name := "enter", desc := "(II[LPayMatch$Entry;)I" } : Jvm.MethodName) ({ cls := "PayMatch$State", name := "enter", desc := "(II[LPayMatch$Entry;)I" } : Jvm.MethodName)) ∈ lw_all := lw_g (lw_at lw_m7 25 rfl) rfl
theorem q1539 : (Jvm.Cond.code ({ cls := "PayMatch$State", name := "enter", desc := "(II[LPayMatch$Entry;)I" } : Jvm.MethodName) prog_11_method_12_code (5 : Nat) (Option.some Jvm.ClassFile.FieldType.int)) ∈ lw_all := lw_g (lw_at lw_m7 26 rfl) rfl
theorem q1540 : (Jvm.Cond.methodLink "PayMatch$State" (151 : Nat) ({ cls := "PayMatch$Book", name := "size", desc := "()I" } : Jvm.MethodName)) ∈ lw_all := lw_g (lw_at lw_m7 27 rfl) rfl
theorem q1541 : (Jvm.Cond.methodLink "PayMatch$State" (152 : Nat) ({ cls := "PayMatch$Invoice", name := "<init>", desc := "(IIII[LPayMatch$Entry;)V" } : Jvm.MethodName)) ∈ lw_all := lw_g (lw_at lw_m7 28 rfl) rfl
theorem q1542 : (Jvm.Cond.methodLink "PayMatch$State" (155 : Nat) ({ cls := "PayMatch$Book", name := "add", desc := "(LPayMatch$Paper;)LPayMatch$Paper;" } : Jvm.MethodName)) ∈ lw_all := lw_g (lw_at lw_m7 29 rfl) rfl
theorem q1543 : (Jvm.Cond.methodLink "PayMatch$State" (162 : Nat) ({ cls := "PayMatch$Invoice", name := "total", desc := "()I" } : Jvm.MethodName)) ∈ lw_all := lw_g (lw_at lw_m7 30 rfl) rfl
theorem q1704 : (Jvm.Cond.instanceMethod ({ cls := "PayMatch$State", name := "against", desc := "(LPayMatch$Invoice;)I" } : Jvm.MethodName)) ∈ lw_all := lw_g (lw_at lw_m7 191 rfl) rfl
theorem q1705 : (Jvm.Cond.selects "PayMatch$State" ({ cls := "PayMatch$State", name := "against", desc := "(LPayMatch$Invoice;)I" } : Jvm.MethodName) ({ cls := "PayMatch$State", name := "against", desc := "(LPayMatch$Invoice;)I" } : Jvm.MethodName)) ∈ lw_all := lw_g (lw_at lw_m7 192 rfl) rfl
theorem q1706 : (Jvm.Cond.code ({ cls := "PayMatch$State", name := "against", desc := "(LPayMatch$Invoice;)I" } : Jvm.MethodName) prog_11_method_15_code (8 : Nat) (Option.some Jvm.ClassFile.FieldType.int)) ∈ lw_all := lw_g (lw_at lw_m7 193 rfl) rfl
theorem q1707 : (Jvm.Cond.methodLink "PayMatch$State" (185 : Nat) ({ cls := "PayMatch$State", name := "isTwice", desc := "(LPayMatch$Invoice;)Z" } : Jvm.MethodName)) ∈ lw_all := lw_g (lw_at lw_m7 194 rfl) rfl
theorem q1708 : (Jvm.Cond.privateMethod ({ cls := "PayMatch$State", name := "isTwice", desc := "(LPayMatch$Invoice;)Z" } : Jvm.MethodName)) ∈ lw_tbl := lw_at lw_m7 195 rfl
theorem q1709 : (Jvm.Cond.instanceMethod ({ cls := "PayMatch$State", name := "isTwice", desc := "(LPayMatch$Invoice;)Z" } : Jvm.MethodName)) ∈ lw_all := lw_g (lw_at lw_m7 196 rfl) rfl
theorem q1710 : (Jvm.Cond.code ({ cls := "PayMatch$State", name := "isTwice", desc := "(LPayMatch$Invoice;)Z" } : Jvm.MethodName) prog_11_method_13_code (5 : Nat) (Option.some Jvm.ClassFile.FieldType.boolean)) ∈ lw_all := lw_g (lw_at lw_m7 197 rfl) rfl
theorem q1711 : (Jvm.Cond.methodLink "PayMatch$State" (197 : Nat) ({ cls := "PayMatch$State", name := "lineOf", desc := "(LPayMatch$Invoice;LPayMatch$Entry;)LPayMatch$Line;" } : Jvm.MethodName)) ∈ lw_all := lw_g (lw_at lw_m7 198 rfl) rfl
theorem q1712 : (Jvm.Cond.instanceMethod ({ cls := "PayMatch$State", name := "lineOf", desc := "(LPayMatch$Invoice;LPayMatch$Entry;)LPayMatch$Line;" } : Jvm.MethodName)) ∈ lw_all := lw_g (lw_at lw_m7 199 rfl) rfl
theorem q1713 : (Jvm.Cond.selects "PayMatch$State" ({ cls := "PayMatch$State", name := "lineOf", desc := "(LPayMatch$Invoice;LPayMatch$Entry;)LPayMatch$Line;" } : Jvm.MethodName) ({ cls := "PayMatch$State", name := "lineOf", desc := "(LPayMatch$Invoice;LPayMatch$Entry;)LPayMatch$Line;" } : Jvm.MethodName)) ∈ lw_all := lw_g (lw_at lw_m7 200 rfl) rfl
theorem q1714 : (Jvm.Cond.code ({ cls := "PayMatch$State", name := "lineOf", desc := "(LPayMatch$Invoice;LPayMatch$Entry;)LPayMatch$Line;" } : Jvm.MethodName) prog_11_method_7_code (3 : Nat) (Option.some (Jvm.ClassFile.FieldType.object "PayMatch$Line"))) ∈ lw_all := lw_g (lw_at lw_m7 201 rfl) rfl
theorem q1715 : (Jvm.Cond.methodLink "PayMatch$State" (201 : Nat) ({ cls := "PayMatch$Supplier", name := "isTooDear", desc := "(IILPayMatch$Line;)Z" } : Jvm.MethodName)) ∈ lw_all := lw_g (lw_at lw_m7 202 rfl) rfl
theorem q1719 : (Jvm.Cond.methodLink "PayMatch$State" (205 : Nat) ({ cls := "PayMatch$State", name := "leftFor", desc := "(LPayMatch$Invoice;LPayMatch$Entry;)I" } : Jvm.MethodName)) ∈ lw_all := lw_g (lw_at lw_m7 206 rfl) rfl
theorem q1720 : (Jvm.Cond.privateMethod ({ cls := "PayMatch$State", name := "leftFor", desc := "(LPayMatch$Invoice;LPayMatch$Entry;)I" } : Jvm.MethodName)) ∈ lw_tbl := lw_at lw_m7 207 rfl
theorem q1721 : (Jvm.Cond.instanceMethod ({ cls := "PayMatch$State", name := "leftFor", desc := "(LPayMatch$Invoice;LPayMatch$Entry;)I" } : Jvm.MethodName)) ∈ lw_all := lw_g (lw_at lw_m7 208 rfl) rfl
theorem q1722 : (Jvm.Cond.code ({ cls := "PayMatch$State", name := "leftFor", desc := "(LPayMatch$Invoice;LPayMatch$Entry;)I" } : Jvm.MethodName) prog_11_method_14_code (3 : Nat) (Option.some Jvm.ClassFile.FieldType.int)) ∈ lw_all := lw_g (lw_at lw_m7 209 rfl) rfl
theorem q1723 : (Jvm.Cond.methodLink "PayMatch$State" (171 : Nat) ({ cls := "PayMatch$State", name := "left", desc := "(II)I" } : Jvm.MethodName)) ∈ lw_all := lw_g (lw_at lw_m7 210 rfl) rfl
theorem q1724 : (Jvm.Cond.instanceMethod ({ cls := "PayMatch$State", name := "left", desc := "(II)I" } : Jvm.MethodName)) ∈ lw_all := lw_g (lw_at lw_m7 211 rfl) rfl
theorem q1725 : (Jvm.Cond.selects "PayMatch$State" ({ cls := "PayMatch$State", name := "left", desc := "(II)I" } : Jvm.MethodName) ({ cls := "PayMatch$State", name := "left", desc := "(II)I" } : Jvm.MethodName)) ∈ lw_all := lw_g (lw_at lw_m7 212 rfl) rfl
theorem q1726 : (Jvm.Cond.code ({ cls := "PayMatch$State", name := "left", desc := "(II)I" } : Jvm.MethodName) prog_11_method_11_code (3 : Nat) (Option.some Jvm.ClassFile.FieldType.int)) ∈ lw_all := lw_g (lw_at lw_m7 213 rfl) rfl
theorem q1727 : (Jvm.Cond.methodLink "PayMatch$State" (175 : Nat) ({ cls := "PayMatch$Invoice", name := "isBilled", desc := "()Z" } : Jvm.MethodName)) ∈ lw_all := lw_g (lw_at lw_m7 214 rfl) rfl
theorem q1732 : (Jvm.Cond.instanceMethod ({ cls := "PayMatch$State", name := "match", desc := "(LPayMatch$Invoice;)I" } : Jvm.MethodName)) ∈ lw_all := lw_g (lw_at lw_m7 219 rfl) rfl
theorem q1733 : (Jvm.Cond.selects "PayMatch$State" ({ cls := "PayMatch$State", name := "match", desc := "(LPayMatch$Invoice;)I" } : Jvm.MethodName) ({ cls := "PayMatch$State", name := "match", desc := "(LPayMatch$Invoice;)I" } : Jvm.MethodName)) ∈ lw_all := lw_g (lw_at lw_m7 220 rfl) rfl
theorem q1734 : (Jvm.Cond.code ({ cls := "PayMatch$State", name := "match", desc := "(LPayMatch$Invoice;)I" } : Jvm.MethodName) prog_11_method_17_code (3 : Nat) (Option.some Jvm.ClassFile.FieldType.int)) ∈ lw_all := lw_g (lw_at lw_m7 221 rfl) rfl
theorem q1735 : (Jvm.Cond.methodLink "PayMatch$State" (209 : Nat) ({ cls := "PayMatch$State", name := "against", desc := "(LPayMatch$Invoice;)I" } : Jvm.MethodName)) ∈ lw_all := lw_g (lw_at lw_m7 222 rfl) rfl
theorem q1736 : (Jvm.Cond.methodLink "PayMatch$State" (222 : Nat) ({ cls := "PayMatch$State", name := "approve", desc := "(LPayMatch$Invoice;)V" } : Jvm.MethodName)) ∈ lw_all := lw_g (lw_at lw_m7 223 rfl) rfl
theorem q1737 : (Jvm.Cond.privateMethod ({ cls := "PayMatch$State", name := "approve", desc := "(LPayMatch$Invoice;)V" } : Jvm.MethodName)) ∈ lw_tbl := lw_at lw_m7 224 rfl
theorem q1738 : (Jvm.Cond.instanceMethod ({ cls := "PayMatch$State", name := "approve", desc := "(LPayMatch$Invoice;)V" } : Jvm.MethodName)) ∈ lw_all := lw_g (lw_at lw_m7 225 rfl) rfl
theorem q1739 : (Jvm.Cond.code ({ cls := "PayMatch$State", name := "approve", desc := "(LPayMatch$Invoice;)V" } : Jvm.MethodName) prog_11_method_16_code (6 : Nat) (Option.none : Option Jvm.ClassFile.FieldType)) ∈ lw_all := lw_g (lw_at lw_m7 226 rfl) rfl
theorem q1745 : (Jvm.Cond.instanceMethod ({ cls := "PayMatch$State", name := "note", desc := "(LPayMatch$Invoice;)I" } : Jvm.MethodName)) ∈ lw_all := lw_g (lw_at lw_m7 232 rfl) rfl
theorem q1746 : (Jvm.Cond.selects "PayMatch$State" ({ cls := "PayMatch$State", name := "note", desc := "(LPayMatch$Invoice;)I" } : Jvm.MethodName) ({ cls := "PayMatch$State", name := "note", desc := "(LPayMatch$Invoice;)I" } : Jvm.MethodName)) ∈ lw_all := lw_g (lw_at lw_m7 233 rfl) rfl
theorem q1747 : (Jvm.Cond.code ({ cls := "PayMatch$State", name := "note", desc := "(LPayMatch$Invoice;)I" } : Jvm.MethodName) prog_11_method_19_code (4 : Nat) (Option.some Jvm.ClassFile.FieldType.int)) ∈ lw_all := lw_g (lw_at lw_m7 234 rfl) rfl
theorem q1748 : (Jvm.Cond.methodLink "PayMatch$State" (237 : Nat) ({ cls := "PayMatch$State", name := "noted", desc := "(LPayMatch$Invoice;LPayMatch$Entry;)LPayMatch$Entry;" } : Jvm.MethodName)) ∈ lw_all := lw_g (lw_at lw_m7 235 rfl) rfl
theorem q1749 : (Jvm.Cond.privateMethod ({ cls := "PayMatch$State", name := "noted", desc := "(LPayMatch$Invoice;LPayMatch$Entry;)LPayMatch$Entry;" } : Jvm.MethodName)) ∈ lw_tbl := lw_at lw_m7 236 rfl
theorem q1750 : (Jvm.Cond.instanceMethod ({ cls := "PayMatch$State", name := "noted", desc := "(LPayMatch$Invoice;LPayMatch$Entry;)LPayMatch$Entry;" } : Jvm.MethodName)) ∈ lw_all := lw_g (lw_at lw_m7 237 rfl) rfl
theorem q1751 : (Jvm.Cond.code ({ cls := "PayMatch$State", name := "noted", desc := "(LPayMatch$Invoice;LPayMatch$Entry;)LPayMatch$Entry;" } : Jvm.MethodName) prog_11_method_18_code (6 : Nat) (Option.some (Jvm.ClassFile.FieldType.object "PayMatch$Entry"))) ∈ lw_all := lw_g (lw_at lw_m7 238 rfl) rfl
theorem q1752 : (Jvm.Cond.methodLink "PayMatch$State" (227 : Nat) ({ cls := "java/lang/Math", name := "max", desc := "(II)I" } : Jvm.MethodName)) ∈ lw_all := lw_g (lw_at lw_m7 239 rfl) rfl
theorem q1753 : (Jvm.Cond.methodLink "PayMatch$State" (232 : Nat) ({ cls := "java/lang/Math", name := "min", desc := "(II)I" } : Jvm.MethodName)) ∈ lw_all := lw_g (lw_at lw_m8 0 rfl) rfl
theorem q1754 : (Jvm.Cond.classLink "PayMatch$State" (114 : Nat) "PayMatch$Entry") ∈ lw_all := lw_g (lw_at lw_m8 1 rfl) rfl
theorem q1755 : (Jvm.Cond.methodLink "PayMatch$State" (235 : Nat) ({ cls := "PayMatch$Entry", name := "<init>", desc := "(III)V" } : Jvm.MethodName)) ∈ lw_all := lw_g (lw_at lw_m8 2 rfl) rfl
theorem q1767 : (Jvm.Cond.instanceMethod ({ cls := "PayMatch$State", name := "pay", desc := "(LPayMatch$Invoice;)I" } : Jvm.MethodName)) ∈ lw_all := lw_g (lw_at lw_m8 14 rfl) rfl
theorem q1768 : (Jvm.Cond.selects "PayMatch$State" ({ cls := "PayMatch$State", name := "pay", desc := "(LPayMatch$Invoice;)I" } : Jvm.MethodName) ({ cls := "PayMatch$State", name := "pay", desc := "(LPayMatch$Invoice;)I" } : Jvm.MethodName)) ∈ lw_all := lw_g (lw_at lw_m8 15 rfl) rfl
theorem q1769 : (Jvm.Cond.code ({ cls := "PayMatch$State", name := "pay", desc := "(LPayMatch$Invoice;)I" } : Jvm.MethodName) prog_11_method_20_code (10 : Nat) (Option.some Jvm.ClassFile.FieldType.int)) ∈ lw_all := lw_g (lw_at lw_m8 16 rfl) rfl
theorem q1770 : (Jvm.Cond.constantDouble "PayMatch$State" (245 : Nat) (4636737291354636288 : UInt64)) ∈ lw_all := lw_g (lw_at lw_m8 17 rfl) rfl
theorem q1776 : (Jvm.Cond.instanceMethod ({ cls := "PayMatch$State", name := "pass", desc := "(I)I" } : Jvm.MethodName)) ∈ lw_all := lw_g (lw_at lw_m8 23 rfl) rfl
theorem q1777 : (Jvm.Cond.selects "PayMatch$State" ({ cls := "PayMatch$State", name := "pass", desc := "(I)I" } : Jvm.MethodName) ({ cls := "PayMatch$State", name := "pass", desc := "(I)I" } : Jvm.MethodName)) ∈ lw_all := lw_g (lw_at lw_m8 24 rfl) rfl
theorem q1778 : (Jvm.Cond.code ({ cls := "PayMatch$State", name := "pass", desc := "(I)I" } : Jvm.MethodName) prog_11_method_22_code (4 : Nat) (Option.some Jvm.ClassFile.FieldType.int)) ∈ lw_all := lw_g (lw_at lw_m8 25 rfl) rfl
theorem q1779 : (Jvm.Cond.methodLink "PayMatch$State" (264 : Nat) ({ cls := "PayMatch$State", name := "payDue", desc := "()I" } : Jvm.MethodName)) ∈ lw_all := lw_g (lw_at lw_m8 26 rfl) rfl
theorem q1780 : (Jvm.Cond.privateMethod ({ cls := "PayMatch$State", name := "payDue", desc := "()I" } : Jvm.MethodName)) ∈ lw_tbl := lw_at lw_m8 27 rfl
theorem q1781 : (Jvm.Cond.instanceMethod ({ cls := "PayMatch$State", name := "payDue", desc := "()I" } : Jvm.MethodName)) ∈ lw_all := lw_g (lw_at lw_m8 28 rfl) rfl
theorem q1782 : (Jvm.Cond.code ({ cls := "PayMatch$State", name := "payDue", desc := "()I" } : Jvm.MethodName) prog_11_method_21_code (4 : Nat) (Option.some Jvm.ClassFile.FieldType.int)) ∈ lw_all := lw_g (lw_at lw_m8 29 rfl) rfl
theorem q1783 : (Jvm.Cond.methodLink "PayMatch$State" (261 : Nat) ({ cls := "PayMatch$State", name := "pay", desc := "(LPayMatch$Invoice;)I" } : Jvm.MethodName)) ∈ lw_all := lw_g (lw_at lw_m8 30 rfl) rfl
theorem q1858 : (Jvm.Cond.instanceMethod ({ cls := "PayMatch$State", name := "ordersOf", desc := "(I)I" } : Jvm.MethodName)) ∈ lw_all := lw_g (lw_at lw_m8 105 rfl) rfl
theorem q1859 : (Jvm.Cond.selects "PayMatch$State" ({ cls := "PayMatch$State", name := "ordersOf", desc := "(I)I" } : Jvm.MethodName) ({ cls := "PayMatch$State", name := "ordersOf", desc := "(I)I" } : Jvm.MethodName)) ∈ lw_all := lw_g (lw_at lw_m8 106 rfl) rfl
theorem q1860 : (Jvm.Cond.code ({ cls := "PayMatch$State", name := "ordersOf", desc := "(I)I" } : Jvm.MethodName) prog_11_method_23_code (5 : Nat) (Option.some Jvm.ClassFile.FieldType.int)) ∈ lw_all := lw_g (lw_at lw_m8 107 rfl) rfl
theorem q1904 : (Jvm.Cond.instanceMethod ({ cls := "PayMatch$State", name := "open", desc := "(Z)D" } : Jvm.MethodName)) ∈ lw_all := lw_g (lw_at lw_m8 151 rfl) rfl
theorem q1905 : (Jvm.Cond.selects "PayMatch$State" ({ cls := "PayMatch$State", name := "open", desc := "(Z)D" } : Jvm.MethodName) ({ cls := "PayMatch$State", name := "open", desc := "(Z)D" } : Jvm.MethodName)) ∈ lw_all := lw_g (lw_at lw_m8 152 rfl) rfl
theorem q1906 : (Jvm.Cond.code ({ cls := "PayMatch$State", name := "open", desc := "(Z)D" } : Jvm.MethodName) prog_11_method_27_code (9 : Nat) (Option.some Jvm.ClassFile.FieldType.double)) ∈ lw_all := lw_g (lw_at lw_m8 153 rfl) rfl
theorem q1908 : (Jvm.Cond.instanceMethod ({ cls := "PayMatch$State", name := "firstShare", desc := "()D" } : Jvm.MethodName)) ∈ lw_all := lw_g (lw_at lw_m8 155 rfl) rfl
theorem q1909 : (Jvm.Cond.selects "PayMatch$State" ({ cls := "PayMatch$State", name := "firstShare", desc := "()D" } : Jvm.MethodName) ({ cls := "PayMatch$State", name := "firstShare", desc := "()D" } : Jvm.MethodName)) ∈ lw_all := lw_g (lw_at lw_m8 156 rfl) rfl
theorem q1910 : (Jvm.Cond.code ({ cls := "PayMatch$State", name := "firstShare", desc := "()D" } : Jvm.MethodName) prog_11_method_28_code (5 : Nat) (Option.some Jvm.ClassFile.FieldType.double)) ∈ lw_all := lw_g (lw_at lw_m8 157 rfl) rfl
theorem q1955 : (Jvm.Cond.instanceMethod ({ cls := "PayMatch$State", name := "invoicesIn", desc := "(I)I" } : Jvm.MethodName)) ∈ lw_all := lw_g (lw_at lw_m8 202 rfl) rfl
theorem q1956 : (Jvm.Cond.selects "PayMatch$State" ({ cls := "PayMatch$State", name := "invoicesIn", desc := "(I)I" } : Jvm.MethodName) ({ cls := "PayMatch$State", name := "invoicesIn", desc := "(I)I" } : Jvm.MethodName)) ∈ lw_all := lw_g (lw_at lw_m8 203 rfl) rfl
theorem q1957 : (Jvm.Cond.code ({ cls := "PayMatch$State", name := "invoicesIn", desc := "(I)I" } : Jvm.MethodName) prog_11_method_25_code (5 : Nat) (Option.some Jvm.ClassFile.FieldType.int)) ∈ lw_all := lw_g (lw_at lw_m8 204 rfl) rfl
theorem q1959 : (Jvm.Cond.instanceMethod ({ cls := "PayMatch$State", name := "sum", desc := "(I)I" } : Jvm.MethodName)) ∈ lw_all := lw_g (lw_at lw_m8 206 rfl) rfl
theorem q1960 : (Jvm.Cond.selects "PayMatch$State" ({ cls := "PayMatch$State", name := "sum", desc := "(I)I" } : Jvm.MethodName) ({ cls := "PayMatch$State", name := "sum", desc := "(I)I" } : Jvm.MethodName)) ∈ lw_all := lw_g (lw_at lw_m8 207 rfl) rfl
theorem q1961 : (Jvm.Cond.code ({ cls := "PayMatch$State", name := "sum", desc := "(I)I" } : Jvm.MethodName) prog_11_method_26_code (5 : Nat) (Option.some Jvm.ClassFile.FieldType.int)) ∈ lw_all := lw_g (lw_at lw_m8 208 rfl) rfl
theorem q2388 : (Jvm.Cond.castable "PayMatch$State" "java/lang/Object") ∈ lw_tbl := lw_at lw_m10 155 rfl
theorem in_X1 : ∀ w ∈ wsX10, w ∈ lw_all := lw_in wsX10 [214, 216, 218, 220, 222, 224, 226, 228, 230] (by decide +kernel) (by decide +kernel)
/-! PayMatch$Book -/
set_option maxRecDepth 100000
def RX2 : String := "PayMatch$Book"
def TX2 : u_T := fun k => match k with
  | _ => ("PayMatch$Book", "papers", "Ljava/util/List;", true)
def tyX2 : Nat → FieldType := fun k => match k with
  | _ => .object "java/util/List"
abbrev wsX20 : List Cond := u_ws RX2 TX2 1
theorem nmX2 : ∀ a, a < 1 → ∀ b, b < 1 → a ≠ b → (TX2 a).2.1 ≠ (TX2 b).2.1 := by decide +kernel
theorem tyX2_ok : ∀ k, k < 1 → parseFieldDescriptor (TX2 k).2.2.1 = some (tyX2 k) := by decide +kernel
abbrev cX2_init : ByteArray := prog_2_method_1_code
def yX2_init : MethodName := ⟨RX2, "<init>", "()V"⟩
def dkwX2_init_0 : List UInt8 := [42, 183, 0, 1, 42, 187, 0, 7, 89, 183, 0, 9, 181, 0, 10, 177]
abbrev dktX2_init_0 : List UInt8 := dkwX2_init_0 ++ []
theorem dksX2_init_0 : cX2_init.data.toList.drop 0 = dktX2_init_0 := by decide +kernel
theorem dX2_init_0 : decode cX2_init 0 = .ok (.aload_n 0, 1) := dk_42 (dk_at dksX2_init_0 0 rfl rfl)
theorem dX2_init_1 : decode cX2_init 1 = .ok (.invokespecial 1, 3) := dk_183 0 1 (dk_at dksX2_init_0 1 rfl rfl)
theorem dX2_init_4 : decode cX2_init 4 = .ok (.aload_n 0, 1) := dk_42 (dk_at dksX2_init_0 4 rfl rfl)
theorem dX2_init_5 : decode cX2_init 5 = .ok (.new 7, 3) := dk_187 0 7 (dk_at dksX2_init_0 5 rfl rfl)
theorem dX2_init_8 : decode cX2_init 8 = .ok (.dup, 1) := dk_89 (dk_at dksX2_init_0 8 rfl rfl)
theorem dX2_init_9 : decode cX2_init 9 = .ok (.invokespecial 9, 3) := dk_183 0 9 (dk_at dksX2_init_0 9 rfl rfl)
theorem dX2_init_12 : decode cX2_init 12 = .ok (.putfield 10, 3) := dk_181 0 10 (dk_at dksX2_init_0 12 rfl rfl)
theorem dX2_init_15 : decode cX2_init 15 = .ok (.return_, 1) := dk_177 (dk_at dksX2_init_0 15 rfl rfl)
abbrev cX2_size : ByteArray := prog_2_method_4_code
def yX2_size : MethodName := ⟨RX2, "size", "()I"⟩
def dkwX2_size_0 : List UInt8 := [42, 180, 0, 10, 185, 0, 28, 1, 0, 172]
abbrev dktX2_size_0 : List UInt8 := dkwX2_size_0 ++ []
theorem dksX2_size_0 : cX2_size.data.toList.drop 0 = dktX2_size_0 := by decide +kernel
theorem dX2_size_0 : decode cX2_size 0 = .ok (.aload_n 0, 1) := dk_42 (dk_at dksX2_size_0 0 rfl rfl)
theorem dX2_size_1 : decode cX2_size 1 = .ok (.getfield 10, 3) := dk_180 0 10 (dk_at dksX2_size_0 1 rfl rfl)
theorem dX2_size_4 : decode cX2_size 4 = .ok (.invokeinterface 28 1, 5) := by decide +kernel
theorem dX2_size_9 : decode cX2_size 9 = .ok (.ireturn, 1) := dk_172 (dk_at dksX2_size_0 9 rfl rfl)
abbrev cX2_copy : ByteArray := prog_2_method_6_code
def yX2_copy : MethodName := ⟨RX2, "copy", "()LPayMatch$Book;"⟩
def dkwX2_copy_2 : List UInt8 := [167, 255, 226, 43, 176]
abbrev dktX2_copy_2 : List UInt8 := dkwX2_copy_2 ++ []
def dkwX2_copy_1 : List UInt8 := [153, 0, 27, 44, 185, 0, 49, 1, 0, 192, 0, 26, 78, 43, 45, 185, 0, 53, 1, 0, 182, 0, 57, 87]
abbrev dktX2_copy_1 : List UInt8 := dkwX2_copy_1 ++ dktX2_copy_2
def dkwX2_copy_0 : List UInt8 := [187, 0, 11, 89, 183, 0, 38, 76, 42, 180, 0, 10, 185, 0, 39, 1, 0, 77, 44, 185, 0, 43, 1, 0]
abbrev dktX2_copy_0 : List UInt8 := dkwX2_copy_0 ++ dktX2_copy_1
theorem dksX2_copy_0 : cX2_copy.data.toList.drop 0 = dktX2_copy_0 := by decide +kernel
theorem dksX2_copy_1 : cX2_copy.data.toList.drop 24 = dktX2_copy_1 := dk_seg dksX2_copy_0 24 rfl rfl
theorem dksX2_copy_2 : cX2_copy.data.toList.drop 48 = dktX2_copy_2 := dk_seg dksX2_copy_1 24 rfl rfl
theorem dX2_copy_0 : decode cX2_copy 0 = .ok (.new 11, 3) := dk_187 0 11 (dk_at dksX2_copy_0 0 rfl rfl)
theorem dX2_copy_3 : decode cX2_copy 3 = .ok (.dup, 1) := dk_89 (dk_at dksX2_copy_0 3 rfl rfl)
theorem dX2_copy_4 : decode cX2_copy 4 = .ok (.invokespecial 38, 3) := dk_183 0 38 (dk_at dksX2_copy_0 4 rfl rfl)
theorem dX2_copy_7 : decode cX2_copy 7 = .ok (.astore_n 1, 1) := dk_76 (dk_at dksX2_copy_0 7 rfl rfl)
theorem dX2_copy_8 : decode cX2_copy 8 = .ok (.aload_n 0, 1) := dk_42 (dk_at dksX2_copy_0 8 rfl rfl)
theorem dX2_copy_9 : decode cX2_copy 9 = .ok (.getfield 10, 3) := dk_180 0 10 (dk_at dksX2_copy_0 9 rfl rfl)
theorem dX2_copy_12 : decode cX2_copy 12 = .ok (.invokeinterface 39 1, 5) := by decide +kernel
theorem dX2_copy_17 : decode cX2_copy 17 = .ok (.astore_n 2, 1) := dk_77 (dk_at dksX2_copy_0 17 rfl rfl)
theorem dX2_copy_18 : decode cX2_copy 18 = .ok (.aload_n 2, 1) := dk_44 (dk_at dksX2_copy_0 18 rfl rfl)
theorem dX2_copy_19 : decode cX2_copy 19 = .ok (.invokeinterface 43 1, 5) := by decide +kernel
theorem dX2_copy_24 : decode cX2_copy 24 = .ok (.ifCond .eq 27, 3) := dk_153 0 27 (dk_at dksX2_copy_1 0 rfl rfl)
theorem dX2_copy_27 : decode cX2_copy 27 = .ok (.aload_n 2, 1) := dk_44 (dk_at dksX2_copy_1 3 rfl rfl)
theorem dX2_copy_28 : decode cX2_copy 28 = .ok (.invokeinterface 49 1, 5) := by decide +kernel
theorem dX2_copy_33 : decode cX2_copy 33 = .ok (.checkcast 26, 3) := dk_192 0 26 (dk_at dksX2_copy_1 9 rfl rfl)
theorem dX2_copy_36 : decode cX2_copy 36 = .ok (.astore_n 3, 1) := dk_78 (dk_at dksX2_copy_1 12 rfl rfl)
theorem dX2_copy_37 : decode cX2_copy 37 = .ok (.aload_n 1, 1) := dk_43 (dk_at dksX2_copy_1 13 rfl rfl)
theorem dX2_copy_38 : decode cX2_copy 38 = .ok (.aload_n 3, 1) := dk_45 (dk_at dksX2_copy_1 14 rfl rfl)
theorem dX2_copy_39 : decode cX2_copy 39 = .ok (.invokeinterface 53 1, 5) := by decide +kernel
theorem dX2_copy_44 : decode cX2_copy 44 = .ok (.invokevirtual 57, 3) := dk_182 0 57 (dk_at dksX2_copy_1 20 rfl rfl)
theorem dX2_copy_47 : decode cX2_copy 47 = .ok (.pop, 1) := dk_87 (dk_at dksX2_copy_1 23 rfl rfl)
theorem dX2_copy_48 : decode cX2_copy 48 = .ok (.goto (-30), 3) := dk_167 255 226 (dk_at dksX2_copy_2 0 rfl rfl)
theorem dX2_copy_51 : decode cX2_copy 51 = .ok (.aload_n 1, 1) := dk_43 (dk_at dksX2_copy_2 3 rfl rfl)
theorem dX2_copy_52 : decode cX2_copy 52 = .ok (.areturn, 1) := dk_176 (dk_at dksX2_copy_2 4 rfl rfl)
abbrev cX2_add : ByteArray := prog_2_method_2_code
def yX2_add : MethodName := ⟨RX2, "add", "(LPayMatch$Paper;)LPayMatch$Paper;"⟩
def dkwX2_add_0 : List UInt8 := [42, 180, 0, 10, 43, 185, 0, 16, 2, 0, 87, 43, 176]
abbrev dktX2_add_0 : List UInt8 := dkwX2_add_0 ++ []
theorem dksX2_add_0 : cX2_add.data.toList.drop 0 = dktX2_add_0 := by decide +kernel
theorem dX2_add_0 : decode cX2_add 0 = .ok (.aload_n 0, 1) := dk_42 (dk_at dksX2_add_0 0 rfl rfl)
theorem dX2_add_1 : decode cX2_add 1 = .ok (.getfield 10, 3) := dk_180 0 10 (dk_at dksX2_add_0 1 rfl rfl)
theorem dX2_add_4 : decode cX2_add 4 = .ok (.aload_n 1, 1) := dk_43 (dk_at dksX2_add_0 4 rfl rfl)
theorem dX2_add_5 : decode cX2_add 5 = .ok (.invokeinterface 16 2, 5) := by decide +kernel
theorem dX2_add_10 : decode cX2_add 10 = .ok (.pop, 1) := dk_87 (dk_at dksX2_add_0 10 rfl rfl)
theorem dX2_add_11 : decode cX2_add 11 = .ok (.aload_n 1, 1) := dk_43 (dk_at dksX2_add_0 11 rfl rfl)
theorem dX2_add_12 : decode cX2_add 12 = .ok (.areturn, 1) := dk_176 (dk_at dksX2_add_0 12 rfl rfl)
abbrev cX2_has : ByteArray := prog_2_method_5_code
def yX2_has : MethodName := ⟨RX2, "has", "(I)Z"⟩
def dkwX2_has_0 : List UInt8 := [27, 3, 42, 180, 0, 10, 185, 0, 28, 1, 0, 4, 100, 184, 0, 32, 172]
abbrev dktX2_has_0 : List UInt8 := dkwX2_has_0 ++ []
theorem dksX2_has_0 : cX2_has.data.toList.drop 0 = dktX2_has_0 := by decide +kernel
theorem dX2_has_0 : decode cX2_has 0 = .ok (.iload_n 1, 1) := dk_27 (dk_at dksX2_has_0 0 rfl rfl)
theorem dX2_has_1 : decode cX2_has 1 = .ok (.iconst 0, 1) := dk_3 (dk_at dksX2_has_0 1 rfl rfl)
theorem dX2_has_2 : decode cX2_has 2 = .ok (.aload_n 0, 1) := dk_42 (dk_at dksX2_has_0 2 rfl rfl)
theorem dX2_has_3 : decode cX2_has 3 = .ok (.getfield 10, 3) := dk_180 0 10 (dk_at dksX2_has_0 3 rfl rfl)
theorem dX2_has_6 : decode cX2_has 6 = .ok (.invokeinterface 28 1, 5) := by decide +kernel
theorem dX2_has_11 : decode cX2_has 11 = .ok (.iconst 1, 1) := dk_4 (dk_at dksX2_has_0 11 rfl rfl)
theorem dX2_has_12 : decode cX2_has 12 = .ok (.isub, 1) := dk_100 (dk_at dksX2_has_0 12 rfl rfl)
theorem dX2_has_13 : decode cX2_has 13 = .ok (.invokestatic 32, 3) := dk_184 0 32 (dk_at dksX2_has_0 13 rfl rfl)
theorem dX2_has_16 : decode cX2_has 16 = .ok (.ireturn, 1) := dk_172 (dk_at dksX2_has_0 16 rfl rfl)
abbrev cX2_get : ByteArray := prog_2_method_3_code
def yX2_get : MethodName := ⟨RX2, "get", "(I)LPayMatch$Paper;"⟩
def dkwX2_get_0 : List UInt8 := [42, 180, 0, 10, 27, 185, 0, 22, 2, 0, 192, 0, 26, 176]
abbrev dktX2_get_0 : List UInt8 := dkwX2_get_0 ++ []
theorem dksX2_get_0 : cX2_get.data.toList.drop 0 = dktX2_get_0 := by decide +kernel
theorem dX2_get_0 : decode cX2_get 0 = .ok (.aload_n 0, 1) := dk_42 (dk_at dksX2_get_0 0 rfl rfl)
theorem dX2_get_1 : decode cX2_get 1 = .ok (.getfield 10, 3) := dk_180 0 10 (dk_at dksX2_get_0 1 rfl rfl)
theorem dX2_get_4 : decode cX2_get 4 = .ok (.iload_n 1, 1) := dk_27 (dk_at dksX2_get_0 4 rfl rfl)
theorem dX2_get_5 : decode cX2_get 5 = .ok (.invokeinterface 22 2, 5) := by decide +kernel
theorem dX2_get_10 : decode cX2_get 10 = .ok (.checkcast 26, 3) := dk_192 0 26 (dk_at dksX2_get_0 10 rfl rfl)
theorem dX2_get_13 : decode cX2_get 13 = .ok (.areturn, 1) := dk_176 (dk_at dksX2_get_0 13 rfl rfl)
abbrev cX2_iterator : ByteArray := prog_2_method_7_code
def yX2_iterator : MethodName := ⟨RX2, "iterator", "()Ljava/util/Iterator;"⟩
def dkwX2_iterator_0 : List UInt8 := [42, 180, 0, 10, 185, 0, 39, 1, 0, 176]
abbrev dktX2_iterator_0 : List UInt8 := dkwX2_iterator_0 ++ []
theorem dksX2_iterator_0 : cX2_iterator.data.toList.drop 0 = dktX2_iterator_0 := by decide +kernel
theorem dX2_iterator_0 : decode cX2_iterator 0 = .ok (.aload_n 0, 1) := dk_42 (dk_at dksX2_iterator_0 0 rfl rfl)
theorem dX2_iterator_1 : decode cX2_iterator 1 = .ok (.getfield 10, 3) := dk_180 0 10 (dk_at dksX2_iterator_0 1 rfl rfl)
theorem dX2_iterator_4 : decode cX2_iterator 4 = .ok (.invokeinterface 39 1, 5) := by decide +kernel
theorem dX2_iterator_9 : decode cX2_iterator 9 = .ok (.areturn, 1) := dk_176 (dk_at dksX2_iterator_0 9 rfl rfl)
theorem q76 : (Jvm.Cond.initialized "PayMatch$Book") ∈ lw_all := lw_g (lw_at lw_m1 3 rfl) rfl
theorem q132 : (Jvm.Cond.instantiable "PayMatch$Book" (1 : Nat)) ∈ lw_all := lw_g (lw_at lw_m1 59 rfl) rfl
theorem q134 : (Jvm.Cond.instanceMethod ({ cls := "PayMatch$Book", name := "<init>", desc := "()V" } : Jvm.MethodName)) ∈ lw_all := lw_g (lw_at lw_m1 61 rfl) rfl
theorem q135 : (Jvm.Cond.code ({ cls := "PayMatch$Book", name := "<init>", desc := "()V" } : Jvm.MethodName) prog_2_method_1_code (1 : Nat) (Option.none : Option Jvm.ClassFile.FieldType)) ∈ lw_all := lw_g (lw_at lw_m1 62 rfl) rfl
theorem q136 : (Jvm.Cond.methodLink "PayMatch$Book" (1 : Nat) ({ cls := "java/lang/Object", name := "<init>", desc := "()V" } : Jvm.MethodName)) ∈ lw_all := lw_g (lw_at lw_m1 63 rfl) rfl
theorem q137 : (Jvm.Cond.classLink "PayMatch$Book" (7 : Nat) "java/util/ArrayList") ∈ lw_all := lw_g (lw_at lw_m1 64 rfl) rfl
theorem q139 : (Jvm.Cond.methodLink "PayMatch$Book" (9 : Nat) ({ cls := "java/util/ArrayList", name := "<init>", desc := "()V" } : Jvm.MethodName)) ∈ lw_all := lw_g (lw_at lw_m1 66 rfl) rfl
theorem q170 : (Jvm.Cond.fieldLink "PayMatch$Book" (10 : Nat) "PayMatch$Book" "papers" "Ljava/util/List;") ∈ lw_all := lw_g (lw_at lw_m1 97 rfl) rfl
theorem q171 : (Jvm.Cond.laysFinal "PayMatch$Book" "PayMatch$Book" "papers" "Ljava/util/List;") ∈ lw_all := lw_g (lw_at lw_m1 98 rfl) rfl
theorem q172 : (Jvm.Cond.soleField "PayMatch$Book" "papers") ∈ lw_all := lw_g (lw_at lw_m1 99 rfl) rfl
theorem q173 : (Jvm.Cond.superclass "PayMatch$Book" "java/lang/Object") ∈ lw_all := lw_g (lw_at lw_m1 100 rfl) rfl
theorem q304 : (Jvm.Cond.instanceMethod ({ cls := "PayMatch$Book", name := "size", desc := "()I" } : Jvm.MethodName)) ∈ lw_all := lw_g (lw_at lw_m1 231 rfl) rfl
theorem q305 : (Jvm.Cond.selects "PayMatch$Book" ({ cls := "PayMatch$Book", name := "size", desc := "()I" } : Jvm.MethodName) ({ cls := "PayMatch$Book", name := "size", desc := "()I" } : Jvm.MethodName)) ∈ lw_all := lw_g (lw_at lw_m1 232 rfl) rfl
theorem q306 : (Jvm.Cond.code ({ cls := "PayMatch$Book", name := "size", desc := "()I" } : Jvm.MethodName) prog_2_method_4_code (1 : Nat) (Option.some Jvm.ClassFile.FieldType.int)) ∈ lw_all := lw_g (lw_at lw_m1 233 rfl) rfl
theorem q307 : (Jvm.Cond.interfaceEntry "PayMatch$Book" (28 : Nat)) ∈ lw_tbl := lw_at lw_m1 234 rfl
theorem q308 : (Jvm.Cond.methodLink "PayMatch$Book" (28 : Nat) ({ cls := "java/util/List", name := "size", desc := "()I" } : Jvm.MethodName)) ∈ lw_all := lw_g (lw_at lw_m1 235 rfl) rfl
theorem q330 : (Jvm.Cond.instanceMethod ({ cls := "PayMatch$Book", name := "copy", desc := "()LPayMatch$Book;" } : Jvm.MethodName)) ∈ lw_all := lw_g (lw_at lw_m2 17 rfl) rfl
theorem q331 : (Jvm.Cond.selects "PayMatch$Book" ({ cls := "PayMatch$Book", name := "copy", desc := "()LPayMatch$Book;" } : Jvm.MethodName) ({ cls := "PayMatch$Book", name := "copy", desc := "()LPayMatch$Book;" } : Jvm.MethodName)) ∈ lw_all := lw_g (lw_at lw_m2 18 rfl) rfl
theorem q332 : (Jvm.Cond.code ({ cls := "PayMatch$Book", name := "copy", desc := "()LPayMatch$Book;" } : Jvm.MethodName) prog_2_method_6_code (4 : Nat) (Option.some (Jvm.ClassFile.FieldType.object "PayMatch$Book"))) ∈ lw_all := lw_g (lw_at lw_m2 19 rfl) rfl
theorem q333 : (Jvm.Cond.classLink "PayMatch$Book" (11 : Nat) "PayMatch$Book") ∈ lw_all := lw_g (lw_at lw_m2 20 rfl) rfl
theorem q334 : (Jvm.Cond.methodLink "PayMatch$Book" (38 : Nat) ({ cls := "PayMatch$Book", name := "<init>", desc := "()V" } : Jvm.MethodName)) ∈ lw_all := lw_g (lw_at lw_m2 21 rfl) rfl
theorem q335 : (Jvm.Cond.interfaceEntry "PayMatch$Book" (39 : Nat)) ∈ lw_tbl := lw_at lw_m2 22 rfl
theorem q336 : (Jvm.Cond.methodLink "PayMatch$Book" (39 : Nat) ({ cls := "java/util/List", name := "iterator", desc := "()Ljava/util/Iterator;" } : Jvm.MethodName)) ∈ lw_all := lw_g (lw_at lw_m2 23 rfl) rfl
theorem q438 : (Jvm.Cond.interfaceEntry "PayMatch$Book" (43 : Nat)) ∈ lw_tbl := lw_at lw_m2 125 rfl
theorem q439 : (Jvm.Cond.methodLink "PayMatch$Book" (43 : Nat) ({ cls := "java/util/Iterator", name := "hasNext", desc := "()Z" } : Jvm.MethodName)) ∈ lw_all := lw_g (lw_at lw_m2 126 rfl) rfl
theorem q474 : (Jvm.Cond.interfaceEntry "PayMatch$Book" (49 : Nat)) ∈ lw_tbl := lw_at lw_m2 161 rfl
theorem q475 : (Jvm.Cond.methodLink "PayMatch$Book" (49 : Nat) ({ cls := "java/util/Iterator", name := "next", desc := "()Ljava/lang/Object;" } : Jvm.MethodName)) ∈ lw_all := lw_g (lw_at lw_m2 162 rfl) rfl
theorem q580 : (Jvm.Cond.selects "PayMatch$Book" ({ cls := "java/lang/Object", name := "getClass", desc := "()Ljava/lang/Class;" } : Jvm.MethodName) ({ cls := "java/lang/Object", name := "getClass", desc := "()Ljava/lang/Class;" } : Jvm.MethodName)) ∈ lw_all := lw_g (lw_at lw_m3 27 rfl) rfl
theorem q851 : (Jvm.Cond.classLink "PayMatch$Book" (26 : Nat) "PayMatch$Paper") ∈ lw_all := lw_g (lw_at lw_m4 58 rfl) rfl
theorem q852 : (Jvm.Cond.interfaceEntry "PayMatch$Book" (53 : Nat)) ∈ lw_tbl := lw_at lw_m4 59 rfl
theorem q853 : (Jvm.Cond.methodLink "PayMatch$Book" (53 : Nat) ({ cls := "PayMatch$Paper", name := "copy", desc := "()LPayMatch$Paper;" } : Jvm.MethodName)) ∈ lw_all := lw_g (lw_at lw_m4 60 rfl) rfl
theorem q1096 : (Jvm.Cond.methodLink "PayMatch$Book" (57 : Nat) ({ cls := "PayMatch$Book", name := "add", desc := "(LPayMatch$Paper;)LPayMatch$Paper;" } : Jvm.MethodName)) ∈ lw_all := lw_g (lw_at lw_m5 63 rfl) rfl
theorem q1097 : (Jvm.Cond.instanceMethod ({ cls := "PayMatch$Book", name := "add", desc := "(LPayMatch$Paper;)LPayMatch$Paper;" } : Jvm.MethodName)) ∈ lw_all := lw_g (lw_at lw_m5 64 rfl) rfl
theorem q1098 : (Jvm.Cond.selects "PayMatch$Book" ({ cls := "PayMatch$Book", name := "add", desc := "(LPayMatch$Paper;)LPayMatch$Paper;" } : Jvm.MethodName) ({ cls := "PayMatch$Book", name := "add", desc := "(LPayMatch$Paper;)LPayMatch$Paper;" } : Jvm.MethodName)) ∈ lw_all := lw_g (lw_at lw_m5 65 rfl) rfl
theorem q1099 : (Jvm.Cond.code ({ cls := "PayMatch$Book", name := "add", desc := "(LPayMatch$Paper;)LPayMatch$Paper;" } : Jvm.MethodName) prog_2_method_2_code (2 : Nat) (Option.some (Jvm.ClassFile.FieldType.object "PayMatch$Paper"))) ∈ lw_all := lw_g (lw_at lw_m5 66 rfl) rfl
theorem q1100 : (Jvm.Cond.interfaceEntry "PayMatch$Book" (16 : Nat)) ∈ lw_tbl := lw_at lw_m5 67 rfl
theorem q1101 : (Jvm.Cond.methodLink "PayMatch$Book" (16 : Nat) ({ cls := "java/util/List", name := "add", desc := "(Ljava/lang/Object;)Z" } : Jvm.MethodName)) ∈ lw_all := lw_g (lw_at lw_m5 68 rfl) rfl
theorem q1226 : (Jvm.Cond.instanceMethod ({ cls := "PayMatch$Book", name := "has", desc := "(I)Z" } : Jvm.MethodName)) ∈ lw_all := lw_g (lw_at lw_m5 193 rfl) rfl
theorem q1227 : (Jvm.Cond.selects "PayMatch$Book" ({ cls := "PayMatch$Book", name := "has", desc := "(I)Z" } : Jvm.MethodName) ({ cls := "PayMatch$Book", name := "has", desc := "(I)Z" } : Jvm.MethodName)) ∈ lw_all := lw_g (lw_at lw_m5 194 rfl) rfl
theorem q1228 : (Jvm.Cond.code ({ cls := "PayMatch$Book", name := "has", desc := "(I)Z" } : Jvm.MethodName) prog_2_method_5_code (2 : Nat) (Option.some Jvm.ClassFile.FieldType.boolean)) ∈ lw_all := lw_g (lw_at lw_m5 195 rfl) rfl
theorem q1229 : (Jvm.Cond.methodLinkNest "PayMatch$Book" (32 : Nat) ({ cls := "PayMatch", name := "inRange", desc := "(III)Z" } : Jvm.MethodName) "PayMatch") ∈ lw_tbl := lw_at lw_m5 196 rfl
theorem q1250 : (Jvm.Cond.instanceMethod ({ cls := "PayMatch$Book", name := "get", desc := "(I)LPayMatch$Paper;" } : Jvm.MethodName)) ∈ lw_all := lw_g (lw_at lw_m5 217 rfl) rfl
theorem q1251 : (Jvm.Cond.selects "PayMatch$Book" ({ cls := "PayMatch$Book", name := "get", desc := "(I)LPayMatch$Paper;" } : Jvm.MethodName) ({ cls := "PayMatch$Book", name := "get", desc := "(I)LPayMatch$Paper;" } : Jvm.MethodName)) ∈ lw_all := lw_g (lw_at lw_m5 218 rfl) rfl
theorem q1252 : (Jvm.Cond.code ({ cls := "PayMatch$Book", name := "get", desc := "(I)LPayMatch$Paper;" } : Jvm.MethodName) prog_2_method_3_code (2 : Nat) (Option.some (Jvm.ClassFile.FieldType.object "PayMatch$Paper"))) ∈ lw_all := lw_g (lw_at lw_m5 219 rfl) rfl
theorem q1253 : (Jvm.Cond.interfaceEntry "PayMatch$Book" (22 : Nat)) ∈ lw_tbl := lw_at lw_m5 220 rfl
theorem q1254 : (Jvm.Cond.methodLink "PayMatch$Book" (22 : Nat) ({ cls := "java/util/List", name := "get", desc := "(I)Ljava/lang/Object;" } : Jvm.MethodName)) ∈ lw_all := lw_g (lw_at lw_m5 221 rfl) rfl
theorem q1277 : (Jvm.Cond.instanceMethod ({ cls := "PayMatch$Book", name := "iterator", desc := "()Ljava/util/Iterator;" } : Jvm.MethodName)) ∈ lw_all := lw_g (lw_at lw_m6 4 rfl) rfl
theorem q1278 : (Jvm.Cond.selects "PayMatch$Book" ({ cls := "PayMatch$Book", name := "iterator", desc := "()Ljava/util/Iterator;" } : Jvm.MethodName) ({ cls := "PayMatch$Book", name := "iterator", desc := "()Ljava/util/Iterator;" } : Jvm.MethodName)) ∈ lw_all := lw_g (lw_at lw_m6 5 rfl) rfl
theorem q1279 : (Jvm.Cond.code ({ cls := "PayMatch$Book", name := "iterator", desc := "()Ljava/util/Iterator;" } : Jvm.MethodName) prog_2_method_7_code (1 : Nat) (Option.some (Jvm.ClassFile.FieldType.object "java/util/Iterator"))) ∈ lw_all := lw_g (lw_at lw_m6 6 rfl) rfl
theorem q1343 : (Jvm.Cond.castable "PayMatch$Book" "java/lang/Iterable") ∈ lw_tbl := lw_at lw_m6 70 rfl
theorem q1344 : (Jvm.Cond.selects "PayMatch$Book" ({ cls := "java/lang/Iterable", name := "iterator", desc := "()Ljava/util/Iterator;" } : Jvm.MethodName) ({ cls := "PayMatch$Book", name := "iterator", desc := "()Ljava/util/Iterator;" } : Jvm.MethodName)) ∈ lw_all := lw_g (lw_at lw_m6 71 rfl) rfl
theorem q1345 : (Jvm.Cond.unhidden "PayMatch$Book" "iterator" "()Ljava/util/Iterator;") ∈ lw_tbl := lw_at lw_m6 72 rfl
theorem q1346 : (Jvm.Cond.publicMethod ({ cls := "PayMatch$Book", name := "iterator", desc := "()Ljava/util/Iterator;" } : Jvm.MethodName)) ∈ lw_tbl := lw_at lw_m6 73 rfl
theorem q2389 : (Jvm.Cond.castable "PayMatch$Book" "java/lang/Object") ∈ lw_tbl := lw_at lw_m10 156 rfl
theorem in_X2 : ∀ w ∈ wsX20, w ∈ lw_all := lw_in wsX20 [171] (by decide +kernel) (by decide +kernel)
/-! PayMatch$Invoice -/
set_option maxRecDepth 100000
def RX4 : String := "PayMatch$Invoice"
def TX4 : u_T := fun k => match k with
  | 0 => ("PayMatch$Invoice", "number", "I", true)
  | 1 => ("PayMatch$Invoice", "reference", "I", true)
  | 2 => ("PayMatch$Invoice", "order", "I", true)
  | 3 => ("PayMatch$Invoice", "day", "I", true)
  | 4 => ("PayMatch$Invoice", "entries", "[LPayMatch$Entry;", false)
  | 5 => ("PayMatch$Invoice", "state", "I", false)
  | 6 => ("PayMatch$Invoice", "reasons", "I", false)
  | 7 => ("PayMatch$Invoice", "noted", "I", false)
  | 8 => ("PayMatch$Invoice", "cash", "I", false)
  | 9 => ("PayMatch$Invoice", "discount", "I", false)
  | 10 => ("PayMatch$Invoice", "credit", "I", false)
  | 11 => ("PayMatch$Invoice", "isMatched", "Z", false)
  | _ => ("PayMatch$Invoice", "isFirst", "Z", false)
def tyX4 : Nat → FieldType := fun k => match k with
  | 0 => .int
  | 1 => .int
  | 2 => .int
  | 3 => .int
  | 4 => .array (.object "PayMatch$Entry")
  | 5 => .int
  | 6 => .int
  | 7 => .int
  | 8 => .int
  | 9 => .int
  | 10 => .int
  | 11 => .boolean
  | _ => .boolean
abbrev wsX40 : List Cond := u_ws RX4 TX4 13
set_option maxRecDepth 100000 in
theorem nmX4 : ∀ a, a < 13 → ∀ b, b < 13 → a ≠ b → (TX4 a).2.1 ≠ (TX4 b).2.1 := by decide +kernel
set_option maxRecDepth 100000 in
theorem tyX4_ok : ∀ k, k < 13 → parseFieldDescriptor (TX4 k).2.2.1 = some (tyX4 k) := by decide +kernel
abbrev cX4_copy : ByteArray := prog_6_method_7_code
def yX4_copy : MethodName := ⟨RX4, "copy", "()LPayMatch$Paper;"⟩
theorem dX4_copy_0 : decode cX4_copy 0 = .ok (.aload_n 0, 1) := by decide +kernel
theorem dX4_copy_1 : decode cX4_copy 1 = .ok (.invokevirtual 68, 3) := by decide +kernel
theorem dX4_copy_4 : decode cX4_copy 4 = .ok (.areturn, 1) := by decide +kernel
abbrev cX4_copy_2 : ByteArray := prog_6_method_3_code
def yX4_copy_2 : MethodName := ⟨RX4, "copy", "()LPayMatch$Invoice;"⟩
def dkwX4_copy_2_4 : List UInt8 := [180, 0, 57, 181, 0, 57, 44, 42, 180, 0, 61, 181, 0, 61, 44, 176]
abbrev dktX4_copy_2_4 : List UInt8 := dkwX4_copy_2_4 ++ []
def dkwX4_copy_2_3 : List UInt8 := [180, 0, 18, 181, 0, 18, 44, 42, 180, 0, 21, 181, 0, 21, 44, 42, 180, 0, 24, 181, 0, 24, 44, 42]
abbrev dktX4_copy_2_3 : List UInt8 := dkwX4_copy_2_3 ++ dktX4_copy_2_4
def dkwX4_copy_2_2 : List UInt8 := [180, 0, 9, 181, 0, 9, 44, 42, 180, 0, 54, 181, 0, 54, 44, 42, 180, 0, 15, 181, 0, 15, 44, 42]
abbrev dktX4_copy_2_2 : List UInt8 := dkwX4_copy_2_2 ++ dktX4_copy_2_3
def dkwX4_copy_2_1 : List UInt8 := [89, 42, 180, 0, 27, 42, 180, 0, 30, 42, 180, 0, 33, 42, 180, 0, 36, 43, 183, 0, 51, 77, 44, 42]
abbrev dktX4_copy_2_1 : List UInt8 := dkwX4_copy_2_1 ++ dktX4_copy_2_2
def dkwX4_copy_2_0 : List UInt8 := [42, 180, 0, 39, 190, 189, 0, 43, 76, 42, 180, 0, 39, 3, 43, 3, 43, 190, 184, 0, 45, 187, 0, 10]
abbrev dktX4_copy_2_0 : List UInt8 := dkwX4_copy_2_0 ++ dktX4_copy_2_1
theorem dksX4_copy_2_0 : cX4_copy_2.data.toList.drop 0 = dktX4_copy_2_0 := by decide +kernel
theorem dksX4_copy_2_1 : cX4_copy_2.data.toList.drop 24 = dktX4_copy_2_1 := dk_seg dksX4_copy_2_0 24 rfl rfl
theorem dksX4_copy_2_2 : cX4_copy_2.data.toList.drop 48 = dktX4_copy_2_2 := dk_seg dksX4_copy_2_1 24 rfl rfl
theorem dksX4_copy_2_3 : cX4_copy_2.data.toList.drop 72 = dktX4_copy_2_3 := dk_seg dksX4_copy_2_2 24 rfl rfl
theorem dksX4_copy_2_4 : cX4_copy_2.data.toList.drop 96 = dktX4_copy_2_4 := dk_seg dksX4_copy_2_3 24 rfl rfl
theorem dX4_copy_2_0 : decode cX4_copy_2 0 = .ok (.aload_n 0, 1) := dk_42 (dk_at dksX4_copy_2_0 0 rfl rfl)
theorem dX4_copy_2_1 : decode cX4_copy_2 1 = .ok (.getfield 39, 3) := dk_180 0 39 (dk_at dksX4_copy_2_0 1 rfl rfl)
theorem dX4_copy_2_4 : decode cX4_copy_2 4 = .ok (.arraylength, 1) := dk_190 (dk_at dksX4_copy_2_0 4 rfl rfl)
theorem dX4_copy_2_5 : decode cX4_copy_2 5 = .ok (.anewarray 43, 3) := dk_189 0 43 (dk_at dksX4_copy_2_0 5 rfl rfl)
theorem dX4_copy_2_8 : decode cX4_copy_2 8 = .ok (.astore_n 1, 1) := dk_76 (dk_at dksX4_copy_2_0 8 rfl rfl)
theorem dX4_copy_2_9 : decode cX4_copy_2 9 = .ok (.aload_n 0, 1) := dk_42 (dk_at dksX4_copy_2_0 9 rfl rfl)
theorem dX4_copy_2_10 : decode cX4_copy_2 10 = .ok (.getfield 39, 3) := dk_180 0 39 (dk_at dksX4_copy_2_0 10 rfl rfl)
theorem dX4_copy_2_13 : decode cX4_copy_2 13 = .ok (.iconst 0, 1) := dk_3 (dk_at dksX4_copy_2_0 13 rfl rfl)
theorem dX4_copy_2_14 : decode cX4_copy_2 14 = .ok (.aload_n 1, 1) := dk_43 (dk_at dksX4_copy_2_0 14 rfl rfl)
theorem dX4_copy_2_15 : decode cX4_copy_2 15 = .ok (.iconst 0, 1) := dk_3 (dk_at dksX4_copy_2_0 15 rfl rfl)
theorem dX4_copy_2_16 : decode cX4_copy_2 16 = .ok (.aload_n 1, 1) := dk_43 (dk_at dksX4_copy_2_0 16 rfl rfl)
theorem dX4_copy_2_17 : decode cX4_copy_2 17 = .ok (.arraylength, 1) := dk_190 (dk_at dksX4_copy_2_0 17 rfl rfl)
theorem dX4_copy_2_18 : decode cX4_copy_2 18 = .ok (.invokestatic 45, 3) := dk_184 0 45 (dk_at dksX4_copy_2_0 18 rfl rfl)
theorem dX4_copy_2_21 : decode cX4_copy_2 21 = .ok (.new 10, 3) := dk_187 0 10 (dk_at dksX4_copy_2_0 21 rfl rfl)
theorem dX4_copy_2_24 : decode cX4_copy_2 24 = .ok (.dup, 1) := dk_89 (dk_at dksX4_copy_2_1 0 rfl rfl)
theorem dX4_copy_2_25 : decode cX4_copy_2 25 = .ok (.aload_n 0, 1) := dk_42 (dk_at dksX4_copy_2_1 1 rfl rfl)
theorem dX4_copy_2_26 : decode cX4_copy_2 26 = .ok (.getfield 27, 3) := dk_180 0 27 (dk_at dksX4_copy_2_1 2 rfl rfl)
theorem dX4_copy_2_29 : decode cX4_copy_2 29 = .ok (.aload_n 0, 1) := dk_42 (dk_at dksX4_copy_2_1 5 rfl rfl)
theorem dX4_copy_2_30 : decode cX4_copy_2 30 = .ok (.getfield 30, 3) := dk_180 0 30 (dk_at dksX4_copy_2_1 6 rfl rfl)
theorem dX4_copy_2_33 : decode cX4_copy_2 33 = .ok (.aload_n 0, 1) := dk_42 (dk_at dksX4_copy_2_1 9 rfl rfl)
theorem dX4_copy_2_34 : decode cX4_copy_2 34 = .ok (.getfield 33, 3) := dk_180 0 33 (dk_at dksX4_copy_2_1 10 rfl rfl)
theorem dX4_copy_2_37 : decode cX4_copy_2 37 = .ok (.aload_n 0, 1) := dk_42 (dk_at dksX4_copy_2_1 13 rfl rfl)
theorem dX4_copy_2_38 : decode cX4_copy_2 38 = .ok (.getfield 36, 3) := dk_180 0 36 (dk_at dksX4_copy_2_1 14 rfl rfl)
theorem dX4_copy_2_41 : decode cX4_copy_2 41 = .ok (.aload_n 1, 1) := dk_43 (dk_at dksX4_copy_2_1 17 rfl rfl)
theorem dX4_copy_2_42 : decode cX4_copy_2 42 = .ok (.invokespecial 51, 3) := dk_183 0 51 (dk_at dksX4_copy_2_1 18 rfl rfl)
theorem dX4_copy_2_45 : decode cX4_copy_2 45 = .ok (.astore_n 2, 1) := dk_77 (dk_at dksX4_copy_2_1 21 rfl rfl)
theorem dX4_copy_2_46 : decode cX4_copy_2 46 = .ok (.aload_n 2, 1) := dk_44 (dk_at dksX4_copy_2_1 22 rfl rfl)
theorem dX4_copy_2_47 : decode cX4_copy_2 47 = .ok (.aload_n 0, 1) := dk_42 (dk_at dksX4_copy_2_1 23 rfl rfl)
theorem dX4_copy_2_48 : decode cX4_copy_2 48 = .ok (.getfield 9, 3) := dk_180 0 9 (dk_at dksX4_copy_2_2 0 rfl rfl)
theorem dX4_copy_2_51 : decode cX4_copy_2 51 = .ok (.putfield 9, 3) := dk_181 0 9 (dk_at dksX4_copy_2_2 3 rfl rfl)
theorem dX4_copy_2_54 : decode cX4_copy_2 54 = .ok (.aload_n 2, 1) := dk_44 (dk_at dksX4_copy_2_2 6 rfl rfl)
theorem dX4_copy_2_55 : decode cX4_copy_2 55 = .ok (.aload_n 0, 1) := dk_42 (dk_at dksX4_copy_2_2 7 rfl rfl)
theorem dX4_copy_2_56 : decode cX4_copy_2 56 = .ok (.getfield 54, 3) := dk_180 0 54 (dk_at dksX4_copy_2_2 8 rfl rfl)
theorem dX4_copy_2_59 : decode cX4_copy_2 59 = .ok (.putfield 54, 3) := dk_181 0 54 (dk_at dksX4_copy_2_2 11 rfl rfl)
theorem dX4_copy_2_62 : decode cX4_copy_2 62 = .ok (.aload_n 2, 1) := dk_44 (dk_at dksX4_copy_2_2 14 rfl rfl)
theorem dX4_copy_2_63 : decode cX4_copy_2 63 = .ok (.aload_n 0, 1) := dk_42 (dk_at dksX4_copy_2_2 15 rfl rfl)
theorem dX4_copy_2_64 : decode cX4_copy_2 64 = .ok (.getfield 15, 3) := dk_180 0 15 (dk_at dksX4_copy_2_2 16 rfl rfl)
theorem dX4_copy_2_67 : decode cX4_copy_2 67 = .ok (.putfield 15, 3) := dk_181 0 15 (dk_at dksX4_copy_2_2 19 rfl rfl)
theorem dX4_copy_2_70 : decode cX4_copy_2 70 = .ok (.aload_n 2, 1) := dk_44 (dk_at dksX4_copy_2_2 22 rfl rfl)
theorem dX4_copy_2_71 : decode cX4_copy_2 71 = .ok (.aload_n 0, 1) := dk_42 (dk_at dksX4_copy_2_2 23 rfl rfl)
theorem dX4_copy_2_72 : decode cX4_copy_2 72 = .ok (.getfield 18, 3) := dk_180 0 18 (dk_at dksX4_copy_2_3 0 rfl rfl)
theorem dX4_copy_2_75 : decode cX4_copy_2 75 = .ok (.putfield 18, 3) := dk_181 0 18 (dk_at dksX4_copy_2_3 3 rfl rfl)
theorem dX4_copy_2_78 : decode cX4_copy_2 78 = .ok (.aload_n 2, 1) := dk_44 (dk_at dksX4_copy_2_3 6 rfl rfl)
theorem dX4_copy_2_79 : decode cX4_copy_2 79 = .ok (.aload_n 0, 1) := dk_42 (dk_at dksX4_copy_2_3 7 rfl rfl)
theorem dX4_copy_2_80 : decode cX4_copy_2 80 = .ok (.getfield 21, 3) := dk_180 0 21 (dk_at dksX4_copy_2_3 8 rfl rfl)
theorem dX4_copy_2_83 : decode cX4_copy_2 83 = .ok (.putfield 21, 3) := dk_181 0 21 (dk_at dksX4_copy_2_3 11 rfl rfl)
theorem dX4_copy_2_86 : decode cX4_copy_2 86 = .ok (.aload_n 2, 1) := dk_44 (dk_at dksX4_copy_2_3 14 rfl rfl)
theorem dX4_copy_2_87 : decode cX4_copy_2 87 = .ok (.aload_n 0, 1) := dk_42 (dk_at dksX4_copy_2_3 15 rfl rfl)
theorem dX4_copy_2_88 : decode cX4_copy_2 88 = .ok (.getfield 24, 3) := dk_180 0 24 (dk_at dksX4_copy_2_3 16 rfl rfl)
theorem dX4_copy_2_91 : decode cX4_copy_2 91 = .ok (.putfield 24, 3) := dk_181 0 24 (dk_at dksX4_copy_2_3 19 rfl rfl)
theorem dX4_copy_2_94 : decode cX4_copy_2 94 = .ok (.aload_n 2, 1) := dk_44 (dk_at dksX4_copy_2_3 22 rfl rfl)
theorem dX4_copy_2_95 : decode cX4_copy_2 95 = .ok (.aload_n 0, 1) := dk_42 (dk_at dksX4_copy_2_3 23 rfl rfl)
theorem dX4_copy_2_96 : decode cX4_copy_2 96 = .ok (.getfield 57, 3) := dk_180 0 57 (dk_at dksX4_copy_2_4 0 rfl rfl)
theorem dX4_copy_2_99 : decode cX4_copy_2 99 = .ok (.putfield 57, 3) := dk_181 0 57 (dk_at dksX4_copy_2_4 3 rfl rfl)
theorem dX4_copy_2_102 : decode cX4_copy_2 102 = .ok (.aload_n 2, 1) := dk_44 (dk_at dksX4_copy_2_4 6 rfl rfl)
theorem dX4_copy_2_103 : decode cX4_copy_2 103 = .ok (.aload_n 0, 1) := dk_42 (dk_at dksX4_copy_2_4 7 rfl rfl)
theorem dX4_copy_2_104 : decode cX4_copy_2 104 = .ok (.getfield 61, 3) := dk_180 0 61 (dk_at dksX4_copy_2_4 8 rfl rfl)
theorem dX4_copy_2_107 : decode cX4_copy_2 107 = .ok (.putfield 61, 3) := dk_181 0 61 (dk_at dksX4_copy_2_4 11 rfl rfl)
theorem dX4_copy_2_110 : decode cX4_copy_2 110 = .ok (.aload_n 2, 1) := dk_44 (dk_at dksX4_copy_2_4 14 rfl rfl)
theorem dX4_copy_2_111 : decode cX4_copy_2 111 = .ok (.areturn, 1) := dk_176 (dk_at dksX4_copy_2_4 15 rfl rfl)
abbrev cX4_init : ByteArray := prog_6_method_1_code
def yX4_init : MethodName := ⟨RX4, "<init>", "(IIII[LPayMatch$Entry;)V"⟩
def dkwX4_init_2 : List UInt8 := [42, 21, 4, 181, 0, 36, 42, 25, 5, 181, 0, 39, 177]
abbrev dktX4_init_2 : List UInt8 := dkwX4_init_2 ++ []
def dkwX4_init_1 : List UInt8 := [181, 0, 21, 42, 16, 251, 181, 0, 24, 42, 27, 181, 0, 27, 42, 28, 181, 0, 30, 42, 29, 181, 0, 33]
abbrev dktX4_init_1 : List UInt8 := dkwX4_init_1 ++ dktX4_init_2
def dkwX4_init_0 : List UInt8 := [42, 183, 0, 3, 42, 3, 181, 0, 9, 42, 16, 251, 181, 0, 15, 42, 16, 251, 181, 0, 18, 42, 16, 251]
abbrev dktX4_init_0 : List UInt8 := dkwX4_init_0 ++ dktX4_init_1
theorem dksX4_init_0 : cX4_init.data.toList.drop 0 = dktX4_init_0 := by decide +kernel
theorem dksX4_init_1 : cX4_init.data.toList.drop 24 = dktX4_init_1 := dk_seg dksX4_init_0 24 rfl rfl
theorem dksX4_init_2 : cX4_init.data.toList.drop 48 = dktX4_init_2 := dk_seg dksX4_init_1 24 rfl rfl
theorem dX4_init_0 : decode cX4_init 0 = .ok (.aload_n 0, 1) := dk_42 (dk_at dksX4_init_0 0 rfl rfl)
theorem dX4_init_1 : decode cX4_init 1 = .ok (.invokespecial 3, 3) := dk_183 0 3 (dk_at dksX4_init_0 1 rfl rfl)
theorem dX4_init_4 : decode cX4_init 4 = .ok (.aload_n 0, 1) := dk_42 (dk_at dksX4_init_0 4 rfl rfl)
theorem dX4_init_5 : decode cX4_init 5 = .ok (.iconst 0, 1) := dk_3 (dk_at dksX4_init_0 5 rfl rfl)
theorem dX4_init_6 : decode cX4_init 6 = .ok (.putfield 9, 3) := dk_181 0 9 (dk_at dksX4_init_0 6 rfl rfl)
theorem dX4_init_9 : decode cX4_init 9 = .ok (.aload_n 0, 1) := dk_42 (dk_at dksX4_init_0 9 rfl rfl)
theorem dX4_init_10 : decode cX4_init 10 = .ok (.bipush (-5), 2) := dk_16 251 (dk_at dksX4_init_0 10 rfl rfl)
theorem dX4_init_12 : decode cX4_init 12 = .ok (.putfield 15, 3) := dk_181 0 15 (dk_at dksX4_init_0 12 rfl rfl)
theorem dX4_init_15 : decode cX4_init 15 = .ok (.aload_n 0, 1) := dk_42 (dk_at dksX4_init_0 15 rfl rfl)
theorem dX4_init_16 : decode cX4_init 16 = .ok (.bipush (-5), 2) := dk_16 251 (dk_at dksX4_init_0 16 rfl rfl)
theorem dX4_init_18 : decode cX4_init 18 = .ok (.putfield 18, 3) := dk_181 0 18 (dk_at dksX4_init_0 18 rfl rfl)
theorem dX4_init_21 : decode cX4_init 21 = .ok (.aload_n 0, 1) := dk_42 (dk_at dksX4_init_0 21 rfl rfl)
theorem dX4_init_22 : decode cX4_init 22 = .ok (.bipush (-5), 2) := dk_16 251 (dk_at dksX4_init_0 22 rfl rfl)
theorem dX4_init_24 : decode cX4_init 24 = .ok (.putfield 21, 3) := dk_181 0 21 (dk_at dksX4_init_1 0 rfl rfl)
theorem dX4_init_27 : decode cX4_init 27 = .ok (.aload_n 0, 1) := dk_42 (dk_at dksX4_init_1 3 rfl rfl)
theorem dX4_init_28 : decode cX4_init 28 = .ok (.bipush (-5), 2) := dk_16 251 (dk_at dksX4_init_1 4 rfl rfl)
theorem dX4_init_30 : decode cX4_init 30 = .ok (.putfield 24, 3) := dk_181 0 24 (dk_at dksX4_init_1 6 rfl rfl)
theorem dX4_init_33 : decode cX4_init 33 = .ok (.aload_n 0, 1) := dk_42 (dk_at dksX4_init_1 9 rfl rfl)
theorem dX4_init_34 : decode cX4_init 34 = .ok (.iload_n 1, 1) := dk_27 (dk_at dksX4_init_1 10 rfl rfl)
theorem dX4_init_35 : decode cX4_init 35 = .ok (.putfield 27, 3) := dk_181 0 27 (dk_at dksX4_init_1 11 rfl rfl)
theorem dX4_init_38 : decode cX4_init 38 = .ok (.aload_n 0, 1) := dk_42 (dk_at dksX4_init_1 14 rfl rfl)
theorem dX4_init_39 : decode cX4_init 39 = .ok (.iload_n 2, 1) := dk_28 (dk_at dksX4_init_1 15 rfl rfl)
theorem dX4_init_40 : decode cX4_init 40 = .ok (.putfield 30, 3) := dk_181 0 30 (dk_at dksX4_init_1 16 rfl rfl)
theorem dX4_init_43 : decode cX4_init 43 = .ok (.aload_n 0, 1) := dk_42 (dk_at dksX4_init_1 19 rfl rfl)
theorem dX4_init_44 : decode cX4_init 44 = .ok (.iload_n 3, 1) := dk_29 (dk_at dksX4_init_1 20 rfl rfl)
theorem dX4_init_45 : decode cX4_init 45 = .ok (.putfield 33, 3) := dk_181 0 33 (dk_at dksX4_init_1 21 rfl rfl)
theorem dX4_init_48 : decode cX4_init 48 = .ok (.aload_n 0, 1) := dk_42 (dk_at dksX4_init_2 0 rfl rfl)
theorem dX4_init_49 : decode cX4_init 49 = .ok (.iload 4, 2) := dk_21 4 (dk_at dksX4_init_2 1 rfl rfl)
theorem dX4_init_51 : decode cX4_init 51 = .ok (.putfield 36, 3) := dk_181 0 36 (dk_at dksX4_init_2 3 rfl rfl)
theorem dX4_init_54 : decode cX4_init 54 = .ok (.aload_n 0, 1) := dk_42 (dk_at dksX4_init_2 6 rfl rfl)
theorem dX4_init_55 : decode cX4_init 55 = .ok (.aload 5, 2) := dk_25 5 (dk_at dksX4_init_2 7 rfl rfl)
theorem dX4_init_57 : decode cX4_init 57 = .ok (.putfield 39, 3) := dk_181 0 39 (dk_at dksX4_init_2 9 rfl rfl)
theorem dX4_init_60 : decode cX4_init 60 = .ok (.return_, 1) := dk_177 (dk_at dksX4_init_2 12 rfl rfl)
abbrev cX4_total : ByteArray := prog_6_method_4_code
def yX4_total : MethodName := ⟨RX4, "total", "()I"⟩
def dkwX4_total_1 : List UInt8 := [60, 132, 2, 1, 167, 255, 232, 27, 172]
abbrev dktX4_total_1 : List UInt8 := dkwX4_total_1 ++ []
def dkwX4_total_0 : List UInt8 := [3, 60, 3, 61, 28, 42, 180, 0, 39, 190, 162, 0, 21, 27, 42, 180, 0, 39, 28, 50, 182, 0, 64, 96]
abbrev dktX4_total_0 : List UInt8 := dkwX4_total_0 ++ dktX4_total_1
theorem dksX4_total_0 : cX4_total.data.toList.drop 0 = dktX4_total_0 := by decide +kernel
theorem dksX4_total_1 : cX4_total.data.toList.drop 24 = dktX4_total_1 := dk_seg dksX4_total_0 24 rfl rfl
theorem dX4_total_0 : decode cX4_total 0 = .ok (.iconst 0, 1) := dk_3 (dk_at dksX4_total_0 0 rfl rfl)
theorem dX4_total_1 : decode cX4_total 1 = .ok (.istore_n 1, 1) := dk_60 (dk_at dksX4_total_0 1 rfl rfl)
theorem dX4_total_2 : decode cX4_total 2 = .ok (.iconst 0, 1) := dk_3 (dk_at dksX4_total_0 2 rfl rfl)
theorem dX4_total_3 : decode cX4_total 3 = .ok (.istore_n 2, 1) := dk_61 (dk_at dksX4_total_0 3 rfl rfl)
theorem dX4_total_4 : decode cX4_total 4 = .ok (.iload_n 2, 1) := dk_28 (dk_at dksX4_total_0 4 rfl rfl)
theorem dX4_total_5 : decode cX4_total 5 = .ok (.aload_n 0, 1) := dk_42 (dk_at dksX4_total_0 5 rfl rfl)
theorem dX4_total_6 : decode cX4_total 6 = .ok (.getfield 39, 3) := dk_180 0 39 (dk_at dksX4_total_0 6 rfl rfl)
theorem dX4_total_9 : decode cX4_total 9 = .ok (.arraylength, 1) := dk_190 (dk_at dksX4_total_0 9 rfl rfl)
theorem dX4_total_10 : decode cX4_total 10 = .ok (.if_icmp .ge 21, 3) := dk_162 0 21 (dk_at dksX4_total_0 10 rfl rfl)
theorem dX4_total_13 : decode cX4_total 13 = .ok (.iload_n 1, 1) := dk_27 (dk_at dksX4_total_0 13 rfl rfl)
theorem dX4_total_14 : decode cX4_total 14 = .ok (.aload_n 0, 1) := dk_42 (dk_at dksX4_total_0 14 rfl rfl)
theorem dX4_total_15 : decode cX4_total 15 = .ok (.getfield 39, 3) := dk_180 0 39 (dk_at dksX4_total_0 15 rfl rfl)
theorem dX4_total_18 : decode cX4_total 18 = .ok (.iload_n 2, 1) := dk_28 (dk_at dksX4_total_0 18 rfl rfl)
theorem dX4_total_19 : decode cX4_total 19 = .ok (.aaload, 1) := dk_50 (dk_at dksX4_total_0 19 rfl rfl)
theorem dX4_total_20 : decode cX4_total 20 = .ok (.invokevirtual 64, 3) := dk_182 0 64 (dk_at dksX4_total_0 20 rfl rfl)
theorem dX4_total_23 : decode cX4_total 23 = .ok (.iadd, 1) := dk_96 (dk_at dksX4_total_0 23 rfl rfl)
theorem dX4_total_24 : decode cX4_total 24 = .ok (.istore_n 1, 1) := dk_60 (dk_at dksX4_total_1 0 rfl rfl)
theorem dX4_total_25 : decode cX4_total 25 = .ok (.iinc 2 1, 3) := dk_132 2 1 (dk_at dksX4_total_1 1 rfl rfl)
theorem dX4_total_28 : decode cX4_total 28 = .ok (.goto (-24), 3) := dk_167 255 232 (dk_at dksX4_total_1 4 rfl rfl)
theorem dX4_total_31 : decode cX4_total 31 = .ok (.iload_n 1, 1) := dk_27 (dk_at dksX4_total_1 7 rfl rfl)
theorem dX4_total_32 : decode cX4_total 32 = .ok (.ireturn, 1) := dk_172 (dk_at dksX4_total_1 8 rfl rfl)
abbrev cX4_isWaiting : ByteArray := prog_6_method_6_code
def yX4_isWaiting : MethodName := ⟨RX4, "isWaiting", "()Z"⟩
def dkwX4_isWaiting_0 : List UInt8 := [42, 180, 0, 9, 153, 0, 11, 42, 180, 0, 9, 5, 160, 0, 7, 4, 167, 0, 4, 3, 172]
abbrev dktX4_isWaiting_0 : List UInt8 := dkwX4_isWaiting_0 ++ []
theorem dksX4_isWaiting_0 : cX4_isWaiting.data.toList.drop 0 = dktX4_isWaiting_0 := by decide +kernel
theorem dX4_isWaiting_0 : decode cX4_isWaiting 0 = .ok (.aload_n 0, 1) := dk_42 (dk_at dksX4_isWaiting_0 0 rfl rfl)
theorem dX4_isWaiting_1 : decode cX4_isWaiting 1 = .ok (.getfield 9, 3) := dk_180 0 9 (dk_at dksX4_isWaiting_0 1 rfl rfl)
theorem dX4_isWaiting_4 : decode cX4_isWaiting 4 = .ok (.ifCond .eq 11, 3) := dk_153 0 11 (dk_at dksX4_isWaiting_0 4 rfl rfl)
theorem dX4_isWaiting_7 : decode cX4_isWaiting 7 = .ok (.aload_n 0, 1) := dk_42 (dk_at dksX4_isWaiting_0 7 rfl rfl)
theorem dX4_isWaiting_8 : decode cX4_isWaiting 8 = .ok (.getfield 9, 3) := dk_180 0 9 (dk_at dksX4_isWaiting_0 8 rfl rfl)
theorem dX4_isWaiting_11 : decode cX4_isWaiting 11 = .ok (.iconst 2, 1) := dk_5 (dk_at dksX4_isWaiting_0 11 rfl rfl)
theorem dX4_isWaiting_12 : decode cX4_isWaiting 12 = .ok (.if_icmp .ne 7, 3) := dk_160 0 7 (dk_at dksX4_isWaiting_0 12 rfl rfl)
theorem dX4_isWaiting_15 : decode cX4_isWaiting 15 = .ok (.iconst 1, 1) := dk_4 (dk_at dksX4_isWaiting_0 15 rfl rfl)
theorem dX4_isWaiting_16 : decode cX4_isWaiting 16 = .ok (.goto 4, 3) := dk_167 0 4 (dk_at dksX4_isWaiting_0 16 rfl rfl)
theorem dX4_isWaiting_19 : decode cX4_isWaiting 19 = .ok (.iconst 0, 1) := dk_3 (dk_at dksX4_isWaiting_0 19 rfl rfl)
theorem dX4_isWaiting_20 : decode cX4_isWaiting 20 = .ok (.ireturn, 1) := dk_172 (dk_at dksX4_isWaiting_0 20 rfl rfl)
abbrev cX4_isBilled : ByteArray := prog_6_method_5_code
def yX4_isBilled : MethodName := ⟨RX4, "isBilled", "()Z"⟩
def dkwX4_isBilled_0 : List UInt8 := [42, 180, 0, 9, 4, 159, 0, 11, 42, 180, 0, 9, 6, 160, 0, 7, 4, 167, 0, 4, 3, 172]
abbrev dktX4_isBilled_0 : List UInt8 := dkwX4_isBilled_0 ++ []
theorem dksX4_isBilled_0 : cX4_isBilled.data.toList.drop 0 = dktX4_isBilled_0 := by decide +kernel
theorem dX4_isBilled_0 : decode cX4_isBilled 0 = .ok (.aload_n 0, 1) := dk_42 (dk_at dksX4_isBilled_0 0 rfl rfl)
theorem dX4_isBilled_1 : decode cX4_isBilled 1 = .ok (.getfield 9, 3) := dk_180 0 9 (dk_at dksX4_isBilled_0 1 rfl rfl)
theorem dX4_isBilled_4 : decode cX4_isBilled 4 = .ok (.iconst 1, 1) := dk_4 (dk_at dksX4_isBilled_0 4 rfl rfl)
theorem dX4_isBilled_5 : decode cX4_isBilled 5 = .ok (.if_icmp .eq 11, 3) := dk_159 0 11 (dk_at dksX4_isBilled_0 5 rfl rfl)
theorem dX4_isBilled_8 : decode cX4_isBilled 8 = .ok (.aload_n 0, 1) := dk_42 (dk_at dksX4_isBilled_0 8 rfl rfl)
theorem dX4_isBilled_9 : decode cX4_isBilled 9 = .ok (.getfield 9, 3) := dk_180 0 9 (dk_at dksX4_isBilled_0 9 rfl rfl)
theorem dX4_isBilled_12 : decode cX4_isBilled 12 = .ok (.iconst 3, 1) := dk_6 (dk_at dksX4_isBilled_0 12 rfl rfl)
theorem dX4_isBilled_13 : decode cX4_isBilled 13 = .ok (.if_icmp .ne 7, 3) := dk_160 0 7 (dk_at dksX4_isBilled_0 13 rfl rfl)
theorem dX4_isBilled_16 : decode cX4_isBilled 16 = .ok (.iconst 1, 1) := dk_4 (dk_at dksX4_isBilled_0 16 rfl rfl)
theorem dX4_isBilled_17 : decode cX4_isBilled 17 = .ok (.goto 4, 3) := dk_167 0 4 (dk_at dksX4_isBilled_0 17 rfl rfl)
theorem dX4_isBilled_20 : decode cX4_isBilled 20 = .ok (.iconst 0, 1) := dk_3 (dk_at dksX4_isBilled_0 20 rfl rfl)
theorem dX4_isBilled_21 : decode cX4_isBilled 21 = .ok (.ireturn, 1) := dk_172 (dk_at dksX4_isBilled_0 21 rfl rfl)
theorem q105 : (Jvm.Cond.initialized "PayMatch$Invoice") ∈ lw_all := lw_g (lw_at lw_m1 32 rfl) rfl
theorem q584 : (Jvm.Cond.selects "PayMatch$Invoice" ({ cls := "java/lang/Object", name := "getClass", desc := "()Ljava/lang/Class;" } : Jvm.MethodName) ({ cls := "java/lang/Object", name := "getClass", desc := "()Ljava/lang/Class;" } : Jvm.MethodName)) ∈ lw_all := lw_g (lw_at lw_m3 31 rfl) rfl
theorem q856 : (Jvm.Cond.castable "PayMatch$Invoice" "PayMatch$Paper") ∈ lw_tbl := lw_at lw_m4 63 rfl
theorem q857 : (Jvm.Cond.selects "PayMatch$Invoice" ({ cls := "PayMatch$Paper", name := "copy", desc := "()LPayMatch$Paper;" } : Jvm.MethodName) ({ cls := "PayMatch$Invoice", name := "copy", desc := "()LPayMatch$Paper;" } : Jvm.MethodName)) ∈ lw_all := lw_g (lw_at lw_m4 64 rfl) rfl
theorem q858 : (Jvm.Cond.unhidden "PayMatch$Invoice" "copy" "()LPayMatch$Paper;") ∈ lw_tbl := lw_at lw_m4 65 rfl
theorem q859 : (Jvm.Cond.instanceMethod ({ cls := "PayMatch$Invoice", name := "copy", desc := "()LPayMatch$Paper;" } : Jvm.MethodName)) ∈ lw_all := lw_g (lw_at lw_m4 66 rfl) rfl
theorem q860 : (Jvm.Cond.publicMethod ({ cls := "PayMatch$Invoice", name := "copy", desc := "()LPayMatch$Paper;" } : Jvm.MethodName)) ∈ lw_tbl := lw_at lw_m4 67 rfl
theorem q861 : (Jvm.Cond.code ({ cls := "PayMatch$Invoice", name := "copy", desc := "()LPayMatch$Paper;" } : Jvm.MethodName) prog_6_method_7_code (1 : Nat) (Option.some (Jvm.ClassFile.FieldType.object "PayMatch$Paper"))) ∈ lw_all := lw_g (lw_at lw_m4 68 rfl) rfl
theorem q862 : (Jvm.Cond.methodLink "PayMatch$Invoice" (68 : Nat) ({ cls := "PayMatch$Invoice", name := "copy", desc := "()LPayMatch$Invoice;" } : Jvm.MethodName)) ∈ lw_all := lw_g (lw_at lw_m4 69 rfl) rfl
theorem q863 : (Jvm.Cond.instanceMethod ({ cls := "PayMatch$Invoice", name := "copy", desc := "()LPayMatch$Invoice;" } : Jvm.MethodName)) ∈ lw_all := lw_g (lw_at lw_m4 70 rfl) rfl
theorem q864 : (Jvm.Cond.selects "PayMatch$Invoice" ({ cls := "PayMatch$Invoice", name := "copy", desc := "()LPayMatch$Invoice;" } : Jvm.MethodName) ({ cls := "PayMatch$Invoice", name := "copy", desc := "()LPayMatch$Invoice;" } : Jvm.MethodName)) ∈ lw_all := lw_g (lw_at lw_m4 71 rfl) rfl
theorem q865 : (Jvm.Cond.code ({ cls := "PayMatch$Invoice", name := "copy", desc := "()LPayMatch$Invoice;" } : Jvm.MethodName) prog_6_method_3_code (3 : Nat) (Option.some (Jvm.ClassFile.FieldType.object "PayMatch$Invoice"))) ∈ lw_all := lw_g (lw_at lw_m4 72 rfl) rfl
theorem q866 : (Jvm.Cond.classLink "PayMatch$Invoice" (43 : Nat) "PayMatch$Entry") ∈ lw_all := lw_g (lw_at lw_m4 73 rfl) rfl
theorem q868 : (Jvm.Cond.methodLink "PayMatch$Invoice" (45 : Nat) ({ cls := "java/lang/System", name := "arraycopy", desc := "(Ljava/lang/Object;ILjava/lang/Object;II)V" } : Jvm.MethodName)) ∈ lw_all := lw_g (lw_at lw_m4 75 rfl) rfl
theorem q869 : (Jvm.Cond.classLink "PayMatch$Invoice" (10 : Nat) "PayMatch$Invoice") ∈ lw_all := lw_g (lw_at lw_m4 76 rfl) rfl
theorem q870 : (Jvm.Cond.instantiable "PayMatch$Invoice" (13 : Nat)) ∈ lw_all := lw_g (lw_at lw_m4 77 rfl) rfl
theorem q871 : (Jvm.Cond.methodLink "PayMatch$Invoice" (51 : Nat) ({ cls := "PayMatch$Invoice", name := "<init>", desc := "(IIII[LPayMatch$Entry;)V" } : Jvm.MethodName)) ∈ lw_all := lw_g (lw_at lw_m4 78 rfl) rfl
theorem q872 : (Jvm.Cond.instanceMethod ({ cls := "PayMatch$Invoice", name := "<init>", desc := "(IIII[LPayMatch$Entry;)V" } : Jvm.MethodName)) ∈ lw_all := lw_g (lw_at lw_m4 79 rfl) rfl
theorem q873 : (Jvm.Cond.code ({ cls := "PayMatch$Invoice", name := "<init>", desc := "(IIII[LPayMatch$Entry;)V" } : Jvm.MethodName) prog_6_method_1_code (6 : Nat) (Option.none : Option Jvm.ClassFile.FieldType)) ∈ lw_all := lw_g (lw_at lw_m4 80 rfl) rfl
theorem q874 : (Jvm.Cond.methodLink "PayMatch$Invoice" (3 : Nat) ({ cls := "java/lang/Object", name := "<init>", desc := "()V" } : Jvm.MethodName)) ∈ lw_all := lw_g (lw_at lw_m4 81 rfl) rfl
theorem q875 : (Jvm.Cond.fieldLink "PayMatch$Invoice" (27 : Nat) "PayMatch$Invoice" "number" "I") ∈ lw_all := lw_g (lw_at lw_m4 82 rfl) rfl
theorem q877 : (Jvm.Cond.fieldLink "PayMatch$Invoice" (30 : Nat) "PayMatch$Invoice" "reference" "I") ∈ lw_all := lw_g (lw_at lw_m4 84 rfl) rfl
theorem q880 : (Jvm.Cond.fieldLink "PayMatch$Invoice" (33 : Nat) "PayMatch$Invoice" "order" "I") ∈ lw_all := lw_g (lw_at lw_m4 87 rfl) rfl
theorem q883 : (Jvm.Cond.fieldLink "PayMatch$Invoice" (36 : Nat) "PayMatch$Invoice" "day" "I") ∈ lw_all := lw_g (lw_at lw_m4 90 rfl) rfl
theorem q886 : (Jvm.Cond.fieldLink "PayMatch$Invoice" (39 : Nat) "PayMatch$Invoice" "entries" "[LPayMatch$Entry;") ∈ lw_all := lw_g (lw_at lw_m4 93 rfl) rfl
theorem q889 : (Jvm.Cond.fieldLink "PayMatch$Invoice" (9 : Nat) "PayMatch$Invoice" "state" "I") ∈ lw_all := lw_g (lw_at lw_m4 96 rfl) rfl
theorem q892 : (Jvm.Cond.fieldLink "PayMatch$Invoice" (54 : Nat) "PayMatch$Invoice" "reasons" "I") ∈ lw_all := lw_g (lw_at lw_m4 99 rfl) rfl
theorem q895 : (Jvm.Cond.fieldLink "PayMatch$Invoice" (15 : Nat) "PayMatch$Invoice" "noted" "I") ∈ lw_all := lw_g (lw_at lw_m4 102 rfl) rfl
theorem q898 : (Jvm.Cond.fieldLink "PayMatch$Invoice" (18 : Nat) "PayMatch$Invoice" "cash" "I") ∈ lw_all := lw_g (lw_at lw_m4 105 rfl) rfl
theorem q901 : (Jvm.Cond.fieldLink "PayMatch$Invoice" (21 : Nat) "PayMatch$Invoice" "discount" "I") ∈ lw_all := lw_g (lw_at lw_m4 108 rfl) rfl
theorem q904 : (Jvm.Cond.fieldLink "PayMatch$Invoice" (24 : Nat) "PayMatch$Invoice" "credit" "I") ∈ lw_all := lw_g (lw_at lw_m4 111 rfl) rfl
theorem q907 : (Jvm.Cond.fieldLink "PayMatch$Invoice" (57 : Nat) "PayMatch$Invoice" "isMatched" "Z") ∈ lw_all := lw_g (lw_at lw_m4 114 rfl) rfl
theorem q909 : (Jvm.Cond.fieldLink "PayMatch$Invoice" (61 : Nat) "PayMatch$Invoice" "isFirst" "Z") ∈ lw_all := lw_g (lw_at lw_m4 116 rfl) rfl
theorem q911 : (Jvm.Cond.laysFinal "PayMatch$Invoice" "PayMatch$Invoice" "number" "I") ∈ lw_all := lw_g (lw_at lw_m4 118 rfl) rfl
theorem q912 : (Jvm.Cond.soleField "PayMatch$Invoice" "number") ∈ lw_all := lw_g (lw_at lw_m4 119 rfl) rfl
theorem q913 : (Jvm.Cond.laysFinal "PayMatch$Invoice" "PayMatch$Invoice" "reference" "I") ∈ lw_all := lw_g (lw_at lw_m4 120 rfl) rfl
theorem q914 : (Jvm.Cond.soleField "PayMatch$Invoice" "reference") ∈ lw_all := lw_g (lw_at lw_m4 121 rfl) rfl
theorem q915 : (Jvm.Cond.laysFinal "PayMatch$Invoice" "PayMatch$Invoice" "order" "I") ∈ lw_all := lw_g (lw_at lw_m4 122 rfl) rfl
theorem q916 : (Jvm.Cond.soleField "PayMatch$Invoice" "order") ∈ lw_all := lw_g (lw_at lw_m4 123 rfl) rfl
theorem q917 : (Jvm.Cond.laysFinal "PayMatch$Invoice" "PayMatch$Invoice" "day" "I") ∈ lw_all := lw_g (lw_at lw_m4 124 rfl) rfl
theorem q918 : (Jvm.Cond.soleField "PayMatch$Invoice" "day") ∈ lw_all := lw_g (lw_at lw_m4 125 rfl) rfl
theorem q919 : (Jvm.Cond.lays "PayMatch$Invoice" "PayMatch$Invoice" "entries" "[LPayMatch$Entry;") ∈ lw_all := lw_g (lw_at lw_m4 126 rfl) rfl
theorem q920 : (Jvm.Cond.soleField "PayMatch$Invoice" "entries") ∈ lw_all := lw_g (lw_at lw_m4 127 rfl) rfl
theorem q921 : (Jvm.Cond.lays "PayMatch$Invoice" "PayMatch$Invoice" "state" "I") ∈ lw_all := lw_g (lw_at lw_m4 128 rfl) rfl
theorem q922 : (Jvm.Cond.soleField "PayMatch$Invoice" "state") ∈ lw_all := lw_g (lw_at lw_m4 129 rfl) rfl
theorem q923 : (Jvm.Cond.lays "PayMatch$Invoice" "PayMatch$Invoice" "reasons" "I") ∈ lw_all := lw_g (lw_at lw_m4 130 rfl) rfl
theorem q924 : (Jvm.Cond.soleField "PayMatch$Invoice" "reasons") ∈ lw_all := lw_g (lw_at lw_m4 131 rfl) rfl
theorem q925 : (Jvm.Cond.lays "PayMatch$Invoice" "PayMatch$Invoice" "noted" "I") ∈ lw_all := lw_g (lw_at lw_m4 132 rfl) rfl
theorem q926 : (Jvm.Cond.soleField "PayMatch$Invoice" "noted") ∈ lw_all := lw_g (lw_at lw_m4 133 rfl) rfl
theorem q927 : (Jvm.Cond.lays "PayMatch$Invoice" "PayMatch$Invoice" "cash" "I") ∈ lw_all := lw_g (lw_at lw_m4 134 rfl) rfl
theorem q928 : (Jvm.Cond.soleField "PayMatch$Invoice" "cash") ∈ lw_all := lw_g (lw_at lw_m4 135 rfl) rfl
theorem q929 : (Jvm.Cond.lays "PayMatch$Invoice" "PayMatch$Invoice" "discount" "I") ∈ lw_all := lw_g (lw_at lw_m4 136 rfl) rfl
theorem q930 : (Jvm.Cond.soleField "PayMatch$Invoice" "discount") ∈ lw_all := lw_g (lw_at lw_m4 137 rfl) rfl
theorem q931 : (Jvm.Cond.lays "PayMatch$Invoice" "PayMatch$Invoice" "credit" "I") ∈ lw_all := lw_g (lw_at lw_m4 138 rfl) rfl
theorem q932 : (Jvm.Cond.soleField "PayMatch$Invoice" "credit") ∈ lw_all := lw_g (lw_at lw_m4 139 rfl) rfl
theorem q933 : (Jvm.Cond.lays "PayMatch$Invoice" "PayMatch$Invoice" "isMatched" "Z") ∈ lw_all := lw_g (lw_at lw_m4 140 rfl) rfl
theorem q934 : (Jvm.Cond.soleField "PayMatch$Invoice" "isMatched") ∈ lw_all := lw_g (lw_at lw_m4 141 rfl) rfl
theorem q935 : (Jvm.Cond.lays "PayMatch$Invoice" "PayMatch$Invoice" "isFirst" "Z") ∈ lw_all := lw_g (lw_at lw_m4 142 rfl) rfl
theorem q936 : (Jvm.Cond.soleField "PayMatch$Invoice" "isFirst") ∈ lw_all := lw_g (lw_at lw_m4 143 rfl) rfl
theorem q937 : (Jvm.Cond.superclass "PayMatch$Invoice" "java/lang/Object") ∈ lw_all := lw_g (lw_at lw_m4 144 rfl) rfl
theorem q1386 : (Jvm.Cond.unhidden "PayMatch$Invoice" "weight" "()I") ∈ lw_tbl := lw_at lw_m6 113 rfl
theorem q1544 : (Jvm.Cond.instanceMethod ({ cls := "PayMatch$Invoice", name := "total", desc := "()I" } : Jvm.MethodName)) ∈ lw_all := lw_g (lw_at lw_m7 31 rfl) rfl
theorem q1545 : (Jvm.Cond.selects "PayMatch$Invoice" ({ cls := "PayMatch$Invoice", name := "total", desc := "()I" } : Jvm.MethodName) ({ cls := "PayMatch$Invoice", name := "total", desc := "()I" } : Jvm.MethodName)) ∈ lw_all := lw_g (lw_at lw_m7 32 rfl) rfl
theorem q1546 : (Jvm.Cond.code ({ cls := "PayMatch$Invoice", name := "total", desc := "()I" } : Jvm.MethodName) prog_6_method_4_code (3 : Nat) (Option.some Jvm.ClassFile.FieldType.int)) ∈ lw_all := lw_g (lw_at lw_m7 33 rfl) rfl
theorem q1547 : (Jvm.Cond.methodLink "PayMatch$Invoice" (64 : Nat) ({ cls := "PayMatch$Entry", name := "amount", desc := "()I" } : Jvm.MethodName)) ∈ lw_all := lw_g (lw_at lw_m7 34 rfl) rfl
theorem q1700 : (Jvm.Cond.instanceMethod ({ cls := "PayMatch$Invoice", name := "isWaiting", desc := "()Z" } : Jvm.MethodName)) ∈ lw_all := lw_g (lw_at lw_m7 187 rfl) rfl
theorem q1701 : (Jvm.Cond.selects "PayMatch$Invoice" ({ cls := "PayMatch$Invoice", name := "isWaiting", desc := "()Z" } : Jvm.MethodName) ({ cls := "PayMatch$Invoice", name := "isWaiting", desc := "()Z" } : Jvm.MethodName)) ∈ lw_all := lw_g (lw_at lw_m7 188 rfl) rfl
theorem q1702 : (Jvm.Cond.code ({ cls := "PayMatch$Invoice", name := "isWaiting", desc := "()Z" } : Jvm.MethodName) prog_6_method_6_code (1 : Nat) (Option.some Jvm.ClassFile.FieldType.boolean)) ∈ lw_all := lw_g (lw_at lw_m7 189 rfl) rfl
theorem q1728 : (Jvm.Cond.instanceMethod ({ cls := "PayMatch$Invoice", name := "isBilled", desc := "()Z" } : Jvm.MethodName)) ∈ lw_all := lw_g (lw_at lw_m7 215 rfl) rfl
theorem q1729 : (Jvm.Cond.selects "PayMatch$Invoice" ({ cls := "PayMatch$Invoice", name := "isBilled", desc := "()Z" } : Jvm.MethodName) ({ cls := "PayMatch$Invoice", name := "isBilled", desc := "()Z" } : Jvm.MethodName)) ∈ lw_all := lw_g (lw_at lw_m7 216 rfl) rfl
theorem q1730 : (Jvm.Cond.code ({ cls := "PayMatch$Invoice", name := "isBilled", desc := "()Z" } : Jvm.MethodName) prog_6_method_5_code (1 : Nat) (Option.some Jvm.ClassFile.FieldType.boolean)) ∈ lw_all := lw_g (lw_at lw_m7 217 rfl) rfl
theorem q2386 : (Jvm.Cond.castable "PayMatch$Invoice" "java/lang/Object") ∈ lw_tbl := lw_at lw_m10 153 rfl
theorem in_X4 : ∀ w ∈ wsX40, w ∈ lw_all := lw_in wsX40 [911, 913, 915, 917, 919, 921, 923, 925, 927, 929, 931, 933, 935] (by decide +kernel) (by decide +kernel)
/-! PayMatch$Line -/
set_option maxRecDepth 100000
def RX5 : String := "PayMatch$Line"
def TX5 : u_T := fun k => match k with
  | 0 => ("PayMatch$Line", "number", "I", true)
  | 1 => ("PayMatch$Line", "item", "I", true)
  | 2 => ("PayMatch$Line", "ordered", "I", false)
  | 3 => ("PayMatch$Line", "price", "I", false)
  | 4 => ("PayMatch$Line", "received", "I", false)
  | 5 => ("PayMatch$Line", "rejected", "I", false)
  | 6 => ("PayMatch$Line", "billed", "I", false)
  | 7 => ("PayMatch$Line", "paid", "I", false)
  | _ => ("PayMatch$Line", "claimed", "I", false)
def tyX5 : Nat → FieldType := fun k => match k with
  | 0 => .int
  | 1 => .int
  | 2 => .int
  | 3 => .int
  | 4 => .int
  | 5 => .int
  | 6 => .int
  | 7 => .int
  | _ => .int
abbrev wsX50 : List Cond := u_ws RX5 TX5 9
theorem nmX5 : ∀ a, a < 9 → ∀ b, b < 9 → a ≠ b → (TX5 a).2.1 ≠ (TX5 b).2.1 := by decide +kernel
theorem tyX5_ok : ∀ k, k < 9 → parseFieldDescriptor (TX5 k).2.2.1 = some (tyX5 k) := by decide +kernel
abbrev cX5_copy : ByteArray := prog_7_method_7_code
def yX5_copy : MethodName := ⟨RX5, "copy", "()LPayMatch$Paper;"⟩
theorem dX5_copy_0 : decode cX5_copy 0 = .ok (.aload_n 0, 1) := by decide +kernel
theorem dX5_copy_1 : decode cX5_copy 1 = .ok (.invokevirtual 46, 3) := by decide +kernel
theorem dX5_copy_4 : decode cX5_copy 4 = .ok (.areturn, 1) := by decide +kernel
abbrev cX5_copy_2 : ByteArray := prog_7_method_3_code
def yX5_copy_2 : MethodName := ⟨RX5, "copy", "()LPayMatch$Line;"⟩
def dkwX5_copy_2_2 : List UInt8 := [43, 42, 180, 0, 34, 181, 0, 34, 43, 42, 180, 0, 37, 181, 0, 37, 43, 176]
abbrev dktX5_copy_2_2 : List UInt8 := dkwX5_copy_2_2 ++ []
def dkwX5_copy_2_1 : List UInt8 := [43, 42, 180, 0, 25, 181, 0, 25, 43, 42, 180, 0, 28, 181, 0, 28, 43, 42, 180, 0, 31, 181, 0, 31]
abbrev dktX5_copy_2_1 : List UInt8 := dkwX5_copy_2_1 ++ dktX5_copy_2_2
def dkwX5_copy_2_0 : List UInt8 := [187, 0, 8, 89, 42, 180, 0, 7, 42, 180, 0, 13, 42, 180, 0, 16, 42, 180, 0, 19, 183, 0, 22, 76]
abbrev dktX5_copy_2_0 : List UInt8 := dkwX5_copy_2_0 ++ dktX5_copy_2_1
theorem dksX5_copy_2_0 : cX5_copy_2.data.toList.drop 0 = dktX5_copy_2_0 := by decide +kernel
theorem dksX5_copy_2_1 : cX5_copy_2.data.toList.drop 24 = dktX5_copy_2_1 := dk_seg dksX5_copy_2_0 24 rfl rfl
theorem dksX5_copy_2_2 : cX5_copy_2.data.toList.drop 48 = dktX5_copy_2_2 := dk_seg dksX5_copy_2_1 24 rfl rfl
theorem dX5_copy_2_0 : decode cX5_copy_2 0 = .ok (.new 8, 3) := dk_187 0 8 (dk_at dksX5_copy_2_0 0 rfl rfl)
theorem dX5_copy_2_3 : decode cX5_copy_2 3 = .ok (.dup, 1) := dk_89 (dk_at dksX5_copy_2_0 3 rfl rfl)
theorem dX5_copy_2_4 : decode cX5_copy_2 4 = .ok (.aload_n 0, 1) := dk_42 (dk_at dksX5_copy_2_0 4 rfl rfl)
theorem dX5_copy_2_5 : decode cX5_copy_2 5 = .ok (.getfield 7, 3) := dk_180 0 7 (dk_at dksX5_copy_2_0 5 rfl rfl)
theorem dX5_copy_2_8 : decode cX5_copy_2 8 = .ok (.aload_n 0, 1) := dk_42 (dk_at dksX5_copy_2_0 8 rfl rfl)
theorem dX5_copy_2_9 : decode cX5_copy_2 9 = .ok (.getfield 13, 3) := dk_180 0 13 (dk_at dksX5_copy_2_0 9 rfl rfl)
theorem dX5_copy_2_12 : decode cX5_copy_2 12 = .ok (.aload_n 0, 1) := dk_42 (dk_at dksX5_copy_2_0 12 rfl rfl)
theorem dX5_copy_2_13 : decode cX5_copy_2 13 = .ok (.getfield 16, 3) := dk_180 0 16 (dk_at dksX5_copy_2_0 13 rfl rfl)
theorem dX5_copy_2_16 : decode cX5_copy_2 16 = .ok (.aload_n 0, 1) := dk_42 (dk_at dksX5_copy_2_0 16 rfl rfl)
theorem dX5_copy_2_17 : decode cX5_copy_2 17 = .ok (.getfield 19, 3) := dk_180 0 19 (dk_at dksX5_copy_2_0 17 rfl rfl)
theorem dX5_copy_2_20 : decode cX5_copy_2 20 = .ok (.invokespecial 22, 3) := dk_183 0 22 (dk_at dksX5_copy_2_0 20 rfl rfl)
theorem dX5_copy_2_23 : decode cX5_copy_2 23 = .ok (.astore_n 1, 1) := dk_76 (dk_at dksX5_copy_2_0 23 rfl rfl)
theorem dX5_copy_2_24 : decode cX5_copy_2 24 = .ok (.aload_n 1, 1) := dk_43 (dk_at dksX5_copy_2_1 0 rfl rfl)
theorem dX5_copy_2_25 : decode cX5_copy_2 25 = .ok (.aload_n 0, 1) := dk_42 (dk_at dksX5_copy_2_1 1 rfl rfl)
theorem dX5_copy_2_26 : decode cX5_copy_2 26 = .ok (.getfield 25, 3) := dk_180 0 25 (dk_at dksX5_copy_2_1 2 rfl rfl)
theorem dX5_copy_2_29 : decode cX5_copy_2 29 = .ok (.putfield 25, 3) := dk_181 0 25 (dk_at dksX5_copy_2_1 5 rfl rfl)
theorem dX5_copy_2_32 : decode cX5_copy_2 32 = .ok (.aload_n 1, 1) := dk_43 (dk_at dksX5_copy_2_1 8 rfl rfl)
theorem dX5_copy_2_33 : decode cX5_copy_2 33 = .ok (.aload_n 0, 1) := dk_42 (dk_at dksX5_copy_2_1 9 rfl rfl)
theorem dX5_copy_2_34 : decode cX5_copy_2 34 = .ok (.getfield 28, 3) := dk_180 0 28 (dk_at dksX5_copy_2_1 10 rfl rfl)
theorem dX5_copy_2_37 : decode cX5_copy_2 37 = .ok (.putfield 28, 3) := dk_181 0 28 (dk_at dksX5_copy_2_1 13 rfl rfl)
theorem dX5_copy_2_40 : decode cX5_copy_2 40 = .ok (.aload_n 1, 1) := dk_43 (dk_at dksX5_copy_2_1 16 rfl rfl)
theorem dX5_copy_2_41 : decode cX5_copy_2 41 = .ok (.aload_n 0, 1) := dk_42 (dk_at dksX5_copy_2_1 17 rfl rfl)
theorem dX5_copy_2_42 : decode cX5_copy_2 42 = .ok (.getfield 31, 3) := dk_180 0 31 (dk_at dksX5_copy_2_1 18 rfl rfl)
theorem dX5_copy_2_45 : decode cX5_copy_2 45 = .ok (.putfield 31, 3) := dk_181 0 31 (dk_at dksX5_copy_2_1 21 rfl rfl)
theorem dX5_copy_2_48 : decode cX5_copy_2 48 = .ok (.aload_n 1, 1) := dk_43 (dk_at dksX5_copy_2_2 0 rfl rfl)
theorem dX5_copy_2_49 : decode cX5_copy_2 49 = .ok (.aload_n 0, 1) := dk_42 (dk_at dksX5_copy_2_2 1 rfl rfl)
theorem dX5_copy_2_50 : decode cX5_copy_2 50 = .ok (.getfield 34, 3) := dk_180 0 34 (dk_at dksX5_copy_2_2 2 rfl rfl)
theorem dX5_copy_2_53 : decode cX5_copy_2 53 = .ok (.putfield 34, 3) := dk_181 0 34 (dk_at dksX5_copy_2_2 5 rfl rfl)
theorem dX5_copy_2_56 : decode cX5_copy_2 56 = .ok (.aload_n 1, 1) := dk_43 (dk_at dksX5_copy_2_2 8 rfl rfl)
theorem dX5_copy_2_57 : decode cX5_copy_2 57 = .ok (.aload_n 0, 1) := dk_42 (dk_at dksX5_copy_2_2 9 rfl rfl)
theorem dX5_copy_2_58 : decode cX5_copy_2 58 = .ok (.getfield 37, 3) := dk_180 0 37 (dk_at dksX5_copy_2_2 10 rfl rfl)
theorem dX5_copy_2_61 : decode cX5_copy_2 61 = .ok (.putfield 37, 3) := dk_181 0 37 (dk_at dksX5_copy_2_2 13 rfl rfl)
theorem dX5_copy_2_64 : decode cX5_copy_2 64 = .ok (.aload_n 1, 1) := dk_43 (dk_at dksX5_copy_2_2 16 rfl rfl)
theorem dX5_copy_2_65 : decode cX5_copy_2 65 = .ok (.areturn, 1) := dk_176 (dk_at dksX5_copy_2_2 17 rfl rfl)
abbrev cX5_init : ByteArray := prog_7_method_1_code
def yX5_init : MethodName := ⟨RX5, "<init>", "(IIII)V"⟩
def dkwX5_init_1 : List UInt8 := [181, 0, 19, 177]
abbrev dktX5_init_1 : List UInt8 := dkwX5_init_1 ++ []
def dkwX5_init_0 : List UInt8 := [42, 183, 0, 1, 42, 27, 181, 0, 7, 42, 28, 181, 0, 13, 42, 29, 181, 0, 16, 42, 21, 4]
abbrev dktX5_init_0 : List UInt8 := dkwX5_init_0 ++ dktX5_init_1
theorem dksX5_init_0 : cX5_init.data.toList.drop 0 = dktX5_init_0 := by decide +kernel
theorem dksX5_init_1 : cX5_init.data.toList.drop 22 = dktX5_init_1 := dk_seg dksX5_init_0 22 rfl rfl
theorem dX5_init_0 : decode cX5_init 0 = .ok (.aload_n 0, 1) := dk_42 (dk_at dksX5_init_0 0 rfl rfl)
theorem dX5_init_1 : decode cX5_init 1 = .ok (.invokespecial 1, 3) := dk_183 0 1 (dk_at dksX5_init_0 1 rfl rfl)
theorem dX5_init_4 : decode cX5_init 4 = .ok (.aload_n 0, 1) := dk_42 (dk_at dksX5_init_0 4 rfl rfl)
theorem dX5_init_5 : decode cX5_init 5 = .ok (.iload_n 1, 1) := dk_27 (dk_at dksX5_init_0 5 rfl rfl)
theorem dX5_init_6 : decode cX5_init 6 = .ok (.putfield 7, 3) := dk_181 0 7 (dk_at dksX5_init_0 6 rfl rfl)
theorem dX5_init_9 : decode cX5_init 9 = .ok (.aload_n 0, 1) := dk_42 (dk_at dksX5_init_0 9 rfl rfl)
theorem dX5_init_10 : decode cX5_init 10 = .ok (.iload_n 2, 1) := dk_28 (dk_at dksX5_init_0 10 rfl rfl)
theorem dX5_init_11 : decode cX5_init 11 = .ok (.putfield 13, 3) := dk_181 0 13 (dk_at dksX5_init_0 11 rfl rfl)
theorem dX5_init_14 : decode cX5_init 14 = .ok (.aload_n 0, 1) := dk_42 (dk_at dksX5_init_0 14 rfl rfl)
theorem dX5_init_15 : decode cX5_init 15 = .ok (.iload_n 3, 1) := dk_29 (dk_at dksX5_init_0 15 rfl rfl)
theorem dX5_init_16 : decode cX5_init 16 = .ok (.putfield 16, 3) := dk_181 0 16 (dk_at dksX5_init_0 16 rfl rfl)
theorem dX5_init_19 : decode cX5_init 19 = .ok (.aload_n 0, 1) := dk_42 (dk_at dksX5_init_0 19 rfl rfl)
theorem dX5_init_20 : decode cX5_init 20 = .ok (.iload 4, 2) := dk_21 4 (dk_at dksX5_init_0 20 rfl rfl)
theorem dX5_init_22 : decode cX5_init 22 = .ok (.putfield 19, 3) := dk_181 0 19 (dk_at dksX5_init_1 0 rfl rfl)
theorem dX5_init_25 : decode cX5_init 25 = .ok (.return_, 1) := dk_177 (dk_at dksX5_init_1 3 rfl rfl)
abbrev cX5_weight : ByteArray := prog_7_method_4_code
def yX5_weight : MethodName := ⟨RX5, "weight", "()I"⟩
def dkwX5_weight_0 : List UInt8 := [3, 42, 180, 0, 16, 42, 180, 0, 25, 100, 184, 0, 40, 172]
abbrev dktX5_weight_0 : List UInt8 := dkwX5_weight_0 ++ []
theorem dksX5_weight_0 : cX5_weight.data.toList.drop 0 = dktX5_weight_0 := by decide +kernel
theorem dX5_weight_0 : decode cX5_weight 0 = .ok (.iconst 0, 1) := dk_3 (dk_at dksX5_weight_0 0 rfl rfl)
theorem dX5_weight_1 : decode cX5_weight 1 = .ok (.aload_n 0, 1) := dk_42 (dk_at dksX5_weight_0 1 rfl rfl)
theorem dX5_weight_2 : decode cX5_weight 2 = .ok (.getfield 16, 3) := dk_180 0 16 (dk_at dksX5_weight_0 2 rfl rfl)
theorem dX5_weight_5 : decode cX5_weight 5 = .ok (.aload_n 0, 1) := dk_42 (dk_at dksX5_weight_0 5 rfl rfl)
theorem dX5_weight_6 : decode cX5_weight 6 = .ok (.getfield 25, 3) := dk_180 0 25 (dk_at dksX5_weight_0 6 rfl rfl)
theorem dX5_weight_9 : decode cX5_weight 9 = .ok (.isub, 1) := dk_100 (dk_at dksX5_weight_0 9 rfl rfl)
theorem dX5_weight_10 : decode cX5_weight 10 = .ok (.invokestatic 40, 3) := dk_184 0 40 (dk_at dksX5_weight_0 10 rfl rfl)
theorem dX5_weight_13 : decode cX5_weight 13 = .ok (.ireturn, 1) := dk_172 (dk_at dksX5_weight_0 13 rfl rfl)
abbrev cX5_isUsed : ByteArray := prog_7_method_5_code
def yX5_isUsed : MethodName := ⟨RX5, "isUsed", "()Z"⟩
def dkwX5_isUsed_1 : List UInt8 := [167, 0, 4, 3, 172]
abbrev dktX5_isUsed_1 : List UInt8 := dkwX5_isUsed_1 ++ []
def dkwX5_isUsed_0 : List UInt8 := [42, 180, 0, 25, 157, 0, 17, 42, 180, 0, 31, 157, 0, 10, 42, 180, 0, 34, 158, 0, 7, 4]
abbrev dktX5_isUsed_0 : List UInt8 := dkwX5_isUsed_0 ++ dktX5_isUsed_1
theorem dksX5_isUsed_0 : cX5_isUsed.data.toList.drop 0 = dktX5_isUsed_0 := by decide +kernel
theorem dksX5_isUsed_1 : cX5_isUsed.data.toList.drop 22 = dktX5_isUsed_1 := dk_seg dksX5_isUsed_0 22 rfl rfl
theorem dX5_isUsed_0 : decode cX5_isUsed 0 = .ok (.aload_n 0, 1) := dk_42 (dk_at dksX5_isUsed_0 0 rfl rfl)
theorem dX5_isUsed_1 : decode cX5_isUsed 1 = .ok (.getfield 25, 3) := dk_180 0 25 (dk_at dksX5_isUsed_0 1 rfl rfl)
theorem dX5_isUsed_4 : decode cX5_isUsed 4 = .ok (.ifCond .gt 17, 3) := dk_157 0 17 (dk_at dksX5_isUsed_0 4 rfl rfl)
theorem dX5_isUsed_7 : decode cX5_isUsed 7 = .ok (.aload_n 0, 1) := dk_42 (dk_at dksX5_isUsed_0 7 rfl rfl)
theorem dX5_isUsed_8 : decode cX5_isUsed 8 = .ok (.getfield 31, 3) := dk_180 0 31 (dk_at dksX5_isUsed_0 8 rfl rfl)
theorem dX5_isUsed_11 : decode cX5_isUsed 11 = .ok (.ifCond .gt 10, 3) := dk_157 0 10 (dk_at dksX5_isUsed_0 11 rfl rfl)
theorem dX5_isUsed_14 : decode cX5_isUsed 14 = .ok (.aload_n 0, 1) := dk_42 (dk_at dksX5_isUsed_0 14 rfl rfl)
theorem dX5_isUsed_15 : decode cX5_isUsed 15 = .ok (.getfield 34, 3) := dk_180 0 34 (dk_at dksX5_isUsed_0 15 rfl rfl)
theorem dX5_isUsed_18 : decode cX5_isUsed 18 = .ok (.ifCond .le 7, 3) := dk_158 0 7 (dk_at dksX5_isUsed_0 18 rfl rfl)
theorem dX5_isUsed_21 : decode cX5_isUsed 21 = .ok (.iconst 1, 1) := dk_4 (dk_at dksX5_isUsed_0 21 rfl rfl)
theorem dX5_isUsed_22 : decode cX5_isUsed 22 = .ok (.goto 4, 3) := dk_167 0 4 (dk_at dksX5_isUsed_1 0 rfl rfl)
theorem dX5_isUsed_25 : decode cX5_isUsed 25 = .ok (.iconst 0, 1) := dk_3 (dk_at dksX5_isUsed_1 3 rfl rfl)
theorem dX5_isUsed_26 : decode cX5_isUsed 26 = .ok (.ireturn, 1) := dk_172 (dk_at dksX5_isUsed_1 4 rfl rfl)
abbrev cX5_claim : ByteArray := prog_7_method_6_code
def yX5_claim : MethodName := ⟨RX5, "claim", "(I)I"⟩
def dkwX5_claim_1 : List UInt8 := [181, 0, 37, 28, 42, 180, 0, 19, 104, 172]
abbrev dktX5_claim_1 : List UInt8 := dkwX5_claim_1 ++ []
def dkwX5_claim_0 : List UInt8 := [3, 42, 180, 0, 34, 27, 100, 42, 180, 0, 37, 100, 184, 0, 40, 61, 42, 89, 180, 0, 37, 28, 96]
abbrev dktX5_claim_0 : List UInt8 := dkwX5_claim_0 ++ dktX5_claim_1
theorem dksX5_claim_0 : cX5_claim.data.toList.drop 0 = dktX5_claim_0 := by decide +kernel
theorem dksX5_claim_1 : cX5_claim.data.toList.drop 23 = dktX5_claim_1 := dk_seg dksX5_claim_0 23 rfl rfl
theorem dX5_claim_0 : decode cX5_claim 0 = .ok (.iconst 0, 1) := dk_3 (dk_at dksX5_claim_0 0 rfl rfl)
theorem dX5_claim_1 : decode cX5_claim 1 = .ok (.aload_n 0, 1) := dk_42 (dk_at dksX5_claim_0 1 rfl rfl)
theorem dX5_claim_2 : decode cX5_claim 2 = .ok (.getfield 34, 3) := dk_180 0 34 (dk_at dksX5_claim_0 2 rfl rfl)
theorem dX5_claim_5 : decode cX5_claim 5 = .ok (.iload_n 1, 1) := dk_27 (dk_at dksX5_claim_0 5 rfl rfl)
theorem dX5_claim_6 : decode cX5_claim 6 = .ok (.isub, 1) := dk_100 (dk_at dksX5_claim_0 6 rfl rfl)
theorem dX5_claim_7 : decode cX5_claim 7 = .ok (.aload_n 0, 1) := dk_42 (dk_at dksX5_claim_0 7 rfl rfl)
theorem dX5_claim_8 : decode cX5_claim 8 = .ok (.getfield 37, 3) := dk_180 0 37 (dk_at dksX5_claim_0 8 rfl rfl)
theorem dX5_claim_11 : decode cX5_claim 11 = .ok (.isub, 1) := dk_100 (dk_at dksX5_claim_0 11 rfl rfl)
theorem dX5_claim_12 : decode cX5_claim 12 = .ok (.invokestatic 40, 3) := dk_184 0 40 (dk_at dksX5_claim_0 12 rfl rfl)
theorem dX5_claim_15 : decode cX5_claim 15 = .ok (.istore_n 2, 1) := dk_61 (dk_at dksX5_claim_0 15 rfl rfl)
theorem dX5_claim_16 : decode cX5_claim 16 = .ok (.aload_n 0, 1) := dk_42 (dk_at dksX5_claim_0 16 rfl rfl)
theorem dX5_claim_17 : decode cX5_claim 17 = .ok (.dup, 1) := dk_89 (dk_at dksX5_claim_0 17 rfl rfl)
theorem dX5_claim_18 : decode cX5_claim 18 = .ok (.getfield 37, 3) := dk_180 0 37 (dk_at dksX5_claim_0 18 rfl rfl)
theorem dX5_claim_21 : decode cX5_claim 21 = .ok (.iload_n 2, 1) := dk_28 (dk_at dksX5_claim_0 21 rfl rfl)
theorem dX5_claim_22 : decode cX5_claim 22 = .ok (.iadd, 1) := dk_96 (dk_at dksX5_claim_0 22 rfl rfl)
theorem dX5_claim_23 : decode cX5_claim 23 = .ok (.putfield 37, 3) := dk_181 0 37 (dk_at dksX5_claim_1 0 rfl rfl)
theorem dX5_claim_26 : decode cX5_claim 26 = .ok (.iload_n 2, 1) := dk_28 (dk_at dksX5_claim_1 3 rfl rfl)
theorem dX5_claim_27 : decode cX5_claim 27 = .ok (.aload_n 0, 1) := dk_42 (dk_at dksX5_claim_1 4 rfl rfl)
theorem dX5_claim_28 : decode cX5_claim 28 = .ok (.getfield 19, 3) := dk_180 0 19 (dk_at dksX5_claim_1 5 rfl rfl)
theorem dX5_claim_31 : decode cX5_claim 31 = .ok (.imul, 1) := dk_104 (dk_at dksX5_claim_1 8 rfl rfl)
theorem dX5_claim_32 : decode cX5_claim 32 = .ok (.ireturn, 1) := dk_172 (dk_at dksX5_claim_1 9 rfl rfl)
theorem q106 : (Jvm.Cond.initialized "PayMatch$Line") ∈ lw_all := lw_g (lw_at lw_m1 33 rfl) rfl
theorem q585 : (Jvm.Cond.selects "PayMatch$Line" ({ cls := "java/lang/Object", name := "getClass", desc := "()Ljava/lang/Class;" } : Jvm.MethodName) ({ cls := "java/lang/Object", name := "getClass", desc := "()Ljava/lang/Class;" } : Jvm.MethodName)) ∈ lw_all := lw_g (lw_at lw_m3 32 rfl) rfl
theorem q938 : (Jvm.Cond.castable "PayMatch$Line" "PayMatch$Paper") ∈ lw_tbl := lw_at lw_m4 145 rfl
theorem q939 : (Jvm.Cond.selects "PayMatch$Line" ({ cls := "PayMatch$Paper", name := "copy", desc := "()LPayMatch$Paper;" } : Jvm.MethodName) ({ cls := "PayMatch$Line", name := "copy", desc := "()LPayMatch$Paper;" } : Jvm.MethodName)) ∈ lw_all := lw_g (lw_at lw_m4 146 rfl) rfl
theorem q940 : (Jvm.Cond.unhidden "PayMatch$Line" "copy" "()LPayMatch$Paper;") ∈ lw_tbl := lw_at lw_m4 147 rfl
theorem q941 : (Jvm.Cond.instanceMethod ({ cls := "PayMatch$Line", name := "copy", desc := "()LPayMatch$Paper;" } : Jvm.MethodName)) ∈ lw_all := lw_g (lw_at lw_m4 148 rfl) rfl
theorem q942 : (Jvm.Cond.publicMethod ({ cls := "PayMatch$Line", name := "copy", desc := "()LPayMatch$Paper;" } : Jvm.MethodName)) ∈ lw_tbl := lw_at lw_m4 149 rfl
theorem q943 : (Jvm.Cond.code ({ cls := "PayMatch$Line", name := "copy", desc := "()LPayMatch$Paper;" } : Jvm.MethodName) prog_7_method_7_code (1 : Nat) (Option.some (Jvm.ClassFile.FieldType.object "PayMatch$Paper"))) ∈ lw_all := lw_g (lw_at lw_m4 150 rfl) rfl
theorem q944 : (Jvm.Cond.methodLink "PayMatch$Line" (46 : Nat) ({ cls := "PayMatch$Line", name := "copy", desc := "()LPayMatch$Line;" } : Jvm.MethodName)) ∈ lw_all := lw_g (lw_at lw_m4 151 rfl) rfl
theorem q945 : (Jvm.Cond.instanceMethod ({ cls := "PayMatch$Line", name := "copy", desc := "()LPayMatch$Line;" } : Jvm.MethodName)) ∈ lw_all := lw_g (lw_at lw_m4 152 rfl) rfl
theorem q946 : (Jvm.Cond.selects "PayMatch$Line" ({ cls := "PayMatch$Line", name := "copy", desc := "()LPayMatch$Line;" } : Jvm.MethodName) ({ cls := "PayMatch$Line", name := "copy", desc := "()LPayMatch$Line;" } : Jvm.MethodName)) ∈ lw_all := lw_g (lw_at lw_m4 153 rfl) rfl
theorem q947 : (Jvm.Cond.code ({ cls := "PayMatch$Line", name := "copy", desc := "()LPayMatch$Line;" } : Jvm.MethodName) prog_7_method_3_code (2 : Nat) (Option.some (Jvm.ClassFile.FieldType.object "PayMatch$Line"))) ∈ lw_all := lw_g (lw_at lw_m4 154 rfl) rfl
theorem q948 : (Jvm.Cond.classLink "PayMatch$Line" (8 : Nat) "PayMatch$Line") ∈ lw_all := lw_g (lw_at lw_m4 155 rfl) rfl
theorem q949 : (Jvm.Cond.instantiable "PayMatch$Line" (9 : Nat)) ∈ lw_all := lw_g (lw_at lw_m4 156 rfl) rfl
theorem q950 : (Jvm.Cond.methodLink "PayMatch$Line" (22 : Nat) ({ cls := "PayMatch$Line", name := "<init>", desc := "(IIII)V" } : Jvm.MethodName)) ∈ lw_all := lw_g (lw_at lw_m4 157 rfl) rfl
theorem q951 : (Jvm.Cond.instanceMethod ({ cls := "PayMatch$Line", name := "<init>", desc := "(IIII)V" } : Jvm.MethodName)) ∈ lw_all := lw_g (lw_at lw_m4 158 rfl) rfl
theorem q952 : (Jvm.Cond.code ({ cls := "PayMatch$Line", name := "<init>", desc := "(IIII)V" } : Jvm.MethodName) prog_7_method_1_code (5 : Nat) (Option.none : Option Jvm.ClassFile.FieldType)) ∈ lw_all := lw_g (lw_at lw_m4 159 rfl) rfl
theorem q953 : (Jvm.Cond.methodLink "PayMatch$Line" (1 : Nat) ({ cls := "java/lang/Object", name := "<init>", desc := "()V" } : Jvm.MethodName)) ∈ lw_all := lw_g (lw_at lw_m4 160 rfl) rfl
theorem q954 : (Jvm.Cond.fieldLink "PayMatch$Line" (7 : Nat) "PayMatch$Line" "number" "I") ∈ lw_all := lw_g (lw_at lw_m4 161 rfl) rfl
theorem q955 : (Jvm.Cond.fieldLink "PayMatch$Line" (13 : Nat) "PayMatch$Line" "item" "I") ∈ lw_all := lw_g (lw_at lw_m4 162 rfl) rfl
theorem q957 : (Jvm.Cond.fieldLink "PayMatch$Line" (16 : Nat) "PayMatch$Line" "ordered" "I") ∈ lw_all := lw_g (lw_at lw_m4 164 rfl) rfl
theorem q960 : (Jvm.Cond.fieldLink "PayMatch$Line" (19 : Nat) "PayMatch$Line" "price" "I") ∈ lw_all := lw_g (lw_at lw_m4 167 rfl) rfl
theorem q964 : (Jvm.Cond.fieldLink "PayMatch$Line" (25 : Nat) "PayMatch$Line" "received" "I") ∈ lw_all := lw_g (lw_at lw_m4 171 rfl) rfl
theorem q967 : (Jvm.Cond.fieldLink "PayMatch$Line" (28 : Nat) "PayMatch$Line" "rejected" "I") ∈ lw_all := lw_g (lw_at lw_m4 174 rfl) rfl
theorem q970 : (Jvm.Cond.fieldLink "PayMatch$Line" (31 : Nat) "PayMatch$Line" "billed" "I") ∈ lw_all := lw_g (lw_at lw_m4 177 rfl) rfl
theorem q973 : (Jvm.Cond.fieldLink "PayMatch$Line" (34 : Nat) "PayMatch$Line" "paid" "I") ∈ lw_all := lw_g (lw_at lw_m4 180 rfl) rfl
theorem q976 : (Jvm.Cond.fieldLink "PayMatch$Line" (37 : Nat) "PayMatch$Line" "claimed" "I") ∈ lw_all := lw_g (lw_at lw_m4 183 rfl) rfl
theorem q978 : (Jvm.Cond.laysFinal "PayMatch$Line" "PayMatch$Line" "number" "I") ∈ lw_all := lw_g (lw_at lw_m4 185 rfl) rfl
theorem q979 : (Jvm.Cond.soleField "PayMatch$Line" "number") ∈ lw_all := lw_g (lw_at lw_m4 186 rfl) rfl
theorem q980 : (Jvm.Cond.laysFinal "PayMatch$Line" "PayMatch$Line" "item" "I") ∈ lw_all := lw_g (lw_at lw_m4 187 rfl) rfl
theorem q981 : (Jvm.Cond.soleField "PayMatch$Line" "item") ∈ lw_all := lw_g (lw_at lw_m4 188 rfl) rfl
theorem q982 : (Jvm.Cond.lays "PayMatch$Line" "PayMatch$Line" "ordered" "I") ∈ lw_all := lw_g (lw_at lw_m4 189 rfl) rfl
theorem q983 : (Jvm.Cond.soleField "PayMatch$Line" "ordered") ∈ lw_all := lw_g (lw_at lw_m4 190 rfl) rfl
theorem q984 : (Jvm.Cond.lays "PayMatch$Line" "PayMatch$Line" "price" "I") ∈ lw_all := lw_g (lw_at lw_m4 191 rfl) rfl
theorem q985 : (Jvm.Cond.soleField "PayMatch$Line" "price") ∈ lw_all := lw_g (lw_at lw_m4 192 rfl) rfl
theorem q986 : (Jvm.Cond.lays "PayMatch$Line" "PayMatch$Line" "received" "I") ∈ lw_all := lw_g (lw_at lw_m4 193 rfl) rfl
theorem q987 : (Jvm.Cond.soleField "PayMatch$Line" "received") ∈ lw_all := lw_g (lw_at lw_m4 194 rfl) rfl
theorem q988 : (Jvm.Cond.lays "PayMatch$Line" "PayMatch$Line" "rejected" "I") ∈ lw_all := lw_g (lw_at lw_m4 195 rfl) rfl
theorem q989 : (Jvm.Cond.soleField "PayMatch$Line" "rejected") ∈ lw_all := lw_g (lw_at lw_m4 196 rfl) rfl
theorem q990 : (Jvm.Cond.lays "PayMatch$Line" "PayMatch$Line" "billed" "I") ∈ lw_all := lw_g (lw_at lw_m4 197 rfl) rfl
theorem q991 : (Jvm.Cond.soleField "PayMatch$Line" "billed") ∈ lw_all := lw_g (lw_at lw_m4 198 rfl) rfl
theorem q992 : (Jvm.Cond.lays "PayMatch$Line" "PayMatch$Line" "paid" "I") ∈ lw_all := lw_g (lw_at lw_m4 199 rfl) rfl
theorem q993 : (Jvm.Cond.soleField "PayMatch$Line" "paid") ∈ lw_all := lw_g (lw_at lw_m4 200 rfl) rfl
theorem q994 : (Jvm.Cond.lays "PayMatch$Line" "PayMatch$Line" "claimed" "I") ∈ lw_all := lw_g (lw_at lw_m4 201 rfl) rfl
theorem q995 : (Jvm.Cond.soleField "PayMatch$Line" "claimed") ∈ lw_all := lw_g (lw_at lw_m4 202 rfl) rfl
theorem q996 : (Jvm.Cond.superclass "PayMatch$Line" "java/lang/Object") ∈ lw_all := lw_g (lw_at lw_m4 203 rfl) rfl
theorem q1390 : (Jvm.Cond.selects "PayMatch$Line" ({ cls := "PayMatch$Paper", name := "weight", desc := "()I" } : Jvm.MethodName) ({ cls := "PayMatch$Line", name := "weight", desc := "()I" } : Jvm.MethodName)) ∈ lw_all := lw_g (lw_at lw_m6 117 rfl) rfl
theorem q1391 : (Jvm.Cond.unhidden "PayMatch$Line" "weight" "()I") ∈ lw_tbl := lw_at lw_m6 118 rfl
theorem q1392 : (Jvm.Cond.instanceMethod ({ cls := "PayMatch$Line", name := "weight", desc := "()I" } : Jvm.MethodName)) ∈ lw_all := lw_g (lw_at lw_m6 119 rfl) rfl
theorem q1393 : (Jvm.Cond.publicMethod ({ cls := "PayMatch$Line", name := "weight", desc := "()I" } : Jvm.MethodName)) ∈ lw_tbl := lw_at lw_m6 120 rfl
theorem q1394 : (Jvm.Cond.code ({ cls := "PayMatch$Line", name := "weight", desc := "()I" } : Jvm.MethodName) prog_7_method_4_code (1 : Nat) (Option.some Jvm.ClassFile.FieldType.int)) ∈ lw_all := lw_g (lw_at lw_m6 121 rfl) rfl
theorem q1395 : (Jvm.Cond.methodLink "PayMatch$Line" (40 : Nat) ({ cls := "java/lang/Math", name := "max", desc := "(II)I" } : Jvm.MethodName)) ∈ lw_all := lw_g (lw_at lw_m6 122 rfl) rfl
theorem q1423 : (Jvm.Cond.instanceMethod ({ cls := "PayMatch$Line", name := "isUsed", desc := "()Z" } : Jvm.MethodName)) ∈ lw_all := lw_g (lw_at lw_m6 150 rfl) rfl
theorem q1424 : (Jvm.Cond.selects "PayMatch$Line" ({ cls := "PayMatch$Line", name := "isUsed", desc := "()Z" } : Jvm.MethodName) ({ cls := "PayMatch$Line", name := "isUsed", desc := "()Z" } : Jvm.MethodName)) ∈ lw_all := lw_g (lw_at lw_m6 151 rfl) rfl
theorem q1425 : (Jvm.Cond.code ({ cls := "PayMatch$Line", name := "isUsed", desc := "()Z" } : Jvm.MethodName) prog_7_method_5_code (1 : Nat) (Option.some Jvm.ClassFile.FieldType.boolean)) ∈ lw_all := lw_g (lw_at lw_m6 152 rfl) rfl
theorem q1503 : (Jvm.Cond.instanceMethod ({ cls := "PayMatch$Line", name := "claim", desc := "(I)I" } : Jvm.MethodName)) ∈ lw_all := lw_g (lw_at lw_m6 230 rfl) rfl
theorem q1504 : (Jvm.Cond.selects "PayMatch$Line" ({ cls := "PayMatch$Line", name := "claim", desc := "(I)I" } : Jvm.MethodName) ({ cls := "PayMatch$Line", name := "claim", desc := "(I)I" } : Jvm.MethodName)) ∈ lw_all := lw_g (lw_at lw_m6 231 rfl) rfl
theorem q1505 : (Jvm.Cond.code ({ cls := "PayMatch$Line", name := "claim", desc := "(I)I" } : Jvm.MethodName) prog_7_method_6_code (3 : Nat) (Option.some Jvm.ClassFile.FieldType.int)) ∈ lw_all := lw_g (lw_at lw_m6 232 rfl) rfl
theorem q2403 : (Jvm.Cond.castable "PayMatch$Line" "java/lang/Object") ∈ lw_tbl := lw_at lw_m10 170 rfl
theorem in_X5 : ∀ w ∈ wsX50, w ∈ lw_all := lw_in wsX50 [978, 980, 982, 984, 986, 988, 990, 992, 994] (by decide +kernel) (by decide +kernel)
/-! PayMatch$Order -/
set_option maxRecDepth 100000
def RX6 : String := "PayMatch$Order"
def TX6 : u_T := fun k => match k with
  | 0 => ("PayMatch$Order", "number", "I", true)
  | 1 => ("PayMatch$Order", "supplier", "I", true)
  | 2 => ("PayMatch$Order", "lines", "LPayMatch$Book;", false)
  | 3 => ("PayMatch$Order", "state", "I", false)
  | _ => ("PayMatch$Order", "changes", "I", false)
def tyX6 : Nat → FieldType := fun k => match k with
  | 0 => .int
  | 1 => .int
  | 2 => .object "PayMatch$Book"
  | 3 => .int
  | _ => .int
abbrev wsX60 : List Cond := u_ws RX6 TX6 5
theorem nmX6 : ∀ a, a < 5 → ∀ b, b < 5 → a ≠ b → (TX6 a).2.1 ≠ (TX6 b).2.1 := by decide +kernel
theorem tyX6_ok : ∀ k, k < 5 → parseFieldDescriptor (TX6 k).2.2.1 = some (tyX6 k) := by decide +kernel
abbrev cX6_copy : ByteArray := prog_8_method_6_code
def yX6_copy : MethodName := ⟨RX6, "copy", "()LPayMatch$Paper;"⟩
theorem dX6_copy_0 : decode cX6_copy 0 = .ok (.aload_n 0, 1) := by decide +kernel
theorem dX6_copy_1 : decode cX6_copy 1 = .ok (.invokevirtual 63, 3) := by decide +kernel
theorem dX6_copy_4 : decode cX6_copy 4 = .ok (.areturn, 1) := by decide +kernel
abbrev cX6_copy_2 : ByteArray := prog_8_method_3_code
def yX6_copy_2 : MethodName := ⟨RX6, "copy", "()LPayMatch$Order;"⟩
def dkwX6_copy_2_1 : List UInt8 := [181, 0, 12, 43, 42, 180, 0, 18, 181, 0, 18, 43, 42, 180, 0, 35, 181, 0, 35, 43, 176]
abbrev dktX6_copy_2_1 : List UInt8 := dkwX6_copy_2_1 ++ []
def dkwX6_copy_2_0 : List UInt8 := [187, 0, 13, 89, 42, 180, 0, 22, 42, 180, 0, 25, 183, 0, 28, 76, 43, 42, 180, 0, 12, 182, 0, 31]
abbrev dktX6_copy_2_0 : List UInt8 := dkwX6_copy_2_0 ++ dktX6_copy_2_1
theorem dksX6_copy_2_0 : cX6_copy_2.data.toList.drop 0 = dktX6_copy_2_0 := by decide +kernel
theorem dksX6_copy_2_1 : cX6_copy_2.data.toList.drop 24 = dktX6_copy_2_1 := dk_seg dksX6_copy_2_0 24 rfl rfl
theorem dX6_copy_2_0 : decode cX6_copy_2 0 = .ok (.new 13, 3) := dk_187 0 13 (dk_at dksX6_copy_2_0 0 rfl rfl)
theorem dX6_copy_2_3 : decode cX6_copy_2 3 = .ok (.dup, 1) := dk_89 (dk_at dksX6_copy_2_0 3 rfl rfl)
theorem dX6_copy_2_4 : decode cX6_copy_2 4 = .ok (.aload_n 0, 1) := dk_42 (dk_at dksX6_copy_2_0 4 rfl rfl)
theorem dX6_copy_2_5 : decode cX6_copy_2 5 = .ok (.getfield 22, 3) := dk_180 0 22 (dk_at dksX6_copy_2_0 5 rfl rfl)
theorem dX6_copy_2_8 : decode cX6_copy_2 8 = .ok (.aload_n 0, 1) := dk_42 (dk_at dksX6_copy_2_0 8 rfl rfl)
theorem dX6_copy_2_9 : decode cX6_copy_2 9 = .ok (.getfield 25, 3) := dk_180 0 25 (dk_at dksX6_copy_2_0 9 rfl rfl)
theorem dX6_copy_2_12 : decode cX6_copy_2 12 = .ok (.invokespecial 28, 3) := dk_183 0 28 (dk_at dksX6_copy_2_0 12 rfl rfl)
theorem dX6_copy_2_15 : decode cX6_copy_2 15 = .ok (.astore_n 1, 1) := dk_76 (dk_at dksX6_copy_2_0 15 rfl rfl)
theorem dX6_copy_2_16 : decode cX6_copy_2 16 = .ok (.aload_n 1, 1) := dk_43 (dk_at dksX6_copy_2_0 16 rfl rfl)
theorem dX6_copy_2_17 : decode cX6_copy_2 17 = .ok (.aload_n 0, 1) := dk_42 (dk_at dksX6_copy_2_0 17 rfl rfl)
theorem dX6_copy_2_18 : decode cX6_copy_2 18 = .ok (.getfield 12, 3) := dk_180 0 12 (dk_at dksX6_copy_2_0 18 rfl rfl)
theorem dX6_copy_2_21 : decode cX6_copy_2 21 = .ok (.invokevirtual 31, 3) := dk_182 0 31 (dk_at dksX6_copy_2_0 21 rfl rfl)
theorem dX6_copy_2_24 : decode cX6_copy_2 24 = .ok (.putfield 12, 3) := dk_181 0 12 (dk_at dksX6_copy_2_1 0 rfl rfl)
theorem dX6_copy_2_27 : decode cX6_copy_2 27 = .ok (.aload_n 1, 1) := dk_43 (dk_at dksX6_copy_2_1 3 rfl rfl)
theorem dX6_copy_2_28 : decode cX6_copy_2 28 = .ok (.aload_n 0, 1) := dk_42 (dk_at dksX6_copy_2_1 4 rfl rfl)
theorem dX6_copy_2_29 : decode cX6_copy_2 29 = .ok (.getfield 18, 3) := dk_180 0 18 (dk_at dksX6_copy_2_1 5 rfl rfl)
theorem dX6_copy_2_32 : decode cX6_copy_2 32 = .ok (.putfield 18, 3) := dk_181 0 18 (dk_at dksX6_copy_2_1 8 rfl rfl)
theorem dX6_copy_2_35 : decode cX6_copy_2 35 = .ok (.aload_n 1, 1) := dk_43 (dk_at dksX6_copy_2_1 11 rfl rfl)
theorem dX6_copy_2_36 : decode cX6_copy_2 36 = .ok (.aload_n 0, 1) := dk_42 (dk_at dksX6_copy_2_1 12 rfl rfl)
theorem dX6_copy_2_37 : decode cX6_copy_2 37 = .ok (.getfield 35, 3) := dk_180 0 35 (dk_at dksX6_copy_2_1 13 rfl rfl)
theorem dX6_copy_2_40 : decode cX6_copy_2 40 = .ok (.putfield 35, 3) := dk_181 0 35 (dk_at dksX6_copy_2_1 16 rfl rfl)
theorem dX6_copy_2_43 : decode cX6_copy_2 43 = .ok (.aload_n 1, 1) := dk_43 (dk_at dksX6_copy_2_1 19 rfl rfl)
theorem dX6_copy_2_44 : decode cX6_copy_2 44 = .ok (.areturn, 1) := dk_176 (dk_at dksX6_copy_2_1 20 rfl rfl)
abbrev cX6_init : ByteArray := prog_8_method_1_code
def yX6_init : MethodName := ⟨RX6, "<init>", "(II)V"⟩
def dkwX6_init_1 : List UInt8 := [181, 0, 22, 42, 28, 181, 0, 25, 177]
abbrev dktX6_init_1 : List UInt8 := dkwX6_init_1 ++ []
def dkwX6_init_0 : List UInt8 := [42, 183, 0, 3, 42, 187, 0, 9, 89, 183, 0, 11, 181, 0, 12, 42, 3, 181, 0, 18, 42, 27]
abbrev dktX6_init_0 : List UInt8 := dkwX6_init_0 ++ dktX6_init_1
theorem dksX6_init_0 : cX6_init.data.toList.drop 0 = dktX6_init_0 := by decide +kernel
theorem dksX6_init_1 : cX6_init.data.toList.drop 22 = dktX6_init_1 := dk_seg dksX6_init_0 22 rfl rfl
theorem dX6_init_0 : decode cX6_init 0 = .ok (.aload_n 0, 1) := dk_42 (dk_at dksX6_init_0 0 rfl rfl)
theorem dX6_init_1 : decode cX6_init 1 = .ok (.invokespecial 3, 3) := dk_183 0 3 (dk_at dksX6_init_0 1 rfl rfl)
theorem dX6_init_4 : decode cX6_init 4 = .ok (.aload_n 0, 1) := dk_42 (dk_at dksX6_init_0 4 rfl rfl)
theorem dX6_init_5 : decode cX6_init 5 = .ok (.new 9, 3) := dk_187 0 9 (dk_at dksX6_init_0 5 rfl rfl)
theorem dX6_init_8 : decode cX6_init 8 = .ok (.dup, 1) := dk_89 (dk_at dksX6_init_0 8 rfl rfl)
theorem dX6_init_9 : decode cX6_init 9 = .ok (.invokespecial 11, 3) := dk_183 0 11 (dk_at dksX6_init_0 9 rfl rfl)
theorem dX6_init_12 : decode cX6_init 12 = .ok (.putfield 12, 3) := dk_181 0 12 (dk_at dksX6_init_0 12 rfl rfl)
theorem dX6_init_15 : decode cX6_init 15 = .ok (.aload_n 0, 1) := dk_42 (dk_at dksX6_init_0 15 rfl rfl)
theorem dX6_init_16 : decode cX6_init 16 = .ok (.iconst 0, 1) := dk_3 (dk_at dksX6_init_0 16 rfl rfl)
theorem dX6_init_17 : decode cX6_init 17 = .ok (.putfield 18, 3) := dk_181 0 18 (dk_at dksX6_init_0 17 rfl rfl)
theorem dX6_init_20 : decode cX6_init 20 = .ok (.aload_n 0, 1) := dk_42 (dk_at dksX6_init_0 20 rfl rfl)
theorem dX6_init_21 : decode cX6_init 21 = .ok (.iload_n 1, 1) := dk_27 (dk_at dksX6_init_0 21 rfl rfl)
theorem dX6_init_22 : decode cX6_init 22 = .ok (.putfield 22, 3) := dk_181 0 22 (dk_at dksX6_init_1 0 rfl rfl)
theorem dX6_init_25 : decode cX6_init 25 = .ok (.aload_n 0, 1) := dk_42 (dk_at dksX6_init_1 3 rfl rfl)
theorem dX6_init_26 : decode cX6_init 26 = .ok (.iload_n 2, 1) := dk_28 (dk_at dksX6_init_1 4 rfl rfl)
theorem dX6_init_27 : decode cX6_init 27 = .ok (.putfield 25, 3) := dk_181 0 25 (dk_at dksX6_init_1 5 rfl rfl)
theorem dX6_init_30 : decode cX6_init 30 = .ok (.return_, 1) := dk_177 (dk_at dksX6_init_1 8 rfl rfl)
abbrev cX6_weight : ByteArray := prog_8_method_4_code
def yX6_weight : MethodName := ⟨RX6, "weight", "()I"⟩
def dkwX6_weight_0 : List UInt8 := [42, 180, 0, 12, 184, 0, 38, 172]
abbrev dktX6_weight_0 : List UInt8 := dkwX6_weight_0 ++ []
theorem dksX6_weight_0 : cX6_weight.data.toList.drop 0 = dktX6_weight_0 := by decide +kernel
theorem dX6_weight_0 : decode cX6_weight 0 = .ok (.aload_n 0, 1) := dk_42 (dk_at dksX6_weight_0 0 rfl rfl)
theorem dX6_weight_1 : decode cX6_weight 1 = .ok (.getfield 12, 3) := dk_180 0 12 (dk_at dksX6_weight_0 1 rfl rfl)
theorem dX6_weight_4 : decode cX6_weight 4 = .ok (.invokestatic 38, 3) := dk_184 0 38 (dk_at dksX6_weight_0 4 rfl rfl)
theorem dX6_weight_7 : decode cX6_weight 7 = .ok (.ireturn, 1) := dk_172 (dk_at dksX6_weight_0 7 rfl rfl)
abbrev cX6_isUsed : ByteArray := prog_8_method_5_code
def yX6_isUsed : MethodName := ⟨RX6, "isUsed", "()Z"⟩
def dkwX6_isUsed_2 : List UInt8 := [3, 60, 167, 255, 220, 27, 172]
abbrev dktX6_isUsed_2 : List UInt8 := dkwX6_isUsed_2 ++ []
def dkwX6_isUsed_1 : List UInt8 := [185, 0, 54, 1, 0, 192, 0, 58, 78, 27, 154, 0, 10, 45, 182, 0, 60, 153, 0, 7, 4, 167, 0, 4]
abbrev dktX6_isUsed_1 : List UInt8 := dkwX6_isUsed_1 ++ dktX6_isUsed_2
def dkwX6_isUsed_0 : List UInt8 := [3, 60, 42, 180, 0, 12, 182, 0, 44, 77, 44, 185, 0, 48, 1, 0, 153, 0, 33, 44]
abbrev dktX6_isUsed_0 : List UInt8 := dkwX6_isUsed_0 ++ dktX6_isUsed_1
theorem dksX6_isUsed_0 : cX6_isUsed.data.toList.drop 0 = dktX6_isUsed_0 := by decide +kernel
theorem dksX6_isUsed_1 : cX6_isUsed.data.toList.drop 20 = dktX6_isUsed_1 := dk_seg dksX6_isUsed_0 20 rfl rfl
theorem dksX6_isUsed_2 : cX6_isUsed.data.toList.drop 44 = dktX6_isUsed_2 := dk_seg dksX6_isUsed_1 24 rfl rfl
theorem dX6_isUsed_0 : decode cX6_isUsed 0 = .ok (.iconst 0, 1) := dk_3 (dk_at dksX6_isUsed_0 0 rfl rfl)
theorem dX6_isUsed_1 : decode cX6_isUsed 1 = .ok (.istore_n 1, 1) := dk_60 (dk_at dksX6_isUsed_0 1 rfl rfl)
theorem dX6_isUsed_2 : decode cX6_isUsed 2 = .ok (.aload_n 0, 1) := dk_42 (dk_at dksX6_isUsed_0 2 rfl rfl)
theorem dX6_isUsed_3 : decode cX6_isUsed 3 = .ok (.getfield 12, 3) := dk_180 0 12 (dk_at dksX6_isUsed_0 3 rfl rfl)
theorem dX6_isUsed_6 : decode cX6_isUsed 6 = .ok (.invokevirtual 44, 3) := dk_182 0 44 (dk_at dksX6_isUsed_0 6 rfl rfl)
theorem dX6_isUsed_9 : decode cX6_isUsed 9 = .ok (.astore_n 2, 1) := dk_77 (dk_at dksX6_isUsed_0 9 rfl rfl)
theorem dX6_isUsed_10 : decode cX6_isUsed 10 = .ok (.aload_n 2, 1) := dk_44 (dk_at dksX6_isUsed_0 10 rfl rfl)
theorem dX6_isUsed_11 : decode cX6_isUsed 11 = .ok (.invokeinterface 48 1, 5) := by decide +kernel
theorem dX6_isUsed_16 : decode cX6_isUsed 16 = .ok (.ifCond .eq 33, 3) := dk_153 0 33 (dk_at dksX6_isUsed_0 16 rfl rfl)
theorem dX6_isUsed_19 : decode cX6_isUsed 19 = .ok (.aload_n 2, 1) := dk_44 (dk_at dksX6_isUsed_0 19 rfl rfl)
theorem dX6_isUsed_20 : decode cX6_isUsed 20 = .ok (.invokeinterface 54 1, 5) := by decide +kernel
theorem dX6_isUsed_25 : decode cX6_isUsed 25 = .ok (.checkcast 58, 3) := dk_192 0 58 (dk_at dksX6_isUsed_1 5 rfl rfl)
theorem dX6_isUsed_28 : decode cX6_isUsed 28 = .ok (.astore_n 3, 1) := dk_78 (dk_at dksX6_isUsed_1 8 rfl rfl)
theorem dX6_isUsed_29 : decode cX6_isUsed 29 = .ok (.iload_n 1, 1) := dk_27 (dk_at dksX6_isUsed_1 9 rfl rfl)
theorem dX6_isUsed_30 : decode cX6_isUsed 30 = .ok (.ifCond .ne 10, 3) := dk_154 0 10 (dk_at dksX6_isUsed_1 10 rfl rfl)
theorem dX6_isUsed_33 : decode cX6_isUsed 33 = .ok (.aload_n 3, 1) := dk_45 (dk_at dksX6_isUsed_1 13 rfl rfl)
theorem dX6_isUsed_34 : decode cX6_isUsed 34 = .ok (.invokevirtual 60, 3) := dk_182 0 60 (dk_at dksX6_isUsed_1 14 rfl rfl)
theorem dX6_isUsed_37 : decode cX6_isUsed 37 = .ok (.ifCond .eq 7, 3) := dk_153 0 7 (dk_at dksX6_isUsed_1 17 rfl rfl)
theorem dX6_isUsed_40 : decode cX6_isUsed 40 = .ok (.iconst 1, 1) := dk_4 (dk_at dksX6_isUsed_1 20 rfl rfl)
theorem dX6_isUsed_41 : decode cX6_isUsed 41 = .ok (.goto 4, 3) := dk_167 0 4 (dk_at dksX6_isUsed_1 21 rfl rfl)
theorem dX6_isUsed_44 : decode cX6_isUsed 44 = .ok (.iconst 0, 1) := dk_3 (dk_at dksX6_isUsed_2 0 rfl rfl)
theorem dX6_isUsed_45 : decode cX6_isUsed 45 = .ok (.istore_n 1, 1) := dk_60 (dk_at dksX6_isUsed_2 1 rfl rfl)
theorem dX6_isUsed_46 : decode cX6_isUsed 46 = .ok (.goto (-36), 3) := dk_167 255 220 (dk_at dksX6_isUsed_2 2 rfl rfl)
theorem dX6_isUsed_49 : decode cX6_isUsed 49 = .ok (.iload_n 1, 1) := dk_27 (dk_at dksX6_isUsed_2 5 rfl rfl)
theorem dX6_isUsed_50 : decode cX6_isUsed 50 = .ok (.ireturn, 1) := dk_172 (dk_at dksX6_isUsed_2 6 rfl rfl)
theorem q107 : (Jvm.Cond.initialized "PayMatch$Order") ∈ lw_all := lw_g (lw_at lw_m1 34 rfl) rfl
theorem q586 : (Jvm.Cond.selects "PayMatch$Order" ({ cls := "java/lang/Object", name := "getClass", desc := "()Ljava/lang/Class;" } : Jvm.MethodName) ({ cls := "java/lang/Object", name := "getClass", desc := "()Ljava/lang/Class;" } : Jvm.MethodName)) ∈ lw_all := lw_g (lw_at lw_m3 33 rfl) rfl
theorem q997 : (Jvm.Cond.castable "PayMatch$Order" "PayMatch$Paper") ∈ lw_tbl := lw_at lw_m4 204 rfl
theorem q998 : (Jvm.Cond.selects "PayMatch$Order" ({ cls := "PayMatch$Paper", name := "copy", desc := "()LPayMatch$Paper;" } : Jvm.MethodName) ({ cls := "PayMatch$Order", name := "copy", desc := "()LPayMatch$Paper;" } : Jvm.MethodName)) ∈ lw_all := lw_g (lw_at lw_m4 205 rfl) rfl
theorem q999 : (Jvm.Cond.unhidden "PayMatch$Order" "copy" "()LPayMatch$Paper;") ∈ lw_tbl := lw_at lw_m4 206 rfl
theorem q1000 : (Jvm.Cond.instanceMethod ({ cls := "PayMatch$Order", name := "copy", desc := "()LPayMatch$Paper;" } : Jvm.MethodName)) ∈ lw_all := lw_g (lw_at lw_m4 207 rfl) rfl
theorem q1001 : (Jvm.Cond.publicMethod ({ cls := "PayMatch$Order", name := "copy", desc := "()LPayMatch$Paper;" } : Jvm.MethodName)) ∈ lw_tbl := lw_at lw_m4 208 rfl
theorem q1002 : (Jvm.Cond.code ({ cls := "PayMatch$Order", name := "copy", desc := "()LPayMatch$Paper;" } : Jvm.MethodName) prog_8_method_6_code (1 : Nat) (Option.some (Jvm.ClassFile.FieldType.object "PayMatch$Paper"))) ∈ lw_all := lw_g (lw_at lw_m4 209 rfl) rfl
theorem q1003 : (Jvm.Cond.methodLink "PayMatch$Order" (63 : Nat) ({ cls := "PayMatch$Order", name := "copy", desc := "()LPayMatch$Order;" } : Jvm.MethodName)) ∈ lw_all := lw_g (lw_at lw_m4 210 rfl) rfl
theorem q1004 : (Jvm.Cond.instanceMethod ({ cls := "PayMatch$Order", name := "copy", desc := "()LPayMatch$Order;" } : Jvm.MethodName)) ∈ lw_all := lw_g (lw_at lw_m4 211 rfl) rfl
theorem q1005 : (Jvm.Cond.selects "PayMatch$Order" ({ cls := "PayMatch$Order", name := "copy", desc := "()LPayMatch$Order;" } : Jvm.MethodName) ({ cls := "PayMatch$Order", name := "copy", desc := "()LPayMatch$Order;" } : Jvm.MethodName)) ∈ lw_all := lw_g (lw_at lw_m4 212 rfl) rfl
theorem q1006 : (Jvm.Cond.code ({ cls := "PayMatch$Order", name := "copy", desc := "()LPayMatch$Order;" } : Jvm.MethodName) prog_8_method_3_code (2 : Nat) (Option.some (Jvm.ClassFile.FieldType.object "PayMatch$Order"))) ∈ lw_all := lw_g (lw_at lw_m4 213 rfl) rfl
theorem q1007 : (Jvm.Cond.classLink "PayMatch$Order" (13 : Nat) "PayMatch$Order") ∈ lw_all := lw_g (lw_at lw_m4 214 rfl) rfl
theorem q1008 : (Jvm.Cond.instantiable "PayMatch$Order" (5 : Nat)) ∈ lw_all := lw_g (lw_at lw_m4 215 rfl) rfl
theorem q1009 : (Jvm.Cond.methodLink "PayMatch$Order" (28 : Nat) ({ cls := "PayMatch$Order", name := "<init>", desc := "(II)V" } : Jvm.MethodName)) ∈ lw_all := lw_g (lw_at lw_m4 216 rfl) rfl
theorem q1010 : (Jvm.Cond.instanceMethod ({ cls := "PayMatch$Order", name := "<init>", desc := "(II)V" } : Jvm.MethodName)) ∈ lw_all := lw_g (lw_at lw_m4 217 rfl) rfl
theorem q1011 : (Jvm.Cond.code ({ cls := "PayMatch$Order", name := "<init>", desc := "(II)V" } : Jvm.MethodName) prog_8_method_1_code (3 : Nat) (Option.none : Option Jvm.ClassFile.FieldType)) ∈ lw_all := lw_g (lw_at lw_m4 218 rfl) rfl
theorem q1012 : (Jvm.Cond.methodLink "PayMatch$Order" (3 : Nat) ({ cls := "java/lang/Object", name := "<init>", desc := "()V" } : Jvm.MethodName)) ∈ lw_all := lw_g (lw_at lw_m4 219 rfl) rfl
theorem q1013 : (Jvm.Cond.classLink "PayMatch$Order" (9 : Nat) "PayMatch$Book") ∈ lw_all := lw_g (lw_at lw_m4 220 rfl) rfl
theorem q1014 : (Jvm.Cond.methodLinkNest "PayMatch$Order" (11 : Nat) ({ cls := "PayMatch$Book", name := "<init>", desc := "()V" } : Jvm.MethodName) "PayMatch") ∈ lw_tbl := lw_at lw_m4 221 rfl
theorem q1015 : (Jvm.Cond.fieldLink "PayMatch$Order" (22 : Nat) "PayMatch$Order" "number" "I") ∈ lw_all := lw_g (lw_at lw_m4 222 rfl) rfl
theorem q1016 : (Jvm.Cond.fieldLink "PayMatch$Order" (25 : Nat) "PayMatch$Order" "supplier" "I") ∈ lw_all := lw_g (lw_at lw_m4 223 rfl) rfl
theorem q1019 : (Jvm.Cond.fieldLink "PayMatch$Order" (12 : Nat) "PayMatch$Order" "lines" "LPayMatch$Book;") ∈ lw_all := lw_g (lw_at lw_m4 226 rfl) rfl
theorem q1022 : (Jvm.Cond.fieldLink "PayMatch$Order" (18 : Nat) "PayMatch$Order" "state" "I") ∈ lw_all := lw_g (lw_at lw_m4 229 rfl) rfl
theorem q1025 : (Jvm.Cond.fieldLink "PayMatch$Order" (35 : Nat) "PayMatch$Order" "changes" "I") ∈ lw_all := lw_g (lw_at lw_m4 232 rfl) rfl
theorem q1027 : (Jvm.Cond.laysFinal "PayMatch$Order" "PayMatch$Order" "number" "I") ∈ lw_all := lw_g (lw_at lw_m4 234 rfl) rfl
theorem q1028 : (Jvm.Cond.soleField "PayMatch$Order" "number") ∈ lw_all := lw_g (lw_at lw_m4 235 rfl) rfl
theorem q1029 : (Jvm.Cond.laysFinal "PayMatch$Order" "PayMatch$Order" "supplier" "I") ∈ lw_all := lw_g (lw_at lw_m4 236 rfl) rfl
theorem q1030 : (Jvm.Cond.soleField "PayMatch$Order" "supplier") ∈ lw_all := lw_g (lw_at lw_m4 237 rfl) rfl
theorem q1031 : (Jvm.Cond.lays "PayMatch$Order" "PayMatch$Order" "lines" "LPayMatch$Book;") ∈ lw_all := lw_g (lw_at lw_m4 238 rfl) rfl
theorem q1032 : (Jvm.Cond.soleField "PayMatch$Order" "lines") ∈ lw_all := lw_g (lw_at lw_m4 239 rfl) rfl
theorem q1033 : (Jvm.Cond.lays "PayMatch$Order" "PayMatch$Order" "state" "I") ∈ lw_all := lw_g (lw_at lw_m5 0 rfl) rfl
theorem q1034 : (Jvm.Cond.soleField "PayMatch$Order" "state") ∈ lw_all := lw_g (lw_at lw_m5 1 rfl) rfl
theorem q1035 : (Jvm.Cond.lays "PayMatch$Order" "PayMatch$Order" "changes" "I") ∈ lw_all := lw_g (lw_at lw_m5 2 rfl) rfl
theorem q1036 : (Jvm.Cond.soleField "PayMatch$Order" "changes") ∈ lw_all := lw_g (lw_at lw_m5 3 rfl) rfl
theorem q1037 : (Jvm.Cond.superclass "PayMatch$Order" "java/lang/Object") ∈ lw_all := lw_g (lw_at lw_m5 4 rfl) rfl
theorem q1038 : (Jvm.Cond.methodLink "PayMatch$Order" (31 : Nat) ({ cls := "PayMatch$Book", name := "copy", desc := "()LPayMatch$Book;" } : Jvm.MethodName)) ∈ lw_all := lw_g (lw_at lw_m5 5 rfl) rfl
theorem q1333 : (Jvm.Cond.instanceMethod ({ cls := "PayMatch$Order", name := "weight", desc := "()I" } : Jvm.MethodName)) ∈ lw_all := lw_g (lw_at lw_m6 60 rfl) rfl
theorem q1334 : (Jvm.Cond.selects "PayMatch$Order" ({ cls := "PayMatch$Order", name := "weight", desc := "()I" } : Jvm.MethodName) ({ cls := "PayMatch$Order", name := "weight", desc := "()I" } : Jvm.MethodName)) ∈ lw_all := lw_g (lw_at lw_m6 61 rfl) rfl
theorem q1335 : (Jvm.Cond.code ({ cls := "PayMatch$Order", name := "weight", desc := "()I" } : Jvm.MethodName) prog_8_method_4_code (1 : Nat) (Option.some Jvm.ClassFile.FieldType.int)) ∈ lw_all := lw_g (lw_at lw_m6 62 rfl) rfl
theorem q1336 : (Jvm.Cond.methodLink "PayMatch$Order" (38 : Nat) ({ cls := "PayMatch$Paper", name := "weightOf", desc := "(Ljava/lang/Iterable;)I" } : Jvm.MethodName)) ∈ lw_all := lw_g (lw_at lw_m6 63 rfl) rfl
theorem q1396 : (Jvm.Cond.selects "PayMatch$Order" ({ cls := "PayMatch$Paper", name := "weight", desc := "()I" } : Jvm.MethodName) ({ cls := "PayMatch$Order", name := "weight", desc := "()I" } : Jvm.MethodName)) ∈ lw_all := lw_g (lw_at lw_m6 123 rfl) rfl
theorem q1397 : (Jvm.Cond.unhidden "PayMatch$Order" "weight" "()I") ∈ lw_tbl := lw_at lw_m6 124 rfl
theorem q1398 : (Jvm.Cond.publicMethod ({ cls := "PayMatch$Order", name := "weight", desc := "()I" } : Jvm.MethodName)) ∈ lw_tbl := lw_at lw_m6 125 rfl
theorem q1413 : (Jvm.Cond.instanceMethod ({ cls := "PayMatch$Order", name := "isUsed", desc := "()Z" } : Jvm.MethodName)) ∈ lw_all := lw_g (lw_at lw_m6 140 rfl) rfl
theorem q1414 : (Jvm.Cond.selects "PayMatch$Order" ({ cls := "PayMatch$Order", name := "isUsed", desc := "()Z" } : Jvm.MethodName) ({ cls := "PayMatch$Order", name := "isUsed", desc := "()Z" } : Jvm.MethodName)) ∈ lw_all := lw_g (lw_at lw_m6 141 rfl) rfl
theorem q1415 : (Jvm.Cond.code ({ cls := "PayMatch$Order", name := "isUsed", desc := "()Z" } : Jvm.MethodName) prog_8_method_5_code (4 : Nat) (Option.some Jvm.ClassFile.FieldType.boolean)) ∈ lw_all := lw_g (lw_at lw_m6 142 rfl) rfl
theorem q1416 : (Jvm.Cond.methodLink "PayMatch$Order" (44 : Nat) ({ cls := "PayMatch$Book", name := "iterator", desc := "()Ljava/util/Iterator;" } : Jvm.MethodName)) ∈ lw_all := lw_g (lw_at lw_m6 143 rfl) rfl
theorem q1417 : (Jvm.Cond.interfaceEntry "PayMatch$Order" (48 : Nat)) ∈ lw_tbl := lw_at lw_m6 144 rfl
theorem q1418 : (Jvm.Cond.methodLink "PayMatch$Order" (48 : Nat) ({ cls := "java/util/Iterator", name := "hasNext", desc := "()Z" } : Jvm.MethodName)) ∈ lw_all := lw_g (lw_at lw_m6 145 rfl) rfl
theorem q1419 : (Jvm.Cond.interfaceEntry "PayMatch$Order" (54 : Nat)) ∈ lw_tbl := lw_at lw_m6 146 rfl
theorem q1420 : (Jvm.Cond.methodLink "PayMatch$Order" (54 : Nat) ({ cls := "java/util/Iterator", name := "next", desc := "()Ljava/lang/Object;" } : Jvm.MethodName)) ∈ lw_all := lw_g (lw_at lw_m6 147 rfl) rfl
theorem q1421 : (Jvm.Cond.classLink "PayMatch$Order" (58 : Nat) "PayMatch$Line") ∈ lw_all := lw_g (lw_at lw_m6 148 rfl) rfl
theorem q1422 : (Jvm.Cond.methodLink "PayMatch$Order" (60 : Nat) ({ cls := "PayMatch$Line", name := "isUsed", desc := "()Z" } : Jvm.MethodName)) ∈ lw_all := lw_g (lw_at lw_m6 149 rfl) rfl
theorem q2385 : (Jvm.Cond.castable "PayMatch$Order" "java/lang/Object") ∈ lw_tbl := lw_at lw_m10 152 rfl
theorem in_X6 : ∀ w ∈ wsX60, w ∈ lw_all := lw_in wsX60 [1027, 1029, 1031, 1033, 1035] (by decide +kernel) (by decide +kernel)
/-! PayMatch$Supplier -/
set_option maxRecDepth 100000
def RX7 : String := "PayMatch$Supplier"
def TX7 : u_T := fun k => match k with
  | 0 => ("PayMatch$Supplier", "number", "I", true)
  | 1 => ("PayMatch$Supplier", "priceTolerance", "D", false)
  | 2 => ("PayMatch$Supplier", "unitTolerance", "D", false)
  | 3 => ("PayMatch$Supplier", "trifle", "I", false)
  | 4 => ("PayMatch$Supplier", "credit", "I", false)
  | 5 => ("PayMatch$Supplier", "cash", "I", false)
  | 6 => ("PayMatch$Supplier", "noted", "I", false)
  | 7 => ("PayMatch$Supplier", "discounted", "I", false)
  | _ => ("PayMatch$Supplier", "isBlocked", "Z", false)
def tyX7 : Nat → FieldType := fun k => match k with
  | 0 => .int
  | 1 => .double
  | 2 => .double
  | 3 => .int
  | 4 => .int
  | 5 => .int
  | 6 => .int
  | 7 => .int
  | _ => .boolean
abbrev wsX70 : List Cond := u_ws RX7 TX7 9
theorem nmX7 : ∀ a, a < 9 → ∀ b, b < 9 → a ≠ b → (TX7 a).2.1 ≠ (TX7 b).2.1 := by decide +kernel
theorem tyX7_ok : ∀ k, k < 9 → parseFieldDescriptor (TX7 k).2.2.1 = some (tyX7 k) := by decide +kernel
abbrev cX7_copy : ByteArray := prog_12_method_8_code
def yX7_copy : MethodName := ⟨RX7, "copy", "()LPayMatch$Paper;"⟩
theorem dX7_copy_0 : decode cX7_copy 0 = .ok (.aload_n 0, 1) := by decide +kernel
theorem dX7_copy_1 : decode cX7_copy 1 = .ok (.invokevirtual 51, 3) := by decide +kernel
theorem dX7_copy_4 : decode cX7_copy 4 = .ok (.areturn, 1) := by decide +kernel
abbrev cX7_copy_2 : ByteArray := prog_12_method_4_code
def yX7_copy_2 : MethodName := ⟨RX7, "copy", "()LPayMatch$Supplier;"⟩
def dkwX7_copy_2_2 : List UInt8 := [43, 42, 180, 0, 37, 181, 0, 37, 43, 42, 180, 0, 40, 181, 0, 40, 43, 176]
abbrev dktX7_copy_2_2 : List UInt8 := dkwX7_copy_2_2 ++ []
def dkwX7_copy_2_1 : List UInt8 := [43, 42, 180, 0, 28, 181, 0, 28, 43, 42, 180, 0, 31, 181, 0, 31, 43, 42, 180, 0, 34, 181, 0, 34]
abbrev dktX7_copy_2_1 : List UInt8 := dkwX7_copy_2_1 ++ dktX7_copy_2_2
def dkwX7_copy_2_0 : List UInt8 := [187, 0, 4, 89, 42, 180, 0, 14, 42, 180, 0, 18, 42, 180, 0, 22, 42, 180, 0, 25, 183, 0, 3, 76]
abbrev dktX7_copy_2_0 : List UInt8 := dkwX7_copy_2_0 ++ dktX7_copy_2_1
theorem dksX7_copy_2_0 : cX7_copy_2.data.toList.drop 0 = dktX7_copy_2_0 := by decide +kernel
theorem dksX7_copy_2_1 : cX7_copy_2.data.toList.drop 24 = dktX7_copy_2_1 := dk_seg dksX7_copy_2_0 24 rfl rfl
theorem dksX7_copy_2_2 : cX7_copy_2.data.toList.drop 48 = dktX7_copy_2_2 := dk_seg dksX7_copy_2_1 24 rfl rfl
theorem dX7_copy_2_0 : decode cX7_copy_2 0 = .ok (.new 4, 3) := dk_187 0 4 (dk_at dksX7_copy_2_0 0 rfl rfl)
theorem dX7_copy_2_3 : decode cX7_copy_2 3 = .ok (.dup, 1) := dk_89 (dk_at dksX7_copy_2_0 3 rfl rfl)
theorem dX7_copy_2_4 : decode cX7_copy_2 4 = .ok (.aload_n 0, 1) := dk_42 (dk_at dksX7_copy_2_0 4 rfl rfl)
theorem dX7_copy_2_5 : decode cX7_copy_2 5 = .ok (.getfield 14, 3) := dk_180 0 14 (dk_at dksX7_copy_2_0 5 rfl rfl)
theorem dX7_copy_2_8 : decode cX7_copy_2 8 = .ok (.aload_n 0, 1) := dk_42 (dk_at dksX7_copy_2_0 8 rfl rfl)
theorem dX7_copy_2_9 : decode cX7_copy_2 9 = .ok (.getfield 18, 3) := dk_180 0 18 (dk_at dksX7_copy_2_0 9 rfl rfl)
theorem dX7_copy_2_12 : decode cX7_copy_2 12 = .ok (.aload_n 0, 1) := dk_42 (dk_at dksX7_copy_2_0 12 rfl rfl)
theorem dX7_copy_2_13 : decode cX7_copy_2 13 = .ok (.getfield 22, 3) := dk_180 0 22 (dk_at dksX7_copy_2_0 13 rfl rfl)
theorem dX7_copy_2_16 : decode cX7_copy_2 16 = .ok (.aload_n 0, 1) := dk_42 (dk_at dksX7_copy_2_0 16 rfl rfl)
theorem dX7_copy_2_17 : decode cX7_copy_2 17 = .ok (.getfield 25, 3) := dk_180 0 25 (dk_at dksX7_copy_2_0 17 rfl rfl)
theorem dX7_copy_2_20 : decode cX7_copy_2 20 = .ok (.invokespecial 3, 3) := dk_183 0 3 (dk_at dksX7_copy_2_0 20 rfl rfl)
theorem dX7_copy_2_23 : decode cX7_copy_2 23 = .ok (.astore_n 1, 1) := dk_76 (dk_at dksX7_copy_2_0 23 rfl rfl)
theorem dX7_copy_2_24 : decode cX7_copy_2 24 = .ok (.aload_n 1, 1) := dk_43 (dk_at dksX7_copy_2_1 0 rfl rfl)
theorem dX7_copy_2_25 : decode cX7_copy_2 25 = .ok (.aload_n 0, 1) := dk_42 (dk_at dksX7_copy_2_1 1 rfl rfl)
theorem dX7_copy_2_26 : decode cX7_copy_2 26 = .ok (.getfield 28, 3) := dk_180 0 28 (dk_at dksX7_copy_2_1 2 rfl rfl)
theorem dX7_copy_2_29 : decode cX7_copy_2 29 = .ok (.putfield 28, 3) := dk_181 0 28 (dk_at dksX7_copy_2_1 5 rfl rfl)
theorem dX7_copy_2_32 : decode cX7_copy_2 32 = .ok (.aload_n 1, 1) := dk_43 (dk_at dksX7_copy_2_1 8 rfl rfl)
theorem dX7_copy_2_33 : decode cX7_copy_2 33 = .ok (.aload_n 0, 1) := dk_42 (dk_at dksX7_copy_2_1 9 rfl rfl)
theorem dX7_copy_2_34 : decode cX7_copy_2 34 = .ok (.getfield 31, 3) := dk_180 0 31 (dk_at dksX7_copy_2_1 10 rfl rfl)
theorem dX7_copy_2_37 : decode cX7_copy_2 37 = .ok (.putfield 31, 3) := dk_181 0 31 (dk_at dksX7_copy_2_1 13 rfl rfl)
theorem dX7_copy_2_40 : decode cX7_copy_2 40 = .ok (.aload_n 1, 1) := dk_43 (dk_at dksX7_copy_2_1 16 rfl rfl)
theorem dX7_copy_2_41 : decode cX7_copy_2 41 = .ok (.aload_n 0, 1) := dk_42 (dk_at dksX7_copy_2_1 17 rfl rfl)
theorem dX7_copy_2_42 : decode cX7_copy_2 42 = .ok (.getfield 34, 3) := dk_180 0 34 (dk_at dksX7_copy_2_1 18 rfl rfl)
theorem dX7_copy_2_45 : decode cX7_copy_2 45 = .ok (.putfield 34, 3) := dk_181 0 34 (dk_at dksX7_copy_2_1 21 rfl rfl)
theorem dX7_copy_2_48 : decode cX7_copy_2 48 = .ok (.aload_n 1, 1) := dk_43 (dk_at dksX7_copy_2_2 0 rfl rfl)
theorem dX7_copy_2_49 : decode cX7_copy_2 49 = .ok (.aload_n 0, 1) := dk_42 (dk_at dksX7_copy_2_2 1 rfl rfl)
theorem dX7_copy_2_50 : decode cX7_copy_2 50 = .ok (.getfield 37, 3) := dk_180 0 37 (dk_at dksX7_copy_2_2 2 rfl rfl)
theorem dX7_copy_2_53 : decode cX7_copy_2 53 = .ok (.putfield 37, 3) := dk_181 0 37 (dk_at dksX7_copy_2_2 5 rfl rfl)
theorem dX7_copy_2_56 : decode cX7_copy_2 56 = .ok (.aload_n 1, 1) := dk_43 (dk_at dksX7_copy_2_2 8 rfl rfl)
theorem dX7_copy_2_57 : decode cX7_copy_2 57 = .ok (.aload_n 0, 1) := dk_42 (dk_at dksX7_copy_2_2 9 rfl rfl)
theorem dX7_copy_2_58 : decode cX7_copy_2 58 = .ok (.getfield 40, 3) := dk_180 0 40 (dk_at dksX7_copy_2_2 10 rfl rfl)
theorem dX7_copy_2_61 : decode cX7_copy_2 61 = .ok (.putfield 40, 3) := dk_181 0 40 (dk_at dksX7_copy_2_2 13 rfl rfl)
theorem dX7_copy_2_64 : decode cX7_copy_2 64 = .ok (.aload_n 1, 1) := dk_43 (dk_at dksX7_copy_2_2 16 rfl rfl)
theorem dX7_copy_2_65 : decode cX7_copy_2 65 = .ok (.areturn, 1) := dk_176 (dk_at dksX7_copy_2_2 17 rfl rfl)
abbrev cX7_init : ByteArray := prog_12_method_2_code
def yX7_init : MethodName := ⟨RX7, "<init>", "(IDDI)V"⟩
def dkwX7_init_1 : List UInt8 := [181, 0, 25, 177]
abbrev dktX7_init_1 : List UInt8 := dkwX7_init_1 ++ []
def dkwX7_init_0 : List UInt8 := [42, 183, 0, 9, 42, 27, 181, 0, 14, 42, 40, 181, 0, 18, 42, 24, 4, 181, 0, 22, 42, 21, 6]
abbrev dktX7_init_0 : List UInt8 := dkwX7_init_0 ++ dktX7_init_1
theorem dksX7_init_0 : cX7_init.data.toList.drop 0 = dktX7_init_0 := by decide +kernel
theorem dksX7_init_1 : cX7_init.data.toList.drop 23 = dktX7_init_1 := dk_seg dksX7_init_0 23 rfl rfl
theorem dX7_init_0 : decode cX7_init 0 = .ok (.aload_n 0, 1) := dk_42 (dk_at dksX7_init_0 0 rfl rfl)
theorem dX7_init_1 : decode cX7_init 1 = .ok (.invokespecial 9, 3) := dk_183 0 9 (dk_at dksX7_init_0 1 rfl rfl)
theorem dX7_init_4 : decode cX7_init 4 = .ok (.aload_n 0, 1) := dk_42 (dk_at dksX7_init_0 4 rfl rfl)
theorem dX7_init_5 : decode cX7_init 5 = .ok (.iload_n 1, 1) := dk_27 (dk_at dksX7_init_0 5 rfl rfl)
theorem dX7_init_6 : decode cX7_init 6 = .ok (.putfield 14, 3) := dk_181 0 14 (dk_at dksX7_init_0 6 rfl rfl)
theorem dX7_init_9 : decode cX7_init 9 = .ok (.aload_n 0, 1) := dk_42 (dk_at dksX7_init_0 9 rfl rfl)
theorem dX7_init_10 : decode cX7_init 10 = .ok (.dload_n 2, 1) := dk_40 (dk_at dksX7_init_0 10 rfl rfl)
theorem dX7_init_11 : decode cX7_init 11 = .ok (.putfield 18, 3) := dk_181 0 18 (dk_at dksX7_init_0 11 rfl rfl)
theorem dX7_init_14 : decode cX7_init 14 = .ok (.aload_n 0, 1) := dk_42 (dk_at dksX7_init_0 14 rfl rfl)
theorem dX7_init_15 : decode cX7_init 15 = .ok (.dload 4, 2) := dk_24 4 (dk_at dksX7_init_0 15 rfl rfl)
theorem dX7_init_17 : decode cX7_init 17 = .ok (.putfield 22, 3) := dk_181 0 22 (dk_at dksX7_init_0 17 rfl rfl)
theorem dX7_init_20 : decode cX7_init 20 = .ok (.aload_n 0, 1) := dk_42 (dk_at dksX7_init_0 20 rfl rfl)
theorem dX7_init_21 : decode cX7_init 21 = .ok (.iload 6, 2) := dk_21 6 (dk_at dksX7_init_0 21 rfl rfl)
theorem dX7_init_23 : decode cX7_init 23 = .ok (.putfield 25, 3) := dk_181 0 25 (dk_at dksX7_init_1 0 rfl rfl)
theorem dX7_init_26 : decode cX7_init 26 = .ok (.return_, 1) := dk_177 (dk_at dksX7_init_1 3 rfl rfl)
abbrev cX7_init_2 : ByteArray := prog_12_method_1_code
def yX7_init_2 : MethodName := ⟨RX7, "<init>", "(I)V"⟩
def dkwX7_init_2_0 : List UInt8 := [42, 27, 20, 0, 1, 14, 16, 100, 183, 0, 3, 177]
abbrev dktX7_init_2_0 : List UInt8 := dkwX7_init_2_0 ++ []
theorem dksX7_init_2_0 : cX7_init_2.data.toList.drop 0 = dktX7_init_2_0 := by decide +kernel
theorem dX7_init_2_0 : decode cX7_init_2 0 = .ok (.aload_n 0, 1) := dk_42 (dk_at dksX7_init_2_0 0 rfl rfl)
theorem dX7_init_2_1 : decode cX7_init_2 1 = .ok (.iload_n 1, 1) := dk_27 (dk_at dksX7_init_2_0 1 rfl rfl)
theorem dX7_init_2_2 : decode cX7_init_2 2 = .ok (.ldc2_w 1, 3) := dk_20 0 1 (dk_at dksX7_init_2_0 2 rfl rfl)
theorem dX7_init_2_5 : decode cX7_init_2 5 = .ok (.dconst 0, 1) := dk_14 (dk_at dksX7_init_2_0 5 rfl rfl)
theorem dX7_init_2_6 : decode cX7_init_2 6 = .ok (.bipush 100, 2) := dk_16 100 (dk_at dksX7_init_2_0 6 rfl rfl)
theorem dX7_init_2_8 : decode cX7_init_2 8 = .ok (.invokespecial 3, 3) := dk_183 0 3 (dk_at dksX7_init_2_0 8 rfl rfl)
theorem dX7_init_2_11 : decode cX7_init_2 11 = .ok (.return_, 1) := dk_177 (dk_at dksX7_init_2_0 11 rfl rfl)
abbrev cX7_weight : ByteArray := prog_12_method_5_code
def yX7_weight : MethodName := ⟨RX7, "weight", "()I"⟩
theorem dX7_weight_0 : decode cX7_weight 0 = .ok (.aload_n 0, 1) := by decide +kernel
theorem dX7_weight_1 : decode cX7_weight 1 = .ok (.getfield 28, 3) := by decide +kernel
theorem dX7_weight_4 : decode cX7_weight 4 = .ok (.ireturn, 1) := by decide +kernel
abbrev cX7_with : ByteArray := prog_12_method_6_code
def yX7_with : MethodName := ⟨RX7, "with", "(I)I"⟩
def dkwX7_with_0 : List UInt8 := [27, 135, 15, 42, 180, 0, 22, 20, 0, 44, 111, 99, 107, 142, 172]
abbrev dktX7_with_0 : List UInt8 := dkwX7_with_0 ++ []
theorem dksX7_with_0 : cX7_with.data.toList.drop 0 = dktX7_with_0 := by decide +kernel
theorem dX7_with_0 : decode cX7_with 0 = .ok (.iload_n 1, 1) := dk_27 (dk_at dksX7_with_0 0 rfl rfl)
theorem dX7_with_1 : decode cX7_with 1 = .ok (.i2d, 1) := dk_135 (dk_at dksX7_with_0 1 rfl rfl)
theorem dX7_with_2 : decode cX7_with 2 = .ok (.dconst 1, 1) := dk_15 (dk_at dksX7_with_0 2 rfl rfl)
theorem dX7_with_3 : decode cX7_with 3 = .ok (.aload_n 0, 1) := dk_42 (dk_at dksX7_with_0 3 rfl rfl)
theorem dX7_with_4 : decode cX7_with 4 = .ok (.getfield 22, 3) := dk_180 0 22 (dk_at dksX7_with_0 4 rfl rfl)
theorem dX7_with_7 : decode cX7_with 7 = .ok (.ldc2_w 44, 3) := dk_20 0 44 (dk_at dksX7_with_0 7 rfl rfl)
theorem dX7_with_10 : decode cX7_with 10 = .ok (.ddiv, 1) := dk_111 (dk_at dksX7_with_0 10 rfl rfl)
theorem dX7_with_11 : decode cX7_with 11 = .ok (.dadd, 1) := dk_99 (dk_at dksX7_with_0 11 rfl rfl)
theorem dX7_with_12 : decode cX7_with 12 = .ok (.dmul, 1) := dk_107 (dk_at dksX7_with_0 12 rfl rfl)
theorem dX7_with_13 : decode cX7_with 13 = .ok (.d2i, 1) := dk_142 (dk_at dksX7_with_0 13 rfl rfl)
theorem dX7_with_14 : decode cX7_with 14 = .ok (.ireturn, 1) := dk_172 (dk_at dksX7_with_0 14 rfl rfl)
abbrev cX7_isTooDear : ByteArray := prog_12_method_7_code
def yX7_isTooDear : MethodName := ⟨RX7, "isTooDear", "(IILPayMatch$Line;)Z"⟩
def dkwX7_isTooDear_2 : List UInt8 := [167, 0, 4, 3, 172]
abbrev dktX7_isTooDear_2 : List UInt8 := dkwX7_isTooDear_2 ++ []
def dkwX7_isTooDear_1 : List UInt8 := [135, 111, 42, 180, 0, 18, 151, 158, 0, 18, 21, 4, 28, 104, 42, 180, 0, 25, 164, 0, 7, 4]
abbrev dktX7_isTooDear_1 : List UInt8 := dkwX7_isTooDear_1 ++ dktX7_isTooDear_2
def dkwX7_isTooDear_0 : List UInt8 := [27, 45, 180, 0, 46, 100, 54, 4, 21, 4, 158, 0, 39, 21, 4, 135, 20, 0, 44, 107, 45, 180, 0, 46]
abbrev dktX7_isTooDear_0 : List UInt8 := dkwX7_isTooDear_0 ++ dktX7_isTooDear_1
theorem dksX7_isTooDear_0 : cX7_isTooDear.data.toList.drop 0 = dktX7_isTooDear_0 := by decide +kernel
theorem dksX7_isTooDear_1 : cX7_isTooDear.data.toList.drop 24 = dktX7_isTooDear_1 := dk_seg dksX7_isTooDear_0 24 rfl rfl
theorem dksX7_isTooDear_2 : cX7_isTooDear.data.toList.drop 46 = dktX7_isTooDear_2 := dk_seg dksX7_isTooDear_1 22 rfl rfl
theorem dX7_isTooDear_0 : decode cX7_isTooDear 0 = .ok (.iload_n 1, 1) := dk_27 (dk_at dksX7_isTooDear_0 0 rfl rfl)
theorem dX7_isTooDear_1 : decode cX7_isTooDear 1 = .ok (.aload_n 3, 1) := dk_45 (dk_at dksX7_isTooDear_0 1 rfl rfl)
theorem dX7_isTooDear_2 : decode cX7_isTooDear 2 = .ok (.getfield 46, 3) := dk_180 0 46 (dk_at dksX7_isTooDear_0 2 rfl rfl)
theorem dX7_isTooDear_5 : decode cX7_isTooDear 5 = .ok (.isub, 1) := dk_100 (dk_at dksX7_isTooDear_0 5 rfl rfl)
theorem dX7_isTooDear_6 : decode cX7_isTooDear 6 = .ok (.istore 4, 2) := dk_54 4 (dk_at dksX7_isTooDear_0 6 rfl rfl)
theorem dX7_isTooDear_8 : decode cX7_isTooDear 8 = .ok (.iload 4, 2) := dk_21 4 (dk_at dksX7_isTooDear_0 8 rfl rfl)
theorem dX7_isTooDear_10 : decode cX7_isTooDear 10 = .ok (.ifCond .le 39, 3) := dk_158 0 39 (dk_at dksX7_isTooDear_0 10 rfl rfl)
theorem dX7_isTooDear_13 : decode cX7_isTooDear 13 = .ok (.iload 4, 2) := dk_21 4 (dk_at dksX7_isTooDear_0 13 rfl rfl)
theorem dX7_isTooDear_15 : decode cX7_isTooDear 15 = .ok (.i2d, 1) := dk_135 (dk_at dksX7_isTooDear_0 15 rfl rfl)
theorem dX7_isTooDear_16 : decode cX7_isTooDear 16 = .ok (.ldc2_w 44, 3) := dk_20 0 44 (dk_at dksX7_isTooDear_0 16 rfl rfl)
theorem dX7_isTooDear_19 : decode cX7_isTooDear 19 = .ok (.dmul, 1) := dk_107 (dk_at dksX7_isTooDear_0 19 rfl rfl)
theorem dX7_isTooDear_20 : decode cX7_isTooDear 20 = .ok (.aload_n 3, 1) := dk_45 (dk_at dksX7_isTooDear_0 20 rfl rfl)
theorem dX7_isTooDear_21 : decode cX7_isTooDear 21 = .ok (.getfield 46, 3) := dk_180 0 46 (dk_at dksX7_isTooDear_0 21 rfl rfl)
theorem dX7_isTooDear_24 : decode cX7_isTooDear 24 = .ok (.i2d, 1) := dk_135 (dk_at dksX7_isTooDear_1 0 rfl rfl)
theorem dX7_isTooDear_25 : decode cX7_isTooDear 25 = .ok (.ddiv, 1) := dk_111 (dk_at dksX7_isTooDear_1 1 rfl rfl)
theorem dX7_isTooDear_26 : decode cX7_isTooDear 26 = .ok (.aload_n 0, 1) := dk_42 (dk_at dksX7_isTooDear_1 2 rfl rfl)
theorem dX7_isTooDear_27 : decode cX7_isTooDear 27 = .ok (.getfield 18, 3) := dk_180 0 18 (dk_at dksX7_isTooDear_1 3 rfl rfl)
theorem dX7_isTooDear_30 : decode cX7_isTooDear 30 = .ok (.dcmp .l, 1) := dk_151 (dk_at dksX7_isTooDear_1 6 rfl rfl)
theorem dX7_isTooDear_31 : decode cX7_isTooDear 31 = .ok (.ifCond .le 18, 3) := dk_158 0 18 (dk_at dksX7_isTooDear_1 7 rfl rfl)
theorem dX7_isTooDear_34 : decode cX7_isTooDear 34 = .ok (.iload 4, 2) := dk_21 4 (dk_at dksX7_isTooDear_1 10 rfl rfl)
theorem dX7_isTooDear_36 : decode cX7_isTooDear 36 = .ok (.iload_n 2, 1) := dk_28 (dk_at dksX7_isTooDear_1 12 rfl rfl)
theorem dX7_isTooDear_37 : decode cX7_isTooDear 37 = .ok (.imul, 1) := dk_104 (dk_at dksX7_isTooDear_1 13 rfl rfl)
theorem dX7_isTooDear_38 : decode cX7_isTooDear 38 = .ok (.aload_n 0, 1) := dk_42 (dk_at dksX7_isTooDear_1 14 rfl rfl)
theorem dX7_isTooDear_39 : decode cX7_isTooDear 39 = .ok (.getfield 25, 3) := dk_180 0 25 (dk_at dksX7_isTooDear_1 15 rfl rfl)
theorem dX7_isTooDear_42 : decode cX7_isTooDear 42 = .ok (.if_icmp .le 7, 3) := dk_164 0 7 (dk_at dksX7_isTooDear_1 18 rfl rfl)
theorem dX7_isTooDear_45 : decode cX7_isTooDear 45 = .ok (.iconst 1, 1) := dk_4 (dk_at dksX7_isTooDear_1 21 rfl rfl)
theorem dX7_isTooDear_46 : decode cX7_isTooDear 46 = .ok (.goto 4, 3) := dk_167 0 4 (dk_at dksX7_isTooDear_2 0 rfl rfl)
theorem dX7_isTooDear_49 : decode cX7_isTooDear 49 = .ok (.iconst 0, 1) := dk_3 (dk_at dksX7_isTooDear_2 3 rfl rfl)
theorem dX7_isTooDear_50 : decode cX7_isTooDear 50 = .ok (.ireturn, 1) := dk_172 (dk_at dksX7_isTooDear_2 4 rfl rfl)
theorem q108 : (Jvm.Cond.initialized "PayMatch$Supplier") ∈ lw_all := lw_g (lw_at lw_m1 35 rfl) rfl
theorem q589 : (Jvm.Cond.selects "PayMatch$Supplier" ({ cls := "java/lang/Object", name := "getClass", desc := "()Ljava/lang/Class;" } : Jvm.MethodName) ({ cls := "java/lang/Object", name := "getClass", desc := "()Ljava/lang/Class;" } : Jvm.MethodName)) ∈ lw_all := lw_g (lw_at lw_m3 36 rfl) rfl
theorem q961 : (Jvm.Cond.fieldLinkNest "PayMatch$Supplier" (46 : Nat) "PayMatch$Line" "price" "I" "PayMatch") ∈ lw_tbl := lw_at lw_m4 168 rfl
theorem q1039 : (Jvm.Cond.castable "PayMatch$Supplier" "PayMatch$Paper") ∈ lw_tbl := lw_at lw_m5 6 rfl
theorem q1040 : (Jvm.Cond.selects "PayMatch$Supplier" ({ cls := "PayMatch$Paper", name := "copy", desc := "()LPayMatch$Paper;" } : Jvm.MethodName) ({ cls := "PayMatch$Supplier", name := "copy", desc := "()LPayMatch$Paper;" } : Jvm.MethodName)) ∈ lw_all := lw_g (lw_at lw_m5 7 rfl) rfl
theorem q1041 : (Jvm.Cond.unhidden "PayMatch$Supplier" "copy" "()LPayMatch$Paper;") ∈ lw_tbl := lw_at lw_m5 8 rfl
theorem q1042 : (Jvm.Cond.instanceMethod ({ cls := "PayMatch$Supplier", name := "copy", desc := "()LPayMatch$Paper;" } : Jvm.MethodName)) ∈ lw_all := lw_g (lw_at lw_m5 9 rfl) rfl
theorem q1043 : (Jvm.Cond.publicMethod ({ cls := "PayMatch$Supplier", name := "copy", desc := "()LPayMatch$Paper;" } : Jvm.MethodName)) ∈ lw_tbl := lw_at lw_m5 10 rfl
theorem q1044 : (Jvm.Cond.code ({ cls := "PayMatch$Supplier", name := "copy", desc := "()LPayMatch$Paper;" } : Jvm.MethodName) prog_12_method_8_code (1 : Nat) (Option.some (Jvm.ClassFile.FieldType.object "PayMatch$Paper"))) ∈ lw_all := lw_g (lw_at lw_m5 11 rfl) rfl
theorem q1045 : (Jvm.Cond.methodLink "PayMatch$Supplier" (51 : Nat) ({ cls := "PayMatch$Supplier", name := "copy", desc := "()LPayMatch$Supplier;" } : Jvm.MethodName)) ∈ lw_all := lw_g (lw_at lw_m5 12 rfl) rfl
theorem q1046 : (Jvm.Cond.instanceMethod ({ cls := "PayMatch$Supplier", name := "copy", desc := "()LPayMatch$Supplier;" } : Jvm.MethodName)) ∈ lw_all := lw_g (lw_at lw_m5 13 rfl) rfl
theorem q1047 : (Jvm.Cond.selects "PayMatch$Supplier" ({ cls := "PayMatch$Supplier", name := "copy", desc := "()LPayMatch$Supplier;" } : Jvm.MethodName) ({ cls := "PayMatch$Supplier", name := "copy", desc := "()LPayMatch$Supplier;" } : Jvm.MethodName)) ∈ lw_all := lw_g (lw_at lw_m5 14 rfl) rfl
theorem q1048 : (Jvm.Cond.code ({ cls := "PayMatch$Supplier", name := "copy", desc := "()LPayMatch$Supplier;" } : Jvm.MethodName) prog_12_method_4_code (2 : Nat) (Option.some (Jvm.ClassFile.FieldType.object "PayMatch$Supplier"))) ∈ lw_all := lw_g (lw_at lw_m5 15 rfl) rfl
theorem q1049 : (Jvm.Cond.classLink "PayMatch$Supplier" (4 : Nat) "PayMatch$Supplier") ∈ lw_all := lw_g (lw_at lw_m5 16 rfl) rfl
theorem q1050 : (Jvm.Cond.instantiable "PayMatch$Supplier" (9 : Nat)) ∈ lw_all := lw_g (lw_at lw_m5 17 rfl) rfl
theorem q1051 : (Jvm.Cond.methodLink "PayMatch$Supplier" (3 : Nat) ({ cls := "PayMatch$Supplier", name := "<init>", desc := "(IDDI)V" } : Jvm.MethodName)) ∈ lw_all := lw_g (lw_at lw_m5 18 rfl) rfl
theorem q1052 : (Jvm.Cond.instanceMethod ({ cls := "PayMatch$Supplier", name := "<init>", desc := "(IDDI)V" } : Jvm.MethodName)) ∈ lw_all := lw_g (lw_at lw_m5 19 rfl) rfl
theorem q1053 : (Jvm.Cond.code ({ cls := "PayMatch$Supplier", name := "<init>", desc := "(IDDI)V" } : Jvm.MethodName) prog_12_method_2_code (7 : Nat) (Option.none : Option Jvm.ClassFile.FieldType)) ∈ lw_all := lw_g (lw_at lw_m5 20 rfl) rfl
theorem q1054 : (Jvm.Cond.methodLink "PayMatch$Supplier" (9 : Nat) ({ cls := "java/lang/Object", name := "<init>", desc := "()V" } : Jvm.MethodName)) ∈ lw_all := lw_g (lw_at lw_m5 21 rfl) rfl
theorem q1055 : (Jvm.Cond.fieldLink "PayMatch$Supplier" (14 : Nat) "PayMatch$Supplier" "number" "I") ∈ lw_all := lw_g (lw_at lw_m5 22 rfl) rfl
theorem q1056 : (Jvm.Cond.fieldLink "PayMatch$Supplier" (18 : Nat) "PayMatch$Supplier" "priceTolerance" "D") ∈ lw_all := lw_g (lw_at lw_m5 23 rfl) rfl
theorem q1058 : (Jvm.Cond.fieldLink "PayMatch$Supplier" (22 : Nat) "PayMatch$Supplier" "unitTolerance" "D") ∈ lw_all := lw_g (lw_at lw_m5 25 rfl) rfl
theorem q1060 : (Jvm.Cond.fieldLink "PayMatch$Supplier" (25 : Nat) "PayMatch$Supplier" "trifle" "I") ∈ lw_all := lw_g (lw_at lw_m5 27 rfl) rfl
theorem q1062 : (Jvm.Cond.fieldLink "PayMatch$Supplier" (28 : Nat) "PayMatch$Supplier" "credit" "I") ∈ lw_all := lw_g (lw_at lw_m5 29 rfl) rfl
theorem q1065 : (Jvm.Cond.fieldLink "PayMatch$Supplier" (31 : Nat) "PayMatch$Supplier" "cash" "I") ∈ lw_all := lw_g (lw_at lw_m5 32 rfl) rfl
theorem q1068 : (Jvm.Cond.fieldLink "PayMatch$Supplier" (34 : Nat) "PayMatch$Supplier" "noted" "I") ∈ lw_all := lw_g (lw_at lw_m5 35 rfl) rfl
theorem q1071 : (Jvm.Cond.fieldLink "PayMatch$Supplier" (37 : Nat) "PayMatch$Supplier" "discounted" "I") ∈ lw_all := lw_g (lw_at lw_m5 38 rfl) rfl
theorem q1074 : (Jvm.Cond.fieldLink "PayMatch$Supplier" (40 : Nat) "PayMatch$Supplier" "isBlocked" "Z") ∈ lw_all := lw_g (lw_at lw_m5 41 rfl) rfl
theorem q1077 : (Jvm.Cond.laysFinal "PayMatch$Supplier" "PayMatch$Supplier" "number" "I") ∈ lw_all := lw_g (lw_at lw_m5 44 rfl) rfl
theorem q1078 : (Jvm.Cond.soleField "PayMatch$Supplier" "number") ∈ lw_all := lw_g (lw_at lw_m5 45 rfl) rfl
theorem q1079 : (Jvm.Cond.lays "PayMatch$Supplier" "PayMatch$Supplier" "priceTolerance" "D") ∈ lw_all := lw_g (lw_at lw_m5 46 rfl) rfl
theorem q1080 : (Jvm.Cond.soleField "PayMatch$Supplier" "priceTolerance") ∈ lw_all := lw_g (lw_at lw_m5 47 rfl) rfl
theorem q1081 : (Jvm.Cond.lays "PayMatch$Supplier" "PayMatch$Supplier" "unitTolerance" "D") ∈ lw_all := lw_g (lw_at lw_m5 48 rfl) rfl
theorem q1082 : (Jvm.Cond.soleField "PayMatch$Supplier" "unitTolerance") ∈ lw_all := lw_g (lw_at lw_m5 49 rfl) rfl
theorem q1083 : (Jvm.Cond.lays "PayMatch$Supplier" "PayMatch$Supplier" "trifle" "I") ∈ lw_all := lw_g (lw_at lw_m5 50 rfl) rfl
theorem q1084 : (Jvm.Cond.soleField "PayMatch$Supplier" "trifle") ∈ lw_all := lw_g (lw_at lw_m5 51 rfl) rfl
theorem q1085 : (Jvm.Cond.lays "PayMatch$Supplier" "PayMatch$Supplier" "credit" "I") ∈ lw_all := lw_g (lw_at lw_m5 52 rfl) rfl
theorem q1086 : (Jvm.Cond.soleField "PayMatch$Supplier" "credit") ∈ lw_all := lw_g (lw_at lw_m5 53 rfl) rfl
theorem q1087 : (Jvm.Cond.lays "PayMatch$Supplier" "PayMatch$Supplier" "cash" "I") ∈ lw_all := lw_g (lw_at lw_m5 54 rfl) rfl
theorem q1088 : (Jvm.Cond.soleField "PayMatch$Supplier" "cash") ∈ lw_all := lw_g (lw_at lw_m5 55 rfl) rfl
theorem q1089 : (Jvm.Cond.lays "PayMatch$Supplier" "PayMatch$Supplier" "noted" "I") ∈ lw_all := lw_g (lw_at lw_m5 56 rfl) rfl
theorem q1090 : (Jvm.Cond.soleField "PayMatch$Supplier" "noted") ∈ lw_all := lw_g (lw_at lw_m5 57 rfl) rfl
theorem q1091 : (Jvm.Cond.lays "PayMatch$Supplier" "PayMatch$Supplier" "discounted" "I") ∈ lw_all := lw_g (lw_at lw_m5 58 rfl) rfl
theorem q1092 : (Jvm.Cond.soleField "PayMatch$Supplier" "discounted") ∈ lw_all := lw_g (lw_at lw_m5 59 rfl) rfl
theorem q1093 : (Jvm.Cond.lays "PayMatch$Supplier" "PayMatch$Supplier" "isBlocked" "Z") ∈ lw_all := lw_g (lw_at lw_m5 60 rfl) rfl
theorem q1094 : (Jvm.Cond.soleField "PayMatch$Supplier" "isBlocked") ∈ lw_all := lw_g (lw_at lw_m5 61 rfl) rfl
theorem q1095 : (Jvm.Cond.superclass "PayMatch$Supplier" "java/lang/Object") ∈ lw_all := lw_g (lw_at lw_m5 62 rfl) rfl
theorem q1178 : (Jvm.Cond.instanceMethod ({ cls := "PayMatch$Supplier", name := "<init>", desc := "(I)V" } : Jvm.MethodName)) ∈ lw_all := lw_g (lw_at lw_m5 145 rfl) rfl
theorem q1179 : (Jvm.Cond.code ({ cls := "PayMatch$Supplier", name := "<init>", desc := "(I)V" } : Jvm.MethodName) prog_12_method_1_code (2 : Nat) (Option.none : Option Jvm.ClassFile.FieldType)) ∈ lw_all := lw_g (lw_at lw_m5 146 rfl) rfl
theorem q1180 : (Jvm.Cond.constantDouble "PayMatch$Supplier" (1 : Nat) (4617315517961601024 : UInt64)) ∈ lw_all := lw_g (lw_at lw_m5 147 rfl) rfl
theorem q1399 : (Jvm.Cond.selects "PayMatch$Supplier" ({ cls := "PayMatch$Paper", name := "weight", desc := "()I" } : Jvm.MethodName) ({ cls := "PayMatch$Supplier", name := "weight", desc := "()I" } : Jvm.MethodName)) ∈ lw_all := lw_g (lw_at lw_m6 126 rfl) rfl
theorem q1400 : (Jvm.Cond.unhidden "PayMatch$Supplier" "weight" "()I") ∈ lw_tbl := lw_at lw_m6 127 rfl
theorem q1401 : (Jvm.Cond.instanceMethod ({ cls := "PayMatch$Supplier", name := "weight", desc := "()I" } : Jvm.MethodName)) ∈ lw_all := lw_g (lw_at lw_m6 128 rfl) rfl
theorem q1402 : (Jvm.Cond.publicMethod ({ cls := "PayMatch$Supplier", name := "weight", desc := "()I" } : Jvm.MethodName)) ∈ lw_tbl := lw_at lw_m6 129 rfl
theorem q1403 : (Jvm.Cond.code ({ cls := "PayMatch$Supplier", name := "weight", desc := "()I" } : Jvm.MethodName) prog_12_method_5_code (1 : Nat) (Option.some Jvm.ClassFile.FieldType.int)) ∈ lw_all := lw_g (lw_at lw_m6 130 rfl) rfl
theorem q1440 : (Jvm.Cond.instanceMethod ({ cls := "PayMatch$Supplier", name := "with", desc := "(I)I" } : Jvm.MethodName)) ∈ lw_all := lw_g (lw_at lw_m6 167 rfl) rfl
theorem q1441 : (Jvm.Cond.selects "PayMatch$Supplier" ({ cls := "PayMatch$Supplier", name := "with", desc := "(I)I" } : Jvm.MethodName) ({ cls := "PayMatch$Supplier", name := "with", desc := "(I)I" } : Jvm.MethodName)) ∈ lw_all := lw_g (lw_at lw_m6 168 rfl) rfl
theorem q1442 : (Jvm.Cond.code ({ cls := "PayMatch$Supplier", name := "with", desc := "(I)I" } : Jvm.MethodName) prog_12_method_6_code (2 : Nat) (Option.some Jvm.ClassFile.FieldType.int)) ∈ lw_all := lw_g (lw_at lw_m6 169 rfl) rfl
theorem q1443 : (Jvm.Cond.constantDouble "PayMatch$Supplier" (44 : Nat) (4636737291354636288 : UInt64)) ∈ lw_all := lw_g (lw_at lw_m6 170 rfl) rfl
theorem q1716 : (Jvm.Cond.instanceMethod ({ cls := "PayMatch$Supplier", name := "isTooDear", desc := "(IILPayMatch$Line;)Z" } : Jvm.MethodName)) ∈ lw_all := lw_g (lw_at lw_m7 203 rfl) rfl
theorem q1717 : (Jvm.Cond.selects "PayMatch$Supplier" ({ cls := "PayMatch$Supplier", name := "isTooDear", desc := "(IILPayMatch$Line;)Z" } : Jvm.MethodName) ({ cls := "PayMatch$Supplier", name := "isTooDear", desc := "(IILPayMatch$Line;)Z" } : Jvm.MethodName)) ∈ lw_all := lw_g (lw_at lw_m7 204 rfl) rfl
theorem q1718 : (Jvm.Cond.code ({ cls := "PayMatch$Supplier", name := "isTooDear", desc := "(IILPayMatch$Line;)Z" } : Jvm.MethodName) prog_12_method_7_code (5 : Nat) (Option.some Jvm.ClassFile.FieldType.boolean)) ∈ lw_all := lw_g (lw_at lw_m7 205 rfl) rfl
theorem q2402 : (Jvm.Cond.castable "PayMatch$Supplier" "java/lang/Object") ∈ lw_tbl := lw_at lw_m10 169 rfl
theorem in_X7 : ∀ w ∈ wsX70, w ∈ lw_all := lw_in wsX70 [1077, 1079, 1081, 1083, 1085, 1087, 1089, 1091, 1093] (by decide +kernel) (by decide +kernel)
/-! PayMatch$Paper -/
set_option maxRecDepth 100000
def RX8 : String := "PayMatch$Paper"
abbrev cX8_weightOf : ByteArray := prog_9_method_4_code
def yX8_weightOf : MethodName := ⟨RX8, "weightOf", "(Ljava/lang/Iterable;)I"⟩
def dkwX8_weightOf_1 : List UInt8 := [192, 0, 17, 78, 27, 45, 185, 0, 19, 1, 0, 96, 60, 167, 255, 228, 27, 172]
abbrev dktX8_weightOf_1 : List UInt8 := dkwX8_weightOf_1 ++ []
def dkwX8_weightOf_0 : List UInt8 := [3, 60, 42, 185, 0, 1, 1, 0, 77, 44, 185, 0, 7, 1, 0, 153, 0, 25, 44, 185, 0, 13, 1, 0]
abbrev dktX8_weightOf_0 : List UInt8 := dkwX8_weightOf_0 ++ dktX8_weightOf_1
theorem dksX8_weightOf_0 : cX8_weightOf.data.toList.drop 0 = dktX8_weightOf_0 := by decide +kernel
theorem dksX8_weightOf_1 : cX8_weightOf.data.toList.drop 24 = dktX8_weightOf_1 := dk_seg dksX8_weightOf_0 24 rfl rfl
theorem dX8_weightOf_0 : decode cX8_weightOf 0 = .ok (.iconst 0, 1) := dk_3 (dk_at dksX8_weightOf_0 0 rfl rfl)
theorem dX8_weightOf_1 : decode cX8_weightOf 1 = .ok (.istore_n 1, 1) := dk_60 (dk_at dksX8_weightOf_0 1 rfl rfl)
theorem dX8_weightOf_2 : decode cX8_weightOf 2 = .ok (.aload_n 0, 1) := dk_42 (dk_at dksX8_weightOf_0 2 rfl rfl)
theorem dX8_weightOf_3 : decode cX8_weightOf 3 = .ok (.invokeinterface 1 1, 5) := by decide +kernel
theorem dX8_weightOf_8 : decode cX8_weightOf 8 = .ok (.astore_n 2, 1) := dk_77 (dk_at dksX8_weightOf_0 8 rfl rfl)
theorem dX8_weightOf_9 : decode cX8_weightOf 9 = .ok (.aload_n 2, 1) := dk_44 (dk_at dksX8_weightOf_0 9 rfl rfl)
theorem dX8_weightOf_10 : decode cX8_weightOf 10 = .ok (.invokeinterface 7 1, 5) := by decide +kernel
theorem dX8_weightOf_15 : decode cX8_weightOf 15 = .ok (.ifCond .eq 25, 3) := dk_153 0 25 (dk_at dksX8_weightOf_0 15 rfl rfl)
theorem dX8_weightOf_18 : decode cX8_weightOf 18 = .ok (.aload_n 2, 1) := dk_44 (dk_at dksX8_weightOf_0 18 rfl rfl)
theorem dX8_weightOf_19 : decode cX8_weightOf 19 = .ok (.invokeinterface 13 1, 5) := by decide +kernel
theorem dX8_weightOf_24 : decode cX8_weightOf 24 = .ok (.checkcast 17, 3) := dk_192 0 17 (dk_at dksX8_weightOf_1 0 rfl rfl)
theorem dX8_weightOf_27 : decode cX8_weightOf 27 = .ok (.astore_n 3, 1) := dk_78 (dk_at dksX8_weightOf_1 3 rfl rfl)
theorem dX8_weightOf_28 : decode cX8_weightOf 28 = .ok (.iload_n 1, 1) := dk_27 (dk_at dksX8_weightOf_1 4 rfl rfl)
theorem dX8_weightOf_29 : decode cX8_weightOf 29 = .ok (.aload_n 3, 1) := dk_45 (dk_at dksX8_weightOf_1 5 rfl rfl)
theorem dX8_weightOf_30 : decode cX8_weightOf 30 = .ok (.invokeinterface 19 1, 5) := by decide +kernel
theorem dX8_weightOf_35 : decode cX8_weightOf 35 = .ok (.iadd, 1) := dk_96 (dk_at dksX8_weightOf_1 11 rfl rfl)
theorem dX8_weightOf_36 : decode cX8_weightOf 36 = .ok (.istore_n 1, 1) := dk_60 (dk_at dksX8_weightOf_1 12 rfl rfl)
theorem dX8_weightOf_37 : decode cX8_weightOf 37 = .ok (.goto (-28), 3) := dk_167 255 228 (dk_at dksX8_weightOf_1 13 rfl rfl)
theorem dX8_weightOf_40 : decode cX8_weightOf 40 = .ok (.iload_n 1, 1) := dk_27 (dk_at dksX8_weightOf_1 16 rfl rfl)
theorem dX8_weightOf_41 : decode cX8_weightOf 41 = .ok (.ireturn, 1) := dk_172 (dk_at dksX8_weightOf_1 17 rfl rfl)
abbrev cX8_weight : ByteArray := prog_9_method_3_code
def yX8_weight : MethodName := ⟨RX8, "weight", "()I"⟩
theorem dX8_weight_0 : decode cX8_weight 0 = .ok (.iconst 1, 1) := by decide +kernel
theorem dX8_weight_1 : decode cX8_weight 1 = .ok (.ireturn, 1) := by decide +kernel
theorem q110 : (Jvm.Cond.initialized "PayMatch$Paper") ∈ lw_all := lw_g (lw_at lw_m1 37 rfl) rfl
theorem q854 : (Jvm.Cond.interfaceMethod "PayMatch$Paper" "PayMatch$Paper" "copy" "()LPayMatch$Paper;") ∈ lw_tbl := lw_at lw_m4 61 rfl
theorem q855 : (Jvm.Cond.declares ({ cls := "PayMatch$Paper", name := "copy", desc := "()LPayMatch$Paper;" } : Jvm.MethodName)) ∈ lw_tbl := lw_at lw_m4 62 rfl
theorem q1337 : (Jvm.Cond.static ({ cls := "PayMatch$Paper", name := "weightOf", desc := "(Ljava/lang/Iterable;)I" } : Jvm.MethodName)) ∈ lw_all := lw_g (lw_at lw_m6 64 rfl) rfl
theorem q1338 : (Jvm.Cond.code ({ cls := "PayMatch$Paper", name := "weightOf", desc := "(Ljava/lang/Iterable;)I" } : Jvm.MethodName) prog_9_method_4_code (4 : Nat) (Option.some Jvm.ClassFile.FieldType.int)) ∈ lw_all := lw_g (lw_at lw_m6 65 rfl) rfl
theorem q1339 : (Jvm.Cond.interfaceEntry "PayMatch$Paper" (1 : Nat)) ∈ lw_tbl := lw_at lw_m6 66 rfl
theorem q1340 : (Jvm.Cond.methodLink "PayMatch$Paper" (1 : Nat) ({ cls := "java/lang/Iterable", name := "iterator", desc := "()Ljava/util/Iterator;" } : Jvm.MethodName)) ∈ lw_all := lw_g (lw_at lw_m6 67 rfl) rfl
theorem q1377 : (Jvm.Cond.interfaceEntry "PayMatch$Paper" (7 : Nat)) ∈ lw_tbl := lw_at lw_m6 104 rfl
theorem q1378 : (Jvm.Cond.methodLink "PayMatch$Paper" (7 : Nat) ({ cls := "java/util/Iterator", name := "hasNext", desc := "()Z" } : Jvm.MethodName)) ∈ lw_all := lw_g (lw_at lw_m6 105 rfl) rfl
theorem q1379 : (Jvm.Cond.interfaceEntry "PayMatch$Paper" (13 : Nat)) ∈ lw_tbl := lw_at lw_m6 106 rfl
theorem q1380 : (Jvm.Cond.methodLink "PayMatch$Paper" (13 : Nat) ({ cls := "java/util/Iterator", name := "next", desc := "()Ljava/lang/Object;" } : Jvm.MethodName)) ∈ lw_all := lw_g (lw_at lw_m6 107 rfl) rfl
theorem q1381 : (Jvm.Cond.classLink "PayMatch$Paper" (17 : Nat) "PayMatch$Paper") ∈ lw_all := lw_g (lw_at lw_m6 108 rfl) rfl
theorem q1382 : (Jvm.Cond.interfaceEntry "PayMatch$Paper" (19 : Nat)) ∈ lw_tbl := lw_at lw_m6 109 rfl
theorem q1383 : (Jvm.Cond.methodLink "PayMatch$Paper" (19 : Nat) ({ cls := "PayMatch$Paper", name := "weight", desc := "()I" } : Jvm.MethodName)) ∈ lw_all := lw_g (lw_at lw_m6 110 rfl) rfl
theorem q1384 : (Jvm.Cond.interfaceMethod "PayMatch$Paper" "PayMatch$Paper" "weight" "()I") ∈ lw_tbl := lw_at lw_m6 111 rfl
theorem q1385 : (Jvm.Cond.declares ({ cls := "PayMatch$Paper", name := "weight", desc := "()I" } : Jvm.MethodName)) ∈ lw_tbl := lw_at lw_m6 112 rfl
theorem q1387 : (Jvm.Cond.instanceMethod ({ cls := "PayMatch$Paper", name := "weight", desc := "()I" } : Jvm.MethodName)) ∈ lw_all := lw_g (lw_at lw_m6 114 rfl) rfl
theorem q1388 : (Jvm.Cond.publicMethod ({ cls := "PayMatch$Paper", name := "weight", desc := "()I" } : Jvm.MethodName)) ∈ lw_tbl := lw_at lw_m6 115 rfl
theorem q1389 : (Jvm.Cond.code ({ cls := "PayMatch$Paper", name := "weight", desc := "()I" } : Jvm.MethodName) prog_9_method_3_code (1 : Nat) (Option.some Jvm.ClassFile.FieldType.int)) ∈ lw_all := lw_g (lw_at lw_m6 116 rfl) rfl
/-! PayMatch$Event -/
set_option maxRecDepth 100000
def RX9 : String := "PayMatch$Event"
def TX9 : u_T := fun k => match k with
  | 0 => ("PayMatch$Event", "kind", "I", true)
  | 1 => ("PayMatch$Event", "paper", "I", true)
  | 2 => ("PayMatch$Event", "amount", "I", true)
  | _ => ("PayMatch$Event", "day", "I", true)
def tyX9 : Nat → FieldType := fun k => match k with
  | 0 => .int
  | 1 => .int
  | 2 => .int
  | _ => .int
abbrev wsX90 : List Cond := u_ws RX9 TX9 4
theorem nmX9 : ∀ a, a < 4 → ∀ b, b < 4 → a ≠ b → (TX9 a).2.1 ≠ (TX9 b).2.1 := by decide +kernel
theorem tyX9_ok : ∀ k, k < 4 → parseFieldDescriptor (TX9 k).2.2.1 = some (tyX9 k) := by decide +kernel
abbrev cX9_init : ByteArray := prog_4_method_1_code
def yX9_init : MethodName := ⟨RX9, "<init>", "(IIII)V"⟩
def dkwX9_init_1 : List UInt8 := [181, 0, 19, 177]
abbrev dktX9_init_1 : List UInt8 := dkwX9_init_1 ++ []
def dkwX9_init_0 : List UInt8 := [42, 183, 0, 1, 42, 27, 181, 0, 7, 42, 28, 181, 0, 13, 42, 29, 181, 0, 16, 42, 21, 4]
abbrev dktX9_init_0 : List UInt8 := dkwX9_init_0 ++ dktX9_init_1
theorem dksX9_init_0 : cX9_init.data.toList.drop 0 = dktX9_init_0 := by decide +kernel
theorem dksX9_init_1 : cX9_init.data.toList.drop 22 = dktX9_init_1 := dk_seg dksX9_init_0 22 rfl rfl
theorem dX9_init_0 : decode cX9_init 0 = .ok (.aload_n 0, 1) := dk_42 (dk_at dksX9_init_0 0 rfl rfl)
theorem dX9_init_1 : decode cX9_init 1 = .ok (.invokespecial 1, 3) := dk_183 0 1 (dk_at dksX9_init_0 1 rfl rfl)
theorem dX9_init_4 : decode cX9_init 4 = .ok (.aload_n 0, 1) := dk_42 (dk_at dksX9_init_0 4 rfl rfl)
theorem dX9_init_5 : decode cX9_init 5 = .ok (.iload_n 1, 1) := dk_27 (dk_at dksX9_init_0 5 rfl rfl)
theorem dX9_init_6 : decode cX9_init 6 = .ok (.putfield 7, 3) := dk_181 0 7 (dk_at dksX9_init_0 6 rfl rfl)
theorem dX9_init_9 : decode cX9_init 9 = .ok (.aload_n 0, 1) := dk_42 (dk_at dksX9_init_0 9 rfl rfl)
theorem dX9_init_10 : decode cX9_init 10 = .ok (.iload_n 2, 1) := dk_28 (dk_at dksX9_init_0 10 rfl rfl)
theorem dX9_init_11 : decode cX9_init 11 = .ok (.putfield 13, 3) := dk_181 0 13 (dk_at dksX9_init_0 11 rfl rfl)
theorem dX9_init_14 : decode cX9_init 14 = .ok (.aload_n 0, 1) := dk_42 (dk_at dksX9_init_0 14 rfl rfl)
theorem dX9_init_15 : decode cX9_init 15 = .ok (.iload_n 3, 1) := dk_29 (dk_at dksX9_init_0 15 rfl rfl)
theorem dX9_init_16 : decode cX9_init 16 = .ok (.putfield 16, 3) := dk_181 0 16 (dk_at dksX9_init_0 16 rfl rfl)
theorem dX9_init_19 : decode cX9_init 19 = .ok (.aload_n 0, 1) := dk_42 (dk_at dksX9_init_0 19 rfl rfl)
theorem dX9_init_20 : decode cX9_init 20 = .ok (.iload 4, 2) := dk_21 4 (dk_at dksX9_init_0 20 rfl rfl)
theorem dX9_init_22 : decode cX9_init 22 = .ok (.putfield 19, 3) := dk_181 0 19 (dk_at dksX9_init_1 0 rfl rfl)
theorem dX9_init_25 : decode cX9_init 25 = .ok (.return_, 1) := dk_177 (dk_at dksX9_init_1 3 rfl rfl)
abbrev cX9_told : ByteArray := prog_4_method_2_code
def yX9_told : MethodName := ⟨RX9, "told", "(I)I"⟩
def dkwX9_told_3 : List UInt8 := [180, 0, 19, 172]
abbrev dktX9_told_3 : List UInt8 := dkwX9_told_3 ++ []
def dkwX9_told_2 : List UInt8 := [42, 180, 0, 7, 167, 0, 21, 42, 180, 0, 13, 167, 0, 14, 42, 180, 0, 16, 167, 0, 7, 42]
abbrev dktX9_told_2 : List UInt8 := dkwX9_told_2 ++ dktX9_told_3
def dkwX9_told_1 : List UInt8 := [170, 0, 0, 0, 0, 0, 48, 0, 0, 0, 0, 0, 0, 0, 2, 0, 0, 0, 27, 0, 0, 0, 34, 0, 0, 0, 41]
abbrev dktX9_told_1 : List UInt8 := dkwX9_told_1 ++ dktX9_told_2
def dkwX9_told_0 : List UInt8 := [27]
abbrev dktX9_told_0 : List UInt8 := dkwX9_told_0 ++ dktX9_told_1
theorem dksX9_told_0 : cX9_told.data.toList.drop 0 = dktX9_told_0 := by decide +kernel
theorem dksX9_told_1 : cX9_told.data.toList.drop 1 = dktX9_told_1 := dk_seg dksX9_told_0 1 rfl rfl
theorem dksX9_told_2 : cX9_told.data.toList.drop 28 = dktX9_told_2 := dk_seg dksX9_told_1 27 rfl rfl
theorem dksX9_told_3 : cX9_told.data.toList.drop 50 = dktX9_told_3 := dk_seg dksX9_told_2 22 rfl rfl
theorem dX9_told_0 : decode cX9_told 0 = .ok (.iload_n 1, 1) := dk_27 (dk_at dksX9_told_0 0 rfl rfl)
theorem dX9_told_1 : decode cX9_told 1 = .ok (.tableswitch 48 0 2 #[27, 34, 41], 27) := by decide +kernel
theorem dX9_told_28 : decode cX9_told 28 = .ok (.aload_n 0, 1) := dk_42 (dk_at dksX9_told_2 0 rfl rfl)
theorem dX9_told_29 : decode cX9_told 29 = .ok (.getfield 7, 3) := dk_180 0 7 (dk_at dksX9_told_2 1 rfl rfl)
theorem dX9_told_32 : decode cX9_told 32 = .ok (.goto 21, 3) := dk_167 0 21 (dk_at dksX9_told_2 4 rfl rfl)
theorem dX9_told_35 : decode cX9_told 35 = .ok (.aload_n 0, 1) := dk_42 (dk_at dksX9_told_2 7 rfl rfl)
theorem dX9_told_36 : decode cX9_told 36 = .ok (.getfield 13, 3) := dk_180 0 13 (dk_at dksX9_told_2 8 rfl rfl)
theorem dX9_told_39 : decode cX9_told 39 = .ok (.goto 14, 3) := dk_167 0 14 (dk_at dksX9_told_2 11 rfl rfl)
theorem dX9_told_42 : decode cX9_told 42 = .ok (.aload_n 0, 1) := dk_42 (dk_at dksX9_told_2 14 rfl rfl)
theorem dX9_told_43 : decode cX9_told 43 = .ok (.getfield 16, 3) := dk_180 0 16 (dk_at dksX9_told_2 15 rfl rfl)
theorem dX9_told_46 : decode cX9_told 46 = .ok (.goto 7, 3) := dk_167 0 7 (dk_at dksX9_told_2 18 rfl rfl)
theorem dX9_told_49 : decode cX9_told 49 = .ok (.aload_n 0, 1) := dk_42 (dk_at dksX9_told_2 21 rfl rfl)
theorem dX9_told_50 : decode cX9_told 50 = .ok (.getfield 19, 3) := dk_180 0 19 (dk_at dksX9_told_3 0 rfl rfl)
theorem dX9_told_53 : decode cX9_told 53 = .ok (.ireturn, 1) := dk_172 (dk_at dksX9_told_3 3 rfl rfl)
theorem q112 : (Jvm.Cond.initialized "PayMatch$Event") ∈ lw_all := lw_g (lw_at lw_m1 39 rfl) rfl
theorem q582 : (Jvm.Cond.selects "PayMatch$Event" ({ cls := "java/lang/Object", name := "getClass", desc := "()Ljava/lang/Class;" } : Jvm.MethodName) ({ cls := "java/lang/Object", name := "getClass", desc := "()Ljava/lang/Class;" } : Jvm.MethodName)) ∈ lw_all := lw_g (lw_at lw_m3 29 rfl) rfl
theorem q1453 : (Jvm.Cond.instantiable "PayMatch$Event" (4 : Nat)) ∈ lw_all := lw_g (lw_at lw_m6 180 rfl) rfl
theorem q1455 : (Jvm.Cond.instanceMethod ({ cls := "PayMatch$Event", name := "<init>", desc := "(IIII)V" } : Jvm.MethodName)) ∈ lw_all := lw_g (lw_at lw_m6 182 rfl) rfl
theorem q1456 : (Jvm.Cond.code ({ cls := "PayMatch$Event", name := "<init>", desc := "(IIII)V" } : Jvm.MethodName) prog_4_method_1_code (5 : Nat) (Option.none : Option Jvm.ClassFile.FieldType)) ∈ lw_all := lw_g (lw_at lw_m6 183 rfl) rfl
theorem q1457 : (Jvm.Cond.methodLink "PayMatch$Event" (1 : Nat) ({ cls := "java/lang/Object", name := "<init>", desc := "()V" } : Jvm.MethodName)) ∈ lw_all := lw_g (lw_at lw_m6 184 rfl) rfl
theorem q1458 : (Jvm.Cond.fieldLink "PayMatch$Event" (7 : Nat) "PayMatch$Event" "kind" "I") ∈ lw_all := lw_g (lw_at lw_m6 185 rfl) rfl
theorem q1459 : (Jvm.Cond.fieldLink "PayMatch$Event" (13 : Nat) "PayMatch$Event" "paper" "I") ∈ lw_all := lw_g (lw_at lw_m6 186 rfl) rfl
theorem q1460 : (Jvm.Cond.fieldLink "PayMatch$Event" (16 : Nat) "PayMatch$Event" "amount" "I") ∈ lw_all := lw_g (lw_at lw_m6 187 rfl) rfl
theorem q1461 : (Jvm.Cond.fieldLink "PayMatch$Event" (19 : Nat) "PayMatch$Event" "day" "I") ∈ lw_all := lw_g (lw_at lw_m6 188 rfl) rfl
theorem q1462 : (Jvm.Cond.laysFinal "PayMatch$Event" "PayMatch$Event" "kind" "I") ∈ lw_all := lw_g (lw_at lw_m6 189 rfl) rfl
theorem q1463 : (Jvm.Cond.soleField "PayMatch$Event" "kind") ∈ lw_all := lw_g (lw_at lw_m6 190 rfl) rfl
theorem q1464 : (Jvm.Cond.laysFinal "PayMatch$Event" "PayMatch$Event" "paper" "I") ∈ lw_all := lw_g (lw_at lw_m6 191 rfl) rfl
theorem q1465 : (Jvm.Cond.soleField "PayMatch$Event" "paper") ∈ lw_all := lw_g (lw_at lw_m6 192 rfl) rfl
theorem q1466 : (Jvm.Cond.laysFinal "PayMatch$Event" "PayMatch$Event" "amount" "I") ∈ lw_all := lw_g (lw_at lw_m6 193 rfl) rfl
theorem q1467 : (Jvm.Cond.soleField "PayMatch$Event" "amount") ∈ lw_all := lw_g (lw_at lw_m6 194 rfl) rfl
theorem q1468 : (Jvm.Cond.laysFinal "PayMatch$Event" "PayMatch$Event" "day" "I") ∈ lw_all := lw_g (lw_at lw_m6 195 rfl) rfl
theorem q1469 : (Jvm.Cond.soleField "PayMatch$Event" "day") ∈ lw_all := lw_g (lw_at lw_m6 196 rfl) rfl
theorem q1470 : (Jvm.Cond.superclass "PayMatch$Event" "java/lang/Object") ∈ lw_all := lw_g (lw_at lw_m6 197 rfl) rfl
theorem q1947 : (Jvm.Cond.instanceMethod ({ cls := "PayMatch$Event", name := "told", desc := "(I)I" } : Jvm.MethodName)) ∈ lw_all := lw_g (lw_at lw_m8 194 rfl) rfl
theorem q1948 : (Jvm.Cond.selects "PayMatch$Event" ({ cls := "PayMatch$Event", name := "told", desc := "(I)I" } : Jvm.MethodName) ({ cls := "PayMatch$Event", name := "told", desc := "(I)I" } : Jvm.MethodName)) ∈ lw_all := lw_g (lw_at lw_m8 195 rfl) rfl
theorem q1949 : (Jvm.Cond.code ({ cls := "PayMatch$Event", name := "told", desc := "(I)I" } : Jvm.MethodName) prog_4_method_2_code (2 : Nat) (Option.some Jvm.ClassFile.FieldType.int)) ∈ lw_all := lw_g (lw_at lw_m8 196 rfl) rfl
theorem q2405 : (Jvm.Cond.castable "PayMatch$Event" "java/lang/Object") ∈ lw_tbl := lw_at lw_m10 172 rfl
theorem in_X9 : ∀ w ∈ wsX90, w ∈ lw_all := lw_in wsX90 [1462, 1464, 1466, 1468] (by decide +kernel) (by decide +kernel)
/-! PayMatch$Entry -/
set_option maxRecDepth 100000
def RX10 : String := "PayMatch$Entry"
def TX10 : u_T := fun k => match k with
  | 0 => ("PayMatch$Entry", "line", "I", true)
  | 1 => ("PayMatch$Entry", "units", "I", true)
  | _ => ("PayMatch$Entry", "price", "I", true)
def tyX10 : Nat → FieldType := fun k => match k with
  | 0 => .int
  | 1 => .int
  | _ => .int
abbrev wsX100 : List Cond := u_ws RX10 TX10 3
theorem nmX10 : ∀ a, a < 3 → ∀ b, b < 3 → a ≠ b → (TX10 a).2.1 ≠ (TX10 b).2.1 := by decide +kernel
theorem tyX10_ok : ∀ k, k < 3 → parseFieldDescriptor (TX10 k).2.2.1 = some (tyX10 k) := by decide +kernel
abbrev cX10_init : ByteArray := prog_3_method_1_code
def yX10_init : MethodName := ⟨RX10, "<init>", "(III)V"⟩
def dkwX10_init_0 : List UInt8 := [42, 183, 0, 1, 42, 27, 181, 0, 7, 42, 28, 181, 0, 13, 42, 29, 181, 0, 16, 177]
abbrev dktX10_init_0 : List UInt8 := dkwX10_init_0 ++ []
theorem dksX10_init_0 : cX10_init.data.toList.drop 0 = dktX10_init_0 := by decide +kernel
theorem dX10_init_0 : decode cX10_init 0 = .ok (.aload_n 0, 1) := dk_42 (dk_at dksX10_init_0 0 rfl rfl)
theorem dX10_init_1 : decode cX10_init 1 = .ok (.invokespecial 1, 3) := dk_183 0 1 (dk_at dksX10_init_0 1 rfl rfl)
theorem dX10_init_4 : decode cX10_init 4 = .ok (.aload_n 0, 1) := dk_42 (dk_at dksX10_init_0 4 rfl rfl)
theorem dX10_init_5 : decode cX10_init 5 = .ok (.iload_n 1, 1) := dk_27 (dk_at dksX10_init_0 5 rfl rfl)
theorem dX10_init_6 : decode cX10_init 6 = .ok (.putfield 7, 3) := dk_181 0 7 (dk_at dksX10_init_0 6 rfl rfl)
theorem dX10_init_9 : decode cX10_init 9 = .ok (.aload_n 0, 1) := dk_42 (dk_at dksX10_init_0 9 rfl rfl)
theorem dX10_init_10 : decode cX10_init 10 = .ok (.iload_n 2, 1) := dk_28 (dk_at dksX10_init_0 10 rfl rfl)
theorem dX10_init_11 : decode cX10_init 11 = .ok (.putfield 13, 3) := dk_181 0 13 (dk_at dksX10_init_0 11 rfl rfl)
theorem dX10_init_14 : decode cX10_init 14 = .ok (.aload_n 0, 1) := dk_42 (dk_at dksX10_init_0 14 rfl rfl)
theorem dX10_init_15 : decode cX10_init 15 = .ok (.iload_n 3, 1) := dk_29 (dk_at dksX10_init_0 15 rfl rfl)
theorem dX10_init_16 : decode cX10_init 16 = .ok (.putfield 16, 3) := dk_181 0 16 (dk_at dksX10_init_0 16 rfl rfl)
theorem dX10_init_19 : decode cX10_init 19 = .ok (.return_, 1) := dk_177 (dk_at dksX10_init_0 19 rfl rfl)
abbrev cX10_amount : ByteArray := prog_3_method_2_code
def yX10_amount : MethodName := ⟨RX10, "amount", "()I"⟩
def dkwX10_amount_0 : List UInt8 := [42, 180, 0, 13, 42, 180, 0, 16, 104, 172]
abbrev dktX10_amount_0 : List UInt8 := dkwX10_amount_0 ++ []
theorem dksX10_amount_0 : cX10_amount.data.toList.drop 0 = dktX10_amount_0 := by decide +kernel
theorem dX10_amount_0 : decode cX10_amount 0 = .ok (.aload_n 0, 1) := dk_42 (dk_at dksX10_amount_0 0 rfl rfl)
theorem dX10_amount_1 : decode cX10_amount 1 = .ok (.getfield 13, 3) := dk_180 0 13 (dk_at dksX10_amount_0 1 rfl rfl)
theorem dX10_amount_4 : decode cX10_amount 4 = .ok (.aload_n 0, 1) := dk_42 (dk_at dksX10_amount_0 4 rfl rfl)
theorem dX10_amount_5 : decode cX10_amount 5 = .ok (.getfield 16, 3) := dk_180 0 16 (dk_at dksX10_amount_0 5 rfl rfl)
theorem dX10_amount_8 : decode cX10_amount 8 = .ok (.imul, 1) := dk_104 (dk_at dksX10_amount_0 8 rfl rfl)
theorem dX10_amount_9 : decode cX10_amount 9 = .ok (.ireturn, 1) := dk_172 (dk_at dksX10_amount_0 9 rfl rfl)
theorem q113 : (Jvm.Cond.initialized "PayMatch$Entry") ∈ lw_all := lw_g (lw_at lw_m1 40 rfl) rfl
theorem q581 : (Jvm.Cond.selects "PayMatch$Entry" ({ cls := "java/lang/Object", name := "getClass", desc := "()Ljava/lang/Class;" } : Jvm.MethodName) ({ cls := "java/lang/Object", name := "getClass", desc := "()Ljava/lang/Class;" } : Jvm.MethodName)) ∈ lw_all := lw_g (lw_at lw_m3 28 rfl) rfl
theorem q1511 : (Jvm.Cond.instantiable "PayMatch$Entry" (3 : Nat)) ∈ lw_all := lw_g (lw_at lw_m6 238 rfl) rfl
theorem q1513 : (Jvm.Cond.instanceMethod ({ cls := "PayMatch$Entry", name := "<init>", desc := "(III)V" } : Jvm.MethodName)) ∈ lw_all := lw_g (lw_at lw_m7 0 rfl) rfl
theorem q1514 : (Jvm.Cond.code ({ cls := "PayMatch$Entry", name := "<init>", desc := "(III)V" } : Jvm.MethodName) prog_3_method_1_code (4 : Nat) (Option.none : Option Jvm.ClassFile.FieldType)) ∈ lw_all := lw_g (lw_at lw_m7 1 rfl) rfl
theorem q1515 : (Jvm.Cond.methodLink "PayMatch$Entry" (1 : Nat) ({ cls := "java/lang/Object", name := "<init>", desc := "()V" } : Jvm.MethodName)) ∈ lw_all := lw_g (lw_at lw_m7 2 rfl) rfl
theorem q1516 : (Jvm.Cond.fieldLink "PayMatch$Entry" (7 : Nat) "PayMatch$Entry" "line" "I") ∈ lw_all := lw_g (lw_at lw_m7 3 rfl) rfl
theorem q1519 : (Jvm.Cond.fieldLink "PayMatch$Entry" (13 : Nat) "PayMatch$Entry" "units" "I") ∈ lw_all := lw_g (lw_at lw_m7 6 rfl) rfl
theorem q1522 : (Jvm.Cond.fieldLink "PayMatch$Entry" (16 : Nat) "PayMatch$Entry" "price" "I") ∈ lw_all := lw_g (lw_at lw_m7 9 rfl) rfl
theorem q1525 : (Jvm.Cond.laysFinal "PayMatch$Entry" "PayMatch$Entry" "line" "I") ∈ lw_all := lw_g (lw_at lw_m7 12 rfl) rfl
theorem q1526 : (Jvm.Cond.soleField "PayMatch$Entry" "line") ∈ lw_all := lw_g (lw_at lw_m7 13 rfl) rfl
theorem q1527 : (Jvm.Cond.laysFinal "PayMatch$Entry" "PayMatch$Entry" "units" "I") ∈ lw_all := lw_g (lw_at lw_m7 14 rfl) rfl
theorem q1528 : (Jvm.Cond.soleField "PayMatch$Entry" "units") ∈ lw_all := lw_g (lw_at lw_m7 15 rfl) rfl
theorem q1529 : (Jvm.Cond.laysFinal "PayMatch$Entry" "PayMatch$Entry" "price" "I") ∈ lw_all := lw_g (lw_at lw_m7 16 rfl) rfl
theorem q1530 : (Jvm.Cond.soleField "PayMatch$Entry" "price") ∈ lw_all := lw_g (lw_at lw_m7 17 rfl) rfl
theorem q1531 : (Jvm.Cond.superclass "PayMatch$Entry" "java/lang/Object") ∈ lw_all := lw_g (lw_at lw_m7 18 rfl) rfl
theorem q1548 : (Jvm.Cond.instanceMethod ({ cls := "PayMatch$Entry", name := "amount", desc := "()I" } : Jvm.MethodName)) ∈ lw_all := lw_g (lw_at lw_m7 35 rfl) rfl
theorem q1549 : (Jvm.Cond.selects "PayMatch$Entry" ({ cls := "PayMatch$Entry", name := "amount", desc := "()I" } : Jvm.MethodName) ({ cls := "PayMatch$Entry", name := "amount", desc := "()I" } : Jvm.MethodName)) ∈ lw_all := lw_g (lw_at lw_m7 36 rfl) rfl
theorem q1550 : (Jvm.Cond.code ({ cls := "PayMatch$Entry", name := "amount", desc := "()I" } : Jvm.MethodName) prog_3_method_2_code (1 : Nat) (Option.some Jvm.ClassFile.FieldType.int)) ∈ lw_all := lw_g (lw_at lw_m7 37 rfl) rfl
theorem q2384 : (Jvm.Cond.castable "PayMatch$Entry" "java/lang/Object") ∈ lw_tbl := lw_at lw_m10 151 rfl
theorem in_X10 : ∀ w ∈ wsX100, w ∈ lw_all := lw_in wsX100 [1525, 1527, 1529] (by decide +kernel) (by decide +kernel)
/-! PayMatch$Reader -/
set_option maxRecDepth 100000
def RX11 : String := "PayMatch$Reader"
def TX11 : u_T := fun k => match k with
  | 0 => ("PayMatch$Reader", "text", "Ljava/lang/CharSequence;", true)
  | 1 => ("PayMatch$Reader", "entries", "Ljava/util/List;", true)
  | 2 => ("PayMatch$Reader", "reference", "I", false)
  | 3 => ("PayMatch$Reader", "order", "I", false)
  | _ => ("PayMatch$Reader", "place", "I", false)
def tyX11 : Nat → FieldType := fun k => match k with
  | 0 => .object "java/lang/CharSequence"
  | 1 => .object "java/util/List"
  | 2 => .int
  | 3 => .int
  | _ => .int
abbrev wsX110 : List Cond := u_ws RX11 TX11 5
theorem nmX11 : ∀ a, a < 5 → ∀ b, b < 5 → a ≠ b → (TX11 a).2.1 ≠ (TX11 b).2.1 := by decide +kernel
theorem tyX11_ok : ∀ k, k < 5 → parseFieldDescriptor (TX11 k).2.2.1 = some (tyX11 k) := by decide +kernel
abbrev cX11_init : ByteArray := prog_10_method_1_code
def yX11_init : MethodName := ⟨RX11, "<init>", "(Ljava/lang/CharSequence;)V"⟩
def dkwX11_init_0 : List UInt8 := [42, 183, 0, 1, 42, 187, 0, 7, 89, 183, 0, 9, 181, 0, 10, 42, 43, 181, 0, 16, 177]
abbrev dktX11_init_0 : List UInt8 := dkwX11_init_0 ++ []
theorem dksX11_init_0 : cX11_init.data.toList.drop 0 = dktX11_init_0 := by decide +kernel
theorem dX11_init_0 : decode cX11_init 0 = .ok (.aload_n 0, 1) := dk_42 (dk_at dksX11_init_0 0 rfl rfl)
theorem dX11_init_1 : decode cX11_init 1 = .ok (.invokespecial 1, 3) := dk_183 0 1 (dk_at dksX11_init_0 1 rfl rfl)
theorem dX11_init_4 : decode cX11_init 4 = .ok (.aload_n 0, 1) := dk_42 (dk_at dksX11_init_0 4 rfl rfl)
theorem dX11_init_5 : decode cX11_init 5 = .ok (.new 7, 3) := dk_187 0 7 (dk_at dksX11_init_0 5 rfl rfl)
theorem dX11_init_8 : decode cX11_init 8 = .ok (.dup, 1) := dk_89 (dk_at dksX11_init_0 8 rfl rfl)
theorem dX11_init_9 : decode cX11_init 9 = .ok (.invokespecial 9, 3) := dk_183 0 9 (dk_at dksX11_init_0 9 rfl rfl)
theorem dX11_init_12 : decode cX11_init 12 = .ok (.putfield 10, 3) := dk_181 0 10 (dk_at dksX11_init_0 12 rfl rfl)
theorem dX11_init_15 : decode cX11_init 15 = .ok (.aload_n 0, 1) := dk_42 (dk_at dksX11_init_0 15 rfl rfl)
theorem dX11_init_16 : decode cX11_init 16 = .ok (.aload_n 1, 1) := dk_43 (dk_at dksX11_init_0 16 rfl rfl)
theorem dX11_init_17 : decode cX11_init 17 = .ok (.putfield 16, 3) := dk_181 0 16 (dk_at dksX11_init_0 17 rfl rfl)
theorem dX11_init_20 : decode cX11_init 20 = .ok (.return_, 1) := dk_177 (dk_at dksX11_init_0 20 rfl rfl)
abbrev cX11_read : ByteArray := prog_10_method_6_code
def yX11_read : MethodName := ⟨RX11, "read", "()V"⟩
def dkwX11_read_2 : List UInt8 := [162, 0, 16, 42, 16, 44, 182, 0, 53, 42, 182, 0, 74, 167, 255, 230, 177]
abbrev dktX11_read_2 : List UInt8 := dkwX11_read_2 ++ []
def dkwX11_read_1 : List UInt8 := [42, 16, 58, 182, 0, 53, 42, 182, 0, 74, 42, 180, 0, 20, 42, 180, 0, 16, 185, 0, 24, 1, 0]
abbrev dktX11_read_1 : List UInt8 := dkwX11_read_1 ++ dktX11_read_2
def dkwX11_read_0 : List UInt8 := [42, 42, 6, 182, 0, 49, 181, 0, 68, 42, 16, 47, 182, 0, 53, 42, 42, 6, 182, 0, 49, 181, 0, 71]
abbrev dktX11_read_0 : List UInt8 := dkwX11_read_0 ++ dktX11_read_1
theorem dksX11_read_0 : cX11_read.data.toList.drop 0 = dktX11_read_0 := by decide +kernel
theorem dksX11_read_1 : cX11_read.data.toList.drop 24 = dktX11_read_1 := dk_seg dksX11_read_0 24 rfl rfl
theorem dksX11_read_2 : cX11_read.data.toList.drop 47 = dktX11_read_2 := dk_seg dksX11_read_1 23 rfl rfl
theorem dX11_read_0 : decode cX11_read 0 = .ok (.aload_n 0, 1) := dk_42 (dk_at dksX11_read_0 0 rfl rfl)
theorem dX11_read_1 : decode cX11_read 1 = .ok (.aload_n 0, 1) := dk_42 (dk_at dksX11_read_0 1 rfl rfl)
theorem dX11_read_2 : decode cX11_read 2 = .ok (.iconst 3, 1) := dk_6 (dk_at dksX11_read_0 2 rfl rfl)
theorem dX11_read_3 : decode cX11_read 3 = .ok (.invokevirtual 49, 3) := dk_182 0 49 (dk_at dksX11_read_0 3 rfl rfl)
theorem dX11_read_6 : decode cX11_read 6 = .ok (.putfield 68, 3) := dk_181 0 68 (dk_at dksX11_read_0 6 rfl rfl)
theorem dX11_read_9 : decode cX11_read 9 = .ok (.aload_n 0, 1) := dk_42 (dk_at dksX11_read_0 9 rfl rfl)
theorem dX11_read_10 : decode cX11_read 10 = .ok (.bipush 47, 2) := dk_16 47 (dk_at dksX11_read_0 10 rfl rfl)
theorem dX11_read_12 : decode cX11_read 12 = .ok (.invokevirtual 53, 3) := dk_182 0 53 (dk_at dksX11_read_0 12 rfl rfl)
theorem dX11_read_15 : decode cX11_read 15 = .ok (.aload_n 0, 1) := dk_42 (dk_at dksX11_read_0 15 rfl rfl)
theorem dX11_read_16 : decode cX11_read 16 = .ok (.aload_n 0, 1) := dk_42 (dk_at dksX11_read_0 16 rfl rfl)
theorem dX11_read_17 : decode cX11_read 17 = .ok (.iconst 3, 1) := dk_6 (dk_at dksX11_read_0 17 rfl rfl)
theorem dX11_read_18 : decode cX11_read 18 = .ok (.invokevirtual 49, 3) := dk_182 0 49 (dk_at dksX11_read_0 18 rfl rfl)
theorem dX11_read_21 : decode cX11_read 21 = .ok (.putfield 71, 3) := dk_181 0 71 (dk_at dksX11_read_0 21 rfl rfl)
theorem dX11_read_24 : decode cX11_read 24 = .ok (.aload_n 0, 1) := dk_42 (dk_at dksX11_read_1 0 rfl rfl)
theorem dX11_read_25 : decode cX11_read 25 = .ok (.bipush 58, 2) := dk_16 58 (dk_at dksX11_read_1 1 rfl rfl)
theorem dX11_read_27 : decode cX11_read 27 = .ok (.invokevirtual 53, 3) := dk_182 0 53 (dk_at dksX11_read_1 3 rfl rfl)
theorem dX11_read_30 : decode cX11_read 30 = .ok (.aload_n 0, 1) := dk_42 (dk_at dksX11_read_1 6 rfl rfl)
theorem dX11_read_31 : decode cX11_read 31 = .ok (.invokevirtual 74, 3) := dk_182 0 74 (dk_at dksX11_read_1 7 rfl rfl)
theorem dX11_read_34 : decode cX11_read 34 = .ok (.aload_n 0, 1) := dk_42 (dk_at dksX11_read_1 10 rfl rfl)
theorem dX11_read_35 : decode cX11_read 35 = .ok (.getfield 20, 3) := dk_180 0 20 (dk_at dksX11_read_1 11 rfl rfl)
theorem dX11_read_38 : decode cX11_read 38 = .ok (.aload_n 0, 1) := dk_42 (dk_at dksX11_read_1 14 rfl rfl)
theorem dX11_read_39 : decode cX11_read 39 = .ok (.getfield 16, 3) := dk_180 0 16 (dk_at dksX11_read_1 15 rfl rfl)
theorem dX11_read_42 : decode cX11_read 42 = .ok (.invokeinterface 24 1, 5) := by decide +kernel
theorem dX11_read_47 : decode cX11_read 47 = .ok (.if_icmp .ge 16, 3) := dk_162 0 16 (dk_at dksX11_read_2 0 rfl rfl)
theorem dX11_read_50 : decode cX11_read 50 = .ok (.aload_n 0, 1) := dk_42 (dk_at dksX11_read_2 3 rfl rfl)
theorem dX11_read_51 : decode cX11_read 51 = .ok (.bipush 44, 2) := dk_16 44 (dk_at dksX11_read_2 4 rfl rfl)
theorem dX11_read_53 : decode cX11_read 53 = .ok (.invokevirtual 53, 3) := dk_182 0 53 (dk_at dksX11_read_2 6 rfl rfl)
theorem dX11_read_56 : decode cX11_read 56 = .ok (.aload_n 0, 1) := dk_42 (dk_at dksX11_read_2 9 rfl rfl)
theorem dX11_read_57 : decode cX11_read 57 = .ok (.invokevirtual 74, 3) := dk_182 0 74 (dk_at dksX11_read_2 10 rfl rfl)
theorem dX11_read_60 : decode cX11_read 60 = .ok (.goto (-26), 3) := dk_167 255 230 (dk_at dksX11_read_2 13 rfl rfl)
theorem dX11_read_63 : decode cX11_read 63 = .ok (.return_, 1) := dk_177 (dk_at dksX11_read_2 16 rfl rfl)
abbrev cX11_number : ByteArray := prog_10_method_4_code
def yX11_number : MethodName := ⟨RX11, "number", "(I)I"⟩
def dkwX11_number_4 : List UInt8 := [132, 3, 1, 167, 255, 205, 28, 172]
abbrev dktX11_number_4 : List UInt8 := dkwX11_number_4 ++ []
def dkwX11_number_3 : List UInt8 := [42, 180, 0, 20, 185, 0, 30, 2, 0, 96, 16, 48, 100, 61, 42, 89, 180, 0, 20, 4, 96, 181, 0, 20]
abbrev dktX11_number_3 : List UInt8 := dkwX11_number_3 ++ dktX11_number_4
def dkwX11_number_2 : List UInt8 := [29, 27, 162, 0, 52, 28, 158, 0, 48, 42, 182, 0, 45, 153, 0, 41, 16, 10, 28, 104, 42, 180, 0, 16]
abbrev dktX11_number_2 : List UInt8 := dkwX11_number_2 ++ dktX11_number_3
def dkwX11_number_1 : List UInt8 := [180, 0, 20, 185, 0, 30, 2, 0, 16, 48, 100, 61, 42, 89, 180, 0, 20, 4, 96, 181, 0, 20, 4, 62]
abbrev dktX11_number_1 : List UInt8 := dkwX11_number_1 ++ dktX11_number_2
def dkwX11_number_0 : List UInt8 := [42, 182, 0, 45, 154, 0, 15, 187, 0, 40, 89, 42, 180, 0, 20, 183, 0, 42, 191, 42, 180, 0, 16, 42]
abbrev dktX11_number_0 : List UInt8 := dkwX11_number_0 ++ dktX11_number_1
theorem dksX11_number_0 : cX11_number.data.toList.drop 0 = dktX11_number_0 := by decide +kernel
theorem dksX11_number_1 : cX11_number.data.toList.drop 24 = dktX11_number_1 := dk_seg dksX11_number_0 24 rfl rfl
theorem dksX11_number_2 : cX11_number.data.toList.drop 48 = dktX11_number_2 := dk_seg dksX11_number_1 24 rfl rfl
theorem dksX11_number_3 : cX11_number.data.toList.drop 72 = dktX11_number_3 := dk_seg dksX11_number_2 24 rfl rfl
theorem dksX11_number_4 : cX11_number.data.toList.drop 96 = dktX11_number_4 := dk_seg dksX11_number_3 24 rfl rfl
theorem dX11_number_0 : decode cX11_number 0 = .ok (.aload_n 0, 1) := dk_42 (dk_at dksX11_number_0 0 rfl rfl)
theorem dX11_number_1 : decode cX11_number 1 = .ok (.invokevirtual 45, 3) := dk_182 0 45 (dk_at dksX11_number_0 1 rfl rfl)
theorem dX11_number_4 : decode cX11_number 4 = .ok (.ifCond .ne 15, 3) := dk_154 0 15 (dk_at dksX11_number_0 4 rfl rfl)
theorem dX11_number_7 : decode cX11_number 7 = .ok (.new 40, 3) := dk_187 0 40 (dk_at dksX11_number_0 7 rfl rfl)
theorem dX11_number_10 : decode cX11_number 10 = .ok (.dup, 1) := dk_89 (dk_at dksX11_number_0 10 rfl rfl)
theorem dX11_number_11 : decode cX11_number 11 = .ok (.aload_n 0, 1) := dk_42 (dk_at dksX11_number_0 11 rfl rfl)
theorem dX11_number_12 : decode cX11_number 12 = .ok (.getfield 20, 3) := dk_180 0 20 (dk_at dksX11_number_0 12 rfl rfl)
theorem dX11_number_15 : decode cX11_number 15 = .ok (.invokespecial 42, 3) := dk_183 0 42 (dk_at dksX11_number_0 15 rfl rfl)
theorem dX11_number_18 : decode cX11_number 18 = .ok (.athrow, 1) := dk_191 (dk_at dksX11_number_0 18 rfl rfl)
theorem dX11_number_19 : decode cX11_number 19 = .ok (.aload_n 0, 1) := dk_42 (dk_at dksX11_number_0 19 rfl rfl)
theorem dX11_number_20 : decode cX11_number 20 = .ok (.getfield 16, 3) := dk_180 0 16 (dk_at dksX11_number_0 20 rfl rfl)
theorem dX11_number_23 : decode cX11_number 23 = .ok (.aload_n 0, 1) := dk_42 (dk_at dksX11_number_0 23 rfl rfl)
theorem dX11_number_24 : decode cX11_number 24 = .ok (.getfield 20, 3) := dk_180 0 20 (dk_at dksX11_number_1 0 rfl rfl)
theorem dX11_number_27 : decode cX11_number 27 = .ok (.invokeinterface 30 2, 5) := by decide +kernel
theorem dX11_number_32 : decode cX11_number 32 = .ok (.bipush 48, 2) := dk_16 48 (dk_at dksX11_number_1 8 rfl rfl)
theorem dX11_number_34 : decode cX11_number 34 = .ok (.isub, 1) := dk_100 (dk_at dksX11_number_1 10 rfl rfl)
theorem dX11_number_35 : decode cX11_number 35 = .ok (.istore_n 2, 1) := dk_61 (dk_at dksX11_number_1 11 rfl rfl)
theorem dX11_number_36 : decode cX11_number 36 = .ok (.aload_n 0, 1) := dk_42 (dk_at dksX11_number_1 12 rfl rfl)
theorem dX11_number_37 : decode cX11_number 37 = .ok (.dup, 1) := dk_89 (dk_at dksX11_number_1 13 rfl rfl)
theorem dX11_number_38 : decode cX11_number 38 = .ok (.getfield 20, 3) := dk_180 0 20 (dk_at dksX11_number_1 14 rfl rfl)
theorem dX11_number_41 : decode cX11_number 41 = .ok (.iconst 1, 1) := dk_4 (dk_at dksX11_number_1 17 rfl rfl)
theorem dX11_number_42 : decode cX11_number 42 = .ok (.iadd, 1) := dk_96 (dk_at dksX11_number_1 18 rfl rfl)
theorem dX11_number_43 : decode cX11_number 43 = .ok (.putfield 20, 3) := dk_181 0 20 (dk_at dksX11_number_1 19 rfl rfl)
theorem dX11_number_46 : decode cX11_number 46 = .ok (.iconst 1, 1) := dk_4 (dk_at dksX11_number_1 22 rfl rfl)
theorem dX11_number_47 : decode cX11_number 47 = .ok (.istore_n 3, 1) := dk_62 (dk_at dksX11_number_1 23 rfl rfl)
theorem dX11_number_48 : decode cX11_number 48 = .ok (.iload_n 3, 1) := dk_29 (dk_at dksX11_number_2 0 rfl rfl)
theorem dX11_number_49 : decode cX11_number 49 = .ok (.iload_n 1, 1) := dk_27 (dk_at dksX11_number_2 1 rfl rfl)
theorem dX11_number_50 : decode cX11_number 50 = .ok (.if_icmp .ge 52, 3) := dk_162 0 52 (dk_at dksX11_number_2 2 rfl rfl)
theorem dX11_number_53 : decode cX11_number 53 = .ok (.iload_n 2, 1) := dk_28 (dk_at dksX11_number_2 5 rfl rfl)
theorem dX11_number_54 : decode cX11_number 54 = .ok (.ifCond .le 48, 3) := dk_158 0 48 (dk_at dksX11_number_2 6 rfl rfl)
theorem dX11_number_57 : decode cX11_number 57 = .ok (.aload_n 0, 1) := dk_42 (dk_at dksX11_number_2 9 rfl rfl)
theorem dX11_number_58 : decode cX11_number 58 = .ok (.invokevirtual 45, 3) := dk_182 0 45 (dk_at dksX11_number_2 10 rfl rfl)
theorem dX11_number_61 : decode cX11_number 61 = .ok (.ifCond .eq 41, 3) := dk_153 0 41 (dk_at dksX11_number_2 13 rfl rfl)
theorem dX11_number_64 : decode cX11_number 64 = .ok (.bipush 10, 2) := dk_16 10 (dk_at dksX11_number_2 16 rfl rfl)
theorem dX11_number_66 : decode cX11_number 66 = .ok (.iload_n 2, 1) := dk_28 (dk_at dksX11_number_2 18 rfl rfl)
theorem dX11_number_67 : decode cX11_number 67 = .ok (.imul, 1) := dk_104 (dk_at dksX11_number_2 19 rfl rfl)
theorem dX11_number_68 : decode cX11_number 68 = .ok (.aload_n 0, 1) := dk_42 (dk_at dksX11_number_2 20 rfl rfl)
theorem dX11_number_69 : decode cX11_number 69 = .ok (.getfield 16, 3) := dk_180 0 16 (dk_at dksX11_number_2 21 rfl rfl)
theorem dX11_number_72 : decode cX11_number 72 = .ok (.aload_n 0, 1) := dk_42 (dk_at dksX11_number_3 0 rfl rfl)
theorem dX11_number_73 : decode cX11_number 73 = .ok (.getfield 20, 3) := dk_180 0 20 (dk_at dksX11_number_3 1 rfl rfl)
theorem dX11_number_76 : decode cX11_number 76 = .ok (.invokeinterface 30 2, 5) := by decide +kernel
theorem dX11_number_81 : decode cX11_number 81 = .ok (.iadd, 1) := dk_96 (dk_at dksX11_number_3 9 rfl rfl)
theorem dX11_number_82 : decode cX11_number 82 = .ok (.bipush 48, 2) := dk_16 48 (dk_at dksX11_number_3 10 rfl rfl)
theorem dX11_number_84 : decode cX11_number 84 = .ok (.isub, 1) := dk_100 (dk_at dksX11_number_3 12 rfl rfl)
theorem dX11_number_85 : decode cX11_number 85 = .ok (.istore_n 2, 1) := dk_61 (dk_at dksX11_number_3 13 rfl rfl)
theorem dX11_number_86 : decode cX11_number 86 = .ok (.aload_n 0, 1) := dk_42 (dk_at dksX11_number_3 14 rfl rfl)
theorem dX11_number_87 : decode cX11_number 87 = .ok (.dup, 1) := dk_89 (dk_at dksX11_number_3 15 rfl rfl)
theorem dX11_number_88 : decode cX11_number 88 = .ok (.getfield 20, 3) := dk_180 0 20 (dk_at dksX11_number_3 16 rfl rfl)
theorem dX11_number_91 : decode cX11_number 91 = .ok (.iconst 1, 1) := dk_4 (dk_at dksX11_number_3 19 rfl rfl)
theorem dX11_number_92 : decode cX11_number 92 = .ok (.iadd, 1) := dk_96 (dk_at dksX11_number_3 20 rfl rfl)
theorem dX11_number_93 : decode cX11_number 93 = .ok (.putfield 20, 3) := dk_181 0 20 (dk_at dksX11_number_3 21 rfl rfl)
theorem dX11_number_96 : decode cX11_number 96 = .ok (.iinc 3 1, 3) := dk_132 3 1 (dk_at dksX11_number_4 0 rfl rfl)
theorem dX11_number_99 : decode cX11_number 99 = .ok (.goto (-51), 3) := dk_167 255 205 (dk_at dksX11_number_4 3 rfl rfl)
theorem dX11_number_102 : decode cX11_number 102 = .ok (.iload_n 2, 1) := dk_28 (dk_at dksX11_number_4 6 rfl rfl)
theorem dX11_number_103 : decode cX11_number 103 = .ok (.ireturn, 1) := dk_172 (dk_at dksX11_number_4 7 rfl rfl)
abbrev cX11_seesFigure : ByteArray := prog_10_method_2_code
def yX11_seesFigure : MethodName := ⟨RX11, "seesFigure", "()Z"⟩
def dkwX11_seesFigure_1 : List UInt8 := [185, 0, 30, 2, 0, 16, 48, 16, 57, 184, 0, 34, 153, 0, 7, 4, 167, 0, 4, 3, 172]
abbrev dktX11_seesFigure_1 : List UInt8 := dkwX11_seesFigure_1 ++ []
def dkwX11_seesFigure_0 : List UInt8 := [42, 180, 0, 20, 42, 180, 0, 16, 185, 0, 24, 1, 0, 162, 0, 30, 42, 180, 0, 16, 42, 180, 0, 20]
abbrev dktX11_seesFigure_0 : List UInt8 := dkwX11_seesFigure_0 ++ dktX11_seesFigure_1
theorem dksX11_seesFigure_0 : cX11_seesFigure.data.toList.drop 0 = dktX11_seesFigure_0 := by decide +kernel
theorem dksX11_seesFigure_1 : cX11_seesFigure.data.toList.drop 24 = dktX11_seesFigure_1 := dk_seg dksX11_seesFigure_0 24 rfl rfl
theorem dX11_seesFigure_0 : decode cX11_seesFigure 0 = .ok (.aload_n 0, 1) := dk_42 (dk_at dksX11_seesFigure_0 0 rfl rfl)
theorem dX11_seesFigure_1 : decode cX11_seesFigure 1 = .ok (.getfield 20, 3) := dk_180 0 20 (dk_at dksX11_seesFigure_0 1 rfl rfl)
theorem dX11_seesFigure_4 : decode cX11_seesFigure 4 = .ok (.aload_n 0, 1) := dk_42 (dk_at dksX11_seesFigure_0 4 rfl rfl)
theorem dX11_seesFigure_5 : decode cX11_seesFigure 5 = .ok (.getfield 16, 3) := dk_180 0 16 (dk_at dksX11_seesFigure_0 5 rfl rfl)
theorem dX11_seesFigure_8 : decode cX11_seesFigure 8 = .ok (.invokeinterface 24 1, 5) := by decide +kernel
theorem dX11_seesFigure_13 : decode cX11_seesFigure 13 = .ok (.if_icmp .ge 30, 3) := dk_162 0 30 (dk_at dksX11_seesFigure_0 13 rfl rfl)
theorem dX11_seesFigure_16 : decode cX11_seesFigure 16 = .ok (.aload_n 0, 1) := dk_42 (dk_at dksX11_seesFigure_0 16 rfl rfl)
theorem dX11_seesFigure_17 : decode cX11_seesFigure 17 = .ok (.getfield 16, 3) := dk_180 0 16 (dk_at dksX11_seesFigure_0 17 rfl rfl)
theorem dX11_seesFigure_20 : decode cX11_seesFigure 20 = .ok (.aload_n 0, 1) := dk_42 (dk_at dksX11_seesFigure_0 20 rfl rfl)
theorem dX11_seesFigure_21 : decode cX11_seesFigure 21 = .ok (.getfield 20, 3) := dk_180 0 20 (dk_at dksX11_seesFigure_0 21 rfl rfl)
theorem dX11_seesFigure_24 : decode cX11_seesFigure 24 = .ok (.invokeinterface 30 2, 5) := by decide +kernel
theorem dX11_seesFigure_29 : decode cX11_seesFigure 29 = .ok (.bipush 48, 2) := dk_16 48 (dk_at dksX11_seesFigure_1 5 rfl rfl)
theorem dX11_seesFigure_31 : decode cX11_seesFigure 31 = .ok (.bipush 57, 2) := dk_16 57 (dk_at dksX11_seesFigure_1 7 rfl rfl)
theorem dX11_seesFigure_33 : decode cX11_seesFigure 33 = .ok (.invokestatic 34, 3) := dk_184 0 34 (dk_at dksX11_seesFigure_1 9 rfl rfl)
theorem dX11_seesFigure_36 : decode cX11_seesFigure 36 = .ok (.ifCond .eq 7, 3) := dk_153 0 7 (dk_at dksX11_seesFigure_1 12 rfl rfl)
theorem dX11_seesFigure_39 : decode cX11_seesFigure 39 = .ok (.iconst 1, 1) := dk_4 (dk_at dksX11_seesFigure_1 15 rfl rfl)
theorem dX11_seesFigure_40 : decode cX11_seesFigure 40 = .ok (.goto 4, 3) := dk_167 0 4 (dk_at dksX11_seesFigure_1 16 rfl rfl)
theorem dX11_seesFigure_43 : decode cX11_seesFigure 43 = .ok (.iconst 0, 1) := dk_3 (dk_at dksX11_seesFigure_1 19 rfl rfl)
theorem dX11_seesFigure_44 : decode cX11_seesFigure 44 = .ok (.ireturn, 1) := dk_172 (dk_at dksX11_seesFigure_1 20 rfl rfl)
abbrev cX11_sign : ByteArray := prog_10_method_3_code
def yX11_sign : MethodName := ⟨RX11, "sign", "(C)V"⟩
def dkwX11_sign_2 : List UInt8 := [180, 0, 20, 4, 96, 181, 0, 20, 177]
abbrev dktX11_sign_2 : List UInt8 := dkwX11_sign_2 ++ []
def dkwX11_sign_1 : List UInt8 := [185, 0, 30, 2, 0, 27, 159, 0, 15, 187, 0, 40, 89, 42, 180, 0, 20, 183, 0, 42, 191, 42, 89]
abbrev dktX11_sign_1 : List UInt8 := dkwX11_sign_1 ++ dktX11_sign_2
def dkwX11_sign_0 : List UInt8 := [42, 180, 0, 20, 42, 180, 0, 16, 185, 0, 24, 1, 0, 162, 0, 20, 42, 180, 0, 16, 42, 180, 0, 20]
abbrev dktX11_sign_0 : List UInt8 := dkwX11_sign_0 ++ dktX11_sign_1
theorem dksX11_sign_0 : cX11_sign.data.toList.drop 0 = dktX11_sign_0 := by decide +kernel
theorem dksX11_sign_1 : cX11_sign.data.toList.drop 24 = dktX11_sign_1 := dk_seg dksX11_sign_0 24 rfl rfl
theorem dksX11_sign_2 : cX11_sign.data.toList.drop 47 = dktX11_sign_2 := dk_seg dksX11_sign_1 23 rfl rfl
theorem dX11_sign_0 : decode cX11_sign 0 = .ok (.aload_n 0, 1) := dk_42 (dk_at dksX11_sign_0 0 rfl rfl)
theorem dX11_sign_1 : decode cX11_sign 1 = .ok (.getfield 20, 3) := dk_180 0 20 (dk_at dksX11_sign_0 1 rfl rfl)
theorem dX11_sign_4 : decode cX11_sign 4 = .ok (.aload_n 0, 1) := dk_42 (dk_at dksX11_sign_0 4 rfl rfl)
theorem dX11_sign_5 : decode cX11_sign 5 = .ok (.getfield 16, 3) := dk_180 0 16 (dk_at dksX11_sign_0 5 rfl rfl)
theorem dX11_sign_8 : decode cX11_sign 8 = .ok (.invokeinterface 24 1, 5) := by decide +kernel
theorem dX11_sign_13 : decode cX11_sign 13 = .ok (.if_icmp .ge 20, 3) := dk_162 0 20 (dk_at dksX11_sign_0 13 rfl rfl)
theorem dX11_sign_16 : decode cX11_sign 16 = .ok (.aload_n 0, 1) := dk_42 (dk_at dksX11_sign_0 16 rfl rfl)
theorem dX11_sign_17 : decode cX11_sign 17 = .ok (.getfield 16, 3) := dk_180 0 16 (dk_at dksX11_sign_0 17 rfl rfl)
theorem dX11_sign_20 : decode cX11_sign 20 = .ok (.aload_n 0, 1) := dk_42 (dk_at dksX11_sign_0 20 rfl rfl)
theorem dX11_sign_21 : decode cX11_sign 21 = .ok (.getfield 20, 3) := dk_180 0 20 (dk_at dksX11_sign_0 21 rfl rfl)
theorem dX11_sign_24 : decode cX11_sign 24 = .ok (.invokeinterface 30 2, 5) := by decide +kernel
theorem dX11_sign_29 : decode cX11_sign 29 = .ok (.iload_n 1, 1) := dk_27 (dk_at dksX11_sign_1 5 rfl rfl)
theorem dX11_sign_30 : decode cX11_sign 30 = .ok (.if_icmp .eq 15, 3) := dk_159 0 15 (dk_at dksX11_sign_1 6 rfl rfl)
theorem dX11_sign_33 : decode cX11_sign 33 = .ok (.new 40, 3) := dk_187 0 40 (dk_at dksX11_sign_1 9 rfl rfl)
theorem dX11_sign_36 : decode cX11_sign 36 = .ok (.dup, 1) := dk_89 (dk_at dksX11_sign_1 12 rfl rfl)
theorem dX11_sign_37 : decode cX11_sign 37 = .ok (.aload_n 0, 1) := dk_42 (dk_at dksX11_sign_1 13 rfl rfl)
theorem dX11_sign_38 : decode cX11_sign 38 = .ok (.getfield 20, 3) := dk_180 0 20 (dk_at dksX11_sign_1 14 rfl rfl)
theorem dX11_sign_41 : decode cX11_sign 41 = .ok (.invokespecial 42, 3) := dk_183 0 42 (dk_at dksX11_sign_1 17 rfl rfl)
theorem dX11_sign_44 : decode cX11_sign 44 = .ok (.athrow, 1) := dk_191 (dk_at dksX11_sign_1 20 rfl rfl)
theorem dX11_sign_45 : decode cX11_sign 45 = .ok (.aload_n 0, 1) := dk_42 (dk_at dksX11_sign_1 21 rfl rfl)
theorem dX11_sign_46 : decode cX11_sign 46 = .ok (.dup, 1) := dk_89 (dk_at dksX11_sign_1 22 rfl rfl)
theorem dX11_sign_47 : decode cX11_sign 47 = .ok (.getfield 20, 3) := dk_180 0 20 (dk_at dksX11_sign_2 0 rfl rfl)
theorem dX11_sign_50 : decode cX11_sign 50 = .ok (.iconst 1, 1) := dk_4 (dk_at dksX11_sign_2 3 rfl rfl)
theorem dX11_sign_51 : decode cX11_sign 51 = .ok (.iadd, 1) := dk_96 (dk_at dksX11_sign_2 4 rfl rfl)
theorem dX11_sign_52 : decode cX11_sign 52 = .ok (.putfield 20, 3) := dk_181 0 20 (dk_at dksX11_sign_2 5 rfl rfl)
theorem dX11_sign_55 : decode cX11_sign 55 = .ok (.return_, 1) := dk_177 (dk_at dksX11_sign_2 8 rfl rfl)
abbrev cX11_entry : ByteArray := prog_10_method_5_code
def yX11_entry : MethodName := ⟨RX11, "entry", "()V"⟩
def dkwX11_entry_2 : List UInt8 := [177]
abbrev dktX11_entry_2 : List UInt8 := dkwX11_entry_2 ++ []
def dkwX11_entry_1 : List UInt8 := [42, 180, 0, 10, 187, 0, 57, 89, 27, 28, 42, 7, 182, 0, 49, 183, 0, 59, 185, 0, 62, 2, 0, 87]
abbrev dktX11_entry_1 : List UInt8 := dkwX11_entry_1 ++ dktX11_entry_2
def dkwX11_entry_0 : List UInt8 := [42, 6, 182, 0, 49, 60, 42, 16, 120, 182, 0, 53, 42, 6, 182, 0, 49, 61, 42, 16, 64, 182, 0, 53]
abbrev dktX11_entry_0 : List UInt8 := dkwX11_entry_0 ++ dktX11_entry_1
theorem dksX11_entry_0 : cX11_entry.data.toList.drop 0 = dktX11_entry_0 := by decide +kernel
theorem dksX11_entry_1 : cX11_entry.data.toList.drop 24 = dktX11_entry_1 := dk_seg dksX11_entry_0 24 rfl rfl
theorem dksX11_entry_2 : cX11_entry.data.toList.drop 48 = dktX11_entry_2 := dk_seg dksX11_entry_1 24 rfl rfl
theorem dX11_entry_0 : decode cX11_entry 0 = .ok (.aload_n 0, 1) := dk_42 (dk_at dksX11_entry_0 0 rfl rfl)
theorem dX11_entry_1 : decode cX11_entry 1 = .ok (.iconst 3, 1) := dk_6 (dk_at dksX11_entry_0 1 rfl rfl)
theorem dX11_entry_2 : decode cX11_entry 2 = .ok (.invokevirtual 49, 3) := dk_182 0 49 (dk_at dksX11_entry_0 2 rfl rfl)
theorem dX11_entry_5 : decode cX11_entry 5 = .ok (.istore_n 1, 1) := dk_60 (dk_at dksX11_entry_0 5 rfl rfl)
theorem dX11_entry_6 : decode cX11_entry 6 = .ok (.aload_n 0, 1) := dk_42 (dk_at dksX11_entry_0 6 rfl rfl)
theorem dX11_entry_7 : decode cX11_entry 7 = .ok (.bipush 120, 2) := dk_16 120 (dk_at dksX11_entry_0 7 rfl rfl)
theorem dX11_entry_9 : decode cX11_entry 9 = .ok (.invokevirtual 53, 3) := dk_182 0 53 (dk_at dksX11_entry_0 9 rfl rfl)
theorem dX11_entry_12 : decode cX11_entry 12 = .ok (.aload_n 0, 1) := dk_42 (dk_at dksX11_entry_0 12 rfl rfl)
theorem dX11_entry_13 : decode cX11_entry 13 = .ok (.iconst 3, 1) := dk_6 (dk_at dksX11_entry_0 13 rfl rfl)
theorem dX11_entry_14 : decode cX11_entry 14 = .ok (.invokevirtual 49, 3) := dk_182 0 49 (dk_at dksX11_entry_0 14 rfl rfl)
theorem dX11_entry_17 : decode cX11_entry 17 = .ok (.istore_n 2, 1) := dk_61 (dk_at dksX11_entry_0 17 rfl rfl)
theorem dX11_entry_18 : decode cX11_entry 18 = .ok (.aload_n 0, 1) := dk_42 (dk_at dksX11_entry_0 18 rfl rfl)
theorem dX11_entry_19 : decode cX11_entry 19 = .ok (.bipush 64, 2) := dk_16 64 (dk_at dksX11_entry_0 19 rfl rfl)
theorem dX11_entry_21 : decode cX11_entry 21 = .ok (.invokevirtual 53, 3) := dk_182 0 53 (dk_at dksX11_entry_0 21 rfl rfl)
theorem dX11_entry_24 : decode cX11_entry 24 = .ok (.aload_n 0, 1) := dk_42 (dk_at dksX11_entry_1 0 rfl rfl)
theorem dX11_entry_25 : decode cX11_entry 25 = .ok (.getfield 10, 3) := dk_180 0 10 (dk_at dksX11_entry_1 1 rfl rfl)
theorem dX11_entry_28 : decode cX11_entry 28 = .ok (.new 57, 3) := dk_187 0 57 (dk_at dksX11_entry_1 4 rfl rfl)
theorem dX11_entry_31 : decode cX11_entry 31 = .ok (.dup, 1) := dk_89 (dk_at dksX11_entry_1 7 rfl rfl)
theorem dX11_entry_32 : decode cX11_entry 32 = .ok (.iload_n 1, 1) := dk_27 (dk_at dksX11_entry_1 8 rfl rfl)
theorem dX11_entry_33 : decode cX11_entry 33 = .ok (.iload_n 2, 1) := dk_28 (dk_at dksX11_entry_1 9 rfl rfl)
theorem dX11_entry_34 : decode cX11_entry 34 = .ok (.aload_n 0, 1) := dk_42 (dk_at dksX11_entry_1 10 rfl rfl)
theorem dX11_entry_35 : decode cX11_entry 35 = .ok (.iconst 4, 1) := dk_7 (dk_at dksX11_entry_1 11 rfl rfl)
theorem dX11_entry_36 : decode cX11_entry 36 = .ok (.invokevirtual 49, 3) := dk_182 0 49 (dk_at dksX11_entry_1 12 rfl rfl)
theorem dX11_entry_39 : decode cX11_entry 39 = .ok (.invokespecial 59, 3) := dk_183 0 59 (dk_at dksX11_entry_1 15 rfl rfl)
theorem dX11_entry_42 : decode cX11_entry 42 = .ok (.invokeinterface 62 2, 5) := by decide +kernel
theorem dX11_entry_47 : decode cX11_entry 47 = .ok (.pop, 1) := dk_87 (dk_at dksX11_entry_1 23 rfl rfl)
theorem dX11_entry_48 : decode cX11_entry 48 = .ok (.return_, 1) := dk_177 (dk_at dksX11_entry_2 0 rfl rfl)
abbrev cX11_row : ByteArray := prog_10_method_7_code
def yX11_row : MethodName := ⟨RX11, "row", "()[LPayMatch$Entry;"⟩
def dkwX11_row_1 : List UInt8 := [180, 0, 10, 28, 185, 0, 80, 2, 0, 192, 0, 57, 83, 132, 2, 1, 167, 255, 231, 43, 176]
abbrev dktX11_row_1 : List UInt8 := dkwX11_row_1 ++ []
def dkwX11_row_0 : List UInt8 := [42, 180, 0, 10, 185, 0, 77, 1, 0, 189, 0, 57, 76, 3, 61, 28, 43, 190, 162, 0, 25, 43, 28, 42]
abbrev dktX11_row_0 : List UInt8 := dkwX11_row_0 ++ dktX11_row_1
theorem dksX11_row_0 : cX11_row.data.toList.drop 0 = dktX11_row_0 := by decide +kernel
theorem dksX11_row_1 : cX11_row.data.toList.drop 24 = dktX11_row_1 := dk_seg dksX11_row_0 24 rfl rfl
theorem dX11_row_0 : decode cX11_row 0 = .ok (.aload_n 0, 1) := dk_42 (dk_at dksX11_row_0 0 rfl rfl)
theorem dX11_row_1 : decode cX11_row 1 = .ok (.getfield 10, 3) := dk_180 0 10 (dk_at dksX11_row_0 1 rfl rfl)
theorem dX11_row_4 : decode cX11_row 4 = .ok (.invokeinterface 77 1, 5) := by decide +kernel
theorem dX11_row_9 : decode cX11_row 9 = .ok (.anewarray 57, 3) := dk_189 0 57 (dk_at dksX11_row_0 9 rfl rfl)
theorem dX11_row_12 : decode cX11_row 12 = .ok (.astore_n 1, 1) := dk_76 (dk_at dksX11_row_0 12 rfl rfl)
theorem dX11_row_13 : decode cX11_row 13 = .ok (.iconst 0, 1) := dk_3 (dk_at dksX11_row_0 13 rfl rfl)
theorem dX11_row_14 : decode cX11_row 14 = .ok (.istore_n 2, 1) := dk_61 (dk_at dksX11_row_0 14 rfl rfl)
theorem dX11_row_15 : decode cX11_row 15 = .ok (.iload_n 2, 1) := dk_28 (dk_at dksX11_row_0 15 rfl rfl)
theorem dX11_row_16 : decode cX11_row 16 = .ok (.aload_n 1, 1) := dk_43 (dk_at dksX11_row_0 16 rfl rfl)
theorem dX11_row_17 : decode cX11_row 17 = .ok (.arraylength, 1) := dk_190 (dk_at dksX11_row_0 17 rfl rfl)
theorem dX11_row_18 : decode cX11_row 18 = .ok (.if_icmp .ge 25, 3) := dk_162 0 25 (dk_at dksX11_row_0 18 rfl rfl)
theorem dX11_row_21 : decode cX11_row 21 = .ok (.aload_n 1, 1) := dk_43 (dk_at dksX11_row_0 21 rfl rfl)
theorem dX11_row_22 : decode cX11_row 22 = .ok (.iload_n 2, 1) := dk_28 (dk_at dksX11_row_0 22 rfl rfl)
theorem dX11_row_23 : decode cX11_row 23 = .ok (.aload_n 0, 1) := dk_42 (dk_at dksX11_row_0 23 rfl rfl)
theorem dX11_row_24 : decode cX11_row 24 = .ok (.getfield 10, 3) := dk_180 0 10 (dk_at dksX11_row_1 0 rfl rfl)
theorem dX11_row_27 : decode cX11_row 27 = .ok (.iload_n 2, 1) := dk_28 (dk_at dksX11_row_1 3 rfl rfl)
theorem dX11_row_28 : decode cX11_row 28 = .ok (.invokeinterface 80 2, 5) := by decide +kernel
theorem dX11_row_33 : decode cX11_row 33 = .ok (.checkcast 57, 3) := dk_192 0 57 (dk_at dksX11_row_1 9 rfl rfl)
theorem dX11_row_36 : decode cX11_row 36 = .ok (.aastore, 1) := dk_83 (dk_at dksX11_row_1 12 rfl rfl)
theorem dX11_row_37 : decode cX11_row 37 = .ok (.iinc 2 1, 3) := dk_132 2 1 (dk_at dksX11_row_1 13 rfl rfl)
theorem dX11_row_40 : decode cX11_row 40 = .ok (.goto (-25), 3) := dk_167 255 231 (dk_at dksX11_row_1 16 rfl rfl)
theorem dX11_row_43 : decode cX11_row 43 = .ok (.aload_n 1, 1) := dk_43 (dk_at dksX11_row_1 19 rfl rfl)
theorem dX11_row_44 : decode cX11_row 44 = .ok (.areturn, 1) := dk_176 (dk_at dksX11_row_1 20 rfl rfl)
theorem q114 : (Jvm.Cond.initialized "PayMatch$Reader") ∈ lw_all := lw_g (lw_at lw_m1 41 rfl) rfl
theorem q587 : (Jvm.Cond.selects "PayMatch$Reader" ({ cls := "java/lang/Object", name := "getClass", desc := "()Ljava/lang/Class;" } : Jvm.MethodName) ({ cls := "java/lang/Object", name := "getClass", desc := "()Ljava/lang/Class;" } : Jvm.MethodName)) ∈ lw_all := lw_g (lw_at lw_m3 34 rfl) rfl
theorem q1557 : (Jvm.Cond.instantiable "PayMatch$Reader" (5 : Nat)) ∈ lw_all := lw_g (lw_at lw_m7 44 rfl) rfl
theorem q1559 : (Jvm.Cond.instanceMethod ({ cls := "PayMatch$Reader", name := "<init>", desc := "(Ljava/lang/CharSequence;)V" } : Jvm.MethodName)) ∈ lw_all := lw_g (lw_at lw_m7 46 rfl) rfl
theorem q1560 : (Jvm.Cond.code ({ cls := "PayMatch$Reader", name := "<init>", desc := "(Ljava/lang/CharSequence;)V" } : Jvm.MethodName) prog_10_method_1_code (2 : Nat) (Option.none : Option Jvm.ClassFile.FieldType)) ∈ lw_all := lw_g (lw_at lw_m7 47 rfl) rfl
theorem q1561 : (Jvm.Cond.methodLink "PayMatch$Reader" (1 : Nat) ({ cls := "java/lang/Object", name := "<init>", desc := "()V" } : Jvm.MethodName)) ∈ lw_all := lw_g (lw_at lw_m7 48 rfl) rfl
theorem q1562 : (Jvm.Cond.classLink "PayMatch$Reader" (7 : Nat) "java/util/ArrayList") ∈ lw_all := lw_g (lw_at lw_m7 49 rfl) rfl
theorem q1563 : (Jvm.Cond.methodLink "PayMatch$Reader" (9 : Nat) ({ cls := "java/util/ArrayList", name := "<init>", desc := "()V" } : Jvm.MethodName)) ∈ lw_all := lw_g (lw_at lw_m7 50 rfl) rfl
theorem q1564 : (Jvm.Cond.fieldLink "PayMatch$Reader" (16 : Nat) "PayMatch$Reader" "text" "Ljava/lang/CharSequence;") ∈ lw_all := lw_g (lw_at lw_m7 51 rfl) rfl
theorem q1565 : (Jvm.Cond.fieldLink "PayMatch$Reader" (10 : Nat) "PayMatch$Reader" "entries" "Ljava/util/List;") ∈ lw_all := lw_g (lw_at lw_m7 52 rfl) rfl
theorem q1566 : (Jvm.Cond.fieldLink "PayMatch$Reader" (68 : Nat) "PayMatch$Reader" "reference" "I") ∈ lw_all := lw_g (lw_at lw_m7 53 rfl) rfl
theorem q1568 : (Jvm.Cond.fieldLink "PayMatch$Reader" (71 : Nat) "PayMatch$Reader" "order" "I") ∈ lw_all := lw_g (lw_at lw_m7 55 rfl) rfl
theorem q1570 : (Jvm.Cond.fieldLink "PayMatch$Reader" (20 : Nat) "PayMatch$Reader" "place" "I") ∈ lw_all := lw_g (lw_at lw_m7 57 rfl) rfl
theorem q1571 : (Jvm.Cond.laysFinal "PayMatch$Reader" "PayMatch$Reader" "text" "Ljava/lang/CharSequence;") ∈ lw_all := lw_g (lw_at lw_m7 58 rfl) rfl
theorem q1572 : (Jvm.Cond.soleField "PayMatch$Reader" "text") ∈ lw_all := lw_g (lw_at lw_m7 59 rfl) rfl
theorem q1573 : (Jvm.Cond.laysFinal "PayMatch$Reader" "PayMatch$Reader" "entries" "Ljava/util/List;") ∈ lw_all := lw_g (lw_at lw_m7 60 rfl) rfl
theorem q1574 : (Jvm.Cond.soleField "PayMatch$Reader" "entries") ∈ lw_all := lw_g (lw_at lw_m7 61 rfl) rfl
theorem q1575 : (Jvm.Cond.lays "PayMatch$Reader" "PayMatch$Reader" "reference" "I") ∈ lw_all := lw_g (lw_at lw_m7 62 rfl) rfl
theorem q1576 : (Jvm.Cond.soleField "PayMatch$Reader" "reference") ∈ lw_all := lw_g (lw_at lw_m7 63 rfl) rfl
theorem q1577 : (Jvm.Cond.lays "PayMatch$Reader" "PayMatch$Reader" "order" "I") ∈ lw_all := lw_g (lw_at lw_m7 64 rfl) rfl
theorem q1578 : (Jvm.Cond.soleField "PayMatch$Reader" "order") ∈ lw_all := lw_g (lw_at lw_m7 65 rfl) rfl
theorem q1579 : (Jvm.Cond.lays "PayMatch$Reader" "PayMatch$Reader" "place" "I") ∈ lw_all := lw_g (lw_at lw_m7 66 rfl) rfl
theorem q1580 : (Jvm.Cond.soleField "PayMatch$Reader" "place") ∈ lw_all := lw_g (lw_at lw_m7 67 rfl) rfl
theorem q1581 : (Jvm.Cond.superclass "PayMatch$Reader" "java/lang/Object") ∈ lw_all := lw_g (lw_at lw_m7 68 rfl) rfl
theorem q1583 : (Jvm.Cond.instanceMethod ({ cls := "PayMatch$Reader", name := "read", desc := "()V" } : Jvm.MethodName)) ∈ lw_all := lw_g (lw_at lw_m7 70 rfl) rfl
theorem q1584 : (Jvm.Cond.selects "PayMatch$Reader" ({ cls := "PayMatch$Reader", name := "read", desc := "()V" } : Jvm.MethodName) ({ cls := "PayMatch$Reader", name := "read", desc := "()V" } : Jvm.MethodName)) ∈ lw_all := lw_g (lw_at lw_m7 71 rfl) rfl
theorem q1585 : (Jvm.Cond.code ({ cls := "PayMatch$Reader", name := "read", desc := "()V" } : Jvm.MethodName) prog_10_method_6_code (1 : Nat) (Option.none : Option Jvm.ClassFile.FieldType)) ∈ lw_all := lw_g (lw_at lw_m7 72 rfl) rfl
theorem q1586 : (Jvm.Cond.methodLink "PayMatch$Reader" (49 : Nat) ({ cls := "PayMatch$Reader", name := "number", desc := "(I)I" } : Jvm.MethodName)) ∈ lw_all := lw_g (lw_at lw_m7 73 rfl) rfl
theorem q1587 : (Jvm.Cond.privateMethod ({ cls := "PayMatch$Reader", name := "number", desc := "(I)I" } : Jvm.MethodName)) ∈ lw_tbl := lw_at lw_m7 74 rfl
theorem q1588 : (Jvm.Cond.instanceMethod ({ cls := "PayMatch$Reader", name := "number", desc := "(I)I" } : Jvm.MethodName)) ∈ lw_all := lw_g (lw_at lw_m7 75 rfl) rfl
theorem q1589 : (Jvm.Cond.code ({ cls := "PayMatch$Reader", name := "number", desc := "(I)I" } : Jvm.MethodName) prog_10_method_4_code (4 : Nat) (Option.some Jvm.ClassFile.FieldType.int)) ∈ lw_all := lw_g (lw_at lw_m7 76 rfl) rfl
theorem q1590 : (Jvm.Cond.methodLink "PayMatch$Reader" (45 : Nat) ({ cls := "PayMatch$Reader", name := "seesFigure", desc := "()Z" } : Jvm.MethodName)) ∈ lw_all := lw_g (lw_at lw_m7 77 rfl) rfl
theorem q1591 : (Jvm.Cond.privateMethod ({ cls := "PayMatch$Reader", name := "seesFigure", desc := "()Z" } : Jvm.MethodName)) ∈ lw_tbl := lw_at lw_m7 78 rfl
theorem q1592 : (Jvm.Cond.instanceMethod ({ cls := "PayMatch$Reader", name := "seesFigure", desc := "()Z" } : Jvm.MethodName)) ∈ lw_all := lw_g (lw_at lw_m7 79 rfl) rfl
theorem q1593 : (Jvm.Cond.code ({ cls := "PayMatch$Reader", name := "seesFigure", desc := "()Z" } : Jvm.MethodName) prog_10_method_2_code (1 : Nat) (Option.some Jvm.ClassFile.FieldType.boolean)) ∈ lw_all := lw_g (lw_at lw_m7 80 rfl) rfl
theorem q1594 : (Jvm.Cond.interfaceEntry "PayMatch$Reader" (24 : Nat)) ∈ lw_tbl := lw_at lw_m7 81 rfl
theorem q1595 : (Jvm.Cond.methodLink "PayMatch$Reader" (24 : Nat) ({ cls := "java/lang/CharSequence", name := "length", desc := "()I" } : Jvm.MethodName)) ∈ lw_all := lw_g (lw_at lw_m7 82 rfl) rfl
theorem q1606 : (Jvm.Cond.interfaceEntry "PayMatch$Reader" (30 : Nat)) ∈ lw_tbl := lw_at lw_m7 93 rfl
theorem q1607 : (Jvm.Cond.methodLink "PayMatch$Reader" (30 : Nat) ({ cls := "java/lang/CharSequence", name := "charAt", desc := "(I)C" } : Jvm.MethodName)) ∈ lw_all := lw_g (lw_at lw_m7 94 rfl) rfl
theorem q1644 : (Jvm.Cond.methodLinkNest "PayMatch$Reader" (34 : Nat) ({ cls := "PayMatch", name := "inRange", desc := "(III)Z" } : Jvm.MethodName) "PayMatch") ∈ lw_tbl := lw_at lw_m7 131 rfl
theorem q1645 : (Jvm.Cond.classLink "PayMatch$Reader" (40 : Nat) "PayMatch$Fault") ∈ lw_all := lw_g (lw_at lw_m7 132 rfl) rfl
theorem q1654 : (Jvm.Cond.methodLink "PayMatch$Reader" (42 : Nat) ({ cls := "PayMatch$Fault", name := "<init>", desc := "(I)V" } : Jvm.MethodName)) ∈ lw_all := lw_g (lw_at lw_m7 141 rfl) rfl
theorem q1667 : (Jvm.Cond.methodLink "PayMatch$Reader" (53 : Nat) ({ cls := "PayMatch$Reader", name := "sign", desc := "(C)V" } : Jvm.MethodName)) ∈ lw_all := lw_g (lw_at lw_m7 154 rfl) rfl
theorem q1668 : (Jvm.Cond.privateMethod ({ cls := "PayMatch$Reader", name := "sign", desc := "(C)V" } : Jvm.MethodName)) ∈ lw_tbl := lw_at lw_m7 155 rfl
theorem q1669 : (Jvm.Cond.instanceMethod ({ cls := "PayMatch$Reader", name := "sign", desc := "(C)V" } : Jvm.MethodName)) ∈ lw_all := lw_g (lw_at lw_m7 156 rfl) rfl
theorem q1670 : (Jvm.Cond.code ({ cls := "PayMatch$Reader", name := "sign", desc := "(C)V" } : Jvm.MethodName) prog_10_method_3_code (2 : Nat) (Option.none : Option Jvm.ClassFile.FieldType)) ∈ lw_all := lw_g (lw_at lw_m7 157 rfl) rfl
theorem q1671 : (Jvm.Cond.methodLink "PayMatch$Reader" (74 : Nat) ({ cls := "PayMatch$Reader", name := "entry", desc := "()V" } : Jvm.MethodName)) ∈ lw_all := lw_g (lw_at lw_m7 158 rfl) rfl
theorem q1672 : (Jvm.Cond.privateMethod ({ cls := "PayMatch$Reader", name := "entry", desc := "()V" } : Jvm.MethodName)) ∈ lw_tbl := lw_at lw_m7 159 rfl
theorem q1673 : (Jvm.Cond.instanceMethod ({ cls := "PayMatch$Reader", name := "entry", desc := "()V" } : Jvm.MethodName)) ∈ lw_all := lw_g (lw_at lw_m7 160 rfl) rfl
theorem q1674 : (Jvm.Cond.code ({ cls := "PayMatch$Reader", name := "entry", desc := "()V" } : Jvm.MethodName) prog_10_method_5_code (3 : Nat) (Option.none : Option Jvm.ClassFile.FieldType)) ∈ lw_all := lw_g (lw_at lw_m7 161 rfl) rfl
theorem q1675 : (Jvm.Cond.classLink "PayMatch$Reader" (57 : Nat) "PayMatch$Entry") ∈ lw_all := lw_g (lw_at lw_m7 162 rfl) rfl
theorem q1676 : (Jvm.Cond.methodLink "PayMatch$Reader" (59 : Nat) ({ cls := "PayMatch$Entry", name := "<init>", desc := "(III)V" } : Jvm.MethodName)) ∈ lw_all := lw_g (lw_at lw_m7 163 rfl) rfl
theorem q1677 : (Jvm.Cond.interfaceEntry "PayMatch$Reader" (62 : Nat)) ∈ lw_tbl := lw_at lw_m7 164 rfl
theorem q1678 : (Jvm.Cond.methodLink "PayMatch$Reader" (62 : Nat) ({ cls := "java/util/List", name := "add", desc := "(Ljava/lang/Object;)Z" } : Jvm.MethodName)) ∈ lw_all := lw_g (lw_at lw_m7 165 rfl) rfl
theorem q1680 : (Jvm.Cond.instanceMethod ({ cls := "PayMatch$Reader", name := "row", desc := "()[LPayMatch$Entry;" } : Jvm.MethodName)) ∈ lw_all := lw_g (lw_at lw_m7 167 rfl) rfl
theorem q1681 : (Jvm.Cond.selects "PayMatch$Reader" ({ cls := "PayMatch$Reader", name := "row", desc := "()[LPayMatch$Entry;" } : Jvm.MethodName) ({ cls := "PayMatch$Reader", name := "row", desc := "()[LPayMatch$Entry;" } : Jvm.MethodName)) ∈ lw_all := lw_g (lw_at lw_m7 168 rfl) rfl
theorem q1682 : (Jvm.Cond.code ({ cls := "PayMatch$Reader", name := "row", desc := "()[LPayMatch$Entry;" } : Jvm.MethodName) prog_10_method_7_code (3 : Nat) (Option.some (Jvm.ClassFile.FieldType.array (Jvm.ClassFile.FieldType.object "PayMatch$Entry")))) ∈ lw_all := lw_g (lw_at lw_m7 169 rfl) rfl
theorem q1683 : (Jvm.Cond.interfaceEntry "PayMatch$Reader" (77 : Nat)) ∈ lw_tbl := lw_at lw_m7 170 rfl
theorem q1684 : (Jvm.Cond.methodLink "PayMatch$Reader" (77 : Nat) ({ cls := "java/util/List", name := "size", desc := "()I" } : Jvm.MethodName)) ∈ lw_all := lw_g (lw_at lw_m7 171 rfl) rfl
theorem q1685 : (Jvm.Cond.interfaceEntry "PayMatch$Reader" (80 : Nat)) ∈ lw_tbl := lw_at lw_m7 172 rfl
theorem q1686 : (Jvm.Cond.methodLink "PayMatch$Reader" (80 : Nat) ({ cls := "java/util/List", name := "get", desc := "(I)Ljava/lang/Object;" } : Jvm.MethodName)) ∈ lw_all := lw_g (lw_at lw_m7 173 rfl) rfl
theorem q2406 : (Jvm.Cond.castable "PayMatch$Reader" "java/lang/Object") ∈ lw_tbl := lw_at lw_m10 173 rfl
theorem in_X11 : ∀ w ∈ wsX110, w ∈ lw_all := lw_in wsX110 [1571, 1573, 1575, 1577, 1579] (by decide +kernel) (by decide +kernel)
/-! PayMatch$Fault -/
set_option maxRecDepth 100000
def RX12 : String := "PayMatch$Fault"
def TX12 : u_T := fun k => match k with
  | 0 => ("java/lang/Throwable", "cause", "Ljava/lang/Throwable;", false)
  | 1 => ("java/lang/Throwable", "stackTrace", "[Ljava/lang/StackTraceElement;", false)
  | 2 => ("java/lang/Throwable", "suppressedExceptions", "Ljava/util/List;", false)
  | 3 => ("java/lang/Throwable", "detailMessage", "Ljava/lang/String;", false)
  | 4 => ("java/lang/Throwable", "backtrace", "Ljava/lang/Object;", false)
  | 5 => ("java/lang/Throwable", "depth", "I", false)
  | _ => ("PayMatch$Fault", "place", "I", true)
def tyX12 : Nat → FieldType := fun k => match k with
  | 0 => .object "java/lang/Throwable"
  | 1 => .array (.object "java/lang/StackTraceElement")
  | 2 => .object "java/util/List"
  | 3 => .object "java/lang/String"
  | 4 => .object "java/lang/Object"
  | 5 => .int
  | _ => .int
abbrev wsX120 : List Cond := u_ws RX12 TX12 7
theorem nmX12 : ∀ a, a < 7 → ∀ b, b < 7 → a ≠ b → (TX12 a).2.1 ≠ (TX12 b).2.1 := by decide +kernel
theorem tyX12_ok : ∀ k, k < 7 → parseFieldDescriptor (TX12 k).2.2.1 = some (tyX12 k) := by decide +kernel
abbrev cX12_init : ByteArray := prog_5_method_1_code
def yX12_init : MethodName := ⟨RX12, "<init>", "(I)V"⟩
def dkwX12_init_0 : List UInt8 := [42, 183, 0, 1, 42, 27, 181, 0, 7, 177]
abbrev dktX12_init_0 : List UInt8 := dkwX12_init_0 ++ []
theorem dksX12_init_0 : cX12_init.data.toList.drop 0 = dktX12_init_0 := by decide +kernel
theorem dX12_init_0 : decode cX12_init 0 = .ok (.aload_n 0, 1) := dk_42 (dk_at dksX12_init_0 0 rfl rfl)
theorem dX12_init_1 : decode cX12_init 1 = .ok (.invokespecial 1, 3) := dk_183 0 1 (dk_at dksX12_init_0 1 rfl rfl)
theorem dX12_init_4 : decode cX12_init 4 = .ok (.aload_n 0, 1) := dk_42 (dk_at dksX12_init_0 4 rfl rfl)
theorem dX12_init_5 : decode cX12_init 5 = .ok (.iload_n 1, 1) := dk_27 (dk_at dksX12_init_0 5 rfl rfl)
theorem dX12_init_6 : decode cX12_init 6 = .ok (.putfield 7, 3) := dk_181 0 7 (dk_at dksX12_init_0 6 rfl rfl)
theorem dX12_init_9 : decode cX12_init 9 = .ok (.return_, 1) := dk_177 (dk_at dksX12_init_0 9 rfl rfl)
theorem q115 : (Jvm.Cond.initialized "PayMatch$Fault") ∈ lw_all := lw_g (lw_at lw_m1 42 rfl) rfl
theorem q549 : (Jvm.Cond.selects "PayMatch$Fault" ({ cls := "java/lang/Throwable", name := "fillInStackTrace", desc := "()Ljava/lang/Throwable;" } : Jvm.MethodName) ({ cls := "java/lang/Throwable", name := "fillInStackTrace", desc := "()Ljava/lang/Throwable;" } : Jvm.MethodName)) ∈ lw_all := lw_g (lw_at lw_m2 236 rfl) rfl
theorem q572 : (Jvm.Cond.selects "PayMatch$Fault" ({ cls := "java/lang/Throwable", name := "toString", desc := "()Ljava/lang/String;" } : Jvm.MethodName) ({ cls := "java/lang/Throwable", name := "toString", desc := "()Ljava/lang/String;" } : Jvm.MethodName)) ∈ lw_all := lw_g (lw_at lw_m3 19 rfl) rfl
theorem q583 : (Jvm.Cond.selects "PayMatch$Fault" ({ cls := "java/lang/Object", name := "getClass", desc := "()Ljava/lang/Class;" } : Jvm.MethodName) ({ cls := "java/lang/Object", name := "getClass", desc := "()Ljava/lang/Class;" } : Jvm.MethodName)) ∈ lw_all := lw_g (lw_at lw_m3 30 rfl) rfl
theorem q608 : (Jvm.Cond.selects "PayMatch$Fault" ({ cls := "java/lang/Throwable", name := "getLocalizedMessage", desc := "()Ljava/lang/String;" } : Jvm.MethodName) ({ cls := "java/lang/Throwable", name := "getLocalizedMessage", desc := "()Ljava/lang/String;" } : Jvm.MethodName)) ∈ lw_all := lw_g (lw_at lw_m3 55 rfl) rfl
theorem q615 : (Jvm.Cond.selects "PayMatch$Fault" ({ cls := "java/lang/Throwable", name := "getMessage", desc := "()Ljava/lang/String;" } : Jvm.MethodName) ({ cls := "java/lang/Throwable", name := "getMessage", desc := "()Ljava/lang/String;" } : Jvm.MethodName)) ∈ lw_all := lw_g (lw_at lw_m3 62 rfl) rfl
theorem q1646 : (Jvm.Cond.instantiable "PayMatch$Fault" (7 : Nat)) ∈ lw_all := lw_g (lw_at lw_m7 133 rfl) rfl
theorem q1647 : (Jvm.Cond.castable "PayMatch$Fault" "PayMatch$Fault") ∈ lw_tbl := lw_at lw_m7 134 rfl
theorem q1648 : (Jvm.Cond.selects "PayMatch$Fault" ({ cls := "java/lang/Throwable", name := "fillInStackTrace", desc := "(I)Ljava/lang/Throwable;" } : Jvm.MethodName) ({ cls := "java/lang/Throwable", name := "fillInStackTrace", desc := "(I)Ljava/lang/Throwable;" } : Jvm.MethodName)) ∈ lw_all := lw_g (lw_at lw_m7 135 rfl) rfl
theorem q1649 : (Jvm.Cond.lays "PayMatch$Fault" "java/lang/Throwable" "cause" "Ljava/lang/Throwable;") ∈ lw_all := lw_g (lw_at lw_m7 136 rfl) rfl
theorem q1650 : (Jvm.Cond.lays "PayMatch$Fault" "java/lang/Throwable" "stackTrace" "[Ljava/lang/StackTraceElement;") ∈ lw_all := lw_g (lw_at lw_m7 137 rfl) rfl
theorem q1651 : (Jvm.Cond.lays "PayMatch$Fault" "java/lang/Throwable" "suppressedExceptions" "Ljava/util/List;") ∈ lw_all := lw_g (lw_at lw_m7 138 rfl) rfl
theorem q1652 : (Jvm.Cond.lays "PayMatch$Fault" "java/lang/Throwable" "detailMessage" "Ljava/lang/String;") ∈ lw_all := lw_g (lw_at lw_m7 139 rfl) rfl
theorem q1653 : (Jvm.Cond.lays "PayMatch$Fault" "java/lang/Throwable" "backtrace" "Ljava/lang/Object;") ∈ lw_all := lw_g (lw_at lw_m7 140 rfl) rfl
theorem q1655 : (Jvm.Cond.instanceMethod ({ cls := "PayMatch$Fault", name := "<init>", desc := "(I)V" } : Jvm.MethodName)) ∈ lw_all := lw_g (lw_at lw_m7 142 rfl) rfl
theorem q1656 : (Jvm.Cond.code ({ cls := "PayMatch$Fault", name := "<init>", desc := "(I)V" } : Jvm.MethodName) prog_5_method_1_code (2 : Nat) (Option.none : Option Jvm.ClassFile.FieldType)) ∈ lw_all := lw_g (lw_at lw_m7 143 rfl) rfl
theorem q1657 : (Jvm.Cond.methodLink "PayMatch$Fault" (1 : Nat) ({ cls := "java/lang/Exception", name := "<init>", desc := "()V" } : Jvm.MethodName)) ∈ lw_all := lw_g (lw_at lw_m7 144 rfl) rfl
theorem q1661 : (Jvm.Cond.fieldLink "PayMatch$Fault" (7 : Nat) "PayMatch$Fault" "place" "I") ∈ lw_all := lw_g (lw_at lw_m7 148 rfl) rfl
theorem q1663 : (Jvm.Cond.laysFinal "PayMatch$Fault" "PayMatch$Fault" "place" "I") ∈ lw_all := lw_g (lw_at lw_m7 150 rfl) rfl
theorem q1664 : (Jvm.Cond.soleField "PayMatch$Fault" "place") ∈ lw_all := lw_g (lw_at lw_m7 151 rfl) rfl
theorem q1665 : (Jvm.Cond.lays "PayMatch$Fault" "java/lang/Throwable" "depth" "I") ∈ lw_all := lw_g (lw_at lw_m7 152 rfl) rfl
theorem q1666 : (Jvm.Cond.superclass "PayMatch$Fault" "java/lang/Exception") ∈ lw_all := lw_g (lw_at lw_m7 153 rfl) rfl
theorem q2407 : (Jvm.Cond.castable "PayMatch$Fault" "java/lang/Object") ∈ lw_tbl := lw_at lw_m10 174 rfl
theorem in_X12 : ∀ w ∈ wsX120, w ∈ lw_all := lw_in wsX120 [1649, 1650, 1651, 1652, 1653, 1665, 1663] (by decide +kernel) (by decide +kernel)
