/-! SecondChances$Person -/
set_option maxRecDepth 100000
def RX1 : String := "SecondChances$Person"
def TX1 : u_T := fun k => match k with
  | _ => ("SecondChances$Person", "facts", "[I", true)
def tyX1 : Nat → FieldType := fun k => match k with
  | _ => .array .int
abbrev wsX10 : List Cond := u_ws RX1 TX1 1
theorem nmX1 : ∀ a, a < 1 → ∀ b, b < 1 → a ≠ b → (TX1 a).2.1 ≠ (TX1 b).2.1 := by decide +kernel
theorem tyX1_ok : ∀ k, k < 1 → parseFieldDescriptor (TX1 k).2.2.1 = some (tyX1 k) := by decide +kernel
abbrev cX1_init : ByteArray := prog_4_method_1_code
def yX1_init : MethodName := ⟨RX1, "<init>", "()V"⟩
def dkwX1_init_1 : List UInt8 := [16, 16, 79, 181, 0, 9, 177]
abbrev dktX1_init_1 : List UInt8 := dkwX1_init_1 ++ []
def dkwX1_init_0 : List UInt8 := [42, 183, 0, 3, 42, 7, 188, 10, 89, 3, 3, 79, 89, 4, 16, 8, 79, 89, 5, 4, 79, 89, 6]
abbrev dktX1_init_0 : List UInt8 := dkwX1_init_0 ++ dktX1_init_1
theorem dksX1_init_0 : cX1_init.data.toList.drop 0 = dktX1_init_0 := by decide +kernel
theorem dksX1_init_1 : cX1_init.data.toList.drop 23 = dktX1_init_1 := dk_seg dksX1_init_0 23 rfl rfl
theorem dX1_init_0 : decode cX1_init 0 = .ok (.aload_n 0, 1) := dk_42 (dk_at dksX1_init_0 0 rfl rfl)
theorem dX1_init_1 : decode cX1_init 1 = .ok (.invokespecial 3, 3) := dk_183 0 3 (dk_at dksX1_init_0 1 rfl rfl)
theorem dX1_init_4 : decode cX1_init 4 = .ok (.aload_n 0, 1) := dk_42 (dk_at dksX1_init_0 4 rfl rfl)
theorem dX1_init_5 : decode cX1_init 5 = .ok (.iconst 4, 1) := dk_7 (dk_at dksX1_init_0 5 rfl rfl)
theorem dX1_init_6 : decode cX1_init 6 = .ok (.newarray .int, 2) := dk_188_10 (dk_at dksX1_init_0 6 rfl rfl)
theorem dX1_init_8 : decode cX1_init 8 = .ok (.dup, 1) := dk_89 (dk_at dksX1_init_0 8 rfl rfl)
theorem dX1_init_9 : decode cX1_init 9 = .ok (.iconst 0, 1) := dk_3 (dk_at dksX1_init_0 9 rfl rfl)
theorem dX1_init_10 : decode cX1_init 10 = .ok (.iconst 0, 1) := dk_3 (dk_at dksX1_init_0 10 rfl rfl)
theorem dX1_init_11 : decode cX1_init 11 = .ok (.iastore, 1) := dk_79 (dk_at dksX1_init_0 11 rfl rfl)
theorem dX1_init_12 : decode cX1_init 12 = .ok (.dup, 1) := dk_89 (dk_at dksX1_init_0 12 rfl rfl)
theorem dX1_init_13 : decode cX1_init 13 = .ok (.iconst 1, 1) := dk_4 (dk_at dksX1_init_0 13 rfl rfl)
theorem dX1_init_14 : decode cX1_init 14 = .ok (.bipush 8, 2) := dk_16 8 (dk_at dksX1_init_0 14 rfl rfl)
theorem dX1_init_16 : decode cX1_init 16 = .ok (.iastore, 1) := dk_79 (dk_at dksX1_init_0 16 rfl rfl)
theorem dX1_init_17 : decode cX1_init 17 = .ok (.dup, 1) := dk_89 (dk_at dksX1_init_0 17 rfl rfl)
theorem dX1_init_18 : decode cX1_init 18 = .ok (.iconst 2, 1) := dk_5 (dk_at dksX1_init_0 18 rfl rfl)
theorem dX1_init_19 : decode cX1_init 19 = .ok (.iconst 1, 1) := dk_4 (dk_at dksX1_init_0 19 rfl rfl)
theorem dX1_init_20 : decode cX1_init 20 = .ok (.iastore, 1) := dk_79 (dk_at dksX1_init_0 20 rfl rfl)
theorem dX1_init_21 : decode cX1_init 21 = .ok (.dup, 1) := dk_89 (dk_at dksX1_init_0 21 rfl rfl)
theorem dX1_init_22 : decode cX1_init 22 = .ok (.iconst 3, 1) := dk_6 (dk_at dksX1_init_0 22 rfl rfl)
theorem dX1_init_23 : decode cX1_init 23 = .ok (.bipush 16, 2) := dk_16 16 (dk_at dksX1_init_1 0 rfl rfl)
theorem dX1_init_25 : decode cX1_init 25 = .ok (.iastore, 1) := dk_79 (dk_at dksX1_init_1 2 rfl rfl)
theorem dX1_init_26 : decode cX1_init 26 = .ok (.putfield 9, 3) := dk_181 0 9 (dk_at dksX1_init_1 3 rfl rfl)
theorem dX1_init_29 : decode cX1_init 29 = .ok (.return_, 1) := dk_177 (dk_at dksX1_init_1 6 rfl rfl)
abbrev cX1_comes : ByteArray := prog_4_method_2_code
def yX1_comes : MethodName := ⟨RX1, "comes", "(I)Z"⟩
def dkwX1_comes_1 : List UInt8 := [3, 172]
abbrev dktX1_comes_1 : List UInt8 := dkwX1_comes_1 ++ []
def dkwX1_comes_0 : List UInt8 := [27, 42, 180, 0, 9, 3, 46, 161, 0, 17, 27, 42, 180, 0, 9, 4, 46, 162, 0, 7, 4, 167, 0, 4]
abbrev dktX1_comes_0 : List UInt8 := dkwX1_comes_0 ++ dktX1_comes_1
theorem dksX1_comes_0 : cX1_comes.data.toList.drop 0 = dktX1_comes_0 := by decide +kernel
theorem dksX1_comes_1 : cX1_comes.data.toList.drop 24 = dktX1_comes_1 := dk_seg dksX1_comes_0 24 rfl rfl
theorem dX1_comes_0 : decode cX1_comes 0 = .ok (.iload_n 1, 1) := dk_27 (dk_at dksX1_comes_0 0 rfl rfl)
theorem dX1_comes_1 : decode cX1_comes 1 = .ok (.aload_n 0, 1) := dk_42 (dk_at dksX1_comes_0 1 rfl rfl)
theorem dX1_comes_2 : decode cX1_comes 2 = .ok (.getfield 9, 3) := dk_180 0 9 (dk_at dksX1_comes_0 2 rfl rfl)
theorem dX1_comes_5 : decode cX1_comes 5 = .ok (.iconst 0, 1) := dk_3 (dk_at dksX1_comes_0 5 rfl rfl)
theorem dX1_comes_6 : decode cX1_comes 6 = .ok (.iaload, 1) := dk_46 (dk_at dksX1_comes_0 6 rfl rfl)
theorem dX1_comes_7 : decode cX1_comes 7 = .ok (.if_icmp .lt 17, 3) := dk_161 0 17 (dk_at dksX1_comes_0 7 rfl rfl)
theorem dX1_comes_10 : decode cX1_comes 10 = .ok (.iload_n 1, 1) := dk_27 (dk_at dksX1_comes_0 10 rfl rfl)
theorem dX1_comes_11 : decode cX1_comes 11 = .ok (.aload_n 0, 1) := dk_42 (dk_at dksX1_comes_0 11 rfl rfl)
theorem dX1_comes_12 : decode cX1_comes 12 = .ok (.getfield 9, 3) := dk_180 0 9 (dk_at dksX1_comes_0 12 rfl rfl)
theorem dX1_comes_15 : decode cX1_comes 15 = .ok (.iconst 1, 1) := dk_4 (dk_at dksX1_comes_0 15 rfl rfl)
theorem dX1_comes_16 : decode cX1_comes 16 = .ok (.iaload, 1) := dk_46 (dk_at dksX1_comes_0 16 rfl rfl)
theorem dX1_comes_17 : decode cX1_comes 17 = .ok (.if_icmp .ge 7, 3) := dk_162 0 7 (dk_at dksX1_comes_0 17 rfl rfl)
theorem dX1_comes_20 : decode cX1_comes 20 = .ok (.iconst 1, 1) := dk_4 (dk_at dksX1_comes_0 20 rfl rfl)
theorem dX1_comes_21 : decode cX1_comes 21 = .ok (.goto 4, 3) := dk_167 0 4 (dk_at dksX1_comes_0 21 rfl rfl)
theorem dX1_comes_24 : decode cX1_comes 24 = .ok (.iconst 0, 1) := dk_3 (dk_at dksX1_comes_1 0 rfl rfl)
theorem dX1_comes_25 : decode cX1_comes 25 = .ok (.ireturn, 1) := dk_172 (dk_at dksX1_comes_1 1 rfl rfl)
theorem q80 : (Jvm.Cond.initialized "SecondChances$Person") ∈ lw_all := lw_g (lw_at lw_m1 2 rfl) rfl
theorem q117 : (Jvm.Cond.instantiable "SecondChances$Person" (1 : Nat)) ∈ lw_all := lw_g (lw_at lw_m1 39 rfl) rfl
theorem q119 : (Jvm.Cond.instanceMethod ({ cls := "SecondChances$Person", name := "<init>", desc := "()V" } : Jvm.MethodName)) ∈ lw_all := lw_g (lw_at lw_m1 41 rfl) rfl
theorem q120 : (Jvm.Cond.code ({ cls := "SecondChances$Person", name := "<init>", desc := "()V" } : Jvm.MethodName) prog_4_method_1_code (1 : Nat) (Option.none : Option Jvm.ClassFile.FieldType)) ∈ lw_all := lw_g (lw_at lw_m1 42 rfl) rfl
theorem q121 : (Jvm.Cond.methodLink "SecondChances$Person" (3 : Nat) ({ cls := "java/lang/Object", name := "<init>", desc := "()V" } : Jvm.MethodName)) ∈ lw_all := lw_g (lw_at lw_m1 43 rfl) rfl
theorem q122 : (Jvm.Cond.fieldLink "SecondChances$Person" (9 : Nat) "SecondChances$Person" "facts" "[I") ∈ lw_all := lw_g (lw_at lw_m1 44 rfl) rfl
theorem q124 : (Jvm.Cond.laysFinal "SecondChances$Person" "SecondChances$Person" "facts" "[I") ∈ lw_all := lw_g (lw_at lw_m1 46 rfl) rfl
theorem q125 : (Jvm.Cond.soleField "SecondChances$Person" "facts") ∈ lw_all := lw_g (lw_at lw_m1 47 rfl) rfl
theorem q126 : (Jvm.Cond.superclass "SecondChances$Person" "java/lang/Object") ∈ lw_all := lw_g (lw_at lw_m1 48 rfl) rfl
theorem q587 : (Jvm.Cond.selects "SecondChances$Person" ({ cls := "java/lang/Object", name := "getClass", desc := "()Ljava/lang/Class;" } : Jvm.MethodName) ({ cls := "java/lang/Object", name := "getClass", desc := "()Ljava/lang/Class;" } : Jvm.MethodName)) ∈ lw_all := lw_g (lw_at lw_m3 29 rfl) rfl
theorem q700 : (Jvm.Cond.instanceMethod ({ cls := "SecondChances$Person", name := "comes", desc := "(I)Z" } : Jvm.MethodName)) ∈ lw_all := lw_g (lw_at lw_m3 142 rfl) rfl
theorem q701 : (Jvm.Cond.selects "SecondChances$Person" ({ cls := "SecondChances$Person", name := "comes", desc := "(I)Z" } : Jvm.MethodName) ({ cls := "SecondChances$Person", name := "comes", desc := "(I)Z" } : Jvm.MethodName)) ∈ lw_all := lw_g (lw_at lw_m3 143 rfl) rfl
theorem q702 : (Jvm.Cond.code ({ cls := "SecondChances$Person", name := "comes", desc := "(I)Z" } : Jvm.MethodName) prog_4_method_2_code (2 : Nat) (Option.some Jvm.ClassFile.FieldType.boolean)) ∈ lw_all := lw_g (lw_at lw_m3 144 rfl) rfl
theorem q1500 : (Jvm.Cond.castable "SecondChances$Person" "java/lang/Object") ∈ lw_tbl := lw_at lw_m6 222 rfl
theorem in_X1 : ∀ w ∈ wsX10, w ∈ lw_all := lw_in wsX10 [124] (by decide +kernel) (by decide +kernel)

/-! SecondChances$Text -/
set_option maxRecDepth 100000
def RX2 : String := "SecondChances$Text"
abbrev cX2_init : ByteArray := prog_8_method_1_code
def yX2_init : MethodName := ⟨RX2, "<init>", "(I)V"⟩
def dkwX2_init_0 : List UInt8 := [42, 183, 0, 3, 42, 27, 188, 10, 181, 0, 9, 177]
abbrev dktX2_init_0 : List UInt8 := dkwX2_init_0 ++ []
theorem dksX2_init_0 : cX2_init.data.toList.drop 0 = dktX2_init_0 := by decide +kernel
theorem dX2_init_0 : decode cX2_init 0 = .ok (.aload_n 0, 1) := dk_42 (dk_at dksX2_init_0 0 rfl rfl)
theorem dX2_init_1 : decode cX2_init 1 = .ok (.invokespecial 3, 3) := dk_183 0 3 (dk_at dksX2_init_0 1 rfl rfl)
theorem dX2_init_4 : decode cX2_init 4 = .ok (.aload_n 0, 1) := dk_42 (dk_at dksX2_init_0 4 rfl rfl)
theorem dX2_init_5 : decode cX2_init 5 = .ok (.iload_n 1, 1) := dk_27 (dk_at dksX2_init_0 5 rfl rfl)
theorem dX2_init_6 : decode cX2_init 6 = .ok (.newarray .int, 2) := dk_188_10 (dk_at dksX2_init_0 6 rfl rfl)
theorem dX2_init_8 : decode cX2_init 8 = .ok (.putfield 9, 3) := dk_181 0 9 (dk_at dksX2_init_0 8 rfl rfl)
theorem dX2_init_11 : decode cX2_init 11 = .ok (.return_, 1) := dk_177 (dk_at dksX2_init_0 11 rfl rfl)
abbrev cX2_type : ByteArray := prog_8_method_5_code
def yX2_type : MethodName := ⟨RX2, "type", "(I)I"⟩
def dkwX2_type_1 : List UInt8 := [79, 42, 89, 180, 0, 15, 4, 96, 181, 0, 15, 42, 3, 181, 0, 19, 42, 180, 0, 15, 172]
abbrev dktX2_type_1 : List UInt8 := dkwX2_type_1 ++ []
def dkwX2_type_0 : List UInt8 := [42, 180, 0, 15, 42, 180, 0, 9, 190, 160, 0, 6, 16, 252, 172, 42, 180, 0, 9, 42, 180, 0, 15, 27]
abbrev dktX2_type_0 : List UInt8 := dkwX2_type_0 ++ dktX2_type_1
theorem dksX2_type_0 : cX2_type.data.toList.drop 0 = dktX2_type_0 := by decide +kernel
theorem dksX2_type_1 : cX2_type.data.toList.drop 24 = dktX2_type_1 := dk_seg dksX2_type_0 24 rfl rfl
theorem dX2_type_0 : decode cX2_type 0 = .ok (.aload_n 0, 1) := dk_42 (dk_at dksX2_type_0 0 rfl rfl)
theorem dX2_type_1 : decode cX2_type 1 = .ok (.getfield 15, 3) := dk_180 0 15 (dk_at dksX2_type_0 1 rfl rfl)
theorem dX2_type_4 : decode cX2_type 4 = .ok (.aload_n 0, 1) := dk_42 (dk_at dksX2_type_0 4 rfl rfl)
theorem dX2_type_5 : decode cX2_type 5 = .ok (.getfield 9, 3) := dk_180 0 9 (dk_at dksX2_type_0 5 rfl rfl)
theorem dX2_type_8 : decode cX2_type 8 = .ok (.arraylength, 1) := dk_190 (dk_at dksX2_type_0 8 rfl rfl)
theorem dX2_type_9 : decode cX2_type 9 = .ok (.if_icmp .ne 6, 3) := dk_160 0 6 (dk_at dksX2_type_0 9 rfl rfl)
theorem dX2_type_12 : decode cX2_type 12 = .ok (.bipush (-4), 2) := dk_16 252 (dk_at dksX2_type_0 12 rfl rfl)
theorem dX2_type_14 : decode cX2_type 14 = .ok (.ireturn, 1) := dk_172 (dk_at dksX2_type_0 14 rfl rfl)
theorem dX2_type_15 : decode cX2_type 15 = .ok (.aload_n 0, 1) := dk_42 (dk_at dksX2_type_0 15 rfl rfl)
theorem dX2_type_16 : decode cX2_type 16 = .ok (.getfield 9, 3) := dk_180 0 9 (dk_at dksX2_type_0 16 rfl rfl)
theorem dX2_type_19 : decode cX2_type 19 = .ok (.aload_n 0, 1) := dk_42 (dk_at dksX2_type_0 19 rfl rfl)
theorem dX2_type_20 : decode cX2_type 20 = .ok (.getfield 15, 3) := dk_180 0 15 (dk_at dksX2_type_0 20 rfl rfl)
theorem dX2_type_23 : decode cX2_type 23 = .ok (.iload_n 1, 1) := dk_27 (dk_at dksX2_type_0 23 rfl rfl)
theorem dX2_type_24 : decode cX2_type 24 = .ok (.iastore, 1) := dk_79 (dk_at dksX2_type_1 0 rfl rfl)
theorem dX2_type_25 : decode cX2_type 25 = .ok (.aload_n 0, 1) := dk_42 (dk_at dksX2_type_1 1 rfl rfl)
theorem dX2_type_26 : decode cX2_type 26 = .ok (.dup, 1) := dk_89 (dk_at dksX2_type_1 2 rfl rfl)
theorem dX2_type_27 : decode cX2_type 27 = .ok (.getfield 15, 3) := dk_180 0 15 (dk_at dksX2_type_1 3 rfl rfl)
theorem dX2_type_30 : decode cX2_type 30 = .ok (.iconst 1, 1) := dk_4 (dk_at dksX2_type_1 6 rfl rfl)
theorem dX2_type_31 : decode cX2_type 31 = .ok (.iadd, 1) := dk_96 (dk_at dksX2_type_1 7 rfl rfl)
theorem dX2_type_32 : decode cX2_type 32 = .ok (.putfield 15, 3) := dk_181 0 15 (dk_at dksX2_type_1 8 rfl rfl)
theorem dX2_type_35 : decode cX2_type 35 = .ok (.aload_n 0, 1) := dk_42 (dk_at dksX2_type_1 11 rfl rfl)
theorem dX2_type_36 : decode cX2_type 36 = .ok (.iconst 0, 1) := dk_3 (dk_at dksX2_type_1 12 rfl rfl)
theorem dX2_type_37 : decode cX2_type 37 = .ok (.putfield 19, 3) := dk_181 0 19 (dk_at dksX2_type_1 13 rfl rfl)
theorem dX2_type_40 : decode cX2_type 40 = .ok (.aload_n 0, 1) := dk_42 (dk_at dksX2_type_1 16 rfl rfl)
theorem dX2_type_41 : decode cX2_type 41 = .ok (.getfield 15, 3) := dk_180 0 15 (dk_at dksX2_type_1 17 rfl rfl)
theorem dX2_type_44 : decode cX2_type 44 = .ok (.ireturn, 1) := dk_172 (dk_at dksX2_type_1 20 rfl rfl)
abbrev cX2_wipe : ByteArray := prog_8_method_6_code
def yX2_wipe : MethodName := ⟨RX2, "wipe", "()I"⟩
def dkwX2_wipe_0 : List UInt8 := [42, 180, 0, 15, 60, 42, 3, 181, 0, 15, 42, 3, 181, 0, 19, 27, 172]
abbrev dktX2_wipe_0 : List UInt8 := dkwX2_wipe_0 ++ []
theorem dksX2_wipe_0 : cX2_wipe.data.toList.drop 0 = dktX2_wipe_0 := by decide +kernel
theorem dX2_wipe_0 : decode cX2_wipe 0 = .ok (.aload_n 0, 1) := dk_42 (dk_at dksX2_wipe_0 0 rfl rfl)
theorem dX2_wipe_1 : decode cX2_wipe 1 = .ok (.getfield 15, 3) := dk_180 0 15 (dk_at dksX2_wipe_0 1 rfl rfl)
theorem dX2_wipe_4 : decode cX2_wipe 4 = .ok (.istore_n 1, 1) := dk_60 (dk_at dksX2_wipe_0 4 rfl rfl)
theorem dX2_wipe_5 : decode cX2_wipe 5 = .ok (.aload_n 0, 1) := dk_42 (dk_at dksX2_wipe_0 5 rfl rfl)
theorem dX2_wipe_6 : decode cX2_wipe 6 = .ok (.iconst 0, 1) := dk_3 (dk_at dksX2_wipe_0 6 rfl rfl)
theorem dX2_wipe_7 : decode cX2_wipe 7 = .ok (.putfield 15, 3) := dk_181 0 15 (dk_at dksX2_wipe_0 7 rfl rfl)
theorem dX2_wipe_10 : decode cX2_wipe 10 = .ok (.aload_n 0, 1) := dk_42 (dk_at dksX2_wipe_0 10 rfl rfl)
theorem dX2_wipe_11 : decode cX2_wipe 11 = .ok (.iconst 0, 1) := dk_3 (dk_at dksX2_wipe_0 11 rfl rfl)
theorem dX2_wipe_12 : decode cX2_wipe 12 = .ok (.putfield 19, 3) := dk_181 0 19 (dk_at dksX2_wipe_0 12 rfl rfl)
theorem dX2_wipe_15 : decode cX2_wipe 15 = .ok (.iload_n 1, 1) := dk_27 (dk_at dksX2_wipe_0 15 rfl rfl)
theorem dX2_wipe_16 : decode cX2_wipe 16 = .ok (.ireturn, 1) := dk_172 (dk_at dksX2_wipe_0 16 rfl rfl)
abbrev cX2_read : ByteArray := prog_8_method_13_code
def yX2_read : MethodName := ⟨RX2, "read", "()I"⟩
def dkwX2_read_1 : List UInt8 := [172]
abbrev dktX2_read_1 : List UInt8 := dkwX2_read_1 ++ []
def dkwX2_read_0 : List UInt8 := [42, 180, 0, 19, 154, 0, 11, 42, 42, 182, 0, 63, 181, 0, 66, 42, 4, 181, 0, 19, 42, 180, 0, 66]
abbrev dktX2_read_0 : List UInt8 := dkwX2_read_0 ++ dktX2_read_1
theorem dksX2_read_0 : cX2_read.data.toList.drop 0 = dktX2_read_0 := by decide +kernel
theorem dksX2_read_1 : cX2_read.data.toList.drop 24 = dktX2_read_1 := dk_seg dksX2_read_0 24 rfl rfl
theorem dX2_read_0 : decode cX2_read 0 = .ok (.aload_n 0, 1) := dk_42 (dk_at dksX2_read_0 0 rfl rfl)
theorem dX2_read_1 : decode cX2_read 1 = .ok (.getfield 19, 3) := dk_180 0 19 (dk_at dksX2_read_0 1 rfl rfl)
theorem dX2_read_4 : decode cX2_read 4 = .ok (.ifCond .ne 11, 3) := dk_154 0 11 (dk_at dksX2_read_0 4 rfl rfl)
theorem dX2_read_7 : decode cX2_read 7 = .ok (.aload_n 0, 1) := dk_42 (dk_at dksX2_read_0 7 rfl rfl)
theorem dX2_read_8 : decode cX2_read 8 = .ok (.aload_n 0, 1) := dk_42 (dk_at dksX2_read_0 8 rfl rfl)
theorem dX2_read_9 : decode cX2_read 9 = .ok (.invokevirtual 63, 3) := dk_182 0 63 (dk_at dksX2_read_0 9 rfl rfl)
theorem dX2_read_12 : decode cX2_read 12 = .ok (.putfield 66, 3) := dk_181 0 66 (dk_at dksX2_read_0 12 rfl rfl)
theorem dX2_read_15 : decode cX2_read 15 = .ok (.aload_n 0, 1) := dk_42 (dk_at dksX2_read_0 15 rfl rfl)
theorem dX2_read_16 : decode cX2_read 16 = .ok (.iconst 1, 1) := dk_4 (dk_at dksX2_read_0 16 rfl rfl)
theorem dX2_read_17 : decode cX2_read 17 = .ok (.putfield 19, 3) := dk_181 0 19 (dk_at dksX2_read_0 17 rfl rfl)
theorem dX2_read_20 : decode cX2_read 20 = .ok (.aload_n 0, 1) := dk_42 (dk_at dksX2_read_0 20 rfl rfl)
theorem dX2_read_21 : decode cX2_read 21 = .ok (.getfield 66, 3) := dk_180 0 66 (dk_at dksX2_read_0 21 rfl rfl)
theorem dX2_read_24 : decode cX2_read 24 = .ok (.ireturn, 1) := dk_172 (dk_at dksX2_read_1 0 rfl rfl)
abbrev cX2_reads : ByteArray := prog_8_method_12_code
def yX2_reads : MethodName := ⟨RX2, "reads", "()I"⟩
def dkwX2_reads_2 : List UInt8 := [182, 0, 53, 167, 255, 227, 2, 172, 76, 42, 182, 0, 50, 43, 180, 0, 60, 172]
abbrev dktX2_reads_2 : List UInt8 := dkwX2_reads_2 ++ []
def dkwX2_reads_1 : List UInt8 := [42, 180, 0, 15, 162, 0, 24, 42, 16, 59, 182, 0, 56, 154, 0, 8, 42, 182, 0, 39, 191, 42]
abbrev dktX2_reads_1 : List UInt8 := dkwX2_reads_1 ++ dktX2_reads_2
def dkwX2_reads_0 : List UInt8 := [42, 3, 181, 0, 23, 42, 182, 0, 50, 42, 180, 0, 15, 158, 0, 7, 42, 182, 0, 53, 42, 180, 0, 23]
abbrev dktX2_reads_0 : List UInt8 := dkwX2_reads_0 ++ dktX2_reads_1
theorem dksX2_reads_0 : cX2_reads.data.toList.drop 0 = dktX2_reads_0 := by decide +kernel
theorem dksX2_reads_1 : cX2_reads.data.toList.drop 24 = dktX2_reads_1 := dk_seg dksX2_reads_0 24 rfl rfl
theorem dksX2_reads_2 : cX2_reads.data.toList.drop 46 = dktX2_reads_2 := dk_seg dksX2_reads_1 22 rfl rfl
theorem dX2_reads_0 : decode cX2_reads 0 = .ok (.aload_n 0, 1) := dk_42 (dk_at dksX2_reads_0 0 rfl rfl)
theorem dX2_reads_1 : decode cX2_reads 1 = .ok (.iconst 0, 1) := dk_3 (dk_at dksX2_reads_0 1 rfl rfl)
theorem dX2_reads_2 : decode cX2_reads 2 = .ok (.putfield 23, 3) := dk_181 0 23 (dk_at dksX2_reads_0 2 rfl rfl)
theorem dX2_reads_5 : decode cX2_reads 5 = .ok (.aload_n 0, 1) := dk_42 (dk_at dksX2_reads_0 5 rfl rfl)
theorem dX2_reads_6 : decode cX2_reads 6 = .ok (.invokevirtual 50, 3) := dk_182 0 50 (dk_at dksX2_reads_0 6 rfl rfl)
theorem dX2_reads_9 : decode cX2_reads 9 = .ok (.aload_n 0, 1) := dk_42 (dk_at dksX2_reads_0 9 rfl rfl)
theorem dX2_reads_10 : decode cX2_reads 10 = .ok (.getfield 15, 3) := dk_180 0 15 (dk_at dksX2_reads_0 10 rfl rfl)
theorem dX2_reads_13 : decode cX2_reads 13 = .ok (.ifCond .le 7, 3) := dk_158 0 7 (dk_at dksX2_reads_0 13 rfl rfl)
theorem dX2_reads_16 : decode cX2_reads 16 = .ok (.aload_n 0, 1) := dk_42 (dk_at dksX2_reads_0 16 rfl rfl)
theorem dX2_reads_17 : decode cX2_reads 17 = .ok (.invokevirtual 53, 3) := dk_182 0 53 (dk_at dksX2_reads_0 17 rfl rfl)
theorem dX2_reads_20 : decode cX2_reads 20 = .ok (.aload_n 0, 1) := dk_42 (dk_at dksX2_reads_0 20 rfl rfl)
theorem dX2_reads_21 : decode cX2_reads 21 = .ok (.getfield 23, 3) := dk_180 0 23 (dk_at dksX2_reads_0 21 rfl rfl)
theorem dX2_reads_24 : decode cX2_reads 24 = .ok (.aload_n 0, 1) := dk_42 (dk_at dksX2_reads_1 0 rfl rfl)
theorem dX2_reads_25 : decode cX2_reads 25 = .ok (.getfield 15, 3) := dk_180 0 15 (dk_at dksX2_reads_1 1 rfl rfl)
theorem dX2_reads_28 : decode cX2_reads 28 = .ok (.if_icmp .ge 24, 3) := dk_162 0 24 (dk_at dksX2_reads_1 4 rfl rfl)
theorem dX2_reads_31 : decode cX2_reads 31 = .ok (.aload_n 0, 1) := dk_42 (dk_at dksX2_reads_1 7 rfl rfl)
theorem dX2_reads_32 : decode cX2_reads 32 = .ok (.bipush 59, 2) := dk_16 59 (dk_at dksX2_reads_1 8 rfl rfl)
theorem dX2_reads_34 : decode cX2_reads 34 = .ok (.invokevirtual 56, 3) := dk_182 0 56 (dk_at dksX2_reads_1 10 rfl rfl)
theorem dX2_reads_37 : decode cX2_reads 37 = .ok (.ifCond .ne 8, 3) := dk_154 0 8 (dk_at dksX2_reads_1 13 rfl rfl)
theorem dX2_reads_40 : decode cX2_reads 40 = .ok (.aload_n 0, 1) := dk_42 (dk_at dksX2_reads_1 16 rfl rfl)
theorem dX2_reads_41 : decode cX2_reads 41 = .ok (.invokevirtual 39, 3) := dk_182 0 39 (dk_at dksX2_reads_1 17 rfl rfl)
theorem dX2_reads_44 : decode cX2_reads 44 = .ok (.athrow, 1) := dk_191 (dk_at dksX2_reads_1 20 rfl rfl)
theorem dX2_reads_45 : decode cX2_reads 45 = .ok (.aload_n 0, 1) := dk_42 (dk_at dksX2_reads_1 21 rfl rfl)
theorem dX2_reads_46 : decode cX2_reads 46 = .ok (.invokevirtual 53, 3) := dk_182 0 53 (dk_at dksX2_reads_2 0 rfl rfl)
theorem dX2_reads_49 : decode cX2_reads 49 = .ok (.goto (-29), 3) := dk_167 255 227 (dk_at dksX2_reads_2 3 rfl rfl)
theorem dX2_reads_52 : decode cX2_reads 52 = .ok (.iconst (-1), 1) := dk_2 (dk_at dksX2_reads_2 6 rfl rfl)
theorem dX2_reads_53 : decode cX2_reads 53 = .ok (.ireturn, 1) := dk_172 (dk_at dksX2_reads_2 7 rfl rfl)
theorem dX2_reads_54 : decode cX2_reads 54 = .ok (.astore_n 1, 1) := dk_76 (dk_at dksX2_reads_2 8 rfl rfl)
theorem dX2_reads_55 : decode cX2_reads 55 = .ok (.aload_n 0, 1) := dk_42 (dk_at dksX2_reads_2 9 rfl rfl)
theorem dX2_reads_56 : decode cX2_reads 56 = .ok (.invokevirtual 50, 3) := dk_182 0 50 (dk_at dksX2_reads_2 10 rfl rfl)
theorem dX2_reads_59 : decode cX2_reads 59 = .ok (.aload_n 1, 1) := dk_43 (dk_at dksX2_reads_2 13 rfl rfl)
theorem dX2_reads_60 : decode cX2_reads 60 = .ok (.getfield 60, 3) := dk_180 0 60 (dk_at dksX2_reads_2 14 rfl rfl)
theorem dX2_reads_63 : decode cX2_reads 63 = .ok (.ireturn, 1) := dk_172 (dk_at dksX2_reads_2 17 rfl rfl)
abbrev cX2_next : ByteArray := prog_8_method_11_code
def yX2_next : MethodName := ⟨RX2, "next", "()V"⟩
def dkwX2_next_3 : List UInt8 := [96, 181, 0, 23, 42, 28, 182, 0, 47, 177]
abbrev dktX2_next_3 : List UInt8 := dkwX2_next_3 ++ []
def dkwX2_next_2 : List UInt8 := [61, 28, 2, 159, 0, 10, 42, 182, 0, 43, 154, 0, 8, 42, 182, 0, 39, 191, 42, 89, 180, 0, 23, 4]
abbrev dktX2_next_2 : List UInt8 := dkwX2_next_2 ++ dktX2_next_3
def dkwX2_next_1 : List UInt8 := [167, 0, 24, 27, 16, 116, 160, 0, 7, 5, 167, 0, 14, 27, 16, 115, 160, 0, 7, 6, 167, 0, 4, 2]
abbrev dktX2_next_1 : List UInt8 := dkwX2_next_1 ++ dktX2_next_2
def dkwX2_next_0 : List UInt8 := [42, 182, 0, 31, 60, 27, 16, 112, 160, 0, 7, 3, 167, 0, 34, 27, 16, 114, 160, 0, 7, 4]
abbrev dktX2_next_0 : List UInt8 := dkwX2_next_0 ++ dktX2_next_1
theorem dksX2_next_0 : cX2_next.data.toList.drop 0 = dktX2_next_0 := by decide +kernel
theorem dksX2_next_1 : cX2_next.data.toList.drop 22 = dktX2_next_1 := dk_seg dksX2_next_0 22 rfl rfl
theorem dksX2_next_2 : cX2_next.data.toList.drop 46 = dktX2_next_2 := dk_seg dksX2_next_1 24 rfl rfl
theorem dksX2_next_3 : cX2_next.data.toList.drop 70 = dktX2_next_3 := dk_seg dksX2_next_2 24 rfl rfl
theorem dX2_next_0 : decode cX2_next 0 = .ok (.aload_n 0, 1) := dk_42 (dk_at dksX2_next_0 0 rfl rfl)
theorem dX2_next_1 : decode cX2_next 1 = .ok (.invokevirtual 31, 3) := dk_182 0 31 (dk_at dksX2_next_0 1 rfl rfl)
theorem dX2_next_4 : decode cX2_next 4 = .ok (.istore_n 1, 1) := dk_60 (dk_at dksX2_next_0 4 rfl rfl)
theorem dX2_next_5 : decode cX2_next 5 = .ok (.iload_n 1, 1) := dk_27 (dk_at dksX2_next_0 5 rfl rfl)
theorem dX2_next_6 : decode cX2_next 6 = .ok (.bipush 112, 2) := dk_16 112 (dk_at dksX2_next_0 6 rfl rfl)
theorem dX2_next_8 : decode cX2_next 8 = .ok (.if_icmp .ne 7, 3) := dk_160 0 7 (dk_at dksX2_next_0 8 rfl rfl)
theorem dX2_next_11 : decode cX2_next 11 = .ok (.iconst 0, 1) := dk_3 (dk_at dksX2_next_0 11 rfl rfl)
theorem dX2_next_12 : decode cX2_next 12 = .ok (.goto 34, 3) := dk_167 0 34 (dk_at dksX2_next_0 12 rfl rfl)
theorem dX2_next_15 : decode cX2_next 15 = .ok (.iload_n 1, 1) := dk_27 (dk_at dksX2_next_0 15 rfl rfl)
theorem dX2_next_16 : decode cX2_next 16 = .ok (.bipush 114, 2) := dk_16 114 (dk_at dksX2_next_0 16 rfl rfl)
theorem dX2_next_18 : decode cX2_next 18 = .ok (.if_icmp .ne 7, 3) := dk_160 0 7 (dk_at dksX2_next_0 18 rfl rfl)
theorem dX2_next_21 : decode cX2_next 21 = .ok (.iconst 1, 1) := dk_4 (dk_at dksX2_next_0 21 rfl rfl)
theorem dX2_next_22 : decode cX2_next 22 = .ok (.goto 24, 3) := dk_167 0 24 (dk_at dksX2_next_1 0 rfl rfl)
theorem dX2_next_25 : decode cX2_next 25 = .ok (.iload_n 1, 1) := dk_27 (dk_at dksX2_next_1 3 rfl rfl)
theorem dX2_next_26 : decode cX2_next 26 = .ok (.bipush 116, 2) := dk_16 116 (dk_at dksX2_next_1 4 rfl rfl)
theorem dX2_next_28 : decode cX2_next 28 = .ok (.if_icmp .ne 7, 3) := dk_160 0 7 (dk_at dksX2_next_1 6 rfl rfl)
theorem dX2_next_31 : decode cX2_next 31 = .ok (.iconst 2, 1) := dk_5 (dk_at dksX2_next_1 9 rfl rfl)
theorem dX2_next_32 : decode cX2_next 32 = .ok (.goto 14, 3) := dk_167 0 14 (dk_at dksX2_next_1 10 rfl rfl)
theorem dX2_next_35 : decode cX2_next 35 = .ok (.iload_n 1, 1) := dk_27 (dk_at dksX2_next_1 13 rfl rfl)
theorem dX2_next_36 : decode cX2_next 36 = .ok (.bipush 115, 2) := dk_16 115 (dk_at dksX2_next_1 14 rfl rfl)
theorem dX2_next_38 : decode cX2_next 38 = .ok (.if_icmp .ne 7, 3) := dk_160 0 7 (dk_at dksX2_next_1 16 rfl rfl)
theorem dX2_next_41 : decode cX2_next 41 = .ok (.iconst 3, 1) := dk_6 (dk_at dksX2_next_1 19 rfl rfl)
theorem dX2_next_42 : decode cX2_next 42 = .ok (.goto 4, 3) := dk_167 0 4 (dk_at dksX2_next_1 20 rfl rfl)
theorem dX2_next_45 : decode cX2_next 45 = .ok (.iconst (-1), 1) := dk_2 (dk_at dksX2_next_1 23 rfl rfl)
theorem dX2_next_46 : decode cX2_next 46 = .ok (.istore_n 2, 1) := dk_61 (dk_at dksX2_next_2 0 rfl rfl)
theorem dX2_next_47 : decode cX2_next 47 = .ok (.iload_n 2, 1) := dk_28 (dk_at dksX2_next_2 1 rfl rfl)
theorem dX2_next_48 : decode cX2_next 48 = .ok (.iconst (-1), 1) := dk_2 (dk_at dksX2_next_2 2 rfl rfl)
theorem dX2_next_49 : decode cX2_next 49 = .ok (.if_icmp .eq 10, 3) := dk_159 0 10 (dk_at dksX2_next_2 3 rfl rfl)
theorem dX2_next_52 : decode cX2_next 52 = .ok (.aload_n 0, 1) := dk_42 (dk_at dksX2_next_2 6 rfl rfl)
theorem dX2_next_53 : decode cX2_next 53 = .ok (.invokevirtual 43, 3) := dk_182 0 43 (dk_at dksX2_next_2 7 rfl rfl)
theorem dX2_next_56 : decode cX2_next 56 = .ok (.ifCond .ne 8, 3) := dk_154 0 8 (dk_at dksX2_next_2 10 rfl rfl)
theorem dX2_next_59 : decode cX2_next 59 = .ok (.aload_n 0, 1) := dk_42 (dk_at dksX2_next_2 13 rfl rfl)
theorem dX2_next_60 : decode cX2_next 60 = .ok (.invokevirtual 39, 3) := dk_182 0 39 (dk_at dksX2_next_2 14 rfl rfl)
theorem dX2_next_63 : decode cX2_next 63 = .ok (.athrow, 1) := dk_191 (dk_at dksX2_next_2 17 rfl rfl)
theorem dX2_next_64 : decode cX2_next 64 = .ok (.aload_n 0, 1) := dk_42 (dk_at dksX2_next_2 18 rfl rfl)
theorem dX2_next_65 : decode cX2_next 65 = .ok (.dup, 1) := dk_89 (dk_at dksX2_next_2 19 rfl rfl)
theorem dX2_next_66 : decode cX2_next 66 = .ok (.getfield 23, 3) := dk_180 0 23 (dk_at dksX2_next_2 20 rfl rfl)
theorem dX2_next_69 : decode cX2_next 69 = .ok (.iconst 1, 1) := dk_4 (dk_at dksX2_next_2 23 rfl rfl)
theorem dX2_next_70 : decode cX2_next 70 = .ok (.iadd, 1) := dk_96 (dk_at dksX2_next_3 0 rfl rfl)
theorem dX2_next_71 : decode cX2_next 71 = .ok (.putfield 23, 3) := dk_181 0 23 (dk_at dksX2_next_3 1 rfl rfl)
theorem dX2_next_74 : decode cX2_next 74 = .ok (.aload_n 0, 1) := dk_42 (dk_at dksX2_next_3 4 rfl rfl)
theorem dX2_next_75 : decode cX2_next 75 = .ok (.iload_n 2, 1) := dk_28 (dk_at dksX2_next_3 5 rfl rfl)
theorem dX2_next_76 : decode cX2_next 76 = .ok (.invokevirtual 47, 3) := dk_182 0 47 (dk_at dksX2_next_3 6 rfl rfl)
theorem dX2_next_79 : decode cX2_next 79 = .ok (.return_, 1) := dk_177 (dk_at dksX2_next_3 9 rfl rfl)
abbrev cX2_here : ByteArray := prog_8_method_7_code
def yX2_here : MethodName := ⟨RX2, "here", "()I"⟩
def dkwX2_here_1 : List UInt8 := [172]
abbrev dktX2_here_1 : List UInt8 := dkwX2_here_1 ++ []
def dkwX2_here_0 : List UInt8 := [42, 180, 0, 23, 42, 180, 0, 15, 162, 0, 15, 42, 180, 0, 9, 42, 180, 0, 23, 46, 167, 0, 4, 2]
abbrev dktX2_here_0 : List UInt8 := dkwX2_here_0 ++ dktX2_here_1
theorem dksX2_here_0 : cX2_here.data.toList.drop 0 = dktX2_here_0 := by decide +kernel
theorem dksX2_here_1 : cX2_here.data.toList.drop 24 = dktX2_here_1 := dk_seg dksX2_here_0 24 rfl rfl
theorem dX2_here_0 : decode cX2_here 0 = .ok (.aload_n 0, 1) := dk_42 (dk_at dksX2_here_0 0 rfl rfl)
theorem dX2_here_1 : decode cX2_here 1 = .ok (.getfield 23, 3) := dk_180 0 23 (dk_at dksX2_here_0 1 rfl rfl)
theorem dX2_here_4 : decode cX2_here 4 = .ok (.aload_n 0, 1) := dk_42 (dk_at dksX2_here_0 4 rfl rfl)
theorem dX2_here_5 : decode cX2_here 5 = .ok (.getfield 15, 3) := dk_180 0 15 (dk_at dksX2_here_0 5 rfl rfl)
theorem dX2_here_8 : decode cX2_here 8 = .ok (.if_icmp .ge 15, 3) := dk_162 0 15 (dk_at dksX2_here_0 8 rfl rfl)
theorem dX2_here_11 : decode cX2_here 11 = .ok (.aload_n 0, 1) := dk_42 (dk_at dksX2_here_0 11 rfl rfl)
theorem dX2_here_12 : decode cX2_here 12 = .ok (.getfield 9, 3) := dk_180 0 9 (dk_at dksX2_here_0 12 rfl rfl)
theorem dX2_here_15 : decode cX2_here 15 = .ok (.aload_n 0, 1) := dk_42 (dk_at dksX2_here_0 15 rfl rfl)
theorem dX2_here_16 : decode cX2_here 16 = .ok (.getfield 23, 3) := dk_180 0 23 (dk_at dksX2_here_0 16 rfl rfl)
theorem dX2_here_19 : decode cX2_here 19 = .ok (.iaload, 1) := dk_46 (dk_at dksX2_here_0 19 rfl rfl)
theorem dX2_here_20 : decode cX2_here 20 = .ok (.goto 4, 3) := dk_167 0 4 (dk_at dksX2_here_0 20 rfl rfl)
theorem dX2_here_23 : decode cX2_here 23 = .ok (.iconst (-1), 1) := dk_2 (dk_at dksX2_here_0 23 rfl rfl)
theorem dX2_here_24 : decode cX2_here 24 = .ok (.ireturn, 1) := dk_172 (dk_at dksX2_here_1 0 rfl rfl)
abbrev cX2_hasRoom : ByteArray := prog_8_method_4_code
def yX2_hasRoom : MethodName := ⟨RX2, "hasRoom", "()Z"⟩
theorem dX2_hasRoom_0 : decode cX2_hasRoom 0 = .ok (.iconst 1, 1) := by decide +kernel
theorem dX2_hasRoom_1 : decode cX2_hasRoom 1 = .ok (.ireturn, 1) := by decide +kernel
abbrev cX2_torn : ByteArray := prog_8_method_8_code
def yX2_torn : MethodName := ⟨RX2, "torn", "()LSecondChances$Torn;"⟩
def dkwX2_torn_0 : List UInt8 := [187, 0, 26, 89, 42, 180, 0, 23, 183, 0, 28, 176]
abbrev dktX2_torn_0 : List UInt8 := dkwX2_torn_0 ++ []
theorem dksX2_torn_0 : cX2_torn.data.toList.drop 0 = dktX2_torn_0 := by decide +kernel
theorem dX2_torn_0 : decode cX2_torn 0 = .ok (.new 26, 3) := dk_187 0 26 (dk_at dksX2_torn_0 0 rfl rfl)
theorem dX2_torn_3 : decode cX2_torn 3 = .ok (.dup, 1) := dk_89 (dk_at dksX2_torn_0 3 rfl rfl)
theorem dX2_torn_4 : decode cX2_torn 4 = .ok (.aload_n 0, 1) := dk_42 (dk_at dksX2_torn_0 4 rfl rfl)
theorem dX2_torn_5 : decode cX2_torn 5 = .ok (.getfield 23, 3) := dk_180 0 23 (dk_at dksX2_torn_0 5 rfl rfl)
theorem dX2_torn_8 : decode cX2_torn 8 = .ok (.invokespecial 28, 3) := dk_183 0 28 (dk_at dksX2_torn_0 8 rfl rfl)
theorem dX2_torn_11 : decode cX2_torn 11 = .ok (.areturn, 1) := dk_176 (dk_at dksX2_torn_0 11 rfl rfl)
abbrev cX2_figure : ByteArray := prog_8_method_9_code
def yX2_figure : MethodName := ⟨RX2, "figure", "(II)I"⟩
def dkwX2_figure_1 : List UInt8 := [191, 42, 89, 180, 0, 23, 4, 96, 181, 0, 23, 29, 172]
abbrev dktX2_figure_1 : List UInt8 := dkwX2_figure_1 ++ []
def dkwX2_figure_0 : List UInt8 := [42, 182, 0, 31, 16, 48, 100, 62, 29, 133, 27, 133, 28, 133, 184, 0, 35, 154, 0, 8, 42, 182, 0, 39]
abbrev dktX2_figure_0 : List UInt8 := dkwX2_figure_0 ++ dktX2_figure_1
theorem dksX2_figure_0 : cX2_figure.data.toList.drop 0 = dktX2_figure_0 := by decide +kernel
theorem dksX2_figure_1 : cX2_figure.data.toList.drop 24 = dktX2_figure_1 := dk_seg dksX2_figure_0 24 rfl rfl
theorem dX2_figure_0 : decode cX2_figure 0 = .ok (.aload_n 0, 1) := dk_42 (dk_at dksX2_figure_0 0 rfl rfl)
theorem dX2_figure_1 : decode cX2_figure 1 = .ok (.invokevirtual 31, 3) := dk_182 0 31 (dk_at dksX2_figure_0 1 rfl rfl)
theorem dX2_figure_4 : decode cX2_figure 4 = .ok (.bipush 48, 2) := dk_16 48 (dk_at dksX2_figure_0 4 rfl rfl)
theorem dX2_figure_6 : decode cX2_figure 6 = .ok (.isub, 1) := dk_100 (dk_at dksX2_figure_0 6 rfl rfl)
theorem dX2_figure_7 : decode cX2_figure 7 = .ok (.istore_n 3, 1) := dk_62 (dk_at dksX2_figure_0 7 rfl rfl)
theorem dX2_figure_8 : decode cX2_figure 8 = .ok (.iload_n 3, 1) := dk_29 (dk_at dksX2_figure_0 8 rfl rfl)
theorem dX2_figure_9 : decode cX2_figure 9 = .ok (.i2l, 1) := dk_133 (dk_at dksX2_figure_0 9 rfl rfl)
theorem dX2_figure_10 : decode cX2_figure 10 = .ok (.iload_n 1, 1) := dk_27 (dk_at dksX2_figure_0 10 rfl rfl)
theorem dX2_figure_11 : decode cX2_figure 11 = .ok (.i2l, 1) := dk_133 (dk_at dksX2_figure_0 11 rfl rfl)
theorem dX2_figure_12 : decode cX2_figure 12 = .ok (.iload_n 2, 1) := dk_28 (dk_at dksX2_figure_0 12 rfl rfl)
theorem dX2_figure_13 : decode cX2_figure 13 = .ok (.i2l, 1) := dk_133 (dk_at dksX2_figure_0 13 rfl rfl)
theorem dX2_figure_14 : decode cX2_figure 14 = .ok (.invokestatic 35, 3) := dk_184 0 35 (dk_at dksX2_figure_0 14 rfl rfl)
theorem dX2_figure_17 : decode cX2_figure 17 = .ok (.ifCond .ne 8, 3) := dk_154 0 8 (dk_at dksX2_figure_0 17 rfl rfl)
theorem dX2_figure_20 : decode cX2_figure 20 = .ok (.aload_n 0, 1) := dk_42 (dk_at dksX2_figure_0 20 rfl rfl)
theorem dX2_figure_21 : decode cX2_figure 21 = .ok (.invokevirtual 39, 3) := dk_182 0 39 (dk_at dksX2_figure_0 21 rfl rfl)
theorem dX2_figure_24 : decode cX2_figure 24 = .ok (.athrow, 1) := dk_191 (dk_at dksX2_figure_1 0 rfl rfl)
theorem dX2_figure_25 : decode cX2_figure 25 = .ok (.aload_n 0, 1) := dk_42 (dk_at dksX2_figure_1 1 rfl rfl)
theorem dX2_figure_26 : decode cX2_figure 26 = .ok (.dup, 1) := dk_89 (dk_at dksX2_figure_1 2 rfl rfl)
theorem dX2_figure_27 : decode cX2_figure 27 = .ok (.getfield 23, 3) := dk_180 0 23 (dk_at dksX2_figure_1 3 rfl rfl)
theorem dX2_figure_30 : decode cX2_figure 30 = .ok (.iconst 1, 1) := dk_4 (dk_at dksX2_figure_1 6 rfl rfl)
theorem dX2_figure_31 : decode cX2_figure 31 = .ok (.iadd, 1) := dk_96 (dk_at dksX2_figure_1 7 rfl rfl)
theorem dX2_figure_32 : decode cX2_figure 32 = .ok (.putfield 23, 3) := dk_181 0 23 (dk_at dksX2_figure_1 8 rfl rfl)
theorem dX2_figure_35 : decode cX2_figure 35 = .ok (.iload_n 3, 1) := dk_29 (dk_at dksX2_figure_1 11 rfl rfl)
theorem dX2_figure_36 : decode cX2_figure 36 = .ok (.ireturn, 1) := dk_172 (dk_at dksX2_figure_1 12 rfl rfl)
abbrev cX2_passes : ByteArray := prog_8_method_10_code
def yX2_passes : MethodName := ⟨RX2, "passes", "(I)Z"⟩
def dkwX2_passes_1 : List UInt8 := [167, 0, 4, 3, 96, 181, 0, 23, 28, 172]
abbrev dktX2_passes_1 : List UInt8 := dkwX2_passes_1 ++ []
def dkwX2_passes_0 : List UInt8 := [42, 182, 0, 31, 27, 160, 0, 7, 4, 167, 0, 4, 3, 61, 42, 89, 180, 0, 23, 28, 153, 0, 7, 4]
abbrev dktX2_passes_0 : List UInt8 := dkwX2_passes_0 ++ dktX2_passes_1
theorem dksX2_passes_0 : cX2_passes.data.toList.drop 0 = dktX2_passes_0 := by decide +kernel
theorem dksX2_passes_1 : cX2_passes.data.toList.drop 24 = dktX2_passes_1 := dk_seg dksX2_passes_0 24 rfl rfl
theorem dX2_passes_0 : decode cX2_passes 0 = .ok (.aload_n 0, 1) := dk_42 (dk_at dksX2_passes_0 0 rfl rfl)
theorem dX2_passes_1 : decode cX2_passes 1 = .ok (.invokevirtual 31, 3) := dk_182 0 31 (dk_at dksX2_passes_0 1 rfl rfl)
theorem dX2_passes_4 : decode cX2_passes 4 = .ok (.iload_n 1, 1) := dk_27 (dk_at dksX2_passes_0 4 rfl rfl)
theorem dX2_passes_5 : decode cX2_passes 5 = .ok (.if_icmp .ne 7, 3) := dk_160 0 7 (dk_at dksX2_passes_0 5 rfl rfl)
theorem dX2_passes_8 : decode cX2_passes 8 = .ok (.iconst 1, 1) := dk_4 (dk_at dksX2_passes_0 8 rfl rfl)
theorem dX2_passes_9 : decode cX2_passes 9 = .ok (.goto 4, 3) := dk_167 0 4 (dk_at dksX2_passes_0 9 rfl rfl)
theorem dX2_passes_12 : decode cX2_passes 12 = .ok (.iconst 0, 1) := dk_3 (dk_at dksX2_passes_0 12 rfl rfl)
theorem dX2_passes_13 : decode cX2_passes 13 = .ok (.istore_n 2, 1) := dk_61 (dk_at dksX2_passes_0 13 rfl rfl)
theorem dX2_passes_14 : decode cX2_passes 14 = .ok (.aload_n 0, 1) := dk_42 (dk_at dksX2_passes_0 14 rfl rfl)
theorem dX2_passes_15 : decode cX2_passes 15 = .ok (.dup, 1) := dk_89 (dk_at dksX2_passes_0 15 rfl rfl)
theorem dX2_passes_16 : decode cX2_passes 16 = .ok (.getfield 23, 3) := dk_180 0 23 (dk_at dksX2_passes_0 16 rfl rfl)
theorem dX2_passes_19 : decode cX2_passes 19 = .ok (.iload_n 2, 1) := dk_28 (dk_at dksX2_passes_0 19 rfl rfl)
theorem dX2_passes_20 : decode cX2_passes 20 = .ok (.ifCond .eq 7, 3) := dk_153 0 7 (dk_at dksX2_passes_0 20 rfl rfl)
theorem dX2_passes_23 : decode cX2_passes 23 = .ok (.iconst 1, 1) := dk_4 (dk_at dksX2_passes_0 23 rfl rfl)
theorem dX2_passes_24 : decode cX2_passes 24 = .ok (.goto 4, 3) := dk_167 0 4 (dk_at dksX2_passes_1 0 rfl rfl)
theorem dX2_passes_27 : decode cX2_passes 27 = .ok (.iconst 0, 1) := dk_3 (dk_at dksX2_passes_1 3 rfl rfl)
theorem dX2_passes_28 : decode cX2_passes 28 = .ok (.iadd, 1) := dk_96 (dk_at dksX2_passes_1 4 rfl rfl)
theorem dX2_passes_29 : decode cX2_passes 29 = .ok (.putfield 23, 3) := dk_181 0 23 (dk_at dksX2_passes_1 5 rfl rfl)
theorem dX2_passes_32 : decode cX2_passes 32 = .ok (.iload_n 2, 1) := dk_28 (dk_at dksX2_passes_1 8 rfl rfl)
theorem dX2_passes_33 : decode cX2_passes 33 = .ok (.ireturn, 1) := dk_172 (dk_at dksX2_passes_1 9 rfl rfl)
theorem q81 : (Jvm.Cond.initialized "SecondChances$Text") ∈ lw_all := lw_g (lw_at lw_m1 3 rfl) rfl
theorem q134 : (Jvm.Cond.instanceMethod ({ cls := "SecondChances$Text", name := "<init>", desc := "(I)V" } : Jvm.MethodName)) ∈ lw_all := lw_g (lw_at lw_m1 56 rfl) rfl
theorem q135 : (Jvm.Cond.code ({ cls := "SecondChances$Text", name := "<init>", desc := "(I)V" } : Jvm.MethodName) prog_8_method_1_code (2 : Nat) (Option.none : Option Jvm.ClassFile.FieldType)) ∈ lw_all := lw_g (lw_at lw_m1 57 rfl) rfl
theorem q136 : (Jvm.Cond.methodLink "SecondChances$Text" (3 : Nat) ({ cls := "java/lang/Object", name := "<init>", desc := "()V" } : Jvm.MethodName)) ∈ lw_all := lw_g (lw_at lw_m1 58 rfl) rfl
theorem q165 : (Jvm.Cond.fieldLink "SecondChances$Text" (9 : Nat) "SecondChances$Text" "bytes" "[I") ∈ lw_all := lw_g (lw_at lw_m1 87 rfl) rfl
theorem q166 : (Jvm.Cond.fieldLink "SecondChances$Text" (15 : Nat) "SecondChances$Text" "typed" "I") ∈ lw_all := lw_g (lw_at lw_m1 88 rfl) rfl
theorem q168 : (Jvm.Cond.fieldLink "SecondChances$Text" (23 : Nat) "SecondChances$Text" "at" "I") ∈ lw_all := lw_g (lw_at lw_m1 90 rfl) rfl
theorem q169 : (Jvm.Cond.fieldLink "SecondChances$Text" (19 : Nat) "SecondChances$Text" "fresh" "Z") ∈ lw_all := lw_g (lw_at lw_m1 91 rfl) rfl
theorem q170 : (Jvm.Cond.fieldLink "SecondChances$Text" (66 : Nat) "SecondChances$Text" "fault" "I") ∈ lw_all := lw_g (lw_at lw_m1 92 rfl) rfl
theorem q174 : (Jvm.Cond.soleField "SecondChances$Text" "bytes") ∈ lw_all := lw_g (lw_at lw_m1 96 rfl) rfl
theorem q176 : (Jvm.Cond.soleField "SecondChances$Text" "typed") ∈ lw_all := lw_g (lw_at lw_m1 98 rfl) rfl
theorem q178 : (Jvm.Cond.soleField "SecondChances$Text" "at") ∈ lw_all := lw_g (lw_at lw_m1 100 rfl) rfl
theorem q180 : (Jvm.Cond.soleField "SecondChances$Text" "fresh") ∈ lw_all := lw_g (lw_at lw_m1 102 rfl) rfl
theorem q182 : (Jvm.Cond.soleField "SecondChances$Text" "fault") ∈ lw_all := lw_g (lw_at lw_m1 104 rfl) rfl
theorem q358 : (Jvm.Cond.instanceMethod ({ cls := "SecondChances$Text", name := "type", desc := "(I)I" } : Jvm.MethodName)) ∈ lw_all := lw_g (lw_at lw_m2 40 rfl) rfl
theorem q359 : (Jvm.Cond.sameMethod "SecondChances$Text" "SecondChances$Text" "type" "(I)I") ∈ lw_all := lw_g (lw_at lw_m2 41 rfl) rfl
theorem q362 : (Jvm.Cond.code ({ cls := "SecondChances$Text", name := "type", desc := "(I)I" } : Jvm.MethodName) prog_8_method_5_code (2 : Nat) (Option.some Jvm.ClassFile.FieldType.int)) ∈ lw_all := lw_g (lw_at lw_m2 44 rfl) rfl
theorem q368 : (Jvm.Cond.instanceMethod ({ cls := "SecondChances$Text", name := "wipe", desc := "()I" } : Jvm.MethodName)) ∈ lw_all := lw_g (lw_at lw_m2 50 rfl) rfl
theorem q369 : (Jvm.Cond.sameMethod "SecondChances$Text" "SecondChances$Text" "wipe" "()I") ∈ lw_all := lw_g (lw_at lw_m2 51 rfl) rfl
theorem q372 : (Jvm.Cond.code ({ cls := "SecondChances$Text", name := "wipe", desc := "()I" } : Jvm.MethodName) prog_8_method_6_code (2 : Nat) (Option.some Jvm.ClassFile.FieldType.int)) ∈ lw_all := lw_g (lw_at lw_m2 54 rfl) rfl
theorem q378 : (Jvm.Cond.instanceMethod ({ cls := "SecondChances$Text", name := "read", desc := "()I" } : Jvm.MethodName)) ∈ lw_all := lw_g (lw_at lw_m2 60 rfl) rfl
theorem q379 : (Jvm.Cond.sameMethod "SecondChances$Text" "SecondChances$Text" "read" "()I") ∈ lw_all := lw_g (lw_at lw_m2 61 rfl) rfl
theorem q382 : (Jvm.Cond.code ({ cls := "SecondChances$Text", name := "read", desc := "()I" } : Jvm.MethodName) prog_8_method_13_code (1 : Nat) (Option.some Jvm.ClassFile.FieldType.int)) ∈ lw_all := lw_g (lw_at lw_m2 64 rfl) rfl
theorem q383 : (Jvm.Cond.methodLink "SecondChances$Text" (63 : Nat) ({ cls := "SecondChances$Text", name := "reads", desc := "()I" } : Jvm.MethodName)) ∈ lw_all := lw_g (lw_at lw_m2 65 rfl) rfl
theorem q384 : (Jvm.Cond.privateMethod ({ cls := "SecondChances$Text", name := "reads", desc := "()I" } : Jvm.MethodName)) ∈ lw_tbl := lw_at lw_m2 66 rfl
theorem q385 : (Jvm.Cond.instanceMethod ({ cls := "SecondChances$Text", name := "reads", desc := "()I" } : Jvm.MethodName)) ∈ lw_all := lw_g (lw_at lw_m2 67 rfl) rfl
theorem q386 : (Jvm.Cond.codeWith ({ cls := "SecondChances$Text", name := "reads", desc := "()I" } : Jvm.MethodName) prog_8_method_12_code (2 : Nat) (Option.some Jvm.ClassFile.FieldType.int) [((9 : Nat), (53 : Nat), (54 : Nat), (26 : Nat))]) ∈ lw_all := lw_g (lw_at lw_m2 68 rfl) rfl
theorem q387 : (Jvm.Cond.classLink "SecondChances$Text" (26 : Nat) "SecondChances$Torn") ∈ lw_all := lw_g (lw_at lw_m2 69 rfl) rfl
theorem q388 : (Jvm.Cond.methodLink "SecondChances$Text" (50 : Nat) ({ cls := "SecondChances$Text", name := "clears", desc := "()V" } : Jvm.MethodName)) ∈ lw_all := lw_g (lw_at lw_m2 70 rfl) rfl
theorem q389 : (Jvm.Cond.declares ({ cls := "SecondChances$Text", name := "clears", desc := "()V" } : Jvm.MethodName)) ∈ lw_tbl := lw_at lw_m2 71 rfl
theorem q390 : (Jvm.Cond.sameMethod "SecondChances$Text" "SecondChances$Text" "clears" "()V") ∈ lw_all := lw_g (lw_at lw_m2 72 rfl) rfl
theorem q401 : (Jvm.Cond.methodLink "SecondChances$Text" (53 : Nat) ({ cls := "SecondChances$Text", name := "next", desc := "()V" } : Jvm.MethodName)) ∈ lw_all := lw_g (lw_at lw_m2 83 rfl) rfl
theorem q402 : (Jvm.Cond.privateMethod ({ cls := "SecondChances$Text", name := "next", desc := "()V" } : Jvm.MethodName)) ∈ lw_tbl := lw_at lw_m2 84 rfl
theorem q403 : (Jvm.Cond.instanceMethod ({ cls := "SecondChances$Text", name := "next", desc := "()V" } : Jvm.MethodName)) ∈ lw_all := lw_g (lw_at lw_m2 85 rfl) rfl
theorem q404 : (Jvm.Cond.code ({ cls := "SecondChances$Text", name := "next", desc := "()V" } : Jvm.MethodName) prog_8_method_11_code (3 : Nat) (Option.none : Option Jvm.ClassFile.FieldType)) ∈ lw_all := lw_g (lw_at lw_m2 86 rfl) rfl
theorem q405 : (Jvm.Cond.methodLink "SecondChances$Text" (31 : Nat) ({ cls := "SecondChances$Text", name := "here", desc := "()I" } : Jvm.MethodName)) ∈ lw_all := lw_g (lw_at lw_m2 87 rfl) rfl
theorem q406 : (Jvm.Cond.instanceMethod ({ cls := "SecondChances$Text", name := "here", desc := "()I" } : Jvm.MethodName)) ∈ lw_all := lw_g (lw_at lw_m2 88 rfl) rfl
theorem q407 : (Jvm.Cond.sameMethod "SecondChances$Text" "SecondChances$Text" "here" "()I") ∈ lw_all := lw_g (lw_at lw_m2 89 rfl) rfl
theorem q410 : (Jvm.Cond.code ({ cls := "SecondChances$Text", name := "here", desc := "()I" } : Jvm.MethodName) prog_8_method_7_code (1 : Nat) (Option.some Jvm.ClassFile.FieldType.int)) ∈ lw_all := lw_g (lw_at lw_m2 92 rfl) rfl
theorem q411 : (Jvm.Cond.methodLink "SecondChances$Text" (43 : Nat) ({ cls := "SecondChances$Text", name := "hasRoom", desc := "()Z" } : Jvm.MethodName)) ∈ lw_all := lw_g (lw_at lw_m2 93 rfl) rfl
theorem q412 : (Jvm.Cond.instanceMethod ({ cls := "SecondChances$Text", name := "hasRoom", desc := "()Z" } : Jvm.MethodName)) ∈ lw_all := lw_g (lw_at lw_m2 94 rfl) rfl
theorem q413 : (Jvm.Cond.sameMethod "SecondChances$Text" "SecondChances$Text" "hasRoom" "()Z") ∈ lw_all := lw_g (lw_at lw_m2 95 rfl) rfl
theorem q422 : (Jvm.Cond.code ({ cls := "SecondChances$Text", name := "hasRoom", desc := "()Z" } : Jvm.MethodName) prog_8_method_4_code (1 : Nat) (Option.some Jvm.ClassFile.FieldType.boolean)) ∈ lw_all := lw_g (lw_at lw_m2 104 rfl) rfl
theorem q423 : (Jvm.Cond.methodLink "SecondChances$Text" (39 : Nat) ({ cls := "SecondChances$Text", name := "torn", desc := "()LSecondChances$Torn;" } : Jvm.MethodName)) ∈ lw_all := lw_g (lw_at lw_m2 105 rfl) rfl
theorem q424 : (Jvm.Cond.instanceMethod ({ cls := "SecondChances$Text", name := "torn", desc := "()LSecondChances$Torn;" } : Jvm.MethodName)) ∈ lw_all := lw_g (lw_at lw_m2 106 rfl) rfl
theorem q425 : (Jvm.Cond.sameMethod "SecondChances$Text" "SecondChances$Text" "torn" "()LSecondChances$Torn;") ∈ lw_all := lw_g (lw_at lw_m2 107 rfl) rfl
theorem q428 : (Jvm.Cond.code ({ cls := "SecondChances$Text", name := "torn", desc := "()LSecondChances$Torn;" } : Jvm.MethodName) prog_8_method_8_code (1 : Nat) (Option.some (Jvm.ClassFile.FieldType.object "SecondChances$Torn"))) ∈ lw_all := lw_g (lw_at lw_m2 110 rfl) rfl
theorem q468 : (Jvm.Cond.methodLink "SecondChances$Text" (28 : Nat) ({ cls := "SecondChances$Torn", name := "<init>", desc := "(I)V" } : Jvm.MethodName)) ∈ lw_all := lw_g (lw_at lw_m2 150 rfl) rfl
theorem q478 : (Jvm.Cond.fieldLinkNest "SecondChances$Text" (60 : Nat) "SecondChances$Torn" "place" "I" "SecondChances") ∈ lw_tbl := lw_at lw_m2 160 rfl
theorem q494 : (Jvm.Cond.methodLink "SecondChances$Text" (47 : Nat) ({ cls := "SecondChances$Text", name := "part", desc := "(I)V" } : Jvm.MethodName)) ∈ lw_all := lw_g (lw_at lw_m2 176 rfl) rfl
theorem q495 : (Jvm.Cond.declares ({ cls := "SecondChances$Text", name := "part", desc := "(I)V" } : Jvm.MethodName)) ∈ lw_tbl := lw_at lw_m2 177 rfl
theorem q496 : (Jvm.Cond.sameMethod "SecondChances$Text" "SecondChances$Text" "part" "(I)V") ∈ lw_all := lw_g (lw_at lw_m2 178 rfl) rfl
theorem q502 : (Jvm.Cond.declares ({ cls := "SecondChances$Text", name := "figure", desc := "(II)I" } : Jvm.MethodName)) ∈ lw_tbl := lw_at lw_m2 184 rfl
theorem q504 : (Jvm.Cond.instanceMethod ({ cls := "SecondChances$Text", name := "figure", desc := "(II)I" } : Jvm.MethodName)) ∈ lw_all := lw_g (lw_at lw_m2 186 rfl) rfl
theorem q505 : (Jvm.Cond.code ({ cls := "SecondChances$Text", name := "figure", desc := "(II)I" } : Jvm.MethodName) prog_8_method_9_code (4 : Nat) (Option.some Jvm.ClassFile.FieldType.int)) ∈ lw_all := lw_g (lw_at lw_m2 187 rfl) rfl
theorem q506 : (Jvm.Cond.methodLinkNest "SecondChances$Text" (35 : Nat) ({ cls := "SecondChances", name := "in", desc := "(JJJ)Z" } : Jvm.MethodName) "SecondChances") ∈ lw_tbl := lw_at lw_m2 188 rfl
theorem q509 : (Jvm.Cond.declares ({ cls := "SecondChances$Text", name := "passes", desc := "(I)Z" } : Jvm.MethodName)) ∈ lw_tbl := lw_at lw_m2 191 rfl
theorem q511 : (Jvm.Cond.instanceMethod ({ cls := "SecondChances$Text", name := "passes", desc := "(I)Z" } : Jvm.MethodName)) ∈ lw_all := lw_g (lw_at lw_m2 193 rfl) rfl
theorem q512 : (Jvm.Cond.code ({ cls := "SecondChances$Text", name := "passes", desc := "(I)Z" } : Jvm.MethodName) prog_8_method_10_code (3 : Nat) (Option.some Jvm.ClassFile.FieldType.boolean)) ∈ lw_all := lw_g (lw_at lw_m2 194 rfl) rfl
theorem q515 : (Jvm.Cond.declares ({ cls := "SecondChances$Text", name := "torn", desc := "()LSecondChances$Torn;" } : Jvm.MethodName)) ∈ lw_tbl := lw_at lw_m2 197 rfl
theorem q546 : (Jvm.Cond.declares ({ cls := "SecondChances$Text", name := "here", desc := "()I" } : Jvm.MethodName)) ∈ lw_tbl := lw_at lw_m2 228 rfl
theorem q621 : (Jvm.Cond.methodLink "SecondChances$Text" (56 : Nat) ({ cls := "SecondChances$Text", name := "passes", desc := "(I)Z" } : Jvm.MethodName)) ∈ lw_all := lw_g (lw_at lw_m3 63 rfl) rfl
theorem q636 : (Jvm.Cond.declares ({ cls := "SecondChances$Text", name := "read", desc := "()I" } : Jvm.MethodName)) ∈ lw_tbl := lw_at lw_m3 78 rfl
theorem q1493 : (Jvm.Cond.sameMethod "SecondChances$Text" "SecondChances$Text" "reads" "()I") ∈ lw_all := lw_g (lw_at lw_m6 215 rfl) rfl
theorem q1494 : (Jvm.Cond.sameMethod "SecondChances$Text" "SecondChances$Text" "next" "()V") ∈ lw_all := lw_g (lw_at lw_m6 216 rfl) rfl
theorem q1496 : (Jvm.Cond.sameMethod "SecondChances$Text" "SecondChances$Text" "passes" "(I)Z") ∈ lw_all := lw_g (lw_at lw_m6 218 rfl) rfl

/-! SecondChances$Deeds -/
set_option maxRecDepth 100000
def RX3 : String := "SecondChances$Deeds"
def TX3 : u_T := fun k => match k with
  | 0 => ("SecondChances$Text", "bytes", "[I", true)
  | 1 => ("SecondChances$Text", "typed", "I", false)
  | 2 => ("SecondChances$Text", "at", "I", false)
  | 3 => ("SecondChances$Text", "fresh", "Z", false)
  | 4 => ("SecondChances$Text", "fault", "I", false)
  | _ => ("SecondChances$Deeds", "row", "Ljava/util/ArrayList;", true)
def tyX3 : Nat → FieldType := fun k => match k with
  | 0 => .array .int
  | 1 => .int
  | 2 => .int
  | 3 => .boolean
  | 4 => .int
  | _ => .object "java/util/ArrayList"
abbrev wsX30 : List Cond := u_ws RX3 TX3 6
theorem nmX3 : ∀ a, a < 6 → ∀ b, b < 6 → a ≠ b → (TX3 a).2.1 ≠ (TX3 b).2.1 := by decide +kernel
theorem tyX3_ok : ∀ k, k < 6 → parseFieldDescriptor (TX3 k).2.2.1 = some (tyX3 k) := by decide +kernel
abbrev cX3_init : ByteArray := prog_3_method_1_code
def yX3_init : MethodName := ⟨RX3, "<init>", "()V"⟩
def dkwX3_init_0 : List UInt8 := [42, 16, 80, 183, 0, 3, 42, 187, 0, 9, 89, 183, 0, 11, 181, 0, 14, 177]
abbrev dktX3_init_0 : List UInt8 := dkwX3_init_0 ++ []
theorem dksX3_init_0 : cX3_init.data.toList.drop 0 = dktX3_init_0 := by decide +kernel
theorem dX3_init_0 : decode cX3_init 0 = .ok (.aload_n 0, 1) := dk_42 (dk_at dksX3_init_0 0 rfl rfl)
theorem dX3_init_1 : decode cX3_init 1 = .ok (.bipush 80, 2) := dk_16 80 (dk_at dksX3_init_0 1 rfl rfl)
theorem dX3_init_3 : decode cX3_init 3 = .ok (.invokespecial 3, 3) := dk_183 0 3 (dk_at dksX3_init_0 3 rfl rfl)
theorem dX3_init_6 : decode cX3_init 6 = .ok (.aload_n 0, 1) := dk_42 (dk_at dksX3_init_0 6 rfl rfl)
theorem dX3_init_7 : decode cX3_init 7 = .ok (.new 9, 3) := dk_187 0 9 (dk_at dksX3_init_0 7 rfl rfl)
theorem dX3_init_10 : decode cX3_init 10 = .ok (.dup, 1) := dk_89 (dk_at dksX3_init_0 10 rfl rfl)
theorem dX3_init_11 : decode cX3_init 11 = .ok (.invokespecial 11, 3) := dk_183 0 11 (dk_at dksX3_init_0 11 rfl rfl)
theorem dX3_init_14 : decode cX3_init 14 = .ok (.putfield 14, 3) := dk_181 0 14 (dk_at dksX3_init_0 14 rfl rfl)
theorem dX3_init_17 : decode cX3_init 17 = .ok (.return_, 1) := dk_177 (dk_at dksX3_init_0 17 rfl rfl)
abbrev cX3_clears : ByteArray := prog_3_method_2_code
def yX3_clears : MethodName := ⟨RX3, "clears", "()V"⟩
def dkwX3_clears_0 : List UInt8 := [42, 180, 0, 14, 182, 0, 20, 177]
abbrev dktX3_clears_0 : List UInt8 := dkwX3_clears_0 ++ []
theorem dksX3_clears_0 : cX3_clears.data.toList.drop 0 = dktX3_clears_0 := by decide +kernel
theorem dX3_clears_0 : decode cX3_clears 0 = .ok (.aload_n 0, 1) := dk_42 (dk_at dksX3_clears_0 0 rfl rfl)
theorem dX3_clears_1 : decode cX3_clears 1 = .ok (.getfield 14, 3) := dk_180 0 14 (dk_at dksX3_clears_0 1 rfl rfl)
theorem dX3_clears_4 : decode cX3_clears 4 = .ok (.invokevirtual 20, 3) := dk_182 0 20 (dk_at dksX3_clears_0 4 rfl rfl)
theorem dX3_clears_7 : decode cX3_clears 7 = .ok (.return_, 1) := dk_177 (dk_at dksX3_clears_0 7 rfl rfl)
abbrev cX3_hasRoom : ByteArray := prog_3_method_3_code
def yX3_hasRoom : MethodName := ⟨RX3, "hasRoom", "()Z"⟩
def dkwX3_hasRoom_0 : List UInt8 := [42, 180, 0, 14, 182, 0, 23, 16, 8, 162, 0, 7, 4, 167, 0, 4, 3, 172]
abbrev dktX3_hasRoom_0 : List UInt8 := dkwX3_hasRoom_0 ++ []
theorem dksX3_hasRoom_0 : cX3_hasRoom.data.toList.drop 0 = dktX3_hasRoom_0 := by decide +kernel
theorem dX3_hasRoom_0 : decode cX3_hasRoom 0 = .ok (.aload_n 0, 1) := dk_42 (dk_at dksX3_hasRoom_0 0 rfl rfl)
theorem dX3_hasRoom_1 : decode cX3_hasRoom 1 = .ok (.getfield 14, 3) := dk_180 0 14 (dk_at dksX3_hasRoom_0 1 rfl rfl)
theorem dX3_hasRoom_4 : decode cX3_hasRoom 4 = .ok (.invokevirtual 23, 3) := dk_182 0 23 (dk_at dksX3_hasRoom_0 4 rfl rfl)
theorem dX3_hasRoom_7 : decode cX3_hasRoom 7 = .ok (.bipush 8, 2) := dk_16 8 (dk_at dksX3_hasRoom_0 7 rfl rfl)
theorem dX3_hasRoom_9 : decode cX3_hasRoom 9 = .ok (.if_icmp .ge 7, 3) := dk_162 0 7 (dk_at dksX3_hasRoom_0 9 rfl rfl)
theorem dX3_hasRoom_12 : decode cX3_hasRoom 12 = .ok (.iconst 1, 1) := dk_4 (dk_at dksX3_hasRoom_0 12 rfl rfl)
theorem dX3_hasRoom_13 : decode cX3_hasRoom 13 = .ok (.goto 4, 3) := dk_167 0 4 (dk_at dksX3_hasRoom_0 13 rfl rfl)
theorem dX3_hasRoom_16 : decode cX3_hasRoom 16 = .ok (.iconst 0, 1) := dk_3 (dk_at dksX3_hasRoom_0 16 rfl rfl)
theorem dX3_hasRoom_17 : decode cX3_hasRoom 17 = .ok (.ireturn, 1) := dk_172 (dk_at dksX3_hasRoom_0 17 rfl rfl)
abbrev cX3_part : ByteArray := prog_3_method_4_code
def yX3_part : MethodName := ⟨RX3, "part", "(I)V"⟩
def dkwX3_part_6 : List UInt8 := [25, 4, 182, 0, 58, 87, 177]
abbrev dktX3_part_6 : List UInt8 := dkwX3_part_6 ++ []
def dkwX3_part_5 : List UInt8 := [181, 0, 50, 167, 255, 193, 25, 4, 180, 0, 50, 154, 0, 8, 42, 182, 0, 35, 191, 42, 180, 0, 14]
abbrev dktX3_part_5 : List UInt8 := dkwX3_part_5 ++ dktX3_part_6
def dkwX3_part_4 : List UInt8 := [100, 54, 5, 42, 42, 182, 0, 44, 182, 0, 31, 87, 25, 4, 89, 180, 0, 50, 4, 21, 5, 120, 128]
abbrev dktX3_part_4 : List UInt8 := dkwX3_part_4 ++ dktX3_part_5
def dkwX3_part_3 : List UInt8 := [25, 4, 180, 0, 50, 42, 182, 0, 44, 16, 65, 100, 184, 0, 54, 154, 0, 38, 42, 182, 0, 44, 16, 65]
abbrev dktX3_part_3 : List UInt8 := dkwX3_part_3 ++ dktX3_part_4
def dkwX3_part_2 : List UInt8 := [4, 16, 9, 182, 0, 27, 183, 0, 41, 58, 4, 42, 182, 0, 44, 16, 65, 100, 184, 0, 47, 153, 0, 56]
abbrev dktX3_part_2 : List UInt8 := dkwX3_part_2 ++ dktX3_part_3
def dkwX3_part_1 : List UInt8 := [154, 0, 8, 42, 182, 0, 35, 191, 187, 0, 39, 89, 27, 28, 29, 153, 0, 7, 4, 167, 0, 4, 3, 42]
abbrev dktX3_part_1 : List UInt8 := dkwX3_part_1 ++ dktX3_part_2
def dkwX3_part_0 : List UInt8 := [42, 3, 8, 182, 0, 27, 61, 42, 16, 114, 182, 0, 31, 62, 29, 154, 0, 17, 42, 16, 100, 182, 0, 31]
abbrev dktX3_part_0 : List UInt8 := dkwX3_part_0 ++ dktX3_part_1
theorem dksX3_part_0 : cX3_part.data.toList.drop 0 = dktX3_part_0 := by decide +kernel
theorem dksX3_part_1 : cX3_part.data.toList.drop 24 = dktX3_part_1 := dk_seg dksX3_part_0 24 rfl rfl
theorem dksX3_part_2 : cX3_part.data.toList.drop 48 = dktX3_part_2 := dk_seg dksX3_part_1 24 rfl rfl
theorem dksX3_part_3 : cX3_part.data.toList.drop 72 = dktX3_part_3 := dk_seg dksX3_part_2 24 rfl rfl
theorem dksX3_part_4 : cX3_part.data.toList.drop 96 = dktX3_part_4 := dk_seg dksX3_part_3 24 rfl rfl
theorem dksX3_part_5 : cX3_part.data.toList.drop 119 = dktX3_part_5 := dk_seg dksX3_part_4 23 rfl rfl
theorem dksX3_part_6 : cX3_part.data.toList.drop 142 = dktX3_part_6 := dk_seg dksX3_part_5 23 rfl rfl
theorem dX3_part_0 : decode cX3_part 0 = .ok (.aload_n 0, 1) := dk_42 (dk_at dksX3_part_0 0 rfl rfl)
theorem dX3_part_1 : decode cX3_part 1 = .ok (.iconst 0, 1) := dk_3 (dk_at dksX3_part_0 1 rfl rfl)
theorem dX3_part_2 : decode cX3_part 2 = .ok (.iconst 5, 1) := dk_8 (dk_at dksX3_part_0 2 rfl rfl)
theorem dX3_part_3 : decode cX3_part 3 = .ok (.invokevirtual 27, 3) := dk_182 0 27 (dk_at dksX3_part_0 3 rfl rfl)
theorem dX3_part_6 : decode cX3_part 6 = .ok (.istore_n 2, 1) := dk_61 (dk_at dksX3_part_0 6 rfl rfl)
theorem dX3_part_7 : decode cX3_part 7 = .ok (.aload_n 0, 1) := dk_42 (dk_at dksX3_part_0 7 rfl rfl)
theorem dX3_part_8 : decode cX3_part 8 = .ok (.bipush 114, 2) := dk_16 114 (dk_at dksX3_part_0 8 rfl rfl)
theorem dX3_part_10 : decode cX3_part 10 = .ok (.invokevirtual 31, 3) := dk_182 0 31 (dk_at dksX3_part_0 10 rfl rfl)
theorem dX3_part_13 : decode cX3_part 13 = .ok (.istore_n 3, 1) := dk_62 (dk_at dksX3_part_0 13 rfl rfl)
theorem dX3_part_14 : decode cX3_part 14 = .ok (.iload_n 3, 1) := dk_29 (dk_at dksX3_part_0 14 rfl rfl)
theorem dX3_part_15 : decode cX3_part 15 = .ok (.ifCond .ne 17, 3) := dk_154 0 17 (dk_at dksX3_part_0 15 rfl rfl)
theorem dX3_part_18 : decode cX3_part 18 = .ok (.aload_n 0, 1) := dk_42 (dk_at dksX3_part_0 18 rfl rfl)
theorem dX3_part_19 : decode cX3_part 19 = .ok (.bipush 100, 2) := dk_16 100 (dk_at dksX3_part_0 19 rfl rfl)
theorem dX3_part_21 : decode cX3_part 21 = .ok (.invokevirtual 31, 3) := dk_182 0 31 (dk_at dksX3_part_0 21 rfl rfl)
theorem dX3_part_24 : decode cX3_part 24 = .ok (.ifCond .ne 8, 3) := dk_154 0 8 (dk_at dksX3_part_1 0 rfl rfl)
theorem dX3_part_27 : decode cX3_part 27 = .ok (.aload_n 0, 1) := dk_42 (dk_at dksX3_part_1 3 rfl rfl)
theorem dX3_part_28 : decode cX3_part 28 = .ok (.invokevirtual 35, 3) := dk_182 0 35 (dk_at dksX3_part_1 4 rfl rfl)
theorem dX3_part_31 : decode cX3_part 31 = .ok (.athrow, 1) := dk_191 (dk_at dksX3_part_1 7 rfl rfl)
theorem dX3_part_32 : decode cX3_part 32 = .ok (.new 39, 3) := dk_187 0 39 (dk_at dksX3_part_1 8 rfl rfl)
theorem dX3_part_35 : decode cX3_part 35 = .ok (.dup, 1) := dk_89 (dk_at dksX3_part_1 11 rfl rfl)
theorem dX3_part_36 : decode cX3_part 36 = .ok (.iload_n 1, 1) := dk_27 (dk_at dksX3_part_1 12 rfl rfl)
theorem dX3_part_37 : decode cX3_part 37 = .ok (.iload_n 2, 1) := dk_28 (dk_at dksX3_part_1 13 rfl rfl)
theorem dX3_part_38 : decode cX3_part 38 = .ok (.iload_n 3, 1) := dk_29 (dk_at dksX3_part_1 14 rfl rfl)
theorem dX3_part_39 : decode cX3_part 39 = .ok (.ifCond .eq 7, 3) := dk_153 0 7 (dk_at dksX3_part_1 15 rfl rfl)
theorem dX3_part_42 : decode cX3_part 42 = .ok (.iconst 1, 1) := dk_4 (dk_at dksX3_part_1 18 rfl rfl)
theorem dX3_part_43 : decode cX3_part 43 = .ok (.goto 4, 3) := dk_167 0 4 (dk_at dksX3_part_1 19 rfl rfl)
theorem dX3_part_46 : decode cX3_part 46 = .ok (.iconst 0, 1) := dk_3 (dk_at dksX3_part_1 22 rfl rfl)
theorem dX3_part_47 : decode cX3_part 47 = .ok (.aload_n 0, 1) := dk_42 (dk_at dksX3_part_1 23 rfl rfl)
theorem dX3_part_48 : decode cX3_part 48 = .ok (.iconst 1, 1) := dk_4 (dk_at dksX3_part_2 0 rfl rfl)
theorem dX3_part_49 : decode cX3_part 49 = .ok (.bipush 9, 2) := dk_16 9 (dk_at dksX3_part_2 1 rfl rfl)
theorem dX3_part_51 : decode cX3_part 51 = .ok (.invokevirtual 27, 3) := dk_182 0 27 (dk_at dksX3_part_2 3 rfl rfl)
theorem dX3_part_54 : decode cX3_part 54 = .ok (.invokespecial 41, 3) := dk_183 0 41 (dk_at dksX3_part_2 6 rfl rfl)
theorem dX3_part_57 : decode cX3_part 57 = .ok (.astore 4, 2) := dk_58 4 (dk_at dksX3_part_2 9 rfl rfl)
theorem dX3_part_59 : decode cX3_part 59 = .ok (.aload_n 0, 1) := dk_42 (dk_at dksX3_part_2 11 rfl rfl)
theorem dX3_part_60 : decode cX3_part 60 = .ok (.invokevirtual 44, 3) := dk_182 0 44 (dk_at dksX3_part_2 12 rfl rfl)
theorem dX3_part_63 : decode cX3_part 63 = .ok (.bipush 65, 2) := dk_16 65 (dk_at dksX3_part_2 15 rfl rfl)
theorem dX3_part_65 : decode cX3_part 65 = .ok (.isub, 1) := dk_100 (dk_at dksX3_part_2 17 rfl rfl)
theorem dX3_part_66 : decode cX3_part 66 = .ok (.invokestatic 47, 3) := dk_184 0 47 (dk_at dksX3_part_2 18 rfl rfl)
theorem dX3_part_69 : decode cX3_part 69 = .ok (.ifCond .eq 56, 3) := dk_153 0 56 (dk_at dksX3_part_2 21 rfl rfl)
theorem dX3_part_72 : decode cX3_part 72 = .ok (.aload 4, 2) := dk_25 4 (dk_at dksX3_part_3 0 rfl rfl)
theorem dX3_part_74 : decode cX3_part 74 = .ok (.getfield 50, 3) := dk_180 0 50 (dk_at dksX3_part_3 2 rfl rfl)
theorem dX3_part_77 : decode cX3_part 77 = .ok (.aload_n 0, 1) := dk_42 (dk_at dksX3_part_3 5 rfl rfl)
theorem dX3_part_78 : decode cX3_part 78 = .ok (.invokevirtual 44, 3) := dk_182 0 44 (dk_at dksX3_part_3 6 rfl rfl)
theorem dX3_part_81 : decode cX3_part 81 = .ok (.bipush 65, 2) := dk_16 65 (dk_at dksX3_part_3 9 rfl rfl)
theorem dX3_part_83 : decode cX3_part 83 = .ok (.isub, 1) := dk_100 (dk_at dksX3_part_3 11 rfl rfl)
theorem dX3_part_84 : decode cX3_part 84 = .ok (.invokestatic 54, 3) := dk_184 0 54 (dk_at dksX3_part_3 12 rfl rfl)
theorem dX3_part_87 : decode cX3_part 87 = .ok (.ifCond .ne 38, 3) := dk_154 0 38 (dk_at dksX3_part_3 15 rfl rfl)
theorem dX3_part_90 : decode cX3_part 90 = .ok (.aload_n 0, 1) := dk_42 (dk_at dksX3_part_3 18 rfl rfl)
theorem dX3_part_91 : decode cX3_part 91 = .ok (.invokevirtual 44, 3) := dk_182 0 44 (dk_at dksX3_part_3 19 rfl rfl)
theorem dX3_part_94 : decode cX3_part 94 = .ok (.bipush 65, 2) := dk_16 65 (dk_at dksX3_part_3 22 rfl rfl)
theorem dX3_part_96 : decode cX3_part 96 = .ok (.isub, 1) := dk_100 (dk_at dksX3_part_4 0 rfl rfl)
theorem dX3_part_97 : decode cX3_part 97 = .ok (.istore 5, 2) := dk_54 5 (dk_at dksX3_part_4 1 rfl rfl)
theorem dX3_part_99 : decode cX3_part 99 = .ok (.aload_n 0, 1) := dk_42 (dk_at dksX3_part_4 3 rfl rfl)
theorem dX3_part_100 : decode cX3_part 100 = .ok (.aload_n 0, 1) := dk_42 (dk_at dksX3_part_4 4 rfl rfl)
theorem dX3_part_101 : decode cX3_part 101 = .ok (.invokevirtual 44, 3) := dk_182 0 44 (dk_at dksX3_part_4 5 rfl rfl)
theorem dX3_part_104 : decode cX3_part 104 = .ok (.invokevirtual 31, 3) := dk_182 0 31 (dk_at dksX3_part_4 8 rfl rfl)
theorem dX3_part_107 : decode cX3_part 107 = .ok (.pop, 1) := dk_87 (dk_at dksX3_part_4 11 rfl rfl)
theorem dX3_part_108 : decode cX3_part 108 = .ok (.aload 4, 2) := dk_25 4 (dk_at dksX3_part_4 12 rfl rfl)
theorem dX3_part_110 : decode cX3_part 110 = .ok (.dup, 1) := dk_89 (dk_at dksX3_part_4 14 rfl rfl)
theorem dX3_part_111 : decode cX3_part 111 = .ok (.getfield 50, 3) := dk_180 0 50 (dk_at dksX3_part_4 15 rfl rfl)
theorem dX3_part_114 : decode cX3_part 114 = .ok (.iconst 1, 1) := dk_4 (dk_at dksX3_part_4 18 rfl rfl)
theorem dX3_part_115 : decode cX3_part 115 = .ok (.iload 5, 2) := dk_21 5 (dk_at dksX3_part_4 19 rfl rfl)
theorem dX3_part_117 : decode cX3_part 117 = .ok (.ishl, 1) := dk_120 (dk_at dksX3_part_4 21 rfl rfl)
theorem dX3_part_118 : decode cX3_part 118 = .ok (.ior, 1) := dk_128 (dk_at dksX3_part_4 22 rfl rfl)
theorem dX3_part_119 : decode cX3_part 119 = .ok (.putfield 50, 3) := dk_181 0 50 (dk_at dksX3_part_5 0 rfl rfl)
theorem dX3_part_122 : decode cX3_part 122 = .ok (.goto (-63), 3) := dk_167 255 193 (dk_at dksX3_part_5 3 rfl rfl)
theorem dX3_part_125 : decode cX3_part 125 = .ok (.aload 4, 2) := dk_25 4 (dk_at dksX3_part_5 6 rfl rfl)
theorem dX3_part_127 : decode cX3_part 127 = .ok (.getfield 50, 3) := dk_180 0 50 (dk_at dksX3_part_5 8 rfl rfl)
theorem dX3_part_130 : decode cX3_part 130 = .ok (.ifCond .ne 8, 3) := dk_154 0 8 (dk_at dksX3_part_5 11 rfl rfl)
theorem dX3_part_133 : decode cX3_part 133 = .ok (.aload_n 0, 1) := dk_42 (dk_at dksX3_part_5 14 rfl rfl)
theorem dX3_part_134 : decode cX3_part 134 = .ok (.invokevirtual 35, 3) := dk_182 0 35 (dk_at dksX3_part_5 15 rfl rfl)
theorem dX3_part_137 : decode cX3_part 137 = .ok (.athrow, 1) := dk_191 (dk_at dksX3_part_5 18 rfl rfl)
theorem dX3_part_138 : decode cX3_part 138 = .ok (.aload_n 0, 1) := dk_42 (dk_at dksX3_part_5 19 rfl rfl)
theorem dX3_part_139 : decode cX3_part 139 = .ok (.getfield 14, 3) := dk_180 0 14 (dk_at dksX3_part_5 20 rfl rfl)
theorem dX3_part_142 : decode cX3_part 142 = .ok (.aload 4, 2) := dk_25 4 (dk_at dksX3_part_6 0 rfl rfl)
theorem dX3_part_144 : decode cX3_part 144 = .ok (.invokevirtual 58, 3) := dk_182 0 58 (dk_at dksX3_part_6 2 rfl rfl)
theorem dX3_part_147 : decode cX3_part 147 = .ok (.pop, 1) := dk_87 (dk_at dksX3_part_6 5 rfl rfl)
theorem dX3_part_148 : decode cX3_part 148 = .ok (.return_, 1) := dk_177 (dk_at dksX3_part_6 6 rfl rfl)
theorem q82 : (Jvm.Cond.initialized "SecondChances$Deeds") ∈ lw_all := lw_g (lw_at lw_m1 4 rfl) rfl
theorem q129 : (Jvm.Cond.instantiable "SecondChances$Deeds" (6 : Nat)) ∈ lw_all := lw_g (lw_at lw_m1 51 rfl) rfl
theorem q131 : (Jvm.Cond.instanceMethod ({ cls := "SecondChances$Deeds", name := "<init>", desc := "()V" } : Jvm.MethodName)) ∈ lw_all := lw_g (lw_at lw_m1 53 rfl) rfl
theorem q132 : (Jvm.Cond.code ({ cls := "SecondChances$Deeds", name := "<init>", desc := "()V" } : Jvm.MethodName) prog_3_method_1_code (1 : Nat) (Option.none : Option Jvm.ClassFile.FieldType)) ∈ lw_all := lw_g (lw_at lw_m1 54 rfl) rfl
theorem q133 : (Jvm.Cond.methodLink "SecondChances$Deeds" (3 : Nat) ({ cls := "SecondChances$Text", name := "<init>", desc := "(I)V" } : Jvm.MethodName)) ∈ lw_all := lw_g (lw_at lw_m1 55 rfl) rfl
theorem q137 : (Jvm.Cond.classLink "SecondChances$Deeds" (9 : Nat) "java/util/ArrayList") ∈ lw_all := lw_g (lw_at lw_m1 59 rfl) rfl
theorem q139 : (Jvm.Cond.methodLink "SecondChances$Deeds" (11 : Nat) ({ cls := "java/util/ArrayList", name := "<init>", desc := "()V" } : Jvm.MethodName)) ∈ lw_all := lw_g (lw_at lw_m1 61 rfl) rfl
theorem q163 : (Jvm.Cond.fieldLink "SecondChances$Deeds" (14 : Nat) "SecondChances$Deeds" "row" "Ljava/util/ArrayList;") ∈ lw_all := lw_g (lw_at lw_m1 85 rfl) rfl
theorem q171 : (Jvm.Cond.laysFinal "SecondChances$Deeds" "SecondChances$Deeds" "row" "Ljava/util/ArrayList;") ∈ lw_all := lw_g (lw_at lw_m1 93 rfl) rfl
theorem q172 : (Jvm.Cond.soleField "SecondChances$Deeds" "row") ∈ lw_all := lw_g (lw_at lw_m1 94 rfl) rfl
theorem q173 : (Jvm.Cond.laysFinal "SecondChances$Deeds" "SecondChances$Text" "bytes" "[I") ∈ lw_all := lw_g (lw_at lw_m1 95 rfl) rfl
theorem q175 : (Jvm.Cond.lays "SecondChances$Deeds" "SecondChances$Text" "typed" "I") ∈ lw_all := lw_g (lw_at lw_m1 97 rfl) rfl
theorem q177 : (Jvm.Cond.lays "SecondChances$Deeds" "SecondChances$Text" "at" "I") ∈ lw_all := lw_g (lw_at lw_m1 99 rfl) rfl
theorem q179 : (Jvm.Cond.lays "SecondChances$Deeds" "SecondChances$Text" "fresh" "Z") ∈ lw_all := lw_g (lw_at lw_m1 101 rfl) rfl
theorem q181 : (Jvm.Cond.lays "SecondChances$Deeds" "SecondChances$Text" "fault" "I") ∈ lw_all := lw_g (lw_at lw_m1 103 rfl) rfl
theorem q183 : (Jvm.Cond.superclass "SecondChances$Deeds" "SecondChances$Text") ∈ lw_all := lw_g (lw_at lw_m1 105 rfl) rfl
theorem q360 : (Jvm.Cond.selects "SecondChances$Deeds" ({ cls := "SecondChances$Text", name := "type", desc := "(I)I" } : Jvm.MethodName) ({ cls := "SecondChances$Text", name := "type", desc := "(I)I" } : Jvm.MethodName)) ∈ lw_all := lw_g (lw_at lw_m2 42 rfl) rfl
theorem q370 : (Jvm.Cond.selects "SecondChances$Deeds" ({ cls := "SecondChances$Text", name := "wipe", desc := "()I" } : Jvm.MethodName) ({ cls := "SecondChances$Text", name := "wipe", desc := "()I" } : Jvm.MethodName)) ∈ lw_all := lw_g (lw_at lw_m2 52 rfl) rfl
theorem q380 : (Jvm.Cond.selects "SecondChances$Deeds" ({ cls := "SecondChances$Text", name := "read", desc := "()I" } : Jvm.MethodName) ({ cls := "SecondChances$Text", name := "read", desc := "()I" } : Jvm.MethodName)) ∈ lw_all := lw_g (lw_at lw_m2 62 rfl) rfl
theorem q391 : (Jvm.Cond.selects "SecondChances$Deeds" ({ cls := "SecondChances$Text", name := "clears", desc := "()V" } : Jvm.MethodName) ({ cls := "SecondChances$Deeds", name := "clears", desc := "()V" } : Jvm.MethodName)) ∈ lw_all := lw_g (lw_at lw_m2 73 rfl) rfl
theorem q392 : (Jvm.Cond.instanceMethod ({ cls := "SecondChances$Deeds", name := "clears", desc := "()V" } : Jvm.MethodName)) ∈ lw_all := lw_g (lw_at lw_m2 74 rfl) rfl
theorem q393 : (Jvm.Cond.code ({ cls := "SecondChances$Deeds", name := "clears", desc := "()V" } : Jvm.MethodName) prog_3_method_2_code (1 : Nat) (Option.none : Option Jvm.ClassFile.FieldType)) ∈ lw_all := lw_g (lw_at lw_m2 75 rfl) rfl
theorem q394 : (Jvm.Cond.methodLink "SecondChances$Deeds" (20 : Nat) ({ cls := "java/util/ArrayList", name := "clear", desc := "()V" } : Jvm.MethodName)) ∈ lw_all := lw_g (lw_at lw_m2 76 rfl) rfl
theorem q408 : (Jvm.Cond.selects "SecondChances$Deeds" ({ cls := "SecondChances$Text", name := "here", desc := "()I" } : Jvm.MethodName) ({ cls := "SecondChances$Text", name := "here", desc := "()I" } : Jvm.MethodName)) ∈ lw_all := lw_g (lw_at lw_m2 90 rfl) rfl
theorem q414 : (Jvm.Cond.selects "SecondChances$Deeds" ({ cls := "SecondChances$Text", name := "hasRoom", desc := "()Z" } : Jvm.MethodName) ({ cls := "SecondChances$Deeds", name := "hasRoom", desc := "()Z" } : Jvm.MethodName)) ∈ lw_all := lw_g (lw_at lw_m2 96 rfl) rfl
theorem q415 : (Jvm.Cond.instanceMethod ({ cls := "SecondChances$Deeds", name := "hasRoom", desc := "()Z" } : Jvm.MethodName)) ∈ lw_all := lw_g (lw_at lw_m2 97 rfl) rfl
theorem q416 : (Jvm.Cond.code ({ cls := "SecondChances$Deeds", name := "hasRoom", desc := "()Z" } : Jvm.MethodName) prog_3_method_3_code (1 : Nat) (Option.some Jvm.ClassFile.FieldType.boolean)) ∈ lw_all := lw_g (lw_at lw_m2 98 rfl) rfl
theorem q417 : (Jvm.Cond.methodLink "SecondChances$Deeds" (23 : Nat) ({ cls := "java/util/ArrayList", name := "size", desc := "()I" } : Jvm.MethodName)) ∈ lw_all := lw_g (lw_at lw_m2 99 rfl) rfl
theorem q426 : (Jvm.Cond.selects "SecondChances$Deeds" ({ cls := "SecondChances$Text", name := "torn", desc := "()LSecondChances$Torn;" } : Jvm.MethodName) ({ cls := "SecondChances$Text", name := "torn", desc := "()LSecondChances$Torn;" } : Jvm.MethodName)) ∈ lw_all := lw_g (lw_at lw_m2 108 rfl) rfl
theorem q497 : (Jvm.Cond.selects "SecondChances$Deeds" ({ cls := "SecondChances$Text", name := "part", desc := "(I)V" } : Jvm.MethodName) ({ cls := "SecondChances$Deeds", name := "part", desc := "(I)V" } : Jvm.MethodName)) ∈ lw_all := lw_g (lw_at lw_m2 179 rfl) rfl
theorem q498 : (Jvm.Cond.instanceMethod ({ cls := "SecondChances$Deeds", name := "part", desc := "(I)V" } : Jvm.MethodName)) ∈ lw_all := lw_g (lw_at lw_m2 180 rfl) rfl
theorem q499 : (Jvm.Cond.code ({ cls := "SecondChances$Deeds", name := "part", desc := "(I)V" } : Jvm.MethodName) prog_3_method_4_code (6 : Nat) (Option.none : Option Jvm.ClassFile.FieldType)) ∈ lw_all := lw_g (lw_at lw_m2 181 rfl) rfl
theorem q500 : (Jvm.Cond.methodLink "SecondChances$Deeds" (27 : Nat) ({ cls := "SecondChances$Deeds", name := "figure", desc := "(II)I" } : Jvm.MethodName)) ∈ lw_all := lw_g (lw_at lw_m2 182 rfl) rfl
theorem q501 : (Jvm.Cond.sameMethod "SecondChances$Deeds" "SecondChances$Text" "figure" "(II)I") ∈ lw_all := lw_g (lw_at lw_m2 183 rfl) rfl
theorem q503 : (Jvm.Cond.selects "SecondChances$Deeds" ({ cls := "SecondChances$Deeds", name := "figure", desc := "(II)I" } : Jvm.MethodName) ({ cls := "SecondChances$Text", name := "figure", desc := "(II)I" } : Jvm.MethodName)) ∈ lw_all := lw_g (lw_at lw_m2 185 rfl) rfl
theorem q507 : (Jvm.Cond.methodLink "SecondChances$Deeds" (31 : Nat) ({ cls := "SecondChances$Deeds", name := "passes", desc := "(I)Z" } : Jvm.MethodName)) ∈ lw_all := lw_g (lw_at lw_m2 189 rfl) rfl
theorem q508 : (Jvm.Cond.sameMethod "SecondChances$Deeds" "SecondChances$Text" "passes" "(I)Z") ∈ lw_all := lw_g (lw_at lw_m2 190 rfl) rfl
theorem q510 : (Jvm.Cond.selects "SecondChances$Deeds" ({ cls := "SecondChances$Deeds", name := "passes", desc := "(I)Z" } : Jvm.MethodName) ({ cls := "SecondChances$Text", name := "passes", desc := "(I)Z" } : Jvm.MethodName)) ∈ lw_all := lw_g (lw_at lw_m2 192 rfl) rfl
theorem q513 : (Jvm.Cond.methodLink "SecondChances$Deeds" (35 : Nat) ({ cls := "SecondChances$Deeds", name := "torn", desc := "()LSecondChances$Torn;" } : Jvm.MethodName)) ∈ lw_all := lw_g (lw_at lw_m2 195 rfl) rfl
theorem q514 : (Jvm.Cond.sameMethod "SecondChances$Deeds" "SecondChances$Text" "torn" "()LSecondChances$Torn;") ∈ lw_all := lw_g (lw_at lw_m2 196 rfl) rfl
theorem q516 : (Jvm.Cond.selects "SecondChances$Deeds" ({ cls := "SecondChances$Deeds", name := "torn", desc := "()LSecondChances$Torn;" } : Jvm.MethodName) ({ cls := "SecondChances$Text", name := "torn", desc := "()LSecondChances$Torn;" } : Jvm.MethodName)) ∈ lw_all := lw_g (lw_at lw_m2 198 rfl) rfl
theorem q517 : (Jvm.Cond.classLink "SecondChances$Deeds" (39 : Nat) "SecondChances$Deed") ∈ lw_all := lw_g (lw_at lw_m2 199 rfl) rfl
theorem q519 : (Jvm.Cond.methodLink "SecondChances$Deeds" (41 : Nat) ({ cls := "SecondChances$Deed", name := "<init>", desc := "(IIII)V" } : Jvm.MethodName)) ∈ lw_all := lw_g (lw_at lw_m2 201 rfl) rfl
theorem q531 : (Jvm.Cond.fieldLinkNest "SecondChances$Deeds" (50 : Nat) "SecondChances$Deed" "there" "I" "SecondChances") ∈ lw_tbl := lw_at lw_m2 213 rfl
theorem q544 : (Jvm.Cond.methodLink "SecondChances$Deeds" (44 : Nat) ({ cls := "SecondChances$Deeds", name := "here", desc := "()I" } : Jvm.MethodName)) ∈ lw_all := lw_g (lw_at lw_m2 226 rfl) rfl
theorem q545 : (Jvm.Cond.sameMethod "SecondChances$Deeds" "SecondChances$Text" "here" "()I") ∈ lw_all := lw_g (lw_at lw_m2 227 rfl) rfl
theorem q547 : (Jvm.Cond.selects "SecondChances$Deeds" ({ cls := "SecondChances$Deeds", name := "here", desc := "()I" } : Jvm.MethodName) ({ cls := "SecondChances$Text", name := "here", desc := "()I" } : Jvm.MethodName)) ∈ lw_all := lw_g (lw_at lw_m2 229 rfl) rfl
theorem q548 : (Jvm.Cond.methodLinkNest "SecondChances$Deeds" (47 : Nat) ({ cls := "SecondChances", name := "isPerson", desc := "(I)Z" } : Jvm.MethodName) "SecondChances") ∈ lw_tbl := lw_at lw_m2 230 rfl
theorem q549 : (Jvm.Cond.methodLinkNest "SecondChances$Deeds" (54 : Nat) ({ cls := "SecondChances", name := "isIn", desc := "(II)Z" } : Jvm.MethodName) "SecondChances") ∈ lw_tbl := lw_at lw_m2 231 rfl
theorem q552 : (Jvm.Cond.methodLink "SecondChances$Deeds" (58 : Nat) ({ cls := "java/util/ArrayList", name := "add", desc := "(Ljava/lang/Object;)Z" } : Jvm.MethodName)) ∈ lw_all := lw_g (lw_at lw_m2 234 rfl) rfl
theorem q586 : (Jvm.Cond.selects "SecondChances$Deeds" ({ cls := "java/lang/Object", name := "getClass", desc := "()Ljava/lang/Class;" } : Jvm.MethodName) ({ cls := "java/lang/Object", name := "getClass", desc := "()Ljava/lang/Class;" } : Jvm.MethodName)) ∈ lw_all := lw_g (lw_at lw_m3 28 rfl) rfl
theorem q635 : (Jvm.Cond.sameMethod "SecondChances$Deeds" "SecondChances$Text" "read" "()I") ∈ lw_all := lw_g (lw_at lw_m3 77 rfl) rfl
theorem q637 : (Jvm.Cond.selects "SecondChances$Deeds" ({ cls := "SecondChances$Deeds", name := "read", desc := "()I" } : Jvm.MethodName) ({ cls := "SecondChances$Text", name := "read", desc := "()I" } : Jvm.MethodName)) ∈ lw_all := lw_g (lw_at lw_m3 79 rfl) rfl
theorem q1497 : (Jvm.Cond.selects "SecondChances$Deeds" ({ cls := "SecondChances$Text", name := "passes", desc := "(I)Z" } : Jvm.MethodName) ({ cls := "SecondChances$Text", name := "passes", desc := "(I)Z" } : Jvm.MethodName)) ∈ lw_all := lw_g (lw_at lw_m6 219 rfl) rfl
theorem q1503 : (Jvm.Cond.castable "SecondChances$Deeds" "java/lang/Object") ∈ lw_tbl := lw_at lw_m6 225 rfl
theorem in_X3 : ∀ w ∈ wsX30, w ∈ lw_all := lw_in wsX30 [173, 175, 177, 179, 181, 171] (by decide +kernel) (by decide +kernel)

/-! SecondChances$Rules -/
set_option maxRecDepth 100000
def RX4 : String := "SecondChances$Rules"
def TX4 : u_T := fun k => match k with
  | 0 => ("SecondChances$Text", "bytes", "[I", true)
  | 1 => ("SecondChances$Text", "typed", "I", false)
  | 2 => ("SecondChances$Text", "at", "I", false)
  | 3 => ("SecondChances$Text", "fresh", "Z", false)
  | 4 => ("SecondChances$Text", "fault", "I", false)
  | 5 => ("SecondChances$Rules", "needs", "[I", true)
  | 6 => ("SecondChances$Rules", "weather", "[Z", true)
  | 7 => ("SecondChances$Rules", "place", "[Z", true)
  | _ => ("SecondChances$Rules", "parts", "I", false)
def tyX4 : Nat → FieldType := fun k => match k with
  | 0 => .array .int
  | 1 => .int
  | 2 => .int
  | 3 => .boolean
  | 4 => .int
  | 5 => .array .int
  | 6 => .array .boolean
  | 7 => .array .boolean
  | _ => .int
abbrev wsX40 : List Cond := u_ws RX4 TX4 9
theorem nmX4 : ∀ a, a < 9 → ∀ b, b < 9 → a ≠ b → (TX4 a).2.1 ≠ (TX4 b).2.1 := by decide +kernel
theorem tyX4_ok : ∀ k, k < 9 → parseFieldDescriptor (TX4 k).2.2.1 = some (tyX4 k) := by decide +kernel
abbrev cX4_init : ByteArray := prog_5_method_1_code
def yX4_init : MethodName := ⟨RX4, "<init>", "()V"⟩
def dkwX4_init_1 : List UInt8 := [181, 0, 19, 177]
abbrev dktX4_init_1 : List UInt8 := dkwX4_init_1 ++ []
def dkwX4_init_0 : List UInt8 := [42, 16, 40, 183, 0, 3, 42, 7, 188, 10, 181, 0, 9, 42, 7, 188, 4, 181, 0, 15, 42, 7, 188, 4]
abbrev dktX4_init_0 : List UInt8 := dkwX4_init_0 ++ dktX4_init_1
theorem dksX4_init_0 : cX4_init.data.toList.drop 0 = dktX4_init_0 := by decide +kernel
theorem dksX4_init_1 : cX4_init.data.toList.drop 24 = dktX4_init_1 := dk_seg dksX4_init_0 24 rfl rfl
theorem dX4_init_0 : decode cX4_init 0 = .ok (.aload_n 0, 1) := dk_42 (dk_at dksX4_init_0 0 rfl rfl)
theorem dX4_init_1 : decode cX4_init 1 = .ok (.bipush 40, 2) := dk_16 40 (dk_at dksX4_init_0 1 rfl rfl)
theorem dX4_init_3 : decode cX4_init 3 = .ok (.invokespecial 3, 3) := dk_183 0 3 (dk_at dksX4_init_0 3 rfl rfl)
theorem dX4_init_6 : decode cX4_init 6 = .ok (.aload_n 0, 1) := dk_42 (dk_at dksX4_init_0 6 rfl rfl)
theorem dX4_init_7 : decode cX4_init 7 = .ok (.iconst 4, 1) := dk_7 (dk_at dksX4_init_0 7 rfl rfl)
theorem dX4_init_8 : decode cX4_init 8 = .ok (.newarray .int, 2) := dk_188_10 (dk_at dksX4_init_0 8 rfl rfl)
theorem dX4_init_10 : decode cX4_init 10 = .ok (.putfield 9, 3) := dk_181 0 9 (dk_at dksX4_init_0 10 rfl rfl)
theorem dX4_init_13 : decode cX4_init 13 = .ok (.aload_n 0, 1) := dk_42 (dk_at dksX4_init_0 13 rfl rfl)
theorem dX4_init_14 : decode cX4_init 14 = .ok (.iconst 4, 1) := dk_7 (dk_at dksX4_init_0 14 rfl rfl)
theorem dX4_init_15 : decode cX4_init 15 = .ok (.newarray .boolean, 2) := dk_188_4 (dk_at dksX4_init_0 15 rfl rfl)
theorem dX4_init_17 : decode cX4_init 17 = .ok (.putfield 15, 3) := dk_181 0 15 (dk_at dksX4_init_0 17 rfl rfl)
theorem dX4_init_20 : decode cX4_init 20 = .ok (.aload_n 0, 1) := dk_42 (dk_at dksX4_init_0 20 rfl rfl)
theorem dX4_init_21 : decode cX4_init 21 = .ok (.iconst 4, 1) := dk_7 (dk_at dksX4_init_0 21 rfl rfl)
theorem dX4_init_22 : decode cX4_init 22 = .ok (.newarray .boolean, 2) := dk_188_4 (dk_at dksX4_init_0 22 rfl rfl)
theorem dX4_init_24 : decode cX4_init 24 = .ok (.putfield 19, 3) := dk_181 0 19 (dk_at dksX4_init_1 0 rfl rfl)
theorem dX4_init_27 : decode cX4_init 27 = .ok (.return_, 1) := dk_177 (dk_at dksX4_init_1 3 rfl rfl)
abbrev cX4_clears : ByteArray := prog_5_method_2_code
def yX4_clears : MethodName := ⟨RX4, "clears", "()V"⟩
def dkwX4_clears_1 : List UInt8 := [3, 84, 42, 180, 0, 19, 27, 3, 84, 132, 1, 1, 167, 255, 227, 177]
abbrev dktX4_clears_1 : List UInt8 := dkwX4_clears_1 ++ []
def dkwX4_clears_0 : List UInt8 := [42, 3, 181, 0, 22, 3, 60, 27, 7, 162, 0, 30, 42, 180, 0, 9, 27, 3, 79, 42, 180, 0, 15, 27]
abbrev dktX4_clears_0 : List UInt8 := dkwX4_clears_0 ++ dktX4_clears_1
theorem dksX4_clears_0 : cX4_clears.data.toList.drop 0 = dktX4_clears_0 := by decide +kernel
theorem dksX4_clears_1 : cX4_clears.data.toList.drop 24 = dktX4_clears_1 := dk_seg dksX4_clears_0 24 rfl rfl
theorem dX4_clears_0 : decode cX4_clears 0 = .ok (.aload_n 0, 1) := dk_42 (dk_at dksX4_clears_0 0 rfl rfl)
theorem dX4_clears_1 : decode cX4_clears 1 = .ok (.iconst 0, 1) := dk_3 (dk_at dksX4_clears_0 1 rfl rfl)
theorem dX4_clears_2 : decode cX4_clears 2 = .ok (.putfield 22, 3) := dk_181 0 22 (dk_at dksX4_clears_0 2 rfl rfl)
theorem dX4_clears_5 : decode cX4_clears 5 = .ok (.iconst 0, 1) := dk_3 (dk_at dksX4_clears_0 5 rfl rfl)
theorem dX4_clears_6 : decode cX4_clears 6 = .ok (.istore_n 1, 1) := dk_60 (dk_at dksX4_clears_0 6 rfl rfl)
theorem dX4_clears_7 : decode cX4_clears 7 = .ok (.iload_n 1, 1) := dk_27 (dk_at dksX4_clears_0 7 rfl rfl)
theorem dX4_clears_8 : decode cX4_clears 8 = .ok (.iconst 4, 1) := dk_7 (dk_at dksX4_clears_0 8 rfl rfl)
theorem dX4_clears_9 : decode cX4_clears 9 = .ok (.if_icmp .ge 30, 3) := dk_162 0 30 (dk_at dksX4_clears_0 9 rfl rfl)
theorem dX4_clears_12 : decode cX4_clears 12 = .ok (.aload_n 0, 1) := dk_42 (dk_at dksX4_clears_0 12 rfl rfl)
theorem dX4_clears_13 : decode cX4_clears 13 = .ok (.getfield 9, 3) := dk_180 0 9 (dk_at dksX4_clears_0 13 rfl rfl)
theorem dX4_clears_16 : decode cX4_clears 16 = .ok (.iload_n 1, 1) := dk_27 (dk_at dksX4_clears_0 16 rfl rfl)
theorem dX4_clears_17 : decode cX4_clears 17 = .ok (.iconst 0, 1) := dk_3 (dk_at dksX4_clears_0 17 rfl rfl)
theorem dX4_clears_18 : decode cX4_clears 18 = .ok (.iastore, 1) := dk_79 (dk_at dksX4_clears_0 18 rfl rfl)
theorem dX4_clears_19 : decode cX4_clears 19 = .ok (.aload_n 0, 1) := dk_42 (dk_at dksX4_clears_0 19 rfl rfl)
theorem dX4_clears_20 : decode cX4_clears 20 = .ok (.getfield 15, 3) := dk_180 0 15 (dk_at dksX4_clears_0 20 rfl rfl)
theorem dX4_clears_23 : decode cX4_clears 23 = .ok (.iload_n 1, 1) := dk_27 (dk_at dksX4_clears_0 23 rfl rfl)
theorem dX4_clears_24 : decode cX4_clears 24 = .ok (.iconst 0, 1) := dk_3 (dk_at dksX4_clears_1 0 rfl rfl)
theorem dX4_clears_25 : decode cX4_clears 25 = .ok (.bastore, 1) := dk_84 (dk_at dksX4_clears_1 1 rfl rfl)
theorem dX4_clears_26 : decode cX4_clears 26 = .ok (.aload_n 0, 1) := dk_42 (dk_at dksX4_clears_1 2 rfl rfl)
theorem dX4_clears_27 : decode cX4_clears 27 = .ok (.getfield 19, 3) := dk_180 0 19 (dk_at dksX4_clears_1 3 rfl rfl)
theorem dX4_clears_30 : decode cX4_clears 30 = .ok (.iload_n 1, 1) := dk_27 (dk_at dksX4_clears_1 6 rfl rfl)
theorem dX4_clears_31 : decode cX4_clears 31 = .ok (.iconst 0, 1) := dk_3 (dk_at dksX4_clears_1 7 rfl rfl)
theorem dX4_clears_32 : decode cX4_clears 32 = .ok (.bastore, 1) := dk_84 (dk_at dksX4_clears_1 8 rfl rfl)
theorem dX4_clears_33 : decode cX4_clears 33 = .ok (.iinc 1 1, 3) := dk_132 1 1 (dk_at dksX4_clears_1 9 rfl rfl)
theorem dX4_clears_36 : decode cX4_clears 36 = .ok (.goto (-29), 3) := dk_167 255 227 (dk_at dksX4_clears_1 12 rfl rfl)
theorem dX4_clears_39 : decode cX4_clears 39 = .ok (.return_, 1) := dk_177 (dk_at dksX4_clears_1 15 rfl rfl)
abbrev cX4_part : ByteArray := prog_5_method_3_code
def yX4_part : MethodName := ⟨RX4, "part", "(I)V"⟩
def dkwX4_part_1 : List UInt8 := [42, 180, 0, 19, 27, 42, 16, 104, 182, 0, 30, 84, 42, 89, 180, 0, 22, 4, 96, 181, 0, 22, 177]
abbrev dktX4_part_1 : List UInt8 := dkwX4_part_1 ++ []
def dkwX4_part_0 : List UInt8 := [42, 180, 0, 9, 27, 42, 3, 7, 182, 0, 26, 79, 42, 180, 0, 15, 27, 42, 16, 119, 182, 0, 30, 84]
abbrev dktX4_part_0 : List UInt8 := dkwX4_part_0 ++ dktX4_part_1
theorem dksX4_part_0 : cX4_part.data.toList.drop 0 = dktX4_part_0 := by decide +kernel
theorem dksX4_part_1 : cX4_part.data.toList.drop 24 = dktX4_part_1 := dk_seg dksX4_part_0 24 rfl rfl
theorem dX4_part_0 : decode cX4_part 0 = .ok (.aload_n 0, 1) := dk_42 (dk_at dksX4_part_0 0 rfl rfl)
theorem dX4_part_1 : decode cX4_part 1 = .ok (.getfield 9, 3) := dk_180 0 9 (dk_at dksX4_part_0 1 rfl rfl)
theorem dX4_part_4 : decode cX4_part 4 = .ok (.iload_n 1, 1) := dk_27 (dk_at dksX4_part_0 4 rfl rfl)
theorem dX4_part_5 : decode cX4_part 5 = .ok (.aload_n 0, 1) := dk_42 (dk_at dksX4_part_0 5 rfl rfl)
theorem dX4_part_6 : decode cX4_part 6 = .ok (.iconst 0, 1) := dk_3 (dk_at dksX4_part_0 6 rfl rfl)
theorem dX4_part_7 : decode cX4_part 7 = .ok (.iconst 4, 1) := dk_7 (dk_at dksX4_part_0 7 rfl rfl)
theorem dX4_part_8 : decode cX4_part 8 = .ok (.invokevirtual 26, 3) := dk_182 0 26 (dk_at dksX4_part_0 8 rfl rfl)
theorem dX4_part_11 : decode cX4_part 11 = .ok (.iastore, 1) := dk_79 (dk_at dksX4_part_0 11 rfl rfl)
theorem dX4_part_12 : decode cX4_part 12 = .ok (.aload_n 0, 1) := dk_42 (dk_at dksX4_part_0 12 rfl rfl)
theorem dX4_part_13 : decode cX4_part 13 = .ok (.getfield 15, 3) := dk_180 0 15 (dk_at dksX4_part_0 13 rfl rfl)
theorem dX4_part_16 : decode cX4_part 16 = .ok (.iload_n 1, 1) := dk_27 (dk_at dksX4_part_0 16 rfl rfl)
theorem dX4_part_17 : decode cX4_part 17 = .ok (.aload_n 0, 1) := dk_42 (dk_at dksX4_part_0 17 rfl rfl)
theorem dX4_part_18 : decode cX4_part 18 = .ok (.bipush 119, 2) := dk_16 119 (dk_at dksX4_part_0 18 rfl rfl)
theorem dX4_part_20 : decode cX4_part 20 = .ok (.invokevirtual 30, 3) := dk_182 0 30 (dk_at dksX4_part_0 20 rfl rfl)
theorem dX4_part_23 : decode cX4_part 23 = .ok (.bastore, 1) := dk_84 (dk_at dksX4_part_0 23 rfl rfl)
theorem dX4_part_24 : decode cX4_part 24 = .ok (.aload_n 0, 1) := dk_42 (dk_at dksX4_part_1 0 rfl rfl)
theorem dX4_part_25 : decode cX4_part 25 = .ok (.getfield 19, 3) := dk_180 0 19 (dk_at dksX4_part_1 1 rfl rfl)
theorem dX4_part_28 : decode cX4_part 28 = .ok (.iload_n 1, 1) := dk_27 (dk_at dksX4_part_1 4 rfl rfl)
theorem dX4_part_29 : decode cX4_part 29 = .ok (.aload_n 0, 1) := dk_42 (dk_at dksX4_part_1 5 rfl rfl)
theorem dX4_part_30 : decode cX4_part 30 = .ok (.bipush 104, 2) := dk_16 104 (dk_at dksX4_part_1 6 rfl rfl)
theorem dX4_part_32 : decode cX4_part 32 = .ok (.invokevirtual 30, 3) := dk_182 0 30 (dk_at dksX4_part_1 8 rfl rfl)
theorem dX4_part_35 : decode cX4_part 35 = .ok (.bastore, 1) := dk_84 (dk_at dksX4_part_1 11 rfl rfl)
theorem dX4_part_36 : decode cX4_part 36 = .ok (.aload_n 0, 1) := dk_42 (dk_at dksX4_part_1 12 rfl rfl)
theorem dX4_part_37 : decode cX4_part 37 = .ok (.dup, 1) := dk_89 (dk_at dksX4_part_1 13 rfl rfl)
theorem dX4_part_38 : decode cX4_part 38 = .ok (.getfield 22, 3) := dk_180 0 22 (dk_at dksX4_part_1 14 rfl rfl)
theorem dX4_part_41 : decode cX4_part 41 = .ok (.iconst 1, 1) := dk_4 (dk_at dksX4_part_1 17 rfl rfl)
theorem dX4_part_42 : decode cX4_part 42 = .ok (.iadd, 1) := dk_96 (dk_at dksX4_part_1 18 rfl rfl)
theorem dX4_part_43 : decode cX4_part 43 = .ok (.putfield 22, 3) := dk_181 0 22 (dk_at dksX4_part_1 19 rfl rfl)
theorem dX4_part_46 : decode cX4_part 46 = .ok (.return_, 1) := dk_177 (dk_at dksX4_part_1 22 rfl rfl)
theorem q86 : (Jvm.Cond.initialized "SecondChances$Rules") ∈ lw_all := lw_g (lw_at lw_m1 8 rfl) rfl
theorem q185 : (Jvm.Cond.instantiable "SecondChances$Rules" (9 : Nat)) ∈ lw_all := lw_g (lw_at lw_m1 107 rfl) rfl
theorem q187 : (Jvm.Cond.instanceMethod ({ cls := "SecondChances$Rules", name := "<init>", desc := "()V" } : Jvm.MethodName)) ∈ lw_all := lw_g (lw_at lw_m1 109 rfl) rfl
theorem q188 : (Jvm.Cond.code ({ cls := "SecondChances$Rules", name := "<init>", desc := "()V" } : Jvm.MethodName) prog_5_method_1_code (1 : Nat) (Option.none : Option Jvm.ClassFile.FieldType)) ∈ lw_all := lw_g (lw_at lw_m1 110 rfl) rfl
theorem q189 : (Jvm.Cond.methodLink "SecondChances$Rules" (3 : Nat) ({ cls := "SecondChances$Text", name := "<init>", desc := "(I)V" } : Jvm.MethodName)) ∈ lw_all := lw_g (lw_at lw_m1 111 rfl) rfl
theorem q190 : (Jvm.Cond.fieldLink "SecondChances$Rules" (9 : Nat) "SecondChances$Rules" "needs" "[I") ∈ lw_all := lw_g (lw_at lw_m1 112 rfl) rfl
theorem q192 : (Jvm.Cond.fieldLink "SecondChances$Rules" (15 : Nat) "SecondChances$Rules" "weather" "[Z") ∈ lw_all := lw_g (lw_at lw_m1 114 rfl) rfl
theorem q194 : (Jvm.Cond.fieldLink "SecondChances$Rules" (19 : Nat) "SecondChances$Rules" "place" "[Z") ∈ lw_all := lw_g (lw_at lw_m1 116 rfl) rfl
theorem q196 : (Jvm.Cond.fieldLink "SecondChances$Rules" (22 : Nat) "SecondChances$Rules" "parts" "I") ∈ lw_all := lw_g (lw_at lw_m1 118 rfl) rfl
theorem q198 : (Jvm.Cond.laysFinal "SecondChances$Rules" "SecondChances$Rules" "needs" "[I") ∈ lw_all := lw_g (lw_at lw_m1 120 rfl) rfl
theorem q199 : (Jvm.Cond.soleField "SecondChances$Rules" "needs") ∈ lw_all := lw_g (lw_at lw_m1 121 rfl) rfl
theorem q200 : (Jvm.Cond.laysFinal "SecondChances$Rules" "SecondChances$Rules" "weather" "[Z") ∈ lw_all := lw_g (lw_at lw_m1 122 rfl) rfl
theorem q201 : (Jvm.Cond.soleField "SecondChances$Rules" "weather") ∈ lw_all := lw_g (lw_at lw_m1 123 rfl) rfl
theorem q202 : (Jvm.Cond.laysFinal "SecondChances$Rules" "SecondChances$Rules" "place" "[Z") ∈ lw_all := lw_g (lw_at lw_m1 124 rfl) rfl
theorem q203 : (Jvm.Cond.soleField "SecondChances$Rules" "place") ∈ lw_all := lw_g (lw_at lw_m1 125 rfl) rfl
theorem q204 : (Jvm.Cond.lays "SecondChances$Rules" "SecondChances$Rules" "parts" "I") ∈ lw_all := lw_g (lw_at lw_m1 126 rfl) rfl
theorem q205 : (Jvm.Cond.soleField "SecondChances$Rules" "parts") ∈ lw_all := lw_g (lw_at lw_m1 127 rfl) rfl
theorem q206 : (Jvm.Cond.laysFinal "SecondChances$Rules" "SecondChances$Text" "bytes" "[I") ∈ lw_all := lw_g (lw_at lw_m1 128 rfl) rfl
theorem q207 : (Jvm.Cond.lays "SecondChances$Rules" "SecondChances$Text" "typed" "I") ∈ lw_all := lw_g (lw_at lw_m1 129 rfl) rfl
theorem q208 : (Jvm.Cond.lays "SecondChances$Rules" "SecondChances$Text" "at" "I") ∈ lw_all := lw_g (lw_at lw_m1 130 rfl) rfl
theorem q209 : (Jvm.Cond.lays "SecondChances$Rules" "SecondChances$Text" "fresh" "Z") ∈ lw_all := lw_g (lw_at lw_m1 131 rfl) rfl
theorem q210 : (Jvm.Cond.lays "SecondChances$Rules" "SecondChances$Text" "fault" "I") ∈ lw_all := lw_g (lw_at lw_m1 132 rfl) rfl
theorem q211 : (Jvm.Cond.superclass "SecondChances$Rules" "SecondChances$Text") ∈ lw_all := lw_g (lw_at lw_m1 133 rfl) rfl
theorem q361 : (Jvm.Cond.selects "SecondChances$Rules" ({ cls := "SecondChances$Text", name := "type", desc := "(I)I" } : Jvm.MethodName) ({ cls := "SecondChances$Text", name := "type", desc := "(I)I" } : Jvm.MethodName)) ∈ lw_all := lw_g (lw_at lw_m2 43 rfl) rfl
theorem q371 : (Jvm.Cond.selects "SecondChances$Rules" ({ cls := "SecondChances$Text", name := "wipe", desc := "()I" } : Jvm.MethodName) ({ cls := "SecondChances$Text", name := "wipe", desc := "()I" } : Jvm.MethodName)) ∈ lw_all := lw_g (lw_at lw_m2 53 rfl) rfl
theorem q381 : (Jvm.Cond.selects "SecondChances$Rules" ({ cls := "SecondChances$Text", name := "read", desc := "()I" } : Jvm.MethodName) ({ cls := "SecondChances$Text", name := "read", desc := "()I" } : Jvm.MethodName)) ∈ lw_all := lw_g (lw_at lw_m2 63 rfl) rfl
theorem q398 : (Jvm.Cond.selects "SecondChances$Rules" ({ cls := "SecondChances$Text", name := "clears", desc := "()V" } : Jvm.MethodName) ({ cls := "SecondChances$Rules", name := "clears", desc := "()V" } : Jvm.MethodName)) ∈ lw_all := lw_g (lw_at lw_m2 80 rfl) rfl
theorem q399 : (Jvm.Cond.instanceMethod ({ cls := "SecondChances$Rules", name := "clears", desc := "()V" } : Jvm.MethodName)) ∈ lw_all := lw_g (lw_at lw_m2 81 rfl) rfl
theorem q400 : (Jvm.Cond.code ({ cls := "SecondChances$Rules", name := "clears", desc := "()V" } : Jvm.MethodName) prog_5_method_2_code (2 : Nat) (Option.none : Option Jvm.ClassFile.FieldType)) ∈ lw_all := lw_g (lw_at lw_m2 82 rfl) rfl
theorem q409 : (Jvm.Cond.selects "SecondChances$Rules" ({ cls := "SecondChances$Text", name := "here", desc := "()I" } : Jvm.MethodName) ({ cls := "SecondChances$Text", name := "here", desc := "()I" } : Jvm.MethodName)) ∈ lw_all := lw_g (lw_at lw_m2 91 rfl) rfl
theorem q421 : (Jvm.Cond.selects "SecondChances$Rules" ({ cls := "SecondChances$Text", name := "hasRoom", desc := "()Z" } : Jvm.MethodName) ({ cls := "SecondChances$Text", name := "hasRoom", desc := "()Z" } : Jvm.MethodName)) ∈ lw_all := lw_g (lw_at lw_m2 103 rfl) rfl
theorem q427 : (Jvm.Cond.selects "SecondChances$Rules" ({ cls := "SecondChances$Text", name := "torn", desc := "()LSecondChances$Torn;" } : Jvm.MethodName) ({ cls := "SecondChances$Text", name := "torn", desc := "()LSecondChances$Torn;" } : Jvm.MethodName)) ∈ lw_all := lw_g (lw_at lw_m2 109 rfl) rfl
theorem q588 : (Jvm.Cond.selects "SecondChances$Rules" ({ cls := "java/lang/Object", name := "getClass", desc := "()Ljava/lang/Class;" } : Jvm.MethodName) ({ cls := "java/lang/Object", name := "getClass", desc := "()Ljava/lang/Class;" } : Jvm.MethodName)) ∈ lw_all := lw_g (lw_at lw_m3 30 rfl) rfl
theorem q612 : (Jvm.Cond.selects "SecondChances$Rules" ({ cls := "SecondChances$Text", name := "part", desc := "(I)V" } : Jvm.MethodName) ({ cls := "SecondChances$Rules", name := "part", desc := "(I)V" } : Jvm.MethodName)) ∈ lw_all := lw_g (lw_at lw_m3 54 rfl) rfl
theorem q613 : (Jvm.Cond.instanceMethod ({ cls := "SecondChances$Rules", name := "part", desc := "(I)V" } : Jvm.MethodName)) ∈ lw_all := lw_g (lw_at lw_m3 55 rfl) rfl
theorem q614 : (Jvm.Cond.code ({ cls := "SecondChances$Rules", name := "part", desc := "(I)V" } : Jvm.MethodName) prog_5_method_3_code (2 : Nat) (Option.none : Option Jvm.ClassFile.FieldType)) ∈ lw_all := lw_g (lw_at lw_m3 56 rfl) rfl
theorem q615 : (Jvm.Cond.methodLink "SecondChances$Rules" (26 : Nat) ({ cls := "SecondChances$Rules", name := "figure", desc := "(II)I" } : Jvm.MethodName)) ∈ lw_all := lw_g (lw_at lw_m3 57 rfl) rfl
theorem q616 : (Jvm.Cond.sameMethod "SecondChances$Rules" "SecondChances$Text" "figure" "(II)I") ∈ lw_all := lw_g (lw_at lw_m3 58 rfl) rfl
theorem q617 : (Jvm.Cond.selects "SecondChances$Rules" ({ cls := "SecondChances$Rules", name := "figure", desc := "(II)I" } : Jvm.MethodName) ({ cls := "SecondChances$Text", name := "figure", desc := "(II)I" } : Jvm.MethodName)) ∈ lw_all := lw_g (lw_at lw_m3 59 rfl) rfl
theorem q618 : (Jvm.Cond.methodLink "SecondChances$Rules" (30 : Nat) ({ cls := "SecondChances$Rules", name := "passes", desc := "(I)Z" } : Jvm.MethodName)) ∈ lw_all := lw_g (lw_at lw_m3 60 rfl) rfl
theorem q619 : (Jvm.Cond.sameMethod "SecondChances$Rules" "SecondChances$Text" "passes" "(I)Z") ∈ lw_all := lw_g (lw_at lw_m3 61 rfl) rfl
theorem q620 : (Jvm.Cond.selects "SecondChances$Rules" ({ cls := "SecondChances$Rules", name := "passes", desc := "(I)Z" } : Jvm.MethodName) ({ cls := "SecondChances$Text", name := "passes", desc := "(I)Z" } : Jvm.MethodName)) ∈ lw_all := lw_g (lw_at lw_m3 62 rfl) rfl
theorem q639 : (Jvm.Cond.sameMethod "SecondChances$Rules" "SecondChances$Text" "read" "()I") ∈ lw_all := lw_g (lw_at lw_m3 81 rfl) rfl
theorem q640 : (Jvm.Cond.selects "SecondChances$Rules" ({ cls := "SecondChances$Rules", name := "read", desc := "()I" } : Jvm.MethodName) ({ cls := "SecondChances$Text", name := "read", desc := "()I" } : Jvm.MethodName)) ∈ lw_all := lw_g (lw_at lw_m3 82 rfl) rfl
theorem q1498 : (Jvm.Cond.selects "SecondChances$Rules" ({ cls := "SecondChances$Text", name := "passes", desc := "(I)Z" } : Jvm.MethodName) ({ cls := "SecondChances$Text", name := "passes", desc := "(I)Z" } : Jvm.MethodName)) ∈ lw_all := lw_g (lw_at lw_m6 220 rfl) rfl
theorem q1505 : (Jvm.Cond.castable "SecondChances$Rules" "java/lang/Object") ∈ lw_tbl := lw_at lw_m6 227 rfl
theorem in_X4 : ∀ w ∈ wsX40, w ∈ lw_all := lw_in wsX40 [206, 207, 208, 209, 210, 198, 200, 202, 204] (by decide +kernel) (by decide +kernel)

/-! SecondChances$Sheet -/
set_option maxRecDepth 100000
def RX5 : String := "SecondChances$Sheet"
def TX5 : u_T := fun k => match k with
  | _ => ("SecondChances$Sheet", "row", "Ljava/lang/Object;", false)
def tyX5 : Nat → FieldType := fun k => match k with
  | _ => .object "java/lang/Object"
abbrev wsX50 : List Cond := u_ws RX5 TX5 1
theorem nmX5 : ∀ a, a < 1 → ∀ b, b < 1 → a ≠ b → (TX5 a).2.1 ≠ (TX5 b).2.1 := by decide +kernel
theorem tyX5_ok : ∀ k, k < 1 → parseFieldDescriptor (TX5 k).2.2.1 = some (tyX5 k) := by decide +kernel
abbrev cX5_init : ByteArray := prog_6_method_1_code
def yX5_init : MethodName := ⟨RX5, "<init>", "()V"⟩
theorem dX5_init_0 : decode cX5_init 0 = .ok (.aload_n 0, 1) := by decide +kernel
theorem dX5_init_1 : decode cX5_init 1 = .ok (.invokespecial 1, 3) := by decide +kernel
theorem dX5_init_4 : decode cX5_init 4 = .ok (.return_, 1) := by decide +kernel
abbrev cX5_size : ByteArray := prog_6_method_3_code
def yX5_size : MethodName := ⟨RX5, "size", "()I"⟩
def dkwX5_size_3 : List UInt8 := [192, 0, 21, 190, 172]
abbrev dktX5_size_3 : List UInt8 := dkwX5_size_3 ++ []
def dkwX5_size_2 : List UInt8 := [42, 180, 0, 7, 192, 0, 13, 190, 172, 42, 180, 0, 7, 192, 0, 15, 190, 172, 42, 180, 0, 7]
abbrev dktX5_size_2 : List UInt8 := dkwX5_size_2 ++ dktX5_size_3
def dkwX5_size_1 : List UInt8 := [171, 0, 0, 0, 0, 0, 0, 46, 0, 0, 0, 2, 0, 0, 0, 0, 0, 0, 0, 28, 0, 0, 0, 1, 0, 0, 0, 37]
abbrev dktX5_size_1 : List UInt8 := dkwX5_size_1 ++ dktX5_size_2
def dkwX5_size_0 : List UInt8 := [42, 182, 0, 17]
abbrev dktX5_size_0 : List UInt8 := dkwX5_size_0 ++ dktX5_size_1
theorem dksX5_size_0 : cX5_size.data.toList.drop 0 = dktX5_size_0 := by decide +kernel
theorem dksX5_size_1 : cX5_size.data.toList.drop 4 = dktX5_size_1 := dk_seg dksX5_size_0 4 rfl rfl
theorem dksX5_size_2 : cX5_size.data.toList.drop 32 = dktX5_size_2 := dk_seg dksX5_size_1 28 rfl rfl
theorem dksX5_size_3 : cX5_size.data.toList.drop 54 = dktX5_size_3 := dk_seg dksX5_size_2 22 rfl rfl
theorem dX5_size_0 : decode cX5_size 0 = .ok (.aload_n 0, 1) := dk_42 (dk_at dksX5_size_0 0 rfl rfl)
theorem dX5_size_1 : decode cX5_size 1 = .ok (.invokevirtual 17, 3) := dk_182 0 17 (dk_at dksX5_size_0 1 rfl rfl)
theorem dX5_size_4 : decode cX5_size 4 = .ok (.lookupswitch 46 #[(0, 28), (1, 37)], 28) := by decide +kernel
theorem dX5_size_32 : decode cX5_size 32 = .ok (.aload_n 0, 1) := dk_42 (dk_at dksX5_size_2 0 rfl rfl)
theorem dX5_size_33 : decode cX5_size 33 = .ok (.getfield 7, 3) := dk_180 0 7 (dk_at dksX5_size_2 1 rfl rfl)
theorem dX5_size_36 : decode cX5_size 36 = .ok (.checkcast 13, 3) := dk_192 0 13 (dk_at dksX5_size_2 4 rfl rfl)
theorem dX5_size_39 : decode cX5_size 39 = .ok (.arraylength, 1) := dk_190 (dk_at dksX5_size_2 7 rfl rfl)
theorem dX5_size_40 : decode cX5_size 40 = .ok (.ireturn, 1) := dk_172 (dk_at dksX5_size_2 8 rfl rfl)
theorem dX5_size_41 : decode cX5_size 41 = .ok (.aload_n 0, 1) := dk_42 (dk_at dksX5_size_2 9 rfl rfl)
theorem dX5_size_42 : decode cX5_size 42 = .ok (.getfield 7, 3) := dk_180 0 7 (dk_at dksX5_size_2 10 rfl rfl)
theorem dX5_size_45 : decode cX5_size 45 = .ok (.checkcast 15, 3) := dk_192 0 15 (dk_at dksX5_size_2 13 rfl rfl)
theorem dX5_size_48 : decode cX5_size 48 = .ok (.arraylength, 1) := dk_190 (dk_at dksX5_size_2 16 rfl rfl)
theorem dX5_size_49 : decode cX5_size 49 = .ok (.ireturn, 1) := dk_172 (dk_at dksX5_size_2 17 rfl rfl)
theorem dX5_size_50 : decode cX5_size 50 = .ok (.aload_n 0, 1) := dk_42 (dk_at dksX5_size_2 18 rfl rfl)
theorem dX5_size_51 : decode cX5_size 51 = .ok (.getfield 7, 3) := dk_180 0 7 (dk_at dksX5_size_2 19 rfl rfl)
theorem dX5_size_54 : decode cX5_size 54 = .ok (.checkcast 21, 3) := dk_192 0 21 (dk_at dksX5_size_3 0 rfl rfl)
theorem dX5_size_57 : decode cX5_size 57 = .ok (.arraylength, 1) := dk_190 (dk_at dksX5_size_3 3 rfl rfl)
theorem dX5_size_58 : decode cX5_size 58 = .ok (.ireturn, 1) := dk_172 (dk_at dksX5_size_3 4 rfl rfl)
abbrev cX5_type : ByteArray := prog_6_method_2_code
def yX5_type : MethodName := ⟨RX5, "type", "()I"⟩
def dkwX5_type_1 : List UInt8 := [4, 167, 0, 4, 5, 172]
abbrev dktX5_type_1 : List UInt8 := dkwX5_type_1 ++ []
def dkwX5_type_0 : List UInt8 := [42, 180, 0, 7, 193, 0, 13, 153, 0, 7, 3, 167, 0, 18, 42, 180, 0, 7, 193, 0, 15, 153, 0, 7]
abbrev dktX5_type_0 : List UInt8 := dkwX5_type_0 ++ dktX5_type_1
theorem dksX5_type_0 : cX5_type.data.toList.drop 0 = dktX5_type_0 := by decide +kernel
theorem dksX5_type_1 : cX5_type.data.toList.drop 24 = dktX5_type_1 := dk_seg dksX5_type_0 24 rfl rfl
theorem dX5_type_0 : decode cX5_type 0 = .ok (.aload_n 0, 1) := dk_42 (dk_at dksX5_type_0 0 rfl rfl)
theorem dX5_type_1 : decode cX5_type 1 = .ok (.getfield 7, 3) := dk_180 0 7 (dk_at dksX5_type_0 1 rfl rfl)
theorem dX5_type_4 : decode cX5_type 4 = .ok (.instanceof 13, 3) := dk_193 0 13 (dk_at dksX5_type_0 4 rfl rfl)
theorem dX5_type_7 : decode cX5_type 7 = .ok (.ifCond .eq 7, 3) := dk_153 0 7 (dk_at dksX5_type_0 7 rfl rfl)
theorem dX5_type_10 : decode cX5_type 10 = .ok (.iconst 0, 1) := dk_3 (dk_at dksX5_type_0 10 rfl rfl)
theorem dX5_type_11 : decode cX5_type 11 = .ok (.goto 18, 3) := dk_167 0 18 (dk_at dksX5_type_0 11 rfl rfl)
theorem dX5_type_14 : decode cX5_type 14 = .ok (.aload_n 0, 1) := dk_42 (dk_at dksX5_type_0 14 rfl rfl)
theorem dX5_type_15 : decode cX5_type 15 = .ok (.getfield 7, 3) := dk_180 0 7 (dk_at dksX5_type_0 15 rfl rfl)
theorem dX5_type_18 : decode cX5_type 18 = .ok (.instanceof 15, 3) := dk_193 0 15 (dk_at dksX5_type_0 18 rfl rfl)
theorem dX5_type_21 : decode cX5_type 21 = .ok (.ifCond .eq 7, 3) := dk_153 0 7 (dk_at dksX5_type_0 21 rfl rfl)
theorem dX5_type_24 : decode cX5_type 24 = .ok (.iconst 1, 1) := dk_4 (dk_at dksX5_type_1 0 rfl rfl)
theorem dX5_type_25 : decode cX5_type 25 = .ok (.goto 4, 3) := dk_167 0 4 (dk_at dksX5_type_1 1 rfl rfl)
theorem dX5_type_28 : decode cX5_type 28 = .ok (.iconst 2, 1) := dk_5 (dk_at dksX5_type_1 4 rfl rfl)
theorem dX5_type_29 : decode cX5_type 29 = .ok (.ireturn, 1) := dk_172 (dk_at dksX5_type_1 5 rfl rfl)
abbrev cX5_item : ByteArray := prog_6_method_4_code
def yX5_item : MethodName := ⟨RX5, "item", "(II)I"⟩
def dkwX5_item_3 : List UInt8 := [192, 0, 21, 28, 46, 172]
abbrev dktX5_item_3 : List UInt8 := dkwX5_item_3 ++ []
def dkwX5_item_2 : List UInt8 := [42, 180, 0, 7, 192, 0, 13, 28, 51, 172, 42, 180, 0, 7, 192, 0, 15, 28, 53, 172, 42, 180, 0, 7]
abbrev dktX5_item_2 : List UInt8 := dkwX5_item_2 ++ dktX5_item_3
def dkwX5_item_1 : List UInt8 := [171, 0, 0, 0, 0, 0, 47, 0, 0, 0, 2, 0, 0, 0, 0, 0, 0, 0, 27, 0, 0, 0, 1, 0, 0, 0, 37]
abbrev dktX5_item_1 : List UInt8 := dkwX5_item_1 ++ dktX5_item_2
def dkwX5_item_0 : List UInt8 := [27]
abbrev dktX5_item_0 : List UInt8 := dkwX5_item_0 ++ dktX5_item_1
theorem dksX5_item_0 : cX5_item.data.toList.drop 0 = dktX5_item_0 := by decide +kernel
theorem dksX5_item_1 : cX5_item.data.toList.drop 1 = dktX5_item_1 := dk_seg dksX5_item_0 1 rfl rfl
theorem dksX5_item_2 : cX5_item.data.toList.drop 28 = dktX5_item_2 := dk_seg dksX5_item_1 27 rfl rfl
theorem dksX5_item_3 : cX5_item.data.toList.drop 52 = dktX5_item_3 := dk_seg dksX5_item_2 24 rfl rfl
theorem dX5_item_0 : decode cX5_item 0 = .ok (.iload_n 1, 1) := dk_27 (dk_at dksX5_item_0 0 rfl rfl)
theorem dX5_item_1 : decode cX5_item 1 = .ok (.lookupswitch 47 #[(0, 27), (1, 37)], 27) := by decide +kernel
theorem dX5_item_28 : decode cX5_item 28 = .ok (.aload_n 0, 1) := dk_42 (dk_at dksX5_item_2 0 rfl rfl)
theorem dX5_item_29 : decode cX5_item 29 = .ok (.getfield 7, 3) := dk_180 0 7 (dk_at dksX5_item_2 1 rfl rfl)
theorem dX5_item_32 : decode cX5_item 32 = .ok (.checkcast 13, 3) := dk_192 0 13 (dk_at dksX5_item_2 4 rfl rfl)
theorem dX5_item_35 : decode cX5_item 35 = .ok (.iload_n 2, 1) := dk_28 (dk_at dksX5_item_2 7 rfl rfl)
theorem dX5_item_36 : decode cX5_item 36 = .ok (.baload, 1) := dk_51 (dk_at dksX5_item_2 8 rfl rfl)
theorem dX5_item_37 : decode cX5_item 37 = .ok (.ireturn, 1) := dk_172 (dk_at dksX5_item_2 9 rfl rfl)
theorem dX5_item_38 : decode cX5_item 38 = .ok (.aload_n 0, 1) := dk_42 (dk_at dksX5_item_2 10 rfl rfl)
theorem dX5_item_39 : decode cX5_item 39 = .ok (.getfield 7, 3) := dk_180 0 7 (dk_at dksX5_item_2 11 rfl rfl)
theorem dX5_item_42 : decode cX5_item 42 = .ok (.checkcast 15, 3) := dk_192 0 15 (dk_at dksX5_item_2 14 rfl rfl)
theorem dX5_item_45 : decode cX5_item 45 = .ok (.iload_n 2, 1) := dk_28 (dk_at dksX5_item_2 17 rfl rfl)
theorem dX5_item_46 : decode cX5_item 46 = .ok (.saload, 1) := dk_53 (dk_at dksX5_item_2 18 rfl rfl)
theorem dX5_item_47 : decode cX5_item 47 = .ok (.ireturn, 1) := dk_172 (dk_at dksX5_item_2 19 rfl rfl)
theorem dX5_item_48 : decode cX5_item 48 = .ok (.aload_n 0, 1) := dk_42 (dk_at dksX5_item_2 20 rfl rfl)
theorem dX5_item_49 : decode cX5_item 49 = .ok (.getfield 7, 3) := dk_180 0 7 (dk_at dksX5_item_2 21 rfl rfl)
theorem dX5_item_52 : decode cX5_item 52 = .ok (.checkcast 21, 3) := dk_192 0 21 (dk_at dksX5_item_3 0 rfl rfl)
theorem dX5_item_55 : decode cX5_item 55 = .ok (.iload_n 2, 1) := dk_28 (dk_at dksX5_item_3 3 rfl rfl)
theorem dX5_item_56 : decode cX5_item 56 = .ok (.iaload, 1) := dk_46 (dk_at dksX5_item_3 4 rfl rfl)
theorem dX5_item_57 : decode cX5_item 57 = .ok (.ireturn, 1) := dk_172 (dk_at dksX5_item_3 5 rfl rfl)
abbrev cX5_lay : ByteArray := prog_6_method_5_code
def yX5_lay : MethodName := ⟨RX5, "lay", "(III)V"⟩
def dkwX5_lay_3 : List UInt8 := [86, 167, 0, 13, 42, 180, 0, 7, 192, 0, 21, 28, 29, 79, 177]
abbrev dktX5_lay_3 : List UInt8 := dkwX5_lay_3 ++ []
def dkwX5_lay_2 : List UInt8 := [42, 180, 0, 7, 192, 0, 13, 28, 29, 145, 84, 167, 0, 27, 42, 180, 0, 7, 192, 0, 15, 28, 29, 147]
abbrev dktX5_lay_2 : List UInt8 := dkwX5_lay_2 ++ dktX5_lay_3
def dkwX5_lay_1 : List UInt8 := [171, 0, 0, 0, 0, 0, 55, 0, 0, 0, 2, 0, 0, 0, 0, 0, 0, 0, 27, 0, 0, 0, 1, 0, 0, 0, 41]
abbrev dktX5_lay_1 : List UInt8 := dkwX5_lay_1 ++ dktX5_lay_2
def dkwX5_lay_0 : List UInt8 := [27]
abbrev dktX5_lay_0 : List UInt8 := dkwX5_lay_0 ++ dktX5_lay_1
theorem dksX5_lay_0 : cX5_lay.data.toList.drop 0 = dktX5_lay_0 := by decide +kernel
theorem dksX5_lay_1 : cX5_lay.data.toList.drop 1 = dktX5_lay_1 := dk_seg dksX5_lay_0 1 rfl rfl
theorem dksX5_lay_2 : cX5_lay.data.toList.drop 28 = dktX5_lay_2 := dk_seg dksX5_lay_1 27 rfl rfl
theorem dksX5_lay_3 : cX5_lay.data.toList.drop 52 = dktX5_lay_3 := dk_seg dksX5_lay_2 24 rfl rfl
theorem dX5_lay_0 : decode cX5_lay 0 = .ok (.iload_n 1, 1) := dk_27 (dk_at dksX5_lay_0 0 rfl rfl)
theorem dX5_lay_1 : decode cX5_lay 1 = .ok (.lookupswitch 55 #[(0, 27), (1, 41)], 27) := by decide +kernel
theorem dX5_lay_28 : decode cX5_lay 28 = .ok (.aload_n 0, 1) := dk_42 (dk_at dksX5_lay_2 0 rfl rfl)
theorem dX5_lay_29 : decode cX5_lay 29 = .ok (.getfield 7, 3) := dk_180 0 7 (dk_at dksX5_lay_2 1 rfl rfl)
theorem dX5_lay_32 : decode cX5_lay 32 = .ok (.checkcast 13, 3) := dk_192 0 13 (dk_at dksX5_lay_2 4 rfl rfl)
theorem dX5_lay_35 : decode cX5_lay 35 = .ok (.iload_n 2, 1) := dk_28 (dk_at dksX5_lay_2 7 rfl rfl)
theorem dX5_lay_36 : decode cX5_lay 36 = .ok (.iload_n 3, 1) := dk_29 (dk_at dksX5_lay_2 8 rfl rfl)
theorem dX5_lay_37 : decode cX5_lay 37 = .ok (.i2b, 1) := dk_145 (dk_at dksX5_lay_2 9 rfl rfl)
theorem dX5_lay_38 : decode cX5_lay 38 = .ok (.bastore, 1) := dk_84 (dk_at dksX5_lay_2 10 rfl rfl)
theorem dX5_lay_39 : decode cX5_lay 39 = .ok (.goto 27, 3) := dk_167 0 27 (dk_at dksX5_lay_2 11 rfl rfl)
theorem dX5_lay_42 : decode cX5_lay 42 = .ok (.aload_n 0, 1) := dk_42 (dk_at dksX5_lay_2 14 rfl rfl)
theorem dX5_lay_43 : decode cX5_lay 43 = .ok (.getfield 7, 3) := dk_180 0 7 (dk_at dksX5_lay_2 15 rfl rfl)
theorem dX5_lay_46 : decode cX5_lay 46 = .ok (.checkcast 15, 3) := dk_192 0 15 (dk_at dksX5_lay_2 18 rfl rfl)
theorem dX5_lay_49 : decode cX5_lay 49 = .ok (.iload_n 2, 1) := dk_28 (dk_at dksX5_lay_2 21 rfl rfl)
theorem dX5_lay_50 : decode cX5_lay 50 = .ok (.iload_n 3, 1) := dk_29 (dk_at dksX5_lay_2 22 rfl rfl)
theorem dX5_lay_51 : decode cX5_lay 51 = .ok (.i2s, 1) := dk_147 (dk_at dksX5_lay_2 23 rfl rfl)
theorem dX5_lay_52 : decode cX5_lay 52 = .ok (.sastore, 1) := dk_86 (dk_at dksX5_lay_3 0 rfl rfl)
theorem dX5_lay_53 : decode cX5_lay 53 = .ok (.goto 13, 3) := dk_167 0 13 (dk_at dksX5_lay_3 1 rfl rfl)
theorem dX5_lay_56 : decode cX5_lay 56 = .ok (.aload_n 0, 1) := dk_42 (dk_at dksX5_lay_3 4 rfl rfl)
theorem dX5_lay_57 : decode cX5_lay 57 = .ok (.getfield 7, 3) := dk_180 0 7 (dk_at dksX5_lay_3 5 rfl rfl)
theorem dX5_lay_60 : decode cX5_lay 60 = .ok (.checkcast 21, 3) := dk_192 0 21 (dk_at dksX5_lay_3 8 rfl rfl)
theorem dX5_lay_63 : decode cX5_lay 63 = .ok (.iload_n 2, 1) := dk_28 (dk_at dksX5_lay_3 11 rfl rfl)
theorem dX5_lay_64 : decode cX5_lay 64 = .ok (.iload_n 3, 1) := dk_29 (dk_at dksX5_lay_3 12 rfl rfl)
theorem dX5_lay_65 : decode cX5_lay 65 = .ok (.iastore, 1) := dk_79 (dk_at dksX5_lay_3 13 rfl rfl)
theorem dX5_lay_66 : decode cX5_lay 66 = .ok (.return_, 1) := dk_177 (dk_at dksX5_lay_3 14 rfl rfl)
theorem q87 : (Jvm.Cond.initialized "SecondChances$Sheet") ∈ lw_all := lw_g (lw_at lw_m1 9 rfl) rfl
theorem q219 : (Jvm.Cond.instantiable "SecondChances$Sheet" (1 : Nat)) ∈ lw_all := lw_g (lw_at lw_m1 141 rfl) rfl
theorem q221 : (Jvm.Cond.instanceMethod ({ cls := "SecondChances$Sheet", name := "<init>", desc := "()V" } : Jvm.MethodName)) ∈ lw_all := lw_g (lw_at lw_m1 143 rfl) rfl
theorem q222 : (Jvm.Cond.code ({ cls := "SecondChances$Sheet", name := "<init>", desc := "()V" } : Jvm.MethodName) prog_6_method_1_code (1 : Nat) (Option.none : Option Jvm.ClassFile.FieldType)) ∈ lw_all := lw_g (lw_at lw_m1 144 rfl) rfl
theorem q223 : (Jvm.Cond.methodLink "SecondChances$Sheet" (1 : Nat) ({ cls := "java/lang/Object", name := "<init>", desc := "()V" } : Jvm.MethodName)) ∈ lw_all := lw_g (lw_at lw_m1 145 rfl) rfl
theorem q224 : (Jvm.Cond.fieldLink "SecondChances$Sheet" (7 : Nat) "SecondChances$Sheet" "row" "Ljava/lang/Object;") ∈ lw_all := lw_g (lw_at lw_m1 146 rfl) rfl
theorem q226 : (Jvm.Cond.lays "SecondChances$Sheet" "SecondChances$Sheet" "row" "Ljava/lang/Object;") ∈ lw_all := lw_g (lw_at lw_m1 148 rfl) rfl
theorem q227 : (Jvm.Cond.soleField "SecondChances$Sheet" "row") ∈ lw_all := lw_g (lw_at lw_m1 149 rfl) rfl
theorem q228 : (Jvm.Cond.superclass "SecondChances$Sheet" "java/lang/Object") ∈ lw_all := lw_g (lw_at lw_m1 150 rfl) rfl
theorem q332 : (Jvm.Cond.instanceMethod ({ cls := "SecondChances$Sheet", name := "size", desc := "()I" } : Jvm.MethodName)) ∈ lw_all := lw_g (lw_at lw_m2 14 rfl) rfl
theorem q333 : (Jvm.Cond.selects "SecondChances$Sheet" ({ cls := "SecondChances$Sheet", name := "size", desc := "()I" } : Jvm.MethodName) ({ cls := "SecondChances$Sheet", name := "size", desc := "()I" } : Jvm.MethodName)) ∈ lw_all := lw_g (lw_at lw_m2 15 rfl) rfl
theorem q334 : (Jvm.Cond.code ({ cls := "SecondChances$Sheet", name := "size", desc := "()I" } : Jvm.MethodName) prog_6_method_3_code (1 : Nat) (Option.some Jvm.ClassFile.FieldType.int)) ∈ lw_all := lw_g (lw_at lw_m2 16 rfl) rfl
theorem q335 : (Jvm.Cond.methodLink "SecondChances$Sheet" (17 : Nat) ({ cls := "SecondChances$Sheet", name := "type", desc := "()I" } : Jvm.MethodName)) ∈ lw_all := lw_g (lw_at lw_m2 17 rfl) rfl
theorem q336 : (Jvm.Cond.instanceMethod ({ cls := "SecondChances$Sheet", name := "type", desc := "()I" } : Jvm.MethodName)) ∈ lw_all := lw_g (lw_at lw_m2 18 rfl) rfl
theorem q337 : (Jvm.Cond.selects "SecondChances$Sheet" ({ cls := "SecondChances$Sheet", name := "type", desc := "()I" } : Jvm.MethodName) ({ cls := "SecondChances$Sheet", name := "type", desc := "()I" } : Jvm.MethodName)) ∈ lw_all := lw_g (lw_at lw_m2 19 rfl) rfl
theorem q338 : (Jvm.Cond.code ({ cls := "SecondChances$Sheet", name := "type", desc := "()I" } : Jvm.MethodName) prog_6_method_2_code (1 : Nat) (Option.some Jvm.ClassFile.FieldType.int)) ∈ lw_all := lw_g (lw_at lw_m2 20 rfl) rfl
theorem q339 : (Jvm.Cond.classLink "SecondChances$Sheet" (13 : Nat) "[B") ∈ lw_all := lw_g (lw_at lw_m2 21 rfl) rfl
theorem q340 : (Jvm.Cond.classLink "SecondChances$Sheet" (15 : Nat) "[S") ∈ lw_all := lw_g (lw_at lw_m2 22 rfl) rfl
theorem q341 : (Jvm.Cond.classLink "SecondChances$Sheet" (21 : Nat) "[I") ∈ lw_all := lw_g (lw_at lw_m2 23 rfl) rfl
theorem q344 : (Jvm.Cond.instanceMethod ({ cls := "SecondChances$Sheet", name := "item", desc := "(II)I" } : Jvm.MethodName)) ∈ lw_all := lw_g (lw_at lw_m2 26 rfl) rfl
theorem q345 : (Jvm.Cond.selects "SecondChances$Sheet" ({ cls := "SecondChances$Sheet", name := "item", desc := "(II)I" } : Jvm.MethodName) ({ cls := "SecondChances$Sheet", name := "item", desc := "(II)I" } : Jvm.MethodName)) ∈ lw_all := lw_g (lw_at lw_m2 27 rfl) rfl
theorem q346 : (Jvm.Cond.code ({ cls := "SecondChances$Sheet", name := "item", desc := "(II)I" } : Jvm.MethodName) prog_6_method_4_code (3 : Nat) (Option.some Jvm.ClassFile.FieldType.int)) ∈ lw_all := lw_g (lw_at lw_m2 28 rfl) rfl
theorem q589 : (Jvm.Cond.selects "SecondChances$Sheet" ({ cls := "java/lang/Object", name := "getClass", desc := "()Ljava/lang/Class;" } : Jvm.MethodName) ({ cls := "java/lang/Object", name := "getClass", desc := "()Ljava/lang/Class;" } : Jvm.MethodName)) ∈ lw_all := lw_g (lw_at lw_m3 31 rfl) rfl
theorem q1008 : (Jvm.Cond.instanceMethod ({ cls := "SecondChances$Sheet", name := "lay", desc := "(III)V" } : Jvm.MethodName)) ∈ lw_all := lw_g (lw_at lw_m4 210 rfl) rfl
theorem q1009 : (Jvm.Cond.selects "SecondChances$Sheet" ({ cls := "SecondChances$Sheet", name := "lay", desc := "(III)V" } : Jvm.MethodName) ({ cls := "SecondChances$Sheet", name := "lay", desc := "(III)V" } : Jvm.MethodName)) ∈ lw_all := lw_g (lw_at lw_m4 211 rfl) rfl
theorem q1010 : (Jvm.Cond.code ({ cls := "SecondChances$Sheet", name := "lay", desc := "(III)V" } : Jvm.MethodName) prog_6_method_5_code (4 : Nat) (Option.none : Option Jvm.ClassFile.FieldType)) ∈ lw_all := lw_g (lw_at lw_m4 212 rfl) rfl
theorem q1501 : (Jvm.Cond.castable "SecondChances$Sheet" "java/lang/Object") ∈ lw_tbl := lw_at lw_m6 223 rfl
theorem in_X5 : ∀ w ∈ wsX50, w ∈ lw_all := lw_in wsX50 [226] (by decide +kernel) (by decide +kernel)

/-! SecondChances$Torn -/
set_option maxRecDepth 100000
def RX7 : String := "SecondChances$Torn"
def TX7 : u_T := fun k => match k with
  | 0 => ("java/lang/Throwable", "cause", "Ljava/lang/Throwable;", false)
  | 1 => ("java/lang/Throwable", "stackTrace", "[Ljava/lang/StackTraceElement;", false)
  | 2 => ("java/lang/Throwable", "suppressedExceptions", "Ljava/util/List;", false)
  | 3 => ("java/lang/Throwable", "detailMessage", "Ljava/lang/String;", false)
  | 4 => ("java/lang/Throwable", "backtrace", "Ljava/lang/Object;", false)
  | 5 => ("java/lang/Throwable", "depth", "I", false)
  | _ => ("SecondChances$Torn", "place", "I", true)
def tyX7 : Nat → FieldType := fun k => match k with
  | 0 => .object "java/lang/Throwable"
  | 1 => .array (.object "java/lang/StackTraceElement")
  | 2 => .object "java/util/List"
  | 3 => .object "java/lang/String"
  | 4 => .object "java/lang/Object"
  | 5 => .int
  | _ => .int
abbrev wsX70 : List Cond := u_ws RX7 TX7 7
theorem nmX7 : ∀ a, a < 7 → ∀ b, b < 7 → a ≠ b → (TX7 a).2.1 ≠ (TX7 b).2.1 := by decide +kernel
theorem tyX7_ok : ∀ k, k < 7 → parseFieldDescriptor (TX7 k).2.2.1 = some (tyX7 k) := by decide +kernel
abbrev cX7_init : ByteArray := prog_9_method_1_code
def yX7_init : MethodName := ⟨RX7, "<init>", "(I)V"⟩
def dkwX7_init_0 : List UInt8 := [42, 1, 1, 3, 3, 183, 0, 1, 42, 27, 181, 0, 7, 177]
abbrev dktX7_init_0 : List UInt8 := dkwX7_init_0 ++ []
theorem dksX7_init_0 : cX7_init.data.toList.drop 0 = dktX7_init_0 := by decide +kernel
theorem dX7_init_0 : decode cX7_init 0 = .ok (.aload_n 0, 1) := dk_42 (dk_at dksX7_init_0 0 rfl rfl)
theorem dX7_init_1 : decode cX7_init 1 = .ok (.aconst_null, 1) := dk_1 (dk_at dksX7_init_0 1 rfl rfl)
theorem dX7_init_2 : decode cX7_init 2 = .ok (.aconst_null, 1) := dk_1 (dk_at dksX7_init_0 2 rfl rfl)
theorem dX7_init_3 : decode cX7_init 3 = .ok (.iconst 0, 1) := dk_3 (dk_at dksX7_init_0 3 rfl rfl)
theorem dX7_init_4 : decode cX7_init 4 = .ok (.iconst 0, 1) := dk_3 (dk_at dksX7_init_0 4 rfl rfl)
theorem dX7_init_5 : decode cX7_init 5 = .ok (.invokespecial 1, 3) := dk_183 0 1 (dk_at dksX7_init_0 5 rfl rfl)
theorem dX7_init_8 : decode cX7_init 8 = .ok (.aload_n 0, 1) := dk_42 (dk_at dksX7_init_0 8 rfl rfl)
theorem dX7_init_9 : decode cX7_init 9 = .ok (.iload_n 1, 1) := dk_27 (dk_at dksX7_init_0 9 rfl rfl)
theorem dX7_init_10 : decode cX7_init 10 = .ok (.putfield 7, 3) := dk_181 0 7 (dk_at dksX7_init_0 10 rfl rfl)
theorem dX7_init_13 : decode cX7_init 13 = .ok (.return_, 1) := dk_177 (dk_at dksX7_init_0 13 rfl rfl)
theorem q91 : (Jvm.Cond.initialized "SecondChances$Torn") ∈ lw_all := lw_g (lw_at lw_m1 13 rfl) rfl
theorem q429 : (Jvm.Cond.instantiable "SecondChances$Torn" (7 : Nat)) ∈ lw_all := lw_g (lw_at lw_m2 111 rfl) rfl
theorem q430 : (Jvm.Cond.castable "SecondChances$Torn" "SecondChances$Torn") ∈ lw_tbl := lw_at lw_m2 112 rfl
theorem q435 : (Jvm.Cond.selects "SecondChances$Torn" ({ cls := "java/lang/Throwable", name := "fillInStackTrace", desc := "(I)Ljava/lang/Throwable;" } : Jvm.MethodName) ({ cls := "java/lang/Throwable", name := "fillInStackTrace", desc := "(I)Ljava/lang/Throwable;" } : Jvm.MethodName)) ∈ lw_all := lw_g (lw_at lw_m2 117 rfl) rfl
theorem q436 : (Jvm.Cond.selects "SecondChances$Torn" ({ cls := "java/lang/Throwable", name := "fillInStackTrace", desc := "()Ljava/lang/Throwable;" } : Jvm.MethodName) ({ cls := "java/lang/Throwable", name := "fillInStackTrace", desc := "()Ljava/lang/Throwable;" } : Jvm.MethodName)) ∈ lw_all := lw_g (lw_at lw_m2 118 rfl) rfl
theorem q437 : (Jvm.Cond.lays "SecondChances$Torn" "java/lang/Throwable" "cause" "Ljava/lang/Throwable;") ∈ lw_all := lw_g (lw_at lw_m2 119 rfl) rfl
theorem q439 : (Jvm.Cond.lays "SecondChances$Torn" "java/lang/Throwable" "stackTrace" "[Ljava/lang/StackTraceElement;") ∈ lw_all := lw_g (lw_at lw_m2 121 rfl) rfl
theorem q441 : (Jvm.Cond.lays "SecondChances$Torn" "java/lang/Throwable" "suppressedExceptions" "Ljava/util/List;") ∈ lw_all := lw_g (lw_at lw_m2 123 rfl) rfl
theorem q443 : (Jvm.Cond.lays "SecondChances$Torn" "java/lang/Throwable" "detailMessage" "Ljava/lang/String;") ∈ lw_all := lw_g (lw_at lw_m2 125 rfl) rfl
theorem q445 : (Jvm.Cond.lays "SecondChances$Torn" "java/lang/Throwable" "backtrace" "Ljava/lang/Object;") ∈ lw_all := lw_g (lw_at lw_m2 127 rfl) rfl
theorem q469 : (Jvm.Cond.instanceMethod ({ cls := "SecondChances$Torn", name := "<init>", desc := "(I)V" } : Jvm.MethodName)) ∈ lw_all := lw_g (lw_at lw_m2 151 rfl) rfl
theorem q470 : (Jvm.Cond.code ({ cls := "SecondChances$Torn", name := "<init>", desc := "(I)V" } : Jvm.MethodName) prog_9_method_1_code (2 : Nat) (Option.none : Option Jvm.ClassFile.FieldType)) ∈ lw_all := lw_g (lw_at lw_m2 152 rfl) rfl
theorem q471 : (Jvm.Cond.methodLink "SecondChances$Torn" (1 : Nat) ({ cls := "java/lang/Exception", name := "<init>", desc := "(Ljava/lang/String;Ljava/lang/Throwable;ZZ)V" } : Jvm.MethodName)) ∈ lw_all := lw_g (lw_at lw_m2 153 rfl) rfl
theorem q477 : (Jvm.Cond.fieldLink "SecondChances$Torn" (7 : Nat) "SecondChances$Torn" "place" "I") ∈ lw_all := lw_g (lw_at lw_m2 159 rfl) rfl
theorem q484 : (Jvm.Cond.laysFinal "SecondChances$Torn" "SecondChances$Torn" "place" "I") ∈ lw_all := lw_g (lw_at lw_m2 166 rfl) rfl
theorem q485 : (Jvm.Cond.soleField "SecondChances$Torn" "place") ∈ lw_all := lw_g (lw_at lw_m2 167 rfl) rfl
theorem q490 : (Jvm.Cond.lays "SecondChances$Torn" "java/lang/Throwable" "depth" "I") ∈ lw_all := lw_g (lw_at lw_m2 172 rfl) rfl
theorem q493 : (Jvm.Cond.superclass "SecondChances$Torn" "java/lang/Exception") ∈ lw_all := lw_g (lw_at lw_m2 175 rfl) rfl
theorem q591 : (Jvm.Cond.selects "SecondChances$Torn" ({ cls := "java/lang/Object", name := "getClass", desc := "()Ljava/lang/Class;" } : Jvm.MethodName) ({ cls := "java/lang/Object", name := "getClass", desc := "()Ljava/lang/Class;" } : Jvm.MethodName)) ∈ lw_all := lw_g (lw_at lw_m3 33 rfl) rfl
theorem q1507 : (Jvm.Cond.castable "SecondChances$Torn" "java/lang/Object") ∈ lw_tbl := lw_at lw_m6 229 rfl
theorem in_X7 : ∀ w ∈ wsX70, w ∈ lw_all := lw_in wsX70 [437, 439, 441, 443, 445, 490, 484] (by decide +kernel) (by decide +kernel)

/-! SecondChances$Deed -/
set_option maxRecDepth 100000
def RX8 : String := "SecondChances$Deed"
def TX8 : u_T := fun k => match k with
  | 0 => ("SecondChances$Deed", "kind", "I", true)
  | 1 => ("SecondChances$Deed", "place", "I", true)
  | 2 => ("SecondChances$Deed", "weather", "I", true)
  | 3 => ("SecondChances$Deed", "worth", "I", true)
  | _ => ("SecondChances$Deed", "there", "I", false)
def tyX8 : Nat → FieldType := fun k => match k with
  | 0 => .int
  | 1 => .int
  | 2 => .int
  | 3 => .int
  | _ => .int
abbrev wsX80 : List Cond := u_ws RX8 TX8 5
theorem nmX8 : ∀ a, a < 5 → ∀ b, b < 5 → a ≠ b → (TX8 a).2.1 ≠ (TX8 b).2.1 := by decide +kernel
theorem tyX8_ok : ∀ k, k < 5 → parseFieldDescriptor (TX8 k).2.2.1 = some (tyX8 k) := by decide +kernel
abbrev cX8_init : ByteArray := prog_2_method_1_code
def yX8_init : MethodName := ⟨RX8, "<init>", "(IIII)V"⟩
def dkwX8_init_1 : List UInt8 := [181, 0, 19, 177]
abbrev dktX8_init_1 : List UInt8 := dkwX8_init_1 ++ []
def dkwX8_init_0 : List UInt8 := [42, 183, 0, 1, 42, 27, 181, 0, 7, 42, 28, 181, 0, 13, 42, 29, 181, 0, 16, 42, 21, 4]
abbrev dktX8_init_0 : List UInt8 := dkwX8_init_0 ++ dktX8_init_1
theorem dksX8_init_0 : cX8_init.data.toList.drop 0 = dktX8_init_0 := by decide +kernel
theorem dksX8_init_1 : cX8_init.data.toList.drop 22 = dktX8_init_1 := dk_seg dksX8_init_0 22 rfl rfl
theorem dX8_init_0 : decode cX8_init 0 = .ok (.aload_n 0, 1) := dk_42 (dk_at dksX8_init_0 0 rfl rfl)
theorem dX8_init_1 : decode cX8_init 1 = .ok (.invokespecial 1, 3) := dk_183 0 1 (dk_at dksX8_init_0 1 rfl rfl)
theorem dX8_init_4 : decode cX8_init 4 = .ok (.aload_n 0, 1) := dk_42 (dk_at dksX8_init_0 4 rfl rfl)
theorem dX8_init_5 : decode cX8_init 5 = .ok (.iload_n 1, 1) := dk_27 (dk_at dksX8_init_0 5 rfl rfl)
theorem dX8_init_6 : decode cX8_init 6 = .ok (.putfield 7, 3) := dk_181 0 7 (dk_at dksX8_init_0 6 rfl rfl)
theorem dX8_init_9 : decode cX8_init 9 = .ok (.aload_n 0, 1) := dk_42 (dk_at dksX8_init_0 9 rfl rfl)
theorem dX8_init_10 : decode cX8_init 10 = .ok (.iload_n 2, 1) := dk_28 (dk_at dksX8_init_0 10 rfl rfl)
theorem dX8_init_11 : decode cX8_init 11 = .ok (.putfield 13, 3) := dk_181 0 13 (dk_at dksX8_init_0 11 rfl rfl)
theorem dX8_init_14 : decode cX8_init 14 = .ok (.aload_n 0, 1) := dk_42 (dk_at dksX8_init_0 14 rfl rfl)
theorem dX8_init_15 : decode cX8_init 15 = .ok (.iload_n 3, 1) := dk_29 (dk_at dksX8_init_0 15 rfl rfl)
theorem dX8_init_16 : decode cX8_init 16 = .ok (.putfield 16, 3) := dk_181 0 16 (dk_at dksX8_init_0 16 rfl rfl)
theorem dX8_init_19 : decode cX8_init 19 = .ok (.aload_n 0, 1) := dk_42 (dk_at dksX8_init_0 19 rfl rfl)
theorem dX8_init_20 : decode cX8_init 20 = .ok (.iload 4, 2) := dk_21 4 (dk_at dksX8_init_0 20 rfl rfl)
theorem dX8_init_22 : decode cX8_init 22 = .ok (.putfield 19, 3) := dk_181 0 19 (dk_at dksX8_init_1 0 rfl rfl)
theorem dX8_init_25 : decode cX8_init 25 = .ok (.return_, 1) := dk_177 (dk_at dksX8_init_1 3 rfl rfl)
theorem q92 : (Jvm.Cond.initialized "SecondChances$Deed") ∈ lw_all := lw_g (lw_at lw_m1 14 rfl) rfl
theorem q518 : (Jvm.Cond.instantiable "SecondChances$Deed" (5 : Nat)) ∈ lw_all := lw_g (lw_at lw_m2 200 rfl) rfl
theorem q520 : (Jvm.Cond.instanceMethod ({ cls := "SecondChances$Deed", name := "<init>", desc := "(IIII)V" } : Jvm.MethodName)) ∈ lw_all := lw_g (lw_at lw_m2 202 rfl) rfl
theorem q521 : (Jvm.Cond.code ({ cls := "SecondChances$Deed", name := "<init>", desc := "(IIII)V" } : Jvm.MethodName) prog_2_method_1_code (5 : Nat) (Option.none : Option Jvm.ClassFile.FieldType)) ∈ lw_all := lw_g (lw_at lw_m2 203 rfl) rfl
theorem q522 : (Jvm.Cond.methodLink "SecondChances$Deed" (1 : Nat) ({ cls := "java/lang/Object", name := "<init>", desc := "()V" } : Jvm.MethodName)) ∈ lw_all := lw_g (lw_at lw_m2 204 rfl) rfl
theorem q523 : (Jvm.Cond.fieldLink "SecondChances$Deed" (7 : Nat) "SecondChances$Deed" "kind" "I") ∈ lw_all := lw_g (lw_at lw_m2 205 rfl) rfl
theorem q525 : (Jvm.Cond.fieldLink "SecondChances$Deed" (13 : Nat) "SecondChances$Deed" "place" "I") ∈ lw_all := lw_g (lw_at lw_m2 207 rfl) rfl
theorem q527 : (Jvm.Cond.fieldLink "SecondChances$Deed" (16 : Nat) "SecondChances$Deed" "weather" "I") ∈ lw_all := lw_g (lw_at lw_m2 209 rfl) rfl
theorem q529 : (Jvm.Cond.fieldLink "SecondChances$Deed" (19 : Nat) "SecondChances$Deed" "worth" "I") ∈ lw_all := lw_g (lw_at lw_m2 211 rfl) rfl
theorem q533 : (Jvm.Cond.laysFinal "SecondChances$Deed" "SecondChances$Deed" "kind" "I") ∈ lw_all := lw_g (lw_at lw_m2 215 rfl) rfl
theorem q534 : (Jvm.Cond.soleField "SecondChances$Deed" "kind") ∈ lw_all := lw_g (lw_at lw_m2 216 rfl) rfl
theorem q535 : (Jvm.Cond.laysFinal "SecondChances$Deed" "SecondChances$Deed" "place" "I") ∈ lw_all := lw_g (lw_at lw_m2 217 rfl) rfl
theorem q536 : (Jvm.Cond.soleField "SecondChances$Deed" "place") ∈ lw_all := lw_g (lw_at lw_m2 218 rfl) rfl
theorem q537 : (Jvm.Cond.laysFinal "SecondChances$Deed" "SecondChances$Deed" "weather" "I") ∈ lw_all := lw_g (lw_at lw_m2 219 rfl) rfl
theorem q538 : (Jvm.Cond.soleField "SecondChances$Deed" "weather") ∈ lw_all := lw_g (lw_at lw_m2 220 rfl) rfl
theorem q539 : (Jvm.Cond.laysFinal "SecondChances$Deed" "SecondChances$Deed" "worth" "I") ∈ lw_all := lw_g (lw_at lw_m2 221 rfl) rfl
theorem q540 : (Jvm.Cond.soleField "SecondChances$Deed" "worth") ∈ lw_all := lw_g (lw_at lw_m2 222 rfl) rfl
theorem q541 : (Jvm.Cond.lays "SecondChances$Deed" "SecondChances$Deed" "there" "I") ∈ lw_all := lw_g (lw_at lw_m2 223 rfl) rfl
theorem q542 : (Jvm.Cond.soleField "SecondChances$Deed" "there") ∈ lw_all := lw_g (lw_at lw_m2 224 rfl) rfl
theorem q543 : (Jvm.Cond.superclass "SecondChances$Deed" "java/lang/Object") ∈ lw_all := lw_g (lw_at lw_m2 225 rfl) rfl
theorem q585 : (Jvm.Cond.selects "SecondChances$Deed" ({ cls := "java/lang/Object", name := "getClass", desc := "()Ljava/lang/Class;" } : Jvm.MethodName) ({ cls := "java/lang/Object", name := "getClass", desc := "()Ljava/lang/Class;" } : Jvm.MethodName)) ∈ lw_all := lw_g (lw_at lw_m3 27 rfl) rfl
theorem q1508 : (Jvm.Cond.castable "SecondChances$Deed" "java/lang/Object") ∈ lw_tbl := lw_at lw_m6 230 rfl
theorem in_X8 : ∀ w ∈ wsX80, w ∈ lw_all := lw_in wsX80 [533, 535, 537, 539, 541] (by decide +kernel) (by decide +kernel)

/-! SecondChances$Sight -/
set_option maxRecDepth 100000
def RX9 : String := "SecondChances$Sight"
def TX9 : u_T := fun k => match k with
  | 0 => ("SecondChances$Sight", "who", "I", true)
  | 1 => ("SecondChances$Sight", "place", "I", true)
  | _ => ("SecondChances$Sight", "hour", "I", true)
def tyX9 : Nat → FieldType := fun k => match k with
  | 0 => .int
  | 1 => .int
  | _ => .int
abbrev wsX90 : List Cond := u_ws RX9 TX9 3
theorem nmX9 : ∀ a, a < 3 → ∀ b, b < 3 → a ≠ b → (TX9 a).2.1 ≠ (TX9 b).2.1 := by decide +kernel
theorem tyX9_ok : ∀ k, k < 3 → parseFieldDescriptor (TX9 k).2.2.1 = some (tyX9 k) := by decide +kernel
abbrev cX9_init : ByteArray := prog_7_method_1_code
def yX9_init : MethodName := ⟨RX9, "<init>", "(III)V"⟩
def dkwX9_init_0 : List UInt8 := [42, 183, 0, 1, 42, 27, 181, 0, 7, 42, 28, 181, 0, 13, 42, 29, 181, 0, 16, 177]
abbrev dktX9_init_0 : List UInt8 := dkwX9_init_0 ++ []
theorem dksX9_init_0 : cX9_init.data.toList.drop 0 = dktX9_init_0 := by decide +kernel
theorem dX9_init_0 : decode cX9_init 0 = .ok (.aload_n 0, 1) := dk_42 (dk_at dksX9_init_0 0 rfl rfl)
theorem dX9_init_1 : decode cX9_init 1 = .ok (.invokespecial 1, 3) := dk_183 0 1 (dk_at dksX9_init_0 1 rfl rfl)
theorem dX9_init_4 : decode cX9_init 4 = .ok (.aload_n 0, 1) := dk_42 (dk_at dksX9_init_0 4 rfl rfl)
theorem dX9_init_5 : decode cX9_init 5 = .ok (.iload_n 1, 1) := dk_27 (dk_at dksX9_init_0 5 rfl rfl)
theorem dX9_init_6 : decode cX9_init 6 = .ok (.putfield 7, 3) := dk_181 0 7 (dk_at dksX9_init_0 6 rfl rfl)
theorem dX9_init_9 : decode cX9_init 9 = .ok (.aload_n 0, 1) := dk_42 (dk_at dksX9_init_0 9 rfl rfl)
theorem dX9_init_10 : decode cX9_init 10 = .ok (.iload_n 2, 1) := dk_28 (dk_at dksX9_init_0 10 rfl rfl)
theorem dX9_init_11 : decode cX9_init 11 = .ok (.putfield 13, 3) := dk_181 0 13 (dk_at dksX9_init_0 11 rfl rfl)
theorem dX9_init_14 : decode cX9_init 14 = .ok (.aload_n 0, 1) := dk_42 (dk_at dksX9_init_0 14 rfl rfl)
theorem dX9_init_15 : decode cX9_init 15 = .ok (.iload_n 3, 1) := dk_29 (dk_at dksX9_init_0 15 rfl rfl)
theorem dX9_init_16 : decode cX9_init 16 = .ok (.putfield 16, 3) := dk_181 0 16 (dk_at dksX9_init_0 16 rfl rfl)
theorem dX9_init_19 : decode cX9_init 19 = .ok (.return_, 1) := dk_177 (dk_at dksX9_init_0 19 rfl rfl)
abbrev cX9_isFalse : ByteArray := prog_7_method_2_code
def yX9_isFalse : MethodName := ⟨RX9, "isFalse", "(LSecondChances$Sight;)Z"⟩
def dkwX9_isFalse_2 : List UInt8 := [4, 160, 0, 12, 29, 5, 164, 0, 7, 4, 167, 0, 4, 3, 172]
abbrev dktX9_isFalse_2 : List UInt8 := dkwX9_isFalse_2 ++ []
def dkwX9_isFalse_1 : List UInt8 := [184, 0, 19, 62, 42, 180, 0, 7, 43, 180, 0, 7, 160, 0, 25, 28, 154, 0, 7, 29, 157, 0, 13, 28]
abbrev dktX9_isFalse_1 : List UInt8 := dkwX9_isFalse_1 ++ dktX9_isFalse_2
def dkwX9_isFalse_0 : List UInt8 := [42, 180, 0, 16, 43, 180, 0, 16, 100, 184, 0, 19, 61, 42, 180, 0, 13, 43, 180, 0, 13, 100]
abbrev dktX9_isFalse_0 : List UInt8 := dkwX9_isFalse_0 ++ dktX9_isFalse_1
theorem dksX9_isFalse_0 : cX9_isFalse.data.toList.drop 0 = dktX9_isFalse_0 := by decide +kernel
theorem dksX9_isFalse_1 : cX9_isFalse.data.toList.drop 22 = dktX9_isFalse_1 := dk_seg dksX9_isFalse_0 22 rfl rfl
theorem dksX9_isFalse_2 : cX9_isFalse.data.toList.drop 46 = dktX9_isFalse_2 := dk_seg dksX9_isFalse_1 24 rfl rfl
theorem dX9_isFalse_0 : decode cX9_isFalse 0 = .ok (.aload_n 0, 1) := dk_42 (dk_at dksX9_isFalse_0 0 rfl rfl)
theorem dX9_isFalse_1 : decode cX9_isFalse 1 = .ok (.getfield 16, 3) := dk_180 0 16 (dk_at dksX9_isFalse_0 1 rfl rfl)
theorem dX9_isFalse_4 : decode cX9_isFalse 4 = .ok (.aload_n 1, 1) := dk_43 (dk_at dksX9_isFalse_0 4 rfl rfl)
theorem dX9_isFalse_5 : decode cX9_isFalse 5 = .ok (.getfield 16, 3) := dk_180 0 16 (dk_at dksX9_isFalse_0 5 rfl rfl)
theorem dX9_isFalse_8 : decode cX9_isFalse 8 = .ok (.isub, 1) := dk_100 (dk_at dksX9_isFalse_0 8 rfl rfl)
theorem dX9_isFalse_9 : decode cX9_isFalse 9 = .ok (.invokestatic 19, 3) := dk_184 0 19 (dk_at dksX9_isFalse_0 9 rfl rfl)
theorem dX9_isFalse_12 : decode cX9_isFalse 12 = .ok (.istore_n 2, 1) := dk_61 (dk_at dksX9_isFalse_0 12 rfl rfl)
theorem dX9_isFalse_13 : decode cX9_isFalse 13 = .ok (.aload_n 0, 1) := dk_42 (dk_at dksX9_isFalse_0 13 rfl rfl)
theorem dX9_isFalse_14 : decode cX9_isFalse 14 = .ok (.getfield 13, 3) := dk_180 0 13 (dk_at dksX9_isFalse_0 14 rfl rfl)
theorem dX9_isFalse_17 : decode cX9_isFalse 17 = .ok (.aload_n 1, 1) := dk_43 (dk_at dksX9_isFalse_0 17 rfl rfl)
theorem dX9_isFalse_18 : decode cX9_isFalse 18 = .ok (.getfield 13, 3) := dk_180 0 13 (dk_at dksX9_isFalse_0 18 rfl rfl)
theorem dX9_isFalse_21 : decode cX9_isFalse 21 = .ok (.isub, 1) := dk_100 (dk_at dksX9_isFalse_0 21 rfl rfl)
theorem dX9_isFalse_22 : decode cX9_isFalse 22 = .ok (.invokestatic 19, 3) := dk_184 0 19 (dk_at dksX9_isFalse_1 0 rfl rfl)
theorem dX9_isFalse_25 : decode cX9_isFalse 25 = .ok (.istore_n 3, 1) := dk_62 (dk_at dksX9_isFalse_1 3 rfl rfl)
theorem dX9_isFalse_26 : decode cX9_isFalse 26 = .ok (.aload_n 0, 1) := dk_42 (dk_at dksX9_isFalse_1 4 rfl rfl)
theorem dX9_isFalse_27 : decode cX9_isFalse 27 = .ok (.getfield 7, 3) := dk_180 0 7 (dk_at dksX9_isFalse_1 5 rfl rfl)
theorem dX9_isFalse_30 : decode cX9_isFalse 30 = .ok (.aload_n 1, 1) := dk_43 (dk_at dksX9_isFalse_1 8 rfl rfl)
theorem dX9_isFalse_31 : decode cX9_isFalse 31 = .ok (.getfield 7, 3) := dk_180 0 7 (dk_at dksX9_isFalse_1 9 rfl rfl)
theorem dX9_isFalse_34 : decode cX9_isFalse 34 = .ok (.if_icmp .ne 25, 3) := dk_160 0 25 (dk_at dksX9_isFalse_1 12 rfl rfl)
theorem dX9_isFalse_37 : decode cX9_isFalse 37 = .ok (.iload_n 2, 1) := dk_28 (dk_at dksX9_isFalse_1 15 rfl rfl)
theorem dX9_isFalse_38 : decode cX9_isFalse 38 = .ok (.ifCond .ne 7, 3) := dk_154 0 7 (dk_at dksX9_isFalse_1 16 rfl rfl)
theorem dX9_isFalse_41 : decode cX9_isFalse 41 = .ok (.iload_n 3, 1) := dk_29 (dk_at dksX9_isFalse_1 19 rfl rfl)
theorem dX9_isFalse_42 : decode cX9_isFalse 42 = .ok (.ifCond .gt 13, 3) := dk_157 0 13 (dk_at dksX9_isFalse_1 20 rfl rfl)
theorem dX9_isFalse_45 : decode cX9_isFalse 45 = .ok (.iload_n 2, 1) := dk_28 (dk_at dksX9_isFalse_1 23 rfl rfl)
theorem dX9_isFalse_46 : decode cX9_isFalse 46 = .ok (.iconst 1, 1) := dk_4 (dk_at dksX9_isFalse_2 0 rfl rfl)
theorem dX9_isFalse_47 : decode cX9_isFalse 47 = .ok (.if_icmp .ne 12, 3) := dk_160 0 12 (dk_at dksX9_isFalse_2 1 rfl rfl)
theorem dX9_isFalse_50 : decode cX9_isFalse 50 = .ok (.iload_n 3, 1) := dk_29 (dk_at dksX9_isFalse_2 4 rfl rfl)
theorem dX9_isFalse_51 : decode cX9_isFalse 51 = .ok (.iconst 2, 1) := dk_5 (dk_at dksX9_isFalse_2 5 rfl rfl)
theorem dX9_isFalse_52 : decode cX9_isFalse 52 = .ok (.if_icmp .le 7, 3) := dk_164 0 7 (dk_at dksX9_isFalse_2 6 rfl rfl)
theorem dX9_isFalse_55 : decode cX9_isFalse 55 = .ok (.iconst 1, 1) := dk_4 (dk_at dksX9_isFalse_2 9 rfl rfl)
theorem dX9_isFalse_56 : decode cX9_isFalse 56 = .ok (.goto 4, 3) := dk_167 0 4 (dk_at dksX9_isFalse_2 10 rfl rfl)
theorem dX9_isFalse_59 : decode cX9_isFalse 59 = .ok (.iconst 0, 1) := dk_3 (dk_at dksX9_isFalse_2 13 rfl rfl)
theorem dX9_isFalse_60 : decode cX9_isFalse 60 = .ok (.ireturn, 1) := dk_172 (dk_at dksX9_isFalse_2 14 rfl rfl)
theorem q100 : (Jvm.Cond.initialized "SecondChances$Sight") ∈ lw_all := lw_g (lw_at lw_m1 22 rfl) rfl
theorem q590 : (Jvm.Cond.selects "SecondChances$Sight" ({ cls := "java/lang/Object", name := "getClass", desc := "()Ljava/lang/Class;" } : Jvm.MethodName) ({ cls := "java/lang/Object", name := "getClass", desc := "()Ljava/lang/Class;" } : Jvm.MethodName)) ∈ lw_all := lw_g (lw_at lw_m3 32 rfl) rfl
theorem q839 : (Jvm.Cond.instantiable "SecondChances$Sight" (3 : Nat)) ∈ lw_all := lw_g (lw_at lw_m4 41 rfl) rfl
theorem q841 : (Jvm.Cond.instanceMethod ({ cls := "SecondChances$Sight", name := "<init>", desc := "(III)V" } : Jvm.MethodName)) ∈ lw_all := lw_g (lw_at lw_m4 43 rfl) rfl
theorem q842 : (Jvm.Cond.code ({ cls := "SecondChances$Sight", name := "<init>", desc := "(III)V" } : Jvm.MethodName) prog_7_method_1_code (4 : Nat) (Option.none : Option Jvm.ClassFile.FieldType)) ∈ lw_all := lw_g (lw_at lw_m4 44 rfl) rfl
theorem q843 : (Jvm.Cond.methodLink "SecondChances$Sight" (1 : Nat) ({ cls := "java/lang/Object", name := "<init>", desc := "()V" } : Jvm.MethodName)) ∈ lw_all := lw_g (lw_at lw_m4 45 rfl) rfl
theorem q844 : (Jvm.Cond.fieldLink "SecondChances$Sight" (7 : Nat) "SecondChances$Sight" "who" "I") ∈ lw_all := lw_g (lw_at lw_m4 46 rfl) rfl
theorem q845 : (Jvm.Cond.fieldLink "SecondChances$Sight" (13 : Nat) "SecondChances$Sight" "place" "I") ∈ lw_all := lw_g (lw_at lw_m4 47 rfl) rfl
theorem q846 : (Jvm.Cond.fieldLink "SecondChances$Sight" (16 : Nat) "SecondChances$Sight" "hour" "I") ∈ lw_all := lw_g (lw_at lw_m4 48 rfl) rfl
theorem q847 : (Jvm.Cond.laysFinal "SecondChances$Sight" "SecondChances$Sight" "who" "I") ∈ lw_all := lw_g (lw_at lw_m4 49 rfl) rfl
theorem q848 : (Jvm.Cond.soleField "SecondChances$Sight" "who") ∈ lw_all := lw_g (lw_at lw_m4 50 rfl) rfl
theorem q849 : (Jvm.Cond.laysFinal "SecondChances$Sight" "SecondChances$Sight" "place" "I") ∈ lw_all := lw_g (lw_at lw_m4 51 rfl) rfl
theorem q850 : (Jvm.Cond.soleField "SecondChances$Sight" "place") ∈ lw_all := lw_g (lw_at lw_m4 52 rfl) rfl
theorem q851 : (Jvm.Cond.laysFinal "SecondChances$Sight" "SecondChances$Sight" "hour" "I") ∈ lw_all := lw_g (lw_at lw_m4 53 rfl) rfl
theorem q852 : (Jvm.Cond.soleField "SecondChances$Sight" "hour") ∈ lw_all := lw_g (lw_at lw_m4 54 rfl) rfl
theorem q853 : (Jvm.Cond.superclass "SecondChances$Sight" "java/lang/Object") ∈ lw_all := lw_g (lw_at lw_m4 55 rfl) rfl
theorem q864 : (Jvm.Cond.instanceMethod ({ cls := "SecondChances$Sight", name := "isFalse", desc := "(LSecondChances$Sight;)Z" } : Jvm.MethodName)) ∈ lw_all := lw_g (lw_at lw_m4 66 rfl) rfl
theorem q865 : (Jvm.Cond.selects "SecondChances$Sight" ({ cls := "SecondChances$Sight", name := "isFalse", desc := "(LSecondChances$Sight;)Z" } : Jvm.MethodName) ({ cls := "SecondChances$Sight", name := "isFalse", desc := "(LSecondChances$Sight;)Z" } : Jvm.MethodName)) ∈ lw_all := lw_g (lw_at lw_m4 67 rfl) rfl
theorem q866 : (Jvm.Cond.code ({ cls := "SecondChances$Sight", name := "isFalse", desc := "(LSecondChances$Sight;)Z" } : Jvm.MethodName) prog_7_method_2_code (4 : Nat) (Option.some Jvm.ClassFile.FieldType.boolean)) ∈ lw_all := lw_g (lw_at lw_m4 68 rfl) rfl
theorem q867 : (Jvm.Cond.methodLink "SecondChances$Sight" (19 : Nat) ({ cls := "java/lang/Math", name := "abs", desc := "(I)I" } : Jvm.MethodName)) ∈ lw_all := lw_g (lw_at lw_m4 69 rfl) rfl
theorem q1509 : (Jvm.Cond.castable "SecondChances$Sight" "java/lang/Object") ∈ lw_tbl := lw_at lw_m6 231 rfl
theorem in_X9 : ∀ w ∈ wsX90, w ∈ lw_all := lw_in wsX90 [847, 849, 851] (by decide +kernel) (by decide +kernel)

/-! java/util/AbstractCollection -/
set_option maxRecDepth 100000
def RJ0 : String := "java/util/AbstractCollection"
abbrev cJ0_init : ByteArray := prog_26_method_1_code
def yJ0_init : MethodName := ⟨RJ0, "<init>", "()V"⟩
theorem dJ0_init_0 : decode cJ0_init 0 = .ok (.aload_n 0, 1) := by decide +kernel
theorem dJ0_init_1 : decode cJ0_init 1 = .ok (.invokespecial 1, 3) := by decide +kernel
theorem dJ0_init_4 : decode cJ0_init 4 = .ok (.return_, 1) := by decide +kernel
theorem q83 : (Jvm.Cond.initialized "java/util/AbstractCollection") ∈ lw_all := lw_g (lw_at lw_m1 5 rfl) rfl
theorem q146 : (Jvm.Cond.instanceMethod ({ cls := "java/util/AbstractCollection", name := "<init>", desc := "()V" } : Jvm.MethodName)) ∈ lw_all := lw_g (lw_at lw_m1 68 rfl) rfl
theorem q147 : (Jvm.Cond.code ({ cls := "java/util/AbstractCollection", name := "<init>", desc := "()V" } : Jvm.MethodName) prog_26_method_1_code (1 : Nat) (Option.none : Option Jvm.ClassFile.FieldType)) ∈ lw_all := lw_g (lw_at lw_m1 69 rfl) rfl
theorem q148 : (Jvm.Cond.methodLink "java/util/AbstractCollection" (1 : Nat) ({ cls := "java/lang/Object", name := "<init>", desc := "()V" } : Jvm.MethodName)) ∈ lw_all := lw_g (lw_at lw_m1 70 rfl) rfl

/-! java/util/AbstractList -/
set_option maxRecDepth 100000
def RJ1 : String := "java/util/AbstractList"
abbrev cJ1_init : ByteArray := prog_27_method_1_code
def yJ1_init : MethodName := ⟨RJ1, "<init>", "()V"⟩
def dkwJ1_init_0 : List UInt8 := [42, 183, 0, 1, 42, 3, 181, 0, 7, 177]
abbrev dktJ1_init_0 : List UInt8 := dkwJ1_init_0 ++ []
theorem dksJ1_init_0 : cJ1_init.data.toList.drop 0 = dktJ1_init_0 := by decide +kernel
theorem dJ1_init_0 : decode cJ1_init 0 = .ok (.aload_n 0, 1) := dk_42 (dk_at dksJ1_init_0 0 rfl rfl)
theorem dJ1_init_1 : decode cJ1_init 1 = .ok (.invokespecial 1, 3) := dk_183 0 1 (dk_at dksJ1_init_0 1 rfl rfl)
theorem dJ1_init_4 : decode cJ1_init 4 = .ok (.aload_n 0, 1) := dk_42 (dk_at dksJ1_init_0 4 rfl rfl)
theorem dJ1_init_5 : decode cJ1_init 5 = .ok (.iconst 0, 1) := dk_3 (dk_at dksJ1_init_0 5 rfl rfl)
theorem dJ1_init_6 : decode cJ1_init 6 = .ok (.putfield 7, 3) := dk_181 0 7 (dk_at dksJ1_init_0 6 rfl rfl)
theorem dJ1_init_9 : decode cJ1_init 9 = .ok (.return_, 1) := dk_177 (dk_at dksJ1_init_0 9 rfl rfl)
theorem q84 : (Jvm.Cond.initialized "java/util/AbstractList") ∈ lw_all := lw_g (lw_at lw_m1 6 rfl) rfl
theorem q143 : (Jvm.Cond.instanceMethod ({ cls := "java/util/AbstractList", name := "<init>", desc := "()V" } : Jvm.MethodName)) ∈ lw_all := lw_g (lw_at lw_m1 65 rfl) rfl
theorem q144 : (Jvm.Cond.code ({ cls := "java/util/AbstractList", name := "<init>", desc := "()V" } : Jvm.MethodName) prog_27_method_1_code (1 : Nat) (Option.none : Option Jvm.ClassFile.FieldType)) ∈ lw_all := lw_g (lw_at lw_m1 66 rfl) rfl
theorem q145 : (Jvm.Cond.methodLink "java/util/AbstractList" (1 : Nat) ({ cls := "java/util/AbstractCollection", name := "<init>", desc := "()V" } : Jvm.MethodName)) ∈ lw_all := lw_g (lw_at lw_m1 67 rfl) rfl
theorem q153 : (Jvm.Cond.fieldLink "java/util/AbstractList" (7 : Nat) "java/util/AbstractList" "modCount" "I") ∈ lw_all := lw_g (lw_at lw_m1 75 rfl) rfl
theorem q161 : (Jvm.Cond.soleField "java/util/AbstractList" "modCount") ∈ lw_all := lw_g (lw_at lw_m1 83 rfl) rfl

/-! java/lang/Integer -/
set_option maxRecDepth 100000
def RJ10 : String := "java/lang/Integer"
abbrev cJ10_bitCount : ByteArray := prog_18_method_49_code
def yJ10_bitCount : MethodName := ⟨RJ10, "bitCount", "(I)I"⟩
def dkwJ10_bitCount_2 : List UInt8 := [26, 16, 63, 126, 172]
abbrev dktJ10_bitCount_2 : List UInt8 := dkwJ10_bitCount_2 ++ []
def dkwJ10_bitCount_1 : List UInt8 := [26, 26, 7, 124, 96, 19, 1, 11, 126, 59, 26, 26, 16, 8, 124, 96, 59, 26, 26, 16, 16, 124, 96, 59]
abbrev dktJ10_bitCount_1 : List UInt8 := dkwJ10_bitCount_1 ++ dktJ10_bitCount_2
def dkwJ10_bitCount_0 : List UInt8 := [26, 26, 4, 124, 19, 1, 9, 126, 100, 59, 26, 19, 1, 10, 126, 26, 5, 124, 19, 1, 10, 126, 96, 59]
abbrev dktJ10_bitCount_0 : List UInt8 := dkwJ10_bitCount_0 ++ dktJ10_bitCount_1
theorem dksJ10_bitCount_0 : cJ10_bitCount.data.toList.drop 0 = dktJ10_bitCount_0 := by decide +kernel
theorem dksJ10_bitCount_1 : cJ10_bitCount.data.toList.drop 24 = dktJ10_bitCount_1 := dk_seg dksJ10_bitCount_0 24 rfl rfl
theorem dksJ10_bitCount_2 : cJ10_bitCount.data.toList.drop 48 = dktJ10_bitCount_2 := dk_seg dksJ10_bitCount_1 24 rfl rfl
theorem dJ10_bitCount_0 : decode cJ10_bitCount 0 = .ok (.iload_n 0, 1) := dk_26 (dk_at dksJ10_bitCount_0 0 rfl rfl)
theorem dJ10_bitCount_1 : decode cJ10_bitCount 1 = .ok (.iload_n 0, 1) := dk_26 (dk_at dksJ10_bitCount_0 1 rfl rfl)
theorem dJ10_bitCount_2 : decode cJ10_bitCount 2 = .ok (.iconst 1, 1) := dk_4 (dk_at dksJ10_bitCount_0 2 rfl rfl)
theorem dJ10_bitCount_3 : decode cJ10_bitCount 3 = .ok (.iushr, 1) := dk_124 (dk_at dksJ10_bitCount_0 3 rfl rfl)
theorem dJ10_bitCount_4 : decode cJ10_bitCount 4 = .ok (.ldc_w 265, 3) := dk_19 1 9 (dk_at dksJ10_bitCount_0 4 rfl rfl)
theorem dJ10_bitCount_7 : decode cJ10_bitCount 7 = .ok (.iand, 1) := dk_126 (dk_at dksJ10_bitCount_0 7 rfl rfl)
theorem dJ10_bitCount_8 : decode cJ10_bitCount 8 = .ok (.isub, 1) := dk_100 (dk_at dksJ10_bitCount_0 8 rfl rfl)
theorem dJ10_bitCount_9 : decode cJ10_bitCount 9 = .ok (.istore_n 0, 1) := dk_59 (dk_at dksJ10_bitCount_0 9 rfl rfl)
theorem dJ10_bitCount_10 : decode cJ10_bitCount 10 = .ok (.iload_n 0, 1) := dk_26 (dk_at dksJ10_bitCount_0 10 rfl rfl)
theorem dJ10_bitCount_11 : decode cJ10_bitCount 11 = .ok (.ldc_w 266, 3) := dk_19 1 10 (dk_at dksJ10_bitCount_0 11 rfl rfl)
theorem dJ10_bitCount_14 : decode cJ10_bitCount 14 = .ok (.iand, 1) := dk_126 (dk_at dksJ10_bitCount_0 14 rfl rfl)
theorem dJ10_bitCount_15 : decode cJ10_bitCount 15 = .ok (.iload_n 0, 1) := dk_26 (dk_at dksJ10_bitCount_0 15 rfl rfl)
theorem dJ10_bitCount_16 : decode cJ10_bitCount 16 = .ok (.iconst 2, 1) := dk_5 (dk_at dksJ10_bitCount_0 16 rfl rfl)
theorem dJ10_bitCount_17 : decode cJ10_bitCount 17 = .ok (.iushr, 1) := dk_124 (dk_at dksJ10_bitCount_0 17 rfl rfl)
theorem dJ10_bitCount_18 : decode cJ10_bitCount 18 = .ok (.ldc_w 266, 3) := dk_19 1 10 (dk_at dksJ10_bitCount_0 18 rfl rfl)
theorem dJ10_bitCount_21 : decode cJ10_bitCount 21 = .ok (.iand, 1) := dk_126 (dk_at dksJ10_bitCount_0 21 rfl rfl)
theorem dJ10_bitCount_22 : decode cJ10_bitCount 22 = .ok (.iadd, 1) := dk_96 (dk_at dksJ10_bitCount_0 22 rfl rfl)
theorem dJ10_bitCount_23 : decode cJ10_bitCount 23 = .ok (.istore_n 0, 1) := dk_59 (dk_at dksJ10_bitCount_0 23 rfl rfl)
theorem dJ10_bitCount_24 : decode cJ10_bitCount 24 = .ok (.iload_n 0, 1) := dk_26 (dk_at dksJ10_bitCount_1 0 rfl rfl)
theorem dJ10_bitCount_25 : decode cJ10_bitCount 25 = .ok (.iload_n 0, 1) := dk_26 (dk_at dksJ10_bitCount_1 1 rfl rfl)
theorem dJ10_bitCount_26 : decode cJ10_bitCount 26 = .ok (.iconst 4, 1) := dk_7 (dk_at dksJ10_bitCount_1 2 rfl rfl)
theorem dJ10_bitCount_27 : decode cJ10_bitCount 27 = .ok (.iushr, 1) := dk_124 (dk_at dksJ10_bitCount_1 3 rfl rfl)
theorem dJ10_bitCount_28 : decode cJ10_bitCount 28 = .ok (.iadd, 1) := dk_96 (dk_at dksJ10_bitCount_1 4 rfl rfl)
theorem dJ10_bitCount_29 : decode cJ10_bitCount 29 = .ok (.ldc_w 267, 3) := dk_19 1 11 (dk_at dksJ10_bitCount_1 5 rfl rfl)
theorem dJ10_bitCount_32 : decode cJ10_bitCount 32 = .ok (.iand, 1) := dk_126 (dk_at dksJ10_bitCount_1 8 rfl rfl)
theorem dJ10_bitCount_33 : decode cJ10_bitCount 33 = .ok (.istore_n 0, 1) := dk_59 (dk_at dksJ10_bitCount_1 9 rfl rfl)
theorem dJ10_bitCount_34 : decode cJ10_bitCount 34 = .ok (.iload_n 0, 1) := dk_26 (dk_at dksJ10_bitCount_1 10 rfl rfl)
theorem dJ10_bitCount_35 : decode cJ10_bitCount 35 = .ok (.iload_n 0, 1) := dk_26 (dk_at dksJ10_bitCount_1 11 rfl rfl)
theorem dJ10_bitCount_36 : decode cJ10_bitCount 36 = .ok (.bipush 8, 2) := dk_16 8 (dk_at dksJ10_bitCount_1 12 rfl rfl)
theorem dJ10_bitCount_38 : decode cJ10_bitCount 38 = .ok (.iushr, 1) := dk_124 (dk_at dksJ10_bitCount_1 14 rfl rfl)
theorem dJ10_bitCount_39 : decode cJ10_bitCount 39 = .ok (.iadd, 1) := dk_96 (dk_at dksJ10_bitCount_1 15 rfl rfl)
theorem dJ10_bitCount_40 : decode cJ10_bitCount 40 = .ok (.istore_n 0, 1) := dk_59 (dk_at dksJ10_bitCount_1 16 rfl rfl)
theorem dJ10_bitCount_41 : decode cJ10_bitCount 41 = .ok (.iload_n 0, 1) := dk_26 (dk_at dksJ10_bitCount_1 17 rfl rfl)
theorem dJ10_bitCount_42 : decode cJ10_bitCount 42 = .ok (.iload_n 0, 1) := dk_26 (dk_at dksJ10_bitCount_1 18 rfl rfl)
theorem dJ10_bitCount_43 : decode cJ10_bitCount 43 = .ok (.bipush 16, 2) := dk_16 16 (dk_at dksJ10_bitCount_1 19 rfl rfl)
theorem dJ10_bitCount_45 : decode cJ10_bitCount 45 = .ok (.iushr, 1) := dk_124 (dk_at dksJ10_bitCount_1 21 rfl rfl)
theorem dJ10_bitCount_46 : decode cJ10_bitCount 46 = .ok (.iadd, 1) := dk_96 (dk_at dksJ10_bitCount_1 22 rfl rfl)
theorem dJ10_bitCount_47 : decode cJ10_bitCount 47 = .ok (.istore_n 0, 1) := dk_59 (dk_at dksJ10_bitCount_1 23 rfl rfl)
theorem dJ10_bitCount_48 : decode cJ10_bitCount 48 = .ok (.iload_n 0, 1) := dk_26 (dk_at dksJ10_bitCount_2 0 rfl rfl)
theorem dJ10_bitCount_49 : decode cJ10_bitCount 49 = .ok (.bipush 63, 2) := dk_16 63 (dk_at dksJ10_bitCount_2 1 rfl rfl)
theorem dJ10_bitCount_51 : decode cJ10_bitCount 51 = .ok (.iand, 1) := dk_126 (dk_at dksJ10_bitCount_2 3 rfl rfl)
theorem dJ10_bitCount_52 : decode cJ10_bitCount 52 = .ok (.ireturn, 1) := dk_172 (dk_at dksJ10_bitCount_2 4 rfl rfl)
theorem q99 : (Jvm.Cond.initialized "java/lang/Integer") ∈ lw_all := lw_g (lw_at lw_m1 21 rfl) rfl
theorem q692 : (Jvm.Cond.static ({ cls := "java/lang/Integer", name := "bitCount", desc := "(I)I" } : Jvm.MethodName)) ∈ lw_all := lw_g (lw_at lw_m3 134 rfl) rfl
theorem q693 : (Jvm.Cond.code ({ cls := "java/lang/Integer", name := "bitCount", desc := "(I)I" } : Jvm.MethodName) prog_18_method_49_code (1 : Nat) (Option.some Jvm.ClassFile.FieldType.int)) ∈ lw_all := lw_g (lw_at lw_m3 135 rfl) rfl
theorem q694 : (Jvm.Cond.constant "java/lang/Integer" (265 : Nat) (1431655765 : Int32)) ∈ lw_all := lw_g (lw_at lw_m3 136 rfl) rfl
theorem q695 : (Jvm.Cond.constant "java/lang/Integer" (266 : Nat) (858993459 : Int32)) ∈ lw_all := lw_g (lw_at lw_m3 137 rfl) rfl
theorem q696 : (Jvm.Cond.constant "java/lang/Integer" (267 : Nat) (252645135 : Int32)) ∈ lw_all := lw_g (lw_at lw_m3 138 rfl) rfl

/-! java/lang/RuntimeException -/
set_option maxRecDepth 100000
def RJ11 : String := "java/lang/RuntimeException"
abbrev cJ11_init : ByteArray := prog_22_method_2_code
def yJ11_init : MethodName := ⟨RJ11, "<init>", "(Ljava/lang/String;)V"⟩
def dkwJ11_init_0 : List UInt8 := [42, 43, 183, 0, 7, 177]
abbrev dktJ11_init_0 : List UInt8 := dkwJ11_init_0 ++ []
theorem dksJ11_init_0 : cJ11_init.data.toList.drop 0 = dktJ11_init_0 := by decide +kernel
theorem dJ11_init_0 : decode cJ11_init 0 = .ok (.aload_n 0, 1) := dk_42 (dk_at dksJ11_init_0 0 rfl rfl)
theorem dJ11_init_1 : decode cJ11_init 1 = .ok (.aload_n 1, 1) := dk_43 (dk_at dksJ11_init_0 1 rfl rfl)
theorem dJ11_init_2 : decode cJ11_init 2 = .ok (.invokespecial 7, 3) := dk_183 0 7 (dk_at dksJ11_init_0 2 rfl rfl)
theorem dJ11_init_5 : decode cJ11_init 5 = .ok (.return_, 1) := dk_177 (dk_at dksJ11_init_0 5 rfl rfl)
theorem q101 : (Jvm.Cond.initialized "java/lang/RuntimeException") ∈ lw_all := lw_g (lw_at lw_m1 23 rfl) rfl
theorem q937 : (Jvm.Cond.instanceMethod ({ cls := "java/lang/RuntimeException", name := "<init>", desc := "(Ljava/lang/String;)V" } : Jvm.MethodName)) ∈ lw_all := lw_g (lw_at lw_m4 139 rfl) rfl
theorem q938 : (Jvm.Cond.code ({ cls := "java/lang/RuntimeException", name := "<init>", desc := "(Ljava/lang/String;)V" } : Jvm.MethodName) prog_22_method_2_code (2 : Nat) (Option.none : Option Jvm.ClassFile.FieldType)) ∈ lw_all := lw_g (lw_at lw_m4 140 rfl) rfl
theorem q939 : (Jvm.Cond.methodLink "java/lang/RuntimeException" (7 : Nat) ({ cls := "java/lang/Exception", name := "<init>", desc := "(Ljava/lang/String;)V" } : Jvm.MethodName)) ∈ lw_all := lw_g (lw_at lw_m4 141 rfl) rfl
theorem q953 : (Jvm.Cond.declares ({ cls := "java/lang/RuntimeException", name := "<init>", desc := "()V" } : Jvm.MethodName)) ∈ lw_tbl := lw_at lw_m4 155 rfl
theorem q954 : (Jvm.Cond.declares ({ cls := "java/lang/RuntimeException", name := "<init>", desc := "(Ljava/lang/String;)V" } : Jvm.MethodName)) ∈ lw_tbl := lw_at lw_m4 156 rfl

/-! java/lang/NegativeArraySizeException -/
set_option maxRecDepth 100000
def RJ12 : String := "java/lang/NegativeArraySizeException"
def TJ12 : u_T := fun k => match k with
  | 0 => ("java/lang/Throwable", "backtrace", "Ljava/lang/Object;", false)
  | 1 => ("java/lang/Throwable", "detailMessage", "Ljava/lang/String;", false)
  | 2 => ("java/lang/Throwable", "cause", "Ljava/lang/Throwable;", false)
  | 3 => ("java/lang/Throwable", "stackTrace", "[Ljava/lang/StackTraceElement;", false)
  | 4 => ("java/lang/Throwable", "depth", "I", false)
  | _ => ("java/lang/Throwable", "suppressedExceptions", "Ljava/util/List;", false)
def tyJ12 : Nat → FieldType := fun k => match k with
  | 0 => .object "java/lang/Object"
  | 1 => .object "java/lang/String"
  | 2 => .object "java/lang/Throwable"
  | 3 => .array (.object "java/lang/StackTraceElement")
  | 4 => .int
  | _ => .object "java/util/List"
abbrev wsJ120 : List Cond := u_ws RJ12 TJ12 6
theorem nmJ12 : ∀ a, a < 6 → ∀ b, b < 6 → a ≠ b → (TJ12 a).2.1 ≠ (TJ12 b).2.1 := by decide +kernel
theorem tyJ12_ok : ∀ k, k < 6 → parseFieldDescriptor (TJ12 k).2.2.1 = some (tyJ12 k) := by decide +kernel
abbrev cJ12_init : ByteArray := prog_21_method_2_code
def yJ12_init : MethodName := ⟨RJ12, "<init>", "(Ljava/lang/String;)V"⟩
def dkwJ12_init_0 : List UInt8 := [42, 43, 183, 0, 7, 177]
abbrev dktJ12_init_0 : List UInt8 := dkwJ12_init_0 ++ []
theorem dksJ12_init_0 : cJ12_init.data.toList.drop 0 = dktJ12_init_0 := by decide +kernel
theorem dJ12_init_0 : decode cJ12_init 0 = .ok (.aload_n 0, 1) := dk_42 (dk_at dksJ12_init_0 0 rfl rfl)
theorem dJ12_init_1 : decode cJ12_init 1 = .ok (.aload_n 1, 1) := dk_43 (dk_at dksJ12_init_0 1 rfl rfl)
theorem dJ12_init_2 : decode cJ12_init 2 = .ok (.invokespecial 7, 3) := dk_183 0 7 (dk_at dksJ12_init_0 2 rfl rfl)
theorem dJ12_init_5 : decode cJ12_init 5 = .ok (.return_, 1) := dk_177 (dk_at dksJ12_init_0 5 rfl rfl)
theorem q102 : (Jvm.Cond.initialized "java/lang/NegativeArraySizeException") ∈ lw_all := lw_g (lw_at lw_m1 24 rfl) rfl
theorem q461 : (Jvm.Cond.selects "java/lang/NegativeArraySizeException" ({ cls := "java/lang/Throwable", name := "fillInStackTrace", desc := "()Ljava/lang/Throwable;" } : Jvm.MethodName) ({ cls := "java/lang/Throwable", name := "fillInStackTrace", desc := "()Ljava/lang/Throwable;" } : Jvm.MethodName)) ∈ lw_all := lw_g (lw_at lw_m2 143 rfl) rfl
theorem q595 : (Jvm.Cond.selects "java/lang/NegativeArraySizeException" ({ cls := "java/lang/Object", name := "getClass", desc := "()Ljava/lang/Class;" } : Jvm.MethodName) ({ cls := "java/lang/Object", name := "getClass", desc := "()Ljava/lang/Class;" } : Jvm.MethodName)) ∈ lw_all := lw_g (lw_at lw_m3 37 rfl) rfl
theorem q933 : (Jvm.Cond.instantiable "java/lang/NegativeArraySizeException" (6 : Nat)) ∈ lw_all := lw_g (lw_at lw_m4 135 rfl) rfl
theorem q934 : (Jvm.Cond.instanceMethod ({ cls := "java/lang/NegativeArraySizeException", name := "<init>", desc := "(Ljava/lang/String;)V" } : Jvm.MethodName)) ∈ lw_all := lw_g (lw_at lw_m4 136 rfl) rfl
theorem q935 : (Jvm.Cond.code ({ cls := "java/lang/NegativeArraySizeException", name := "<init>", desc := "(Ljava/lang/String;)V" } : Jvm.MethodName) prog_21_method_2_code (2 : Nat) (Option.none : Option Jvm.ClassFile.FieldType)) ∈ lw_all := lw_g (lw_at lw_m4 137 rfl) rfl
theorem q936 : (Jvm.Cond.methodLink "java/lang/NegativeArraySizeException" (7 : Nat) ({ cls := "java/lang/RuntimeException", name := "<init>", desc := "(Ljava/lang/String;)V" } : Jvm.MethodName)) ∈ lw_all := lw_g (lw_at lw_m4 138 rfl) rfl
theorem q945 : (Jvm.Cond.lays "java/lang/NegativeArraySizeException" "java/lang/Throwable" "backtrace" "Ljava/lang/Object;") ∈ lw_all := lw_g (lw_at lw_m4 147 rfl) rfl
theorem q946 : (Jvm.Cond.lays "java/lang/NegativeArraySizeException" "java/lang/Throwable" "detailMessage" "Ljava/lang/String;") ∈ lw_all := lw_g (lw_at lw_m4 148 rfl) rfl
theorem q947 : (Jvm.Cond.lays "java/lang/NegativeArraySizeException" "java/lang/Throwable" "cause" "Ljava/lang/Throwable;") ∈ lw_all := lw_g (lw_at lw_m4 149 rfl) rfl
theorem q948 : (Jvm.Cond.lays "java/lang/NegativeArraySizeException" "java/lang/Throwable" "stackTrace" "[Ljava/lang/StackTraceElement;") ∈ lw_all := lw_g (lw_at lw_m4 150 rfl) rfl
theorem q949 : (Jvm.Cond.lays "java/lang/NegativeArraySizeException" "java/lang/Throwable" "depth" "I") ∈ lw_all := lw_g (lw_at lw_m4 151 rfl) rfl
theorem q950 : (Jvm.Cond.lays "java/lang/NegativeArraySizeException" "java/lang/Throwable" "suppressedExceptions" "Ljava/util/List;") ∈ lw_all := lw_g (lw_at lw_m4 152 rfl) rfl
theorem q951 : (Jvm.Cond.superclass "java/lang/NegativeArraySizeException" "java/lang/RuntimeException") ∈ lw_all := lw_g (lw_at lw_m4 153 rfl) rfl
theorem q952 : (Jvm.Cond.castable "java/lang/NegativeArraySizeException" "java/lang/NegativeArraySizeException") ∈ lw_tbl := lw_at lw_m4 154 rfl
theorem q955 : (Jvm.Cond.selects "java/lang/NegativeArraySizeException" ({ cls := "java/lang/Throwable", name := "fillInStackTrace", desc := "(I)Ljava/lang/Throwable;" } : Jvm.MethodName) ({ cls := "java/lang/Throwable", name := "fillInStackTrace", desc := "(I)Ljava/lang/Throwable;" } : Jvm.MethodName)) ∈ lw_all := lw_g (lw_at lw_m4 157 rfl) rfl
theorem q1510 : (Jvm.Cond.castable "java/lang/NegativeArraySizeException" "java/lang/Object") ∈ lw_tbl := lw_at lw_m6 232 rfl
theorem in_J12 : ∀ w ∈ wsJ120, w ∈ lw_all := lw_in wsJ120 [945, 946, 947, 948, 949, 950] (by decide +kernel) (by decide +kernel)

/-! java/lang/String -/
set_option maxRecDepth 100000
def RJ13 : String := "java/lang/String"
def TJ13 : u_T := fun k => match k with
  | 0 => ("java/lang/String", "value", "[B", true)
  | _ => ("java/lang/String", "coder", "B", true)
def tyJ13 : Nat → FieldType := fun k => match k with
  | 0 => .array .byte
  | _ => .byte
abbrev wsJ130 : List Cond := u_ws RJ13 TJ13 2
theorem nmJ13 : ∀ a, a < 2 → ∀ b, b < 2 → a ≠ b → (TJ13 a).2.1 ≠ (TJ13 b).2.1 := by decide +kernel
theorem tyJ13_ok : ∀ k, k < 2 → parseFieldDescriptor (TJ13 k).2.2.1 = some (tyJ13 k) := by decide +kernel
theorem q103 : (Jvm.Cond.initialized "java/lang/String") ∈ lw_all := lw_g (lw_at lw_m1 25 rfl) rfl
theorem q956 : (Jvm.Cond.instantiable "java/lang/String" (4 : Nat)) ∈ lw_all := lw_g (lw_at lw_m4 158 rfl) rfl
theorem q958 : (Jvm.Cond.laysFinal "java/lang/String" "java/lang/String" "value" "[B") ∈ lw_all := lw_g (lw_at lw_m4 160 rfl) rfl
theorem q959 : (Jvm.Cond.soleField "java/lang/String" "value") ∈ lw_all := lw_g (lw_at lw_m4 161 rfl) rfl
theorem q960 : (Jvm.Cond.laysFinal "java/lang/String" "java/lang/String" "coder" "B") ∈ lw_all := lw_g (lw_at lw_m4 162 rfl) rfl
theorem q961 : (Jvm.Cond.soleField "java/lang/String" "coder") ∈ lw_all := lw_g (lw_at lw_m4 163 rfl) rfl
theorem q1514 : (Jvm.Cond.castable "java/lang/String" "java/lang/Object") ∈ lw_tbl := lw_at lw_m6 236 rfl
theorem in_J13 : ∀ w ∈ wsJ130, w ∈ lw_all := lw_in wsJ130 [958, 960] (by decide +kernel) (by decide +kernel)

/-! java/lang/ClassCastException -/
set_option maxRecDepth 100000
def RJ14 : String := "java/lang/ClassCastException"
def TJ14 : u_T := fun k => match k with
  | 0 => ("java/lang/Throwable", "backtrace", "Ljava/lang/Object;", false)
  | 1 => ("java/lang/Throwable", "detailMessage", "Ljava/lang/String;", false)
  | 2 => ("java/lang/Throwable", "cause", "Ljava/lang/Throwable;", false)
  | 3 => ("java/lang/Throwable", "stackTrace", "[Ljava/lang/StackTraceElement;", false)
  | 4 => ("java/lang/Throwable", "depth", "I", false)
  | _ => ("java/lang/Throwable", "suppressedExceptions", "Ljava/util/List;", false)
def tyJ14 : Nat → FieldType := fun k => match k with
  | 0 => .object "java/lang/Object"
  | 1 => .object "java/lang/String"
  | 2 => .object "java/lang/Throwable"
  | 3 => .array (.object "java/lang/StackTraceElement")
  | 4 => .int
  | _ => .object "java/util/List"
abbrev wsJ140 : List Cond := u_ws RJ14 TJ14 6
theorem nmJ14 : ∀ a, a < 6 → ∀ b, b < 6 → a ≠ b → (TJ14 a).2.1 ≠ (TJ14 b).2.1 := by decide +kernel
theorem tyJ14_ok : ∀ k, k < 6 → parseFieldDescriptor (TJ14 k).2.2.1 = some (tyJ14 k) := by decide +kernel
abbrev cJ14_init : ByteArray := prog_14_method_2_code
def yJ14_init : MethodName := ⟨RJ14, "<init>", "(Ljava/lang/String;)V"⟩
def dkwJ14_init_0 : List UInt8 := [42, 43, 183, 0, 7, 177]
abbrev dktJ14_init_0 : List UInt8 := dkwJ14_init_0 ++ []
theorem dksJ14_init_0 : cJ14_init.data.toList.drop 0 = dktJ14_init_0 := by decide +kernel
theorem dJ14_init_0 : decode cJ14_init 0 = .ok (.aload_n 0, 1) := dk_42 (dk_at dksJ14_init_0 0 rfl rfl)
theorem dJ14_init_1 : decode cJ14_init 1 = .ok (.aload_n 1, 1) := dk_43 (dk_at dksJ14_init_0 1 rfl rfl)
theorem dJ14_init_2 : decode cJ14_init 2 = .ok (.invokespecial 7, 3) := dk_183 0 7 (dk_at dksJ14_init_0 2 rfl rfl)
theorem dJ14_init_5 : decode cJ14_init 5 = .ok (.return_, 1) := dk_177 (dk_at dksJ14_init_0 5 rfl rfl)
theorem q104 : (Jvm.Cond.initialized "java/lang/ClassCastException") ∈ lw_all := lw_g (lw_at lw_m1 26 rfl) rfl
theorem q460 : (Jvm.Cond.selects "java/lang/ClassCastException" ({ cls := "java/lang/Throwable", name := "fillInStackTrace", desc := "()Ljava/lang/Throwable;" } : Jvm.MethodName) ({ cls := "java/lang/Throwable", name := "fillInStackTrace", desc := "()Ljava/lang/Throwable;" } : Jvm.MethodName)) ∈ lw_all := lw_g (lw_at lw_m2 142 rfl) rfl
theorem q594 : (Jvm.Cond.selects "java/lang/ClassCastException" ({ cls := "java/lang/Object", name := "getClass", desc := "()Ljava/lang/Class;" } : Jvm.MethodName) ({ cls := "java/lang/Object", name := "getClass", desc := "()Ljava/lang/Class;" } : Jvm.MethodName)) ∈ lw_all := lw_g (lw_at lw_m3 36 rfl) rfl
theorem q975 : (Jvm.Cond.instantiable "java/lang/ClassCastException" (6 : Nat)) ∈ lw_all := lw_g (lw_at lw_m4 177 rfl) rfl
theorem q976 : (Jvm.Cond.instanceMethod ({ cls := "java/lang/ClassCastException", name := "<init>", desc := "(Ljava/lang/String;)V" } : Jvm.MethodName)) ∈ lw_all := lw_g (lw_at lw_m4 178 rfl) rfl
theorem q977 : (Jvm.Cond.code ({ cls := "java/lang/ClassCastException", name := "<init>", desc := "(Ljava/lang/String;)V" } : Jvm.MethodName) prog_14_method_2_code (2 : Nat) (Option.none : Option Jvm.ClassFile.FieldType)) ∈ lw_all := lw_g (lw_at lw_m4 179 rfl) rfl
theorem q978 : (Jvm.Cond.methodLink "java/lang/ClassCastException" (7 : Nat) ({ cls := "java/lang/RuntimeException", name := "<init>", desc := "(Ljava/lang/String;)V" } : Jvm.MethodName)) ∈ lw_all := lw_g (lw_at lw_m4 180 rfl) rfl
theorem q979 : (Jvm.Cond.lays "java/lang/ClassCastException" "java/lang/Throwable" "backtrace" "Ljava/lang/Object;") ∈ lw_all := lw_g (lw_at lw_m4 181 rfl) rfl
theorem q980 : (Jvm.Cond.lays "java/lang/ClassCastException" "java/lang/Throwable" "detailMessage" "Ljava/lang/String;") ∈ lw_all := lw_g (lw_at lw_m4 182 rfl) rfl
theorem q981 : (Jvm.Cond.lays "java/lang/ClassCastException" "java/lang/Throwable" "cause" "Ljava/lang/Throwable;") ∈ lw_all := lw_g (lw_at lw_m4 183 rfl) rfl
theorem q982 : (Jvm.Cond.lays "java/lang/ClassCastException" "java/lang/Throwable" "stackTrace" "[Ljava/lang/StackTraceElement;") ∈ lw_all := lw_g (lw_at lw_m4 184 rfl) rfl
theorem q983 : (Jvm.Cond.lays "java/lang/ClassCastException" "java/lang/Throwable" "depth" "I") ∈ lw_all := lw_g (lw_at lw_m4 185 rfl) rfl
theorem q984 : (Jvm.Cond.lays "java/lang/ClassCastException" "java/lang/Throwable" "suppressedExceptions" "Ljava/util/List;") ∈ lw_all := lw_g (lw_at lw_m4 186 rfl) rfl
theorem q985 : (Jvm.Cond.superclass "java/lang/ClassCastException" "java/lang/RuntimeException") ∈ lw_all := lw_g (lw_at lw_m4 187 rfl) rfl
theorem q986 : (Jvm.Cond.castable "java/lang/ClassCastException" "java/lang/ClassCastException") ∈ lw_tbl := lw_at lw_m4 188 rfl
theorem q987 : (Jvm.Cond.selects "java/lang/ClassCastException" ({ cls := "java/lang/Throwable", name := "fillInStackTrace", desc := "(I)Ljava/lang/Throwable;" } : Jvm.MethodName) ({ cls := "java/lang/Throwable", name := "fillInStackTrace", desc := "(I)Ljava/lang/Throwable;" } : Jvm.MethodName)) ∈ lw_all := lw_g (lw_at lw_m4 189 rfl) rfl
theorem q1511 : (Jvm.Cond.castable "java/lang/ClassCastException" "java/lang/Object") ∈ lw_tbl := lw_at lw_m6 233 rfl
theorem in_J14 : ∀ w ∈ wsJ140, w ∈ lw_all := lw_in wsJ140 [979, 980, 981, 982, 983, 984] (by decide +kernel) (by decide +kernel)

/-! java/lang/IndexOutOfBoundsException -/
set_option maxRecDepth 100000
def RJ15 : String := "java/lang/IndexOutOfBoundsException"
abbrev cJ15_init : ByteArray := prog_17_method_2_code
def yJ15_init : MethodName := ⟨RJ15, "<init>", "(Ljava/lang/String;)V"⟩
def dkwJ15_init_0 : List UInt8 := [42, 43, 183, 0, 7, 177]
abbrev dktJ15_init_0 : List UInt8 := dkwJ15_init_0 ++ []
theorem dksJ15_init_0 : cJ15_init.data.toList.drop 0 = dktJ15_init_0 := by decide +kernel
theorem dJ15_init_0 : decode cJ15_init 0 = .ok (.aload_n 0, 1) := dk_42 (dk_at dksJ15_init_0 0 rfl rfl)
theorem dJ15_init_1 : decode cJ15_init 1 = .ok (.aload_n 1, 1) := dk_43 (dk_at dksJ15_init_0 1 rfl rfl)
theorem dJ15_init_2 : decode cJ15_init 2 = .ok (.invokespecial 7, 3) := dk_183 0 7 (dk_at dksJ15_init_0 2 rfl rfl)
theorem dJ15_init_5 : decode cJ15_init 5 = .ok (.return_, 1) := dk_177 (dk_at dksJ15_init_0 5 rfl rfl)
theorem q105 : (Jvm.Cond.initialized "java/lang/IndexOutOfBoundsException") ∈ lw_all := lw_g (lw_at lw_m1 27 rfl) rfl
theorem q993 : (Jvm.Cond.instanceMethod ({ cls := "java/lang/IndexOutOfBoundsException", name := "<init>", desc := "(Ljava/lang/String;)V" } : Jvm.MethodName)) ∈ lw_all := lw_g (lw_at lw_m4 195 rfl) rfl
theorem q994 : (Jvm.Cond.code ({ cls := "java/lang/IndexOutOfBoundsException", name := "<init>", desc := "(Ljava/lang/String;)V" } : Jvm.MethodName) prog_17_method_2_code (2 : Nat) (Option.none : Option Jvm.ClassFile.FieldType)) ∈ lw_all := lw_g (lw_at lw_m4 196 rfl) rfl
theorem q995 : (Jvm.Cond.methodLink "java/lang/IndexOutOfBoundsException" (7 : Nat) ({ cls := "java/lang/RuntimeException", name := "<init>", desc := "(Ljava/lang/String;)V" } : Jvm.MethodName)) ∈ lw_all := lw_g (lw_at lw_m4 197 rfl) rfl
theorem q1004 : (Jvm.Cond.declares ({ cls := "java/lang/IndexOutOfBoundsException", name := "<init>", desc := "()V" } : Jvm.MethodName)) ∈ lw_tbl := lw_at lw_m4 206 rfl
theorem q1005 : (Jvm.Cond.declares ({ cls := "java/lang/IndexOutOfBoundsException", name := "<init>", desc := "(Ljava/lang/String;)V" } : Jvm.MethodName)) ∈ lw_tbl := lw_at lw_m4 207 rfl

/-! java/lang/ArrayIndexOutOfBoundsException -/
set_option maxRecDepth 100000
def RJ16 : String := "java/lang/ArrayIndexOutOfBoundsException"
def TJ16 : u_T := fun k => match k with
  | 0 => ("java/lang/Throwable", "backtrace", "Ljava/lang/Object;", false)
  | 1 => ("java/lang/Throwable", "detailMessage", "Ljava/lang/String;", false)
  | 2 => ("java/lang/Throwable", "cause", "Ljava/lang/Throwable;", false)
  | 3 => ("java/lang/Throwable", "stackTrace", "[Ljava/lang/StackTraceElement;", false)
  | 4 => ("java/lang/Throwable", "depth", "I", false)
  | _ => ("java/lang/Throwable", "suppressedExceptions", "Ljava/util/List;", false)
def tyJ16 : Nat → FieldType := fun k => match k with
  | 0 => .object "java/lang/Object"
  | 1 => .object "java/lang/String"
  | 2 => .object "java/lang/Throwable"
  | 3 => .array (.object "java/lang/StackTraceElement")
  | 4 => .int
  | _ => .object "java/util/List"
abbrev wsJ160 : List Cond := u_ws RJ16 TJ16 6
theorem nmJ16 : ∀ a, a < 6 → ∀ b, b < 6 → a ≠ b → (TJ16 a).2.1 ≠ (TJ16 b).2.1 := by decide +kernel
theorem tyJ16_ok : ∀ k, k < 6 → parseFieldDescriptor (TJ16 k).2.2.1 = some (tyJ16 k) := by decide +kernel
abbrev cJ16_init : ByteArray := prog_13_method_2_code
def yJ16_init : MethodName := ⟨RJ16, "<init>", "(Ljava/lang/String;)V"⟩
def dkwJ16_init_0 : List UInt8 := [42, 43, 183, 0, 7, 177]
abbrev dktJ16_init_0 : List UInt8 := dkwJ16_init_0 ++ []
theorem dksJ16_init_0 : cJ16_init.data.toList.drop 0 = dktJ16_init_0 := by decide +kernel
theorem dJ16_init_0 : decode cJ16_init 0 = .ok (.aload_n 0, 1) := dk_42 (dk_at dksJ16_init_0 0 rfl rfl)
theorem dJ16_init_1 : decode cJ16_init 1 = .ok (.aload_n 1, 1) := dk_43 (dk_at dksJ16_init_0 1 rfl rfl)
theorem dJ16_init_2 : decode cJ16_init 2 = .ok (.invokespecial 7, 3) := dk_183 0 7 (dk_at dksJ16_init_0 2 rfl rfl)
theorem dJ16_init_5 : decode cJ16_init 5 = .ok (.return_, 1) := dk_177 (dk_at dksJ16_init_0 5 rfl rfl)
theorem q106 : (Jvm.Cond.initialized "java/lang/ArrayIndexOutOfBoundsException") ∈ lw_all := lw_g (lw_at lw_m1 28 rfl) rfl
theorem q459 : (Jvm.Cond.selects "java/lang/ArrayIndexOutOfBoundsException" ({ cls := "java/lang/Throwable", name := "fillInStackTrace", desc := "()Ljava/lang/Throwable;" } : Jvm.MethodName) ({ cls := "java/lang/Throwable", name := "fillInStackTrace", desc := "()Ljava/lang/Throwable;" } : Jvm.MethodName)) ∈ lw_all := lw_g (lw_at lw_m2 141 rfl) rfl
theorem q593 : (Jvm.Cond.selects "java/lang/ArrayIndexOutOfBoundsException" ({ cls := "java/lang/Object", name := "getClass", desc := "()Ljava/lang/Class;" } : Jvm.MethodName) ({ cls := "java/lang/Object", name := "getClass", desc := "()Ljava/lang/Class;" } : Jvm.MethodName)) ∈ lw_all := lw_g (lw_at lw_m3 35 rfl) rfl
theorem q989 : (Jvm.Cond.instantiable "java/lang/ArrayIndexOutOfBoundsException" (6 : Nat)) ∈ lw_all := lw_g (lw_at lw_m4 191 rfl) rfl
theorem q990 : (Jvm.Cond.instanceMethod ({ cls := "java/lang/ArrayIndexOutOfBoundsException", name := "<init>", desc := "(Ljava/lang/String;)V" } : Jvm.MethodName)) ∈ lw_all := lw_g (lw_at lw_m4 192 rfl) rfl
theorem q991 : (Jvm.Cond.code ({ cls := "java/lang/ArrayIndexOutOfBoundsException", name := "<init>", desc := "(Ljava/lang/String;)V" } : Jvm.MethodName) prog_13_method_2_code (2 : Nat) (Option.none : Option Jvm.ClassFile.FieldType)) ∈ lw_all := lw_g (lw_at lw_m4 193 rfl) rfl
theorem q992 : (Jvm.Cond.methodLink "java/lang/ArrayIndexOutOfBoundsException" (7 : Nat) ({ cls := "java/lang/IndexOutOfBoundsException", name := "<init>", desc := "(Ljava/lang/String;)V" } : Jvm.MethodName)) ∈ lw_all := lw_g (lw_at lw_m4 194 rfl) rfl
theorem q996 : (Jvm.Cond.lays "java/lang/ArrayIndexOutOfBoundsException" "java/lang/Throwable" "backtrace" "Ljava/lang/Object;") ∈ lw_all := lw_g (lw_at lw_m4 198 rfl) rfl
theorem q997 : (Jvm.Cond.lays "java/lang/ArrayIndexOutOfBoundsException" "java/lang/Throwable" "detailMessage" "Ljava/lang/String;") ∈ lw_all := lw_g (lw_at lw_m4 199 rfl) rfl
theorem q998 : (Jvm.Cond.lays "java/lang/ArrayIndexOutOfBoundsException" "java/lang/Throwable" "cause" "Ljava/lang/Throwable;") ∈ lw_all := lw_g (lw_at lw_m4 200 rfl) rfl
theorem q999 : (Jvm.Cond.lays "java/lang/ArrayIndexOutOfBoundsException" "java/lang/Throwable" "stackTrace" "[Ljava/lang/StackTraceElement;") ∈ lw_all := lw_g (lw_at lw_m4 201 rfl) rfl
theorem q1000 : (Jvm.Cond.lays "java/lang/ArrayIndexOutOfBoundsException" "java/lang/Throwable" "depth" "I") ∈ lw_all := lw_g (lw_at lw_m4 202 rfl) rfl
theorem q1001 : (Jvm.Cond.lays "java/lang/ArrayIndexOutOfBoundsException" "java/lang/Throwable" "suppressedExceptions" "Ljava/util/List;") ∈ lw_all := lw_g (lw_at lw_m4 203 rfl) rfl
theorem q1002 : (Jvm.Cond.superclass "java/lang/ArrayIndexOutOfBoundsException" "java/lang/IndexOutOfBoundsException") ∈ lw_all := lw_g (lw_at lw_m4 204 rfl) rfl
theorem q1003 : (Jvm.Cond.castable "java/lang/ArrayIndexOutOfBoundsException" "java/lang/ArrayIndexOutOfBoundsException") ∈ lw_tbl := lw_at lw_m4 205 rfl
theorem q1006 : (Jvm.Cond.selects "java/lang/ArrayIndexOutOfBoundsException" ({ cls := "java/lang/Throwable", name := "fillInStackTrace", desc := "(I)Ljava/lang/Throwable;" } : Jvm.MethodName) ({ cls := "java/lang/Throwable", name := "fillInStackTrace", desc := "(I)Ljava/lang/Throwable;" } : Jvm.MethodName)) ∈ lw_all := lw_g (lw_at lw_m4 208 rfl) rfl
theorem q1499 : (Jvm.Cond.castable "java/lang/ArrayIndexOutOfBoundsException" "java/lang/IndexOutOfBoundsException") ∈ lw_tbl := lw_at lw_m6 221 rfl
theorem q1512 : (Jvm.Cond.castable "java/lang/ArrayIndexOutOfBoundsException" "java/lang/Object") ∈ lw_tbl := lw_at lw_m6 234 rfl
theorem in_J16 : ∀ w ∈ wsJ160, w ∈ lw_all := lw_in wsJ160 [996, 997, 998, 999, 1000, 1001] (by decide +kernel) (by decide +kernel)

/-! java/lang/Object -/
set_option maxRecDepth 100000
def RJ17 : String := "java/lang/Object"
abbrev cJ17_init : ByteArray := object_method_1_code
def yJ17_init : MethodName := ⟨RJ17, "<init>", "()V"⟩
theorem dJ17_init_0 : decode cJ17_init 0 = .ok (.return_, 1) := by decide +kernel
theorem q113 : (Jvm.Cond.instanceMethod ({ cls := "java/lang/Object", name := "<init>", desc := "()V" } : Jvm.MethodName)) ∈ lw_all := lw_g (lw_at lw_m1 35 rfl) rfl
theorem q114 : (Jvm.Cond.code ({ cls := "java/lang/Object", name := "<init>", desc := "()V" } : Jvm.MethodName) object_method_1_code (1 : Nat) (Option.none : Option Jvm.ClassFile.FieldType)) ∈ lw_all := lw_g (lw_at lw_m1 36 rfl) rfl
theorem q582 : (Jvm.Cond.instanceMethod ({ cls := "java/lang/Object", name := "getClass", desc := "()Ljava/lang/Class;" } : Jvm.MethodName)) ∈ lw_all := lw_g (lw_at lw_m3 24 rfl) rfl
theorem q583 : (Jvm.Cond.sameMethod "java/lang/Object" "java/lang/Object" "getClass" "()Ljava/lang/Class;") ∈ lw_all := lw_g (lw_at lw_m3 25 rfl) rfl
theorem q597 : (Jvm.Cond.native ({ cls := "java/lang/Object", name := "getClass", desc := "()Ljava/lang/Class;" } : Jvm.MethodName)) ∈ lw_all := lw_g (lw_at lw_m3 39 rfl) rfl
theorem q1517 : (Jvm.Cond.declares ({ cls := "java/lang/Object", name := "getClass", desc := "()Ljava/lang/Class;" } : Jvm.MethodName)) ∈ lw_tbl := lw_at lw_m6 239 rfl

/-! java/util/ArrayList -/
set_option maxRecDepth 100000
def RJ2 : String := "java/util/ArrayList"
def TJ2 : u_T := fun k => match k with
  | 0 => ("java/util/AbstractList", "modCount", "I", false)
  | 1 => ("java/util/ArrayList", "elementData", "[Ljava/lang/Object;", false)
  | _ => ("java/util/ArrayList", "size", "I", false)
def tyJ2 : Nat → FieldType := fun k => match k with
  | 0 => .int
  | 1 => .array (.object "java/lang/Object")
  | _ => .int
abbrev wsJ20 : List Cond := u_ws RJ2 TJ2 3
theorem nmJ2 : ∀ a, a < 3 → ∀ b, b < 3 → a ≠ b → (TJ2 a).2.1 ≠ (TJ2 b).2.1 := by decide +kernel
theorem tyJ2_ok : ∀ k, k < 3 → parseFieldDescriptor (TJ2 k).2.2.1 = some (tyJ2 k) := by decide +kernel
abbrev cJ2_init : ByteArray := prog_28_method_2_code
def yJ2_init : MethodName := ⟨RJ2, "<init>", "()V"⟩
def dkwJ2_init_0 : List UInt8 := [42, 183, 0, 1, 42, 178, 0, 39, 181, 0, 9, 177]
abbrev dktJ2_init_0 : List UInt8 := dkwJ2_init_0 ++ []
theorem dksJ2_init_0 : cJ2_init.data.toList.drop 0 = dktJ2_init_0 := by decide +kernel
theorem dJ2_init_0 : decode cJ2_init 0 = .ok (.aload_n 0, 1) := dk_42 (dk_at dksJ2_init_0 0 rfl rfl)
theorem dJ2_init_1 : decode cJ2_init 1 = .ok (.invokespecial 1, 3) := dk_183 0 1 (dk_at dksJ2_init_0 1 rfl rfl)
theorem dJ2_init_4 : decode cJ2_init 4 = .ok (.aload_n 0, 1) := dk_42 (dk_at dksJ2_init_0 4 rfl rfl)
theorem dJ2_init_5 : decode cJ2_init 5 = .ok (.getstatic 39, 3) := dk_178 0 39 (dk_at dksJ2_init_0 5 rfl rfl)
theorem dJ2_init_8 : decode cJ2_init 8 = .ok (.putfield 9, 3) := dk_181 0 9 (dk_at dksJ2_init_0 8 rfl rfl)
theorem dJ2_init_11 : decode cJ2_init 11 = .ok (.return_, 1) := dk_177 (dk_at dksJ2_init_0 11 rfl rfl)
abbrev cJ2_clear : ByteArray := prog_28_method_40_code
def yJ2_clear : MethodName := ⟨RJ2, "clear", "()V"⟩
def dkwJ2_clear_1 : List UInt8 := [181, 0, 48, 62, 29, 28, 162, 0, 13, 43, 29, 1, 83, 132, 3, 1, 167, 255, 244, 177]
abbrev dktJ2_clear_1 : List UInt8 := dkwJ2_clear_1 ++ []
def dkwJ2_clear_0 : List UInt8 := [42, 89, 180, 0, 63, 4, 96, 181, 0, 63, 42, 180, 0, 9, 76, 42, 180, 0, 48, 61, 42, 3, 90]
abbrev dktJ2_clear_0 : List UInt8 := dkwJ2_clear_0 ++ dktJ2_clear_1
theorem dksJ2_clear_0 : cJ2_clear.data.toList.drop 0 = dktJ2_clear_0 := by decide +kernel
theorem dksJ2_clear_1 : cJ2_clear.data.toList.drop 23 = dktJ2_clear_1 := dk_seg dksJ2_clear_0 23 rfl rfl
theorem dJ2_clear_0 : decode cJ2_clear 0 = .ok (.aload_n 0, 1) := dk_42 (dk_at dksJ2_clear_0 0 rfl rfl)
theorem dJ2_clear_1 : decode cJ2_clear 1 = .ok (.dup, 1) := dk_89 (dk_at dksJ2_clear_0 1 rfl rfl)
theorem dJ2_clear_2 : decode cJ2_clear 2 = .ok (.getfield 63, 3) := dk_180 0 63 (dk_at dksJ2_clear_0 2 rfl rfl)
theorem dJ2_clear_5 : decode cJ2_clear 5 = .ok (.iconst 1, 1) := dk_4 (dk_at dksJ2_clear_0 5 rfl rfl)
theorem dJ2_clear_6 : decode cJ2_clear 6 = .ok (.iadd, 1) := dk_96 (dk_at dksJ2_clear_0 6 rfl rfl)
theorem dJ2_clear_7 : decode cJ2_clear 7 = .ok (.putfield 63, 3) := dk_181 0 63 (dk_at dksJ2_clear_0 7 rfl rfl)
theorem dJ2_clear_10 : decode cJ2_clear 10 = .ok (.aload_n 0, 1) := dk_42 (dk_at dksJ2_clear_0 10 rfl rfl)
theorem dJ2_clear_11 : decode cJ2_clear 11 = .ok (.getfield 9, 3) := dk_180 0 9 (dk_at dksJ2_clear_0 11 rfl rfl)
theorem dJ2_clear_14 : decode cJ2_clear 14 = .ok (.astore_n 1, 1) := dk_76 (dk_at dksJ2_clear_0 14 rfl rfl)
theorem dJ2_clear_15 : decode cJ2_clear 15 = .ok (.aload_n 0, 1) := dk_42 (dk_at dksJ2_clear_0 15 rfl rfl)
theorem dJ2_clear_16 : decode cJ2_clear 16 = .ok (.getfield 48, 3) := dk_180 0 48 (dk_at dksJ2_clear_0 16 rfl rfl)
theorem dJ2_clear_19 : decode cJ2_clear 19 = .ok (.istore_n 2, 1) := dk_61 (dk_at dksJ2_clear_0 19 rfl rfl)
theorem dJ2_clear_20 : decode cJ2_clear 20 = .ok (.aload_n 0, 1) := dk_42 (dk_at dksJ2_clear_0 20 rfl rfl)
theorem dJ2_clear_21 : decode cJ2_clear 21 = .ok (.iconst 0, 1) := dk_3 (dk_at dksJ2_clear_0 21 rfl rfl)
theorem dJ2_clear_22 : decode cJ2_clear 22 = .ok (.dup_x1, 1) := dk_90 (dk_at dksJ2_clear_0 22 rfl rfl)
theorem dJ2_clear_23 : decode cJ2_clear 23 = .ok (.putfield 48, 3) := dk_181 0 48 (dk_at dksJ2_clear_1 0 rfl rfl)
theorem dJ2_clear_26 : decode cJ2_clear 26 = .ok (.istore_n 3, 1) := dk_62 (dk_at dksJ2_clear_1 3 rfl rfl)
theorem dJ2_clear_27 : decode cJ2_clear 27 = .ok (.iload_n 3, 1) := dk_29 (dk_at dksJ2_clear_1 4 rfl rfl)
theorem dJ2_clear_28 : decode cJ2_clear 28 = .ok (.iload_n 2, 1) := dk_28 (dk_at dksJ2_clear_1 5 rfl rfl)
theorem dJ2_clear_29 : decode cJ2_clear 29 = .ok (.if_icmp .ge 13, 3) := dk_162 0 13 (dk_at dksJ2_clear_1 6 rfl rfl)
theorem dJ2_clear_32 : decode cJ2_clear 32 = .ok (.aload_n 1, 1) := dk_43 (dk_at dksJ2_clear_1 9 rfl rfl)
theorem dJ2_clear_33 : decode cJ2_clear 33 = .ok (.iload_n 3, 1) := dk_29 (dk_at dksJ2_clear_1 10 rfl rfl)
theorem dJ2_clear_34 : decode cJ2_clear 34 = .ok (.aconst_null, 1) := dk_1 (dk_at dksJ2_clear_1 11 rfl rfl)
theorem dJ2_clear_35 : decode cJ2_clear 35 = .ok (.aastore, 1) := dk_83 (dk_at dksJ2_clear_1 12 rfl rfl)
theorem dJ2_clear_36 : decode cJ2_clear 36 = .ok (.iinc 3 1, 3) := dk_132 3 1 (dk_at dksJ2_clear_1 13 rfl rfl)
theorem dJ2_clear_39 : decode cJ2_clear 39 = .ok (.goto (-12), 3) := dk_167 255 244 (dk_at dksJ2_clear_1 16 rfl rfl)
theorem dJ2_clear_42 : decode cJ2_clear 42 = .ok (.return_, 1) := dk_177 (dk_at dksJ2_clear_1 19 rfl rfl)
abbrev cJ2_size : ByteArray := prog_28_method_8_code
def yJ2_size : MethodName := ⟨RJ2, "size", "()I"⟩
theorem dJ2_size_0 : decode cJ2_size 0 = .ok (.aload_n 0, 1) := by decide +kernel
theorem dJ2_size_1 : decode cJ2_size 1 = .ok (.getfield 48, 3) := by decide +kernel
theorem dJ2_size_4 : decode cJ2_size 4 = .ok (.ireturn, 1) := by decide +kernel
abbrev cJ2_add : ByteArray := prog_28_method_25_code
def yJ2_add : MethodName := ⟨RJ2, "add", "(Ljava/lang/Object;)Z"⟩
def dkwJ2_add_1 : List UInt8 := [172]
abbrev dktJ2_add_1 : List UInt8 := dkwJ2_add_1 ++ []
def dkwJ2_add_0 : List UInt8 := [42, 89, 180, 0, 63, 4, 96, 181, 0, 63, 42, 43, 42, 180, 0, 9, 42, 180, 0, 48, 182, 0, 131, 4]
abbrev dktJ2_add_0 : List UInt8 := dkwJ2_add_0 ++ dktJ2_add_1
theorem dksJ2_add_0 : cJ2_add.data.toList.drop 0 = dktJ2_add_0 := by decide +kernel
theorem dksJ2_add_1 : cJ2_add.data.toList.drop 24 = dktJ2_add_1 := dk_seg dksJ2_add_0 24 rfl rfl
theorem dJ2_add_0 : decode cJ2_add 0 = .ok (.aload_n 0, 1) := dk_42 (dk_at dksJ2_add_0 0 rfl rfl)
theorem dJ2_add_1 : decode cJ2_add 1 = .ok (.dup, 1) := dk_89 (dk_at dksJ2_add_0 1 rfl rfl)
theorem dJ2_add_2 : decode cJ2_add 2 = .ok (.getfield 63, 3) := dk_180 0 63 (dk_at dksJ2_add_0 2 rfl rfl)
theorem dJ2_add_5 : decode cJ2_add 5 = .ok (.iconst 1, 1) := dk_4 (dk_at dksJ2_add_0 5 rfl rfl)
theorem dJ2_add_6 : decode cJ2_add 6 = .ok (.iadd, 1) := dk_96 (dk_at dksJ2_add_0 6 rfl rfl)
theorem dJ2_add_7 : decode cJ2_add 7 = .ok (.putfield 63, 3) := dk_181 0 63 (dk_at dksJ2_add_0 7 rfl rfl)
theorem dJ2_add_10 : decode cJ2_add 10 = .ok (.aload_n 0, 1) := dk_42 (dk_at dksJ2_add_0 10 rfl rfl)
theorem dJ2_add_11 : decode cJ2_add 11 = .ok (.aload_n 1, 1) := dk_43 (dk_at dksJ2_add_0 11 rfl rfl)
theorem dJ2_add_12 : decode cJ2_add 12 = .ok (.aload_n 0, 1) := dk_42 (dk_at dksJ2_add_0 12 rfl rfl)
theorem dJ2_add_13 : decode cJ2_add 13 = .ok (.getfield 9, 3) := dk_180 0 9 (dk_at dksJ2_add_0 13 rfl rfl)
theorem dJ2_add_16 : decode cJ2_add 16 = .ok (.aload_n 0, 1) := dk_42 (dk_at dksJ2_add_0 16 rfl rfl)
theorem dJ2_add_17 : decode cJ2_add 17 = .ok (.getfield 48, 3) := dk_180 0 48 (dk_at dksJ2_add_0 17 rfl rfl)
theorem dJ2_add_20 : decode cJ2_add 20 = .ok (.invokevirtual 131, 3) := dk_182 0 131 (dk_at dksJ2_add_0 20 rfl rfl)
theorem dJ2_add_23 : decode cJ2_add 23 = .ok (.iconst 1, 1) := dk_4 (dk_at dksJ2_add_0 23 rfl rfl)
theorem dJ2_add_24 : decode cJ2_add 24 = .ok (.ireturn, 1) := dk_172 (dk_at dksJ2_add_1 0 rfl rfl)
abbrev cJ2_add_2 : ByteArray := prog_28_method_24_code
def yJ2_add_2 : MethodName := ⟨RJ2, "add", "(Ljava/lang/Object;[Ljava/lang/Object;I)V"⟩
def dkwJ2_add_2_0 : List UInt8 := [29, 44, 190, 160, 0, 8, 42, 182, 0, 129, 77, 44, 29, 43, 83, 42, 29, 4, 96, 181, 0, 48, 177]
abbrev dktJ2_add_2_0 : List UInt8 := dkwJ2_add_2_0 ++ []
theorem dksJ2_add_2_0 : cJ2_add_2.data.toList.drop 0 = dktJ2_add_2_0 := by decide +kernel
theorem dJ2_add_2_0 : decode cJ2_add_2 0 = .ok (.iload_n 3, 1) := dk_29 (dk_at dksJ2_add_2_0 0 rfl rfl)
theorem dJ2_add_2_1 : decode cJ2_add_2 1 = .ok (.aload_n 2, 1) := dk_44 (dk_at dksJ2_add_2_0 1 rfl rfl)
theorem dJ2_add_2_2 : decode cJ2_add_2 2 = .ok (.arraylength, 1) := dk_190 (dk_at dksJ2_add_2_0 2 rfl rfl)
theorem dJ2_add_2_3 : decode cJ2_add_2 3 = .ok (.if_icmp .ne 8, 3) := dk_160 0 8 (dk_at dksJ2_add_2_0 3 rfl rfl)
theorem dJ2_add_2_6 : decode cJ2_add_2 6 = .ok (.aload_n 0, 1) := dk_42 (dk_at dksJ2_add_2_0 6 rfl rfl)
theorem dJ2_add_2_7 : decode cJ2_add_2 7 = .ok (.invokevirtual 129, 3) := dk_182 0 129 (dk_at dksJ2_add_2_0 7 rfl rfl)
theorem dJ2_add_2_10 : decode cJ2_add_2 10 = .ok (.astore_n 2, 1) := dk_77 (dk_at dksJ2_add_2_0 10 rfl rfl)
theorem dJ2_add_2_11 : decode cJ2_add_2 11 = .ok (.aload_n 2, 1) := dk_44 (dk_at dksJ2_add_2_0 11 rfl rfl)
theorem dJ2_add_2_12 : decode cJ2_add_2 12 = .ok (.iload_n 3, 1) := dk_29 (dk_at dksJ2_add_2_0 12 rfl rfl)
theorem dJ2_add_2_13 : decode cJ2_add_2 13 = .ok (.aload_n 1, 1) := dk_43 (dk_at dksJ2_add_2_0 13 rfl rfl)
theorem dJ2_add_2_14 : decode cJ2_add_2 14 = .ok (.aastore, 1) := dk_83 (dk_at dksJ2_add_2_0 14 rfl rfl)
theorem dJ2_add_2_15 : decode cJ2_add_2 15 = .ok (.aload_n 0, 1) := dk_42 (dk_at dksJ2_add_2_0 15 rfl rfl)
theorem dJ2_add_2_16 : decode cJ2_add_2 16 = .ok (.iload_n 3, 1) := dk_29 (dk_at dksJ2_add_2_0 16 rfl rfl)
theorem dJ2_add_2_17 : decode cJ2_add_2 17 = .ok (.iconst 1, 1) := dk_4 (dk_at dksJ2_add_2_0 17 rfl rfl)
theorem dJ2_add_2_18 : decode cJ2_add_2 18 = .ok (.iadd, 1) := dk_96 (dk_at dksJ2_add_2_0 18 rfl rfl)
theorem dJ2_add_2_19 : decode cJ2_add_2 19 = .ok (.putfield 48, 3) := dk_181 0 48 (dk_at dksJ2_add_2_0 19 rfl rfl)
theorem dJ2_add_2_22 : decode cJ2_add_2 22 = .ok (.return_, 1) := dk_177 (dk_at dksJ2_add_2_0 22 rfl rfl)
abbrev cJ2_grow : ByteArray := prog_28_method_7_code
def yJ2_grow : MethodName := ⟨RJ2, "grow", "()[Ljava/lang/Object;"⟩
def dkwJ2_grow_0 : List UInt8 := [42, 42, 180, 0, 48, 4, 96, 182, 0, 69, 176]
abbrev dktJ2_grow_0 : List UInt8 := dkwJ2_grow_0 ++ []
theorem dksJ2_grow_0 : cJ2_grow.data.toList.drop 0 = dktJ2_grow_0 := by decide +kernel
theorem dJ2_grow_0 : decode cJ2_grow 0 = .ok (.aload_n 0, 1) := dk_42 (dk_at dksJ2_grow_0 0 rfl rfl)
theorem dJ2_grow_1 : decode cJ2_grow 1 = .ok (.aload_n 0, 1) := dk_42 (dk_at dksJ2_grow_0 1 rfl rfl)
theorem dJ2_grow_2 : decode cJ2_grow 2 = .ok (.getfield 48, 3) := dk_180 0 48 (dk_at dksJ2_grow_0 2 rfl rfl)
theorem dJ2_grow_5 : decode cJ2_grow 5 = .ok (.iconst 1, 1) := dk_4 (dk_at dksJ2_grow_0 5 rfl rfl)
theorem dJ2_grow_6 : decode cJ2_grow 6 = .ok (.iadd, 1) := dk_96 (dk_at dksJ2_grow_0 6 rfl rfl)
theorem dJ2_grow_7 : decode cJ2_grow 7 = .ok (.invokevirtual 69, 3) := dk_182 0 69 (dk_at dksJ2_grow_0 7 rfl rfl)
theorem dJ2_grow_10 : decode cJ2_grow 10 = .ok (.areturn, 1) := dk_176 (dk_at dksJ2_grow_0 10 rfl rfl)
abbrev cJ2_grow_2 : ByteArray := prog_28_method_6_code
def yJ2_grow_2 : MethodName := ⟨RJ2, "grow", "(I)[Ljava/lang/Object;"⟩
def dkwJ2_grow_2_2 : List UInt8 := [27, 184, 0, 79, 189, 0, 7, 90, 181, 0, 9, 176]
abbrev dktJ2_grow_2_2 : List UInt8 := dkwJ2_grow_2_2 ++ []
def dkwJ2_grow_2_1 : List UInt8 := [28, 4, 122, 184, 0, 73, 62, 42, 42, 180, 0, 9, 29, 184, 0, 66, 90, 181, 0, 9, 176, 42, 16, 10]
abbrev dktJ2_grow_2_1 : List UInt8 := dkwJ2_grow_2_1 ++ dktJ2_grow_2_2
def dkwJ2_grow_2_0 : List UInt8 := [42, 180, 0, 9, 190, 61, 28, 157, 0, 13, 42, 180, 0, 9, 178, 0, 39, 165, 0, 28, 28, 27, 28, 100]
abbrev dktJ2_grow_2_0 : List UInt8 := dkwJ2_grow_2_0 ++ dktJ2_grow_2_1
theorem dksJ2_grow_2_0 : cJ2_grow_2.data.toList.drop 0 = dktJ2_grow_2_0 := by decide +kernel
theorem dksJ2_grow_2_1 : cJ2_grow_2.data.toList.drop 24 = dktJ2_grow_2_1 := dk_seg dksJ2_grow_2_0 24 rfl rfl
theorem dksJ2_grow_2_2 : cJ2_grow_2.data.toList.drop 48 = dktJ2_grow_2_2 := dk_seg dksJ2_grow_2_1 24 rfl rfl
theorem dJ2_grow_2_0 : decode cJ2_grow_2 0 = .ok (.aload_n 0, 1) := dk_42 (dk_at dksJ2_grow_2_0 0 rfl rfl)
theorem dJ2_grow_2_1 : decode cJ2_grow_2 1 = .ok (.getfield 9, 3) := dk_180 0 9 (dk_at dksJ2_grow_2_0 1 rfl rfl)
theorem dJ2_grow_2_4 : decode cJ2_grow_2 4 = .ok (.arraylength, 1) := dk_190 (dk_at dksJ2_grow_2_0 4 rfl rfl)
theorem dJ2_grow_2_5 : decode cJ2_grow_2 5 = .ok (.istore_n 2, 1) := dk_61 (dk_at dksJ2_grow_2_0 5 rfl rfl)
theorem dJ2_grow_2_6 : decode cJ2_grow_2 6 = .ok (.iload_n 2, 1) := dk_28 (dk_at dksJ2_grow_2_0 6 rfl rfl)
theorem dJ2_grow_2_7 : decode cJ2_grow_2 7 = .ok (.ifCond .gt 13, 3) := dk_157 0 13 (dk_at dksJ2_grow_2_0 7 rfl rfl)
theorem dJ2_grow_2_10 : decode cJ2_grow_2 10 = .ok (.aload_n 0, 1) := dk_42 (dk_at dksJ2_grow_2_0 10 rfl rfl)
theorem dJ2_grow_2_11 : decode cJ2_grow_2 11 = .ok (.getfield 9, 3) := dk_180 0 9 (dk_at dksJ2_grow_2_0 11 rfl rfl)
theorem dJ2_grow_2_14 : decode cJ2_grow_2 14 = .ok (.getstatic 39, 3) := dk_178 0 39 (dk_at dksJ2_grow_2_0 14 rfl rfl)
theorem dJ2_grow_2_17 : decode cJ2_grow_2 17 = .ok (.if_acmp .eq 28, 3) := dk_165 0 28 (dk_at dksJ2_grow_2_0 17 rfl rfl)
theorem dJ2_grow_2_20 : decode cJ2_grow_2 20 = .ok (.iload_n 2, 1) := dk_28 (dk_at dksJ2_grow_2_0 20 rfl rfl)
theorem dJ2_grow_2_21 : decode cJ2_grow_2 21 = .ok (.iload_n 1, 1) := dk_27 (dk_at dksJ2_grow_2_0 21 rfl rfl)
theorem dJ2_grow_2_22 : decode cJ2_grow_2 22 = .ok (.iload_n 2, 1) := dk_28 (dk_at dksJ2_grow_2_0 22 rfl rfl)
theorem dJ2_grow_2_23 : decode cJ2_grow_2 23 = .ok (.isub, 1) := dk_100 (dk_at dksJ2_grow_2_0 23 rfl rfl)
theorem dJ2_grow_2_24 : decode cJ2_grow_2 24 = .ok (.iload_n 2, 1) := dk_28 (dk_at dksJ2_grow_2_1 0 rfl rfl)
theorem dJ2_grow_2_25 : decode cJ2_grow_2 25 = .ok (.iconst 1, 1) := dk_4 (dk_at dksJ2_grow_2_1 1 rfl rfl)
theorem dJ2_grow_2_26 : decode cJ2_grow_2 26 = .ok (.ishr, 1) := dk_122 (dk_at dksJ2_grow_2_1 2 rfl rfl)
theorem dJ2_grow_2_27 : decode cJ2_grow_2 27 = .ok (.invokestatic 73, 3) := dk_184 0 73 (dk_at dksJ2_grow_2_1 3 rfl rfl)
theorem dJ2_grow_2_30 : decode cJ2_grow_2 30 = .ok (.istore_n 3, 1) := dk_62 (dk_at dksJ2_grow_2_1 6 rfl rfl)
theorem dJ2_grow_2_31 : decode cJ2_grow_2 31 = .ok (.aload_n 0, 1) := dk_42 (dk_at dksJ2_grow_2_1 7 rfl rfl)
theorem dJ2_grow_2_32 : decode cJ2_grow_2 32 = .ok (.aload_n 0, 1) := dk_42 (dk_at dksJ2_grow_2_1 8 rfl rfl)
theorem dJ2_grow_2_33 : decode cJ2_grow_2 33 = .ok (.getfield 9, 3) := dk_180 0 9 (dk_at dksJ2_grow_2_1 9 rfl rfl)
theorem dJ2_grow_2_36 : decode cJ2_grow_2 36 = .ok (.iload_n 3, 1) := dk_29 (dk_at dksJ2_grow_2_1 12 rfl rfl)
theorem dJ2_grow_2_37 : decode cJ2_grow_2 37 = .ok (.invokestatic 66, 3) := dk_184 0 66 (dk_at dksJ2_grow_2_1 13 rfl rfl)
theorem dJ2_grow_2_40 : decode cJ2_grow_2 40 = .ok (.dup_x1, 1) := dk_90 (dk_at dksJ2_grow_2_1 16 rfl rfl)
theorem dJ2_grow_2_41 : decode cJ2_grow_2 41 = .ok (.putfield 9, 3) := dk_181 0 9 (dk_at dksJ2_grow_2_1 17 rfl rfl)
theorem dJ2_grow_2_44 : decode cJ2_grow_2 44 = .ok (.areturn, 1) := dk_176 (dk_at dksJ2_grow_2_1 20 rfl rfl)
theorem dJ2_grow_2_45 : decode cJ2_grow_2 45 = .ok (.aload_n 0, 1) := dk_42 (dk_at dksJ2_grow_2_1 21 rfl rfl)
theorem dJ2_grow_2_46 : decode cJ2_grow_2 46 = .ok (.bipush 10, 2) := dk_16 10 (dk_at dksJ2_grow_2_1 22 rfl rfl)
theorem dJ2_grow_2_48 : decode cJ2_grow_2 48 = .ok (.iload_n 1, 1) := dk_27 (dk_at dksJ2_grow_2_2 0 rfl rfl)
theorem dJ2_grow_2_49 : decode cJ2_grow_2 49 = .ok (.invokestatic 79, 3) := dk_184 0 79 (dk_at dksJ2_grow_2_2 1 rfl rfl)
theorem dJ2_grow_2_52 : decode cJ2_grow_2 52 = .ok (.anewarray 7, 3) := dk_189 0 7 (dk_at dksJ2_grow_2_2 4 rfl rfl)
theorem dJ2_grow_2_55 : decode cJ2_grow_2 55 = .ok (.dup_x1, 1) := dk_90 (dk_at dksJ2_grow_2_2 7 rfl rfl)
theorem dJ2_grow_2_56 : decode cJ2_grow_2 56 = .ok (.putfield 9, 3) := dk_181 0 9 (dk_at dksJ2_grow_2_2 8 rfl rfl)
theorem dJ2_grow_2_59 : decode cJ2_grow_2 59 = .ok (.areturn, 1) := dk_176 (dk_at dksJ2_grow_2_2 11 rfl rfl)
abbrev cJ2_get : ByteArray := prog_28_method_20_code
def yJ2_get : MethodName := ⟨RJ2, "get", "(I)Ljava/lang/Object;"⟩
def dkwJ2_get_0 : List UInt8 := [27, 42, 180, 0, 48, 184, 0, 118, 87, 42, 27, 182, 0, 123, 176]
abbrev dktJ2_get_0 : List UInt8 := dkwJ2_get_0 ++ []
theorem dksJ2_get_0 : cJ2_get.data.toList.drop 0 = dktJ2_get_0 := by decide +kernel
theorem dJ2_get_0 : decode cJ2_get 0 = .ok (.iload_n 1, 1) := dk_27 (dk_at dksJ2_get_0 0 rfl rfl)
theorem dJ2_get_1 : decode cJ2_get 1 = .ok (.aload_n 0, 1) := dk_42 (dk_at dksJ2_get_0 1 rfl rfl)
theorem dJ2_get_2 : decode cJ2_get 2 = .ok (.getfield 48, 3) := dk_180 0 48 (dk_at dksJ2_get_0 2 rfl rfl)
theorem dJ2_get_5 : decode cJ2_get 5 = .ok (.invokestatic 118, 3) := dk_184 0 118 (dk_at dksJ2_get_0 5 rfl rfl)
theorem dJ2_get_8 : decode cJ2_get 8 = .ok (.pop, 1) := dk_87 (dk_at dksJ2_get_0 8 rfl rfl)
theorem dJ2_get_9 : decode cJ2_get 9 = .ok (.aload_n 0, 1) := dk_42 (dk_at dksJ2_get_0 9 rfl rfl)
theorem dJ2_get_10 : decode cJ2_get 10 = .ok (.iload_n 1, 1) := dk_27 (dk_at dksJ2_get_0 10 rfl rfl)
theorem dJ2_get_11 : decode cJ2_get 11 = .ok (.invokevirtual 123, 3) := dk_182 0 123 (dk_at dksJ2_get_0 11 rfl rfl)
theorem dJ2_get_14 : decode cJ2_get 14 = .ok (.areturn, 1) := dk_176 (dk_at dksJ2_get_0 14 rfl rfl)
abbrev cJ2_elementData : ByteArray := prog_28_method_18_code
def yJ2_elementData : MethodName := ⟨RJ2, "elementData", "(I)Ljava/lang/Object;"⟩
def dkwJ2_elementData_0 : List UInt8 := [42, 180, 0, 9, 27, 50, 176]
abbrev dktJ2_elementData_0 : List UInt8 := dkwJ2_elementData_0 ++ []
theorem dksJ2_elementData_0 : cJ2_elementData.data.toList.drop 0 = dktJ2_elementData_0 := by decide +kernel
theorem dJ2_elementData_0 : decode cJ2_elementData 0 = .ok (.aload_n 0, 1) := dk_42 (dk_at dksJ2_elementData_0 0 rfl rfl)
theorem dJ2_elementData_1 : decode cJ2_elementData 1 = .ok (.getfield 9, 3) := dk_180 0 9 (dk_at dksJ2_elementData_0 1 rfl rfl)
theorem dJ2_elementData_4 : decode cJ2_elementData 4 = .ok (.iload_n 1, 1) := dk_27 (dk_at dksJ2_elementData_0 4 rfl rfl)
theorem dJ2_elementData_5 : decode cJ2_elementData 5 = .ok (.aaload, 1) := dk_50 (dk_at dksJ2_elementData_0 5 rfl rfl)
theorem dJ2_elementData_6 : decode cJ2_elementData 6 = .ok (.areturn, 1) := dk_176 (dk_at dksJ2_elementData_0 6 rfl rfl)
theorem q85 : (Jvm.Cond.initialized "java/util/ArrayList") ∈ lw_all := lw_g (lw_at lw_m1 7 rfl) rfl
theorem q138 : (Jvm.Cond.instantiable "java/util/ArrayList" (3 : Nat)) ∈ lw_all := lw_g (lw_at lw_m1 60 rfl) rfl
theorem q140 : (Jvm.Cond.instanceMethod ({ cls := "java/util/ArrayList", name := "<init>", desc := "()V" } : Jvm.MethodName)) ∈ lw_all := lw_g (lw_at lw_m1 62 rfl) rfl
theorem q141 : (Jvm.Cond.code ({ cls := "java/util/ArrayList", name := "<init>", desc := "()V" } : Jvm.MethodName) prog_28_method_2_code (1 : Nat) (Option.none : Option Jvm.ClassFile.FieldType)) ∈ lw_all := lw_g (lw_at lw_m1 63 rfl) rfl
theorem q142 : (Jvm.Cond.methodLink "java/util/ArrayList" (1 : Nat) ({ cls := "java/util/AbstractList", name := "<init>", desc := "()V" } : Jvm.MethodName)) ∈ lw_all := lw_g (lw_at lw_m1 64 rfl) rfl
theorem q149 : (Jvm.Cond.fieldLink "java/util/ArrayList" (39 : Nat) "java/util/ArrayList" "DEFAULTCAPACITY_EMPTY_ELEMENTDATA" "[Ljava/lang/Object;") ∈ lw_all := lw_g (lw_at lw_m1 71 rfl) rfl
theorem q150 : (Jvm.Cond.laysStatic "java/util/ArrayList" "DEFAULTCAPACITY_EMPTY_ELEMENTDATA" "[Ljava/lang/Object;") ∈ lw_tbl := lw_at lw_m1 72 rfl
theorem q151 : (Jvm.Cond.fieldLink "java/util/ArrayList" (9 : Nat) "java/util/ArrayList" "elementData" "[Ljava/lang/Object;") ∈ lw_all := lw_g (lw_at lw_m1 73 rfl) rfl
theorem q152 : (Jvm.Cond.fieldLink "java/util/ArrayList" (48 : Nat) "java/util/ArrayList" "size" "I") ∈ lw_all := lw_g (lw_at lw_m1 74 rfl) rfl
theorem q154 : (Jvm.Cond.fieldLink "java/util/ArrayList" (63 : Nat) "java/util/ArrayList" "modCount" "I") ∈ lw_all := lw_g (lw_at lw_m1 76 rfl) rfl
theorem q155 : (Jvm.Cond.sameField "java/util/ArrayList" "java/util/AbstractList" "modCount" "I") ∈ lw_all := lw_g (lw_at lw_m1 77 rfl) rfl
theorem q156 : (Jvm.Cond.lays "java/util/ArrayList" "java/util/ArrayList" "elementData" "[Ljava/lang/Object;") ∈ lw_all := lw_g (lw_at lw_m1 78 rfl) rfl
theorem q157 : (Jvm.Cond.soleField "java/util/ArrayList" "elementData") ∈ lw_all := lw_g (lw_at lw_m1 79 rfl) rfl
theorem q158 : (Jvm.Cond.lays "java/util/ArrayList" "java/util/ArrayList" "size" "I") ∈ lw_all := lw_g (lw_at lw_m1 80 rfl) rfl
theorem q159 : (Jvm.Cond.soleField "java/util/ArrayList" "size") ∈ lw_all := lw_g (lw_at lw_m1 81 rfl) rfl
theorem q160 : (Jvm.Cond.lays "java/util/ArrayList" "java/util/AbstractList" "modCount" "I") ∈ lw_all := lw_g (lw_at lw_m1 82 rfl) rfl
theorem q162 : (Jvm.Cond.superclass "java/util/ArrayList" "java/util/AbstractList") ∈ lw_all := lw_g (lw_at lw_m1 84 rfl) rfl
theorem q395 : (Jvm.Cond.instanceMethod ({ cls := "java/util/ArrayList", name := "clear", desc := "()V" } : Jvm.MethodName)) ∈ lw_all := lw_g (lw_at lw_m2 77 rfl) rfl
theorem q396 : (Jvm.Cond.selects "java/util/ArrayList" ({ cls := "java/util/ArrayList", name := "clear", desc := "()V" } : Jvm.MethodName) ({ cls := "java/util/ArrayList", name := "clear", desc := "()V" } : Jvm.MethodName)) ∈ lw_all := lw_g (lw_at lw_m2 78 rfl) rfl
theorem q397 : (Jvm.Cond.code ({ cls := "java/util/ArrayList", name := "clear", desc := "()V" } : Jvm.MethodName) prog_28_method_40_code (4 : Nat) (Option.none : Option Jvm.ClassFile.FieldType)) ∈ lw_all := lw_g (lw_at lw_m2 79 rfl) rfl
theorem q418 : (Jvm.Cond.instanceMethod ({ cls := "java/util/ArrayList", name := "size", desc := "()I" } : Jvm.MethodName)) ∈ lw_all := lw_g (lw_at lw_m2 100 rfl) rfl
theorem q419 : (Jvm.Cond.selects "java/util/ArrayList" ({ cls := "java/util/ArrayList", name := "size", desc := "()I" } : Jvm.MethodName) ({ cls := "java/util/ArrayList", name := "size", desc := "()I" } : Jvm.MethodName)) ∈ lw_all := lw_g (lw_at lw_m2 101 rfl) rfl
theorem q420 : (Jvm.Cond.code ({ cls := "java/util/ArrayList", name := "size", desc := "()I" } : Jvm.MethodName) prog_28_method_8_code (1 : Nat) (Option.some Jvm.ClassFile.FieldType.int)) ∈ lw_all := lw_g (lw_at lw_m2 102 rfl) rfl
theorem q553 : (Jvm.Cond.instanceMethod ({ cls := "java/util/ArrayList", name := "add", desc := "(Ljava/lang/Object;)Z" } : Jvm.MethodName)) ∈ lw_all := lw_g (lw_at lw_m2 235 rfl) rfl
theorem q554 : (Jvm.Cond.selects "java/util/ArrayList" ({ cls := "java/util/ArrayList", name := "add", desc := "(Ljava/lang/Object;)Z" } : Jvm.MethodName) ({ cls := "java/util/ArrayList", name := "add", desc := "(Ljava/lang/Object;)Z" } : Jvm.MethodName)) ∈ lw_all := lw_g (lw_at lw_m2 236 rfl) rfl
theorem q555 : (Jvm.Cond.code ({ cls := "java/util/ArrayList", name := "add", desc := "(Ljava/lang/Object;)Z" } : Jvm.MethodName) prog_28_method_25_code (2 : Nat) (Option.some Jvm.ClassFile.FieldType.boolean)) ∈ lw_all := lw_g (lw_at lw_m2 237 rfl) rfl
theorem q556 : (Jvm.Cond.methodLink "java/util/ArrayList" (131 : Nat) ({ cls := "java/util/ArrayList", name := "add", desc := "(Ljava/lang/Object;[Ljava/lang/Object;I)V" } : Jvm.MethodName)) ∈ lw_all := lw_g (lw_at lw_m2 238 rfl) rfl
theorem q557 : (Jvm.Cond.privateMethod ({ cls := "java/util/ArrayList", name := "add", desc := "(Ljava/lang/Object;[Ljava/lang/Object;I)V" } : Jvm.MethodName)) ∈ lw_tbl := lw_at lw_m2 239 rfl
theorem q558 : (Jvm.Cond.instanceMethod ({ cls := "java/util/ArrayList", name := "add", desc := "(Ljava/lang/Object;[Ljava/lang/Object;I)V" } : Jvm.MethodName)) ∈ lw_all := lw_g (lw_at lw_m3 0 rfl) rfl
theorem q559 : (Jvm.Cond.code ({ cls := "java/util/ArrayList", name := "add", desc := "(Ljava/lang/Object;[Ljava/lang/Object;I)V" } : Jvm.MethodName) prog_28_method_24_code (4 : Nat) (Option.none : Option Jvm.ClassFile.FieldType)) ∈ lw_all := lw_g (lw_at lw_m3 1 rfl) rfl
theorem q560 : (Jvm.Cond.methodLink "java/util/ArrayList" (129 : Nat) ({ cls := "java/util/ArrayList", name := "grow", desc := "()[Ljava/lang/Object;" } : Jvm.MethodName)) ∈ lw_all := lw_g (lw_at lw_m3 2 rfl) rfl
theorem q561 : (Jvm.Cond.privateMethod ({ cls := "java/util/ArrayList", name := "grow", desc := "()[Ljava/lang/Object;" } : Jvm.MethodName)) ∈ lw_tbl := lw_at lw_m3 3 rfl
theorem q562 : (Jvm.Cond.instanceMethod ({ cls := "java/util/ArrayList", name := "grow", desc := "()[Ljava/lang/Object;" } : Jvm.MethodName)) ∈ lw_all := lw_g (lw_at lw_m3 4 rfl) rfl
theorem q563 : (Jvm.Cond.code ({ cls := "java/util/ArrayList", name := "grow", desc := "()[Ljava/lang/Object;" } : Jvm.MethodName) prog_28_method_7_code (1 : Nat) (Option.some (Jvm.ClassFile.FieldType.array (Jvm.ClassFile.FieldType.object "java/lang/Object")))) ∈ lw_all := lw_g (lw_at lw_m3 5 rfl) rfl
theorem q564 : (Jvm.Cond.methodLink "java/util/ArrayList" (69 : Nat) ({ cls := "java/util/ArrayList", name := "grow", desc := "(I)[Ljava/lang/Object;" } : Jvm.MethodName)) ∈ lw_all := lw_g (lw_at lw_m3 6 rfl) rfl
theorem q565 : (Jvm.Cond.privateMethod ({ cls := "java/util/ArrayList", name := "grow", desc := "(I)[Ljava/lang/Object;" } : Jvm.MethodName)) ∈ lw_tbl := lw_at lw_m3 7 rfl
theorem q566 : (Jvm.Cond.instanceMethod ({ cls := "java/util/ArrayList", name := "grow", desc := "(I)[Ljava/lang/Object;" } : Jvm.MethodName)) ∈ lw_all := lw_g (lw_at lw_m3 8 rfl) rfl
theorem q567 : (Jvm.Cond.code ({ cls := "java/util/ArrayList", name := "grow", desc := "(I)[Ljava/lang/Object;" } : Jvm.MethodName) prog_28_method_6_code (4 : Nat) (Option.some (Jvm.ClassFile.FieldType.array (Jvm.ClassFile.FieldType.object "java/lang/Object")))) ∈ lw_all := lw_g (lw_at lw_m3 9 rfl) rfl
theorem q568 : (Jvm.Cond.methodLink "java/util/ArrayList" (73 : Nat) ({ cls := "jdk/internal/util/ArraysSupport", name := "newLength", desc := "(III)I" } : Jvm.MethodName)) ∈ lw_all := lw_g (lw_at lw_m3 10 rfl) rfl
theorem q578 : (Jvm.Cond.methodLink "java/util/ArrayList" (66 : Nat) ({ cls := "java/util/Arrays", name := "copyOf", desc := "([Ljava/lang/Object;I)[Ljava/lang/Object;" } : Jvm.MethodName)) ∈ lw_all := lw_g (lw_at lw_m3 20 rfl) rfl
theorem q596 : (Jvm.Cond.selects "java/util/ArrayList" ({ cls := "java/lang/Object", name := "getClass", desc := "()Ljava/lang/Class;" } : Jvm.MethodName) ({ cls := "java/lang/Object", name := "getClass", desc := "()Ljava/lang/Class;" } : Jvm.MethodName)) ∈ lw_all := lw_g (lw_at lw_m3 38 rfl) rfl
theorem q610 : (Jvm.Cond.methodLink "java/util/ArrayList" (79 : Nat) ({ cls := "java/lang/Math", name := "max", desc := "(II)I" } : Jvm.MethodName)) ∈ lw_all := lw_g (lw_at lw_m3 52 rfl) rfl
theorem q611 : (Jvm.Cond.classLink "java/util/ArrayList" (7 : Nat) "java/lang/Object") ∈ lw_all := lw_g (lw_at lw_m3 53 rfl) rfl
theorem q652 : (Jvm.Cond.instanceMethod ({ cls := "java/util/ArrayList", name := "get", desc := "(I)Ljava/lang/Object;" } : Jvm.MethodName)) ∈ lw_all := lw_g (lw_at lw_m3 94 rfl) rfl
theorem q653 : (Jvm.Cond.selects "java/util/ArrayList" ({ cls := "java/util/ArrayList", name := "get", desc := "(I)Ljava/lang/Object;" } : Jvm.MethodName) ({ cls := "java/util/ArrayList", name := "get", desc := "(I)Ljava/lang/Object;" } : Jvm.MethodName)) ∈ lw_all := lw_g (lw_at lw_m3 95 rfl) rfl
theorem q654 : (Jvm.Cond.code ({ cls := "java/util/ArrayList", name := "get", desc := "(I)Ljava/lang/Object;" } : Jvm.MethodName) prog_28_method_20_code (2 : Nat) (Option.some (Jvm.ClassFile.FieldType.object "java/lang/Object"))) ∈ lw_all := lw_g (lw_at lw_m3 96 rfl) rfl
theorem q655 : (Jvm.Cond.methodLink "java/util/ArrayList" (118 : Nat) ({ cls := "java/util/Objects", name := "checkIndex", desc := "(II)I" } : Jvm.MethodName)) ∈ lw_all := lw_g (lw_at lw_m3 97 rfl) rfl
theorem q661 : (Jvm.Cond.methodLink "java/util/ArrayList" (123 : Nat) ({ cls := "java/util/ArrayList", name := "elementData", desc := "(I)Ljava/lang/Object;" } : Jvm.MethodName)) ∈ lw_all := lw_g (lw_at lw_m3 103 rfl) rfl
theorem q662 : (Jvm.Cond.instanceMethod ({ cls := "java/util/ArrayList", name := "elementData", desc := "(I)Ljava/lang/Object;" } : Jvm.MethodName)) ∈ lw_all := lw_g (lw_at lw_m3 104 rfl) rfl
theorem q663 : (Jvm.Cond.selects "java/util/ArrayList" ({ cls := "java/util/ArrayList", name := "elementData", desc := "(I)Ljava/lang/Object;" } : Jvm.MethodName) ({ cls := "java/util/ArrayList", name := "elementData", desc := "(I)Ljava/lang/Object;" } : Jvm.MethodName)) ∈ lw_all := lw_g (lw_at lw_m3 105 rfl) rfl
theorem q664 : (Jvm.Cond.code ({ cls := "java/util/ArrayList", name := "elementData", desc := "(I)Ljava/lang/Object;" } : Jvm.MethodName) prog_28_method_18_code (2 : Nat) (Option.some (Jvm.ClassFile.FieldType.object "java/lang/Object"))) ∈ lw_all := lw_g (lw_at lw_m3 106 rfl) rfl
theorem q1504 : (Jvm.Cond.castable "java/util/ArrayList" "java/lang/Object") ∈ lw_tbl := lw_at lw_m6 226 rfl
theorem in_J2 : ∀ w ∈ wsJ20, w ∈ lw_all := lw_in wsJ20 [160, 156, 158] (by decide +kernel) (by decide +kernel)

/-! java/lang/Throwable -/
set_option maxRecDepth 100000
def RJ3 : String := "java/lang/Throwable"
def TJ3 : u_T := fun k => match k with
  | 0 => ("java/lang/Throwable", "cause", "Ljava/lang/Throwable;", false)
  | 1 => ("java/lang/Throwable", "stackTrace", "[Ljava/lang/StackTraceElement;", false)
  | 2 => ("java/lang/Throwable", "suppressedExceptions", "Ljava/util/List;", false)
  | 3 => ("java/lang/Throwable", "detailMessage", "Ljava/lang/String;", false)
  | _ => ("java/lang/Throwable", "backtrace", "Ljava/lang/Object;", false)
def tyJ3 : Nat → FieldType := fun k => match k with
  | 0 => .object "java/lang/Throwable"
  | 1 => .array (.object "java/lang/StackTraceElement")
  | 2 => .object "java/util/List"
  | 3 => .object "java/lang/String"
  | _ => .object "java/lang/Object"
abbrev wsJ30 : List Cond := u_ws RJ3 TJ3 5
theorem nmJ3 : ∀ a, a < 5 → ∀ b, b < 5 → a ≠ b → (TJ3 a).2.1 ≠ (TJ3 b).2.1 := by decide +kernel
theorem tyJ3_ok : ∀ k, k < 5 → parseFieldDescriptor (TJ3 k).2.2.1 = some (tyJ3 k) := by decide +kernel
abbrev cJ3_init : ByteArray := prog_25_method_1_code
def yJ3_init : MethodName := ⟨RJ3, "<init>", "()V"⟩
def dkwJ3_init_1 : List UInt8 := [182, 0, 27, 87, 177]
abbrev dktJ3_init_1 : List UInt8 := dkwJ3_init_1 ++ []
def dkwJ3_init_0 : List UInt8 := [42, 183, 0, 1, 42, 42, 181, 0, 7, 42, 178, 0, 13, 181, 0, 17, 42, 178, 0, 20, 181, 0, 24, 42]
abbrev dktJ3_init_0 : List UInt8 := dkwJ3_init_0 ++ dktJ3_init_1
theorem dksJ3_init_0 : cJ3_init.data.toList.drop 0 = dktJ3_init_0 := by decide +kernel
theorem dksJ3_init_1 : cJ3_init.data.toList.drop 24 = dktJ3_init_1 := dk_seg dksJ3_init_0 24 rfl rfl
theorem dJ3_init_0 : decode cJ3_init 0 = .ok (.aload_n 0, 1) := dk_42 (dk_at dksJ3_init_0 0 rfl rfl)
theorem dJ3_init_1 : decode cJ3_init 1 = .ok (.invokespecial 1, 3) := dk_183 0 1 (dk_at dksJ3_init_0 1 rfl rfl)
theorem dJ3_init_4 : decode cJ3_init 4 = .ok (.aload_n 0, 1) := dk_42 (dk_at dksJ3_init_0 4 rfl rfl)
theorem dJ3_init_5 : decode cJ3_init 5 = .ok (.aload_n 0, 1) := dk_42 (dk_at dksJ3_init_0 5 rfl rfl)
theorem dJ3_init_6 : decode cJ3_init 6 = .ok (.putfield 7, 3) := dk_181 0 7 (dk_at dksJ3_init_0 6 rfl rfl)
theorem dJ3_init_9 : decode cJ3_init 9 = .ok (.aload_n 0, 1) := dk_42 (dk_at dksJ3_init_0 9 rfl rfl)
theorem dJ3_init_10 : decode cJ3_init 10 = .ok (.getstatic 13, 3) := dk_178 0 13 (dk_at dksJ3_init_0 10 rfl rfl)
theorem dJ3_init_13 : decode cJ3_init 13 = .ok (.putfield 17, 3) := dk_181 0 17 (dk_at dksJ3_init_0 13 rfl rfl)
theorem dJ3_init_16 : decode cJ3_init 16 = .ok (.aload_n 0, 1) := dk_42 (dk_at dksJ3_init_0 16 rfl rfl)
theorem dJ3_init_17 : decode cJ3_init 17 = .ok (.getstatic 20, 3) := dk_178 0 20 (dk_at dksJ3_init_0 17 rfl rfl)
theorem dJ3_init_20 : decode cJ3_init 20 = .ok (.putfield 24, 3) := dk_181 0 24 (dk_at dksJ3_init_0 20 rfl rfl)
theorem dJ3_init_23 : decode cJ3_init 23 = .ok (.aload_n 0, 1) := dk_42 (dk_at dksJ3_init_0 23 rfl rfl)
theorem dJ3_init_24 : decode cJ3_init 24 = .ok (.invokevirtual 27, 3) := dk_182 0 27 (dk_at dksJ3_init_1 0 rfl rfl)
theorem dJ3_init_27 : decode cJ3_init 27 = .ok (.pop, 1) := dk_87 (dk_at dksJ3_init_1 3 rfl rfl)
theorem dJ3_init_28 : decode cJ3_init 28 = .ok (.return_, 1) := dk_177 (dk_at dksJ3_init_1 4 rfl rfl)
abbrev cJ3_init_2 : ByteArray := prog_25_method_5_code
def yJ3_init_2 : MethodName := ⟨RJ3, "<init>", "(Ljava/lang/String;Ljava/lang/Throwable;ZZ)V"⟩
def dkwJ3_init_2_2 : List UInt8 := [44, 181, 0, 7, 29, 154, 0, 8, 42, 1, 181, 0, 24, 177]
abbrev dktJ3_init_2_2 : List UInt8 := dkwJ3_init_2_2 ++ []
def dkwJ3_init_2_1 : List UInt8 := [21, 4, 153, 0, 11, 42, 182, 0, 27, 87, 167, 0, 8, 42, 1, 181, 0, 17, 42, 43, 181, 0, 31, 42]
abbrev dktJ3_init_2_1 : List UInt8 := dkwJ3_init_2_1 ++ dktJ3_init_2_2
def dkwJ3_init_2_0 : List UInt8 := [42, 183, 0, 1, 42, 42, 181, 0, 7, 42, 178, 0, 13, 181, 0, 17, 42, 178, 0, 20, 181, 0, 24]
abbrev dktJ3_init_2_0 : List UInt8 := dkwJ3_init_2_0 ++ dktJ3_init_2_1
theorem dksJ3_init_2_0 : cJ3_init_2.data.toList.drop 0 = dktJ3_init_2_0 := by decide +kernel
theorem dksJ3_init_2_1 : cJ3_init_2.data.toList.drop 23 = dktJ3_init_2_1 := dk_seg dksJ3_init_2_0 23 rfl rfl
theorem dksJ3_init_2_2 : cJ3_init_2.data.toList.drop 47 = dktJ3_init_2_2 := dk_seg dksJ3_init_2_1 24 rfl rfl
theorem dJ3_init_2_0 : decode cJ3_init_2 0 = .ok (.aload_n 0, 1) := dk_42 (dk_at dksJ3_init_2_0 0 rfl rfl)
theorem dJ3_init_2_1 : decode cJ3_init_2 1 = .ok (.invokespecial 1, 3) := dk_183 0 1 (dk_at dksJ3_init_2_0 1 rfl rfl)
theorem dJ3_init_2_4 : decode cJ3_init_2 4 = .ok (.aload_n 0, 1) := dk_42 (dk_at dksJ3_init_2_0 4 rfl rfl)
theorem dJ3_init_2_5 : decode cJ3_init_2 5 = .ok (.aload_n 0, 1) := dk_42 (dk_at dksJ3_init_2_0 5 rfl rfl)
theorem dJ3_init_2_6 : decode cJ3_init_2 6 = .ok (.putfield 7, 3) := dk_181 0 7 (dk_at dksJ3_init_2_0 6 rfl rfl)
theorem dJ3_init_2_9 : decode cJ3_init_2 9 = .ok (.aload_n 0, 1) := dk_42 (dk_at dksJ3_init_2_0 9 rfl rfl)
theorem dJ3_init_2_10 : decode cJ3_init_2 10 = .ok (.getstatic 13, 3) := dk_178 0 13 (dk_at dksJ3_init_2_0 10 rfl rfl)
theorem dJ3_init_2_13 : decode cJ3_init_2 13 = .ok (.putfield 17, 3) := dk_181 0 17 (dk_at dksJ3_init_2_0 13 rfl rfl)
theorem dJ3_init_2_16 : decode cJ3_init_2 16 = .ok (.aload_n 0, 1) := dk_42 (dk_at dksJ3_init_2_0 16 rfl rfl)
theorem dJ3_init_2_17 : decode cJ3_init_2 17 = .ok (.getstatic 20, 3) := dk_178 0 20 (dk_at dksJ3_init_2_0 17 rfl rfl)
theorem dJ3_init_2_20 : decode cJ3_init_2 20 = .ok (.putfield 24, 3) := dk_181 0 24 (dk_at dksJ3_init_2_0 20 rfl rfl)
theorem dJ3_init_2_23 : decode cJ3_init_2 23 = .ok (.iload 4, 2) := dk_21 4 (dk_at dksJ3_init_2_1 0 rfl rfl)
theorem dJ3_init_2_25 : decode cJ3_init_2 25 = .ok (.ifCond .eq 11, 3) := dk_153 0 11 (dk_at dksJ3_init_2_1 2 rfl rfl)
theorem dJ3_init_2_28 : decode cJ3_init_2 28 = .ok (.aload_n 0, 1) := dk_42 (dk_at dksJ3_init_2_1 5 rfl rfl)
theorem dJ3_init_2_29 : decode cJ3_init_2 29 = .ok (.invokevirtual 27, 3) := dk_182 0 27 (dk_at dksJ3_init_2_1 6 rfl rfl)
theorem dJ3_init_2_32 : decode cJ3_init_2 32 = .ok (.pop, 1) := dk_87 (dk_at dksJ3_init_2_1 9 rfl rfl)
theorem dJ3_init_2_33 : decode cJ3_init_2 33 = .ok (.goto 8, 3) := dk_167 0 8 (dk_at dksJ3_init_2_1 10 rfl rfl)
theorem dJ3_init_2_36 : decode cJ3_init_2 36 = .ok (.aload_n 0, 1) := dk_42 (dk_at dksJ3_init_2_1 13 rfl rfl)
theorem dJ3_init_2_37 : decode cJ3_init_2 37 = .ok (.aconst_null, 1) := dk_1 (dk_at dksJ3_init_2_1 14 rfl rfl)
theorem dJ3_init_2_38 : decode cJ3_init_2 38 = .ok (.putfield 17, 3) := dk_181 0 17 (dk_at dksJ3_init_2_1 15 rfl rfl)
theorem dJ3_init_2_41 : decode cJ3_init_2 41 = .ok (.aload_n 0, 1) := dk_42 (dk_at dksJ3_init_2_1 18 rfl rfl)
theorem dJ3_init_2_42 : decode cJ3_init_2 42 = .ok (.aload_n 1, 1) := dk_43 (dk_at dksJ3_init_2_1 19 rfl rfl)
theorem dJ3_init_2_43 : decode cJ3_init_2 43 = .ok (.putfield 31, 3) := dk_181 0 31 (dk_at dksJ3_init_2_1 20 rfl rfl)
theorem dJ3_init_2_46 : decode cJ3_init_2 46 = .ok (.aload_n 0, 1) := dk_42 (dk_at dksJ3_init_2_1 23 rfl rfl)
theorem dJ3_init_2_47 : decode cJ3_init_2 47 = .ok (.aload_n 2, 1) := dk_44 (dk_at dksJ3_init_2_2 0 rfl rfl)
theorem dJ3_init_2_48 : decode cJ3_init_2 48 = .ok (.putfield 7, 3) := dk_181 0 7 (dk_at dksJ3_init_2_2 1 rfl rfl)
theorem dJ3_init_2_51 : decode cJ3_init_2 51 = .ok (.iload_n 3, 1) := dk_29 (dk_at dksJ3_init_2_2 4 rfl rfl)
theorem dJ3_init_2_52 : decode cJ3_init_2 52 = .ok (.ifCond .ne 8, 3) := dk_154 0 8 (dk_at dksJ3_init_2_2 5 rfl rfl)
theorem dJ3_init_2_55 : decode cJ3_init_2 55 = .ok (.aload_n 0, 1) := dk_42 (dk_at dksJ3_init_2_2 8 rfl rfl)
theorem dJ3_init_2_56 : decode cJ3_init_2 56 = .ok (.aconst_null, 1) := dk_1 (dk_at dksJ3_init_2_2 9 rfl rfl)
theorem dJ3_init_2_57 : decode cJ3_init_2 57 = .ok (.putfield 24, 3) := dk_181 0 24 (dk_at dksJ3_init_2_2 10 rfl rfl)
theorem dJ3_init_2_60 : decode cJ3_init_2 60 = .ok (.return_, 1) := dk_177 (dk_at dksJ3_init_2_2 13 rfl rfl)
abbrev cJ3_init_3 : ByteArray := prog_25_method_2_code
def yJ3_init_3 : MethodName := ⟨RJ3, "<init>", "(Ljava/lang/String;)V"⟩
def dkwJ3_init_3_1 : List UInt8 := [182, 0, 27, 87, 42, 43, 181, 0, 31, 177]
abbrev dktJ3_init_3_1 : List UInt8 := dkwJ3_init_3_1 ++ []
def dkwJ3_init_3_0 : List UInt8 := [42, 183, 0, 1, 42, 42, 181, 0, 7, 42, 178, 0, 13, 181, 0, 17, 42, 178, 0, 20, 181, 0, 24, 42]
abbrev dktJ3_init_3_0 : List UInt8 := dkwJ3_init_3_0 ++ dktJ3_init_3_1
theorem dksJ3_init_3_0 : cJ3_init_3.data.toList.drop 0 = dktJ3_init_3_0 := by decide +kernel
theorem dksJ3_init_3_1 : cJ3_init_3.data.toList.drop 24 = dktJ3_init_3_1 := dk_seg dksJ3_init_3_0 24 rfl rfl
theorem dJ3_init_3_0 : decode cJ3_init_3 0 = .ok (.aload_n 0, 1) := dk_42 (dk_at dksJ3_init_3_0 0 rfl rfl)
theorem dJ3_init_3_1 : decode cJ3_init_3 1 = .ok (.invokespecial 1, 3) := dk_183 0 1 (dk_at dksJ3_init_3_0 1 rfl rfl)
theorem dJ3_init_3_4 : decode cJ3_init_3 4 = .ok (.aload_n 0, 1) := dk_42 (dk_at dksJ3_init_3_0 4 rfl rfl)
theorem dJ3_init_3_5 : decode cJ3_init_3 5 = .ok (.aload_n 0, 1) := dk_42 (dk_at dksJ3_init_3_0 5 rfl rfl)
theorem dJ3_init_3_6 : decode cJ3_init_3 6 = .ok (.putfield 7, 3) := dk_181 0 7 (dk_at dksJ3_init_3_0 6 rfl rfl)
theorem dJ3_init_3_9 : decode cJ3_init_3 9 = .ok (.aload_n 0, 1) := dk_42 (dk_at dksJ3_init_3_0 9 rfl rfl)
theorem dJ3_init_3_10 : decode cJ3_init_3 10 = .ok (.getstatic 13, 3) := dk_178 0 13 (dk_at dksJ3_init_3_0 10 rfl rfl)
theorem dJ3_init_3_13 : decode cJ3_init_3 13 = .ok (.putfield 17, 3) := dk_181 0 17 (dk_at dksJ3_init_3_0 13 rfl rfl)
theorem dJ3_init_3_16 : decode cJ3_init_3 16 = .ok (.aload_n 0, 1) := dk_42 (dk_at dksJ3_init_3_0 16 rfl rfl)
theorem dJ3_init_3_17 : decode cJ3_init_3 17 = .ok (.getstatic 20, 3) := dk_178 0 20 (dk_at dksJ3_init_3_0 17 rfl rfl)
theorem dJ3_init_3_20 : decode cJ3_init_3 20 = .ok (.putfield 24, 3) := dk_181 0 24 (dk_at dksJ3_init_3_0 20 rfl rfl)
theorem dJ3_init_3_23 : decode cJ3_init_3 23 = .ok (.aload_n 0, 1) := dk_42 (dk_at dksJ3_init_3_0 23 rfl rfl)
theorem dJ3_init_3_24 : decode cJ3_init_3 24 = .ok (.invokevirtual 27, 3) := dk_182 0 27 (dk_at dksJ3_init_3_1 0 rfl rfl)
theorem dJ3_init_3_27 : decode cJ3_init_3 27 = .ok (.pop, 1) := dk_87 (dk_at dksJ3_init_3_1 3 rfl rfl)
theorem dJ3_init_3_28 : decode cJ3_init_3 28 = .ok (.aload_n 0, 1) := dk_42 (dk_at dksJ3_init_3_1 4 rfl rfl)
theorem dJ3_init_3_29 : decode cJ3_init_3 29 = .ok (.aload_n 1, 1) := dk_43 (dk_at dksJ3_init_3_1 5 rfl rfl)
theorem dJ3_init_3_30 : decode cJ3_init_3 30 = .ok (.putfield 31, 3) := dk_181 0 31 (dk_at dksJ3_init_3_1 6 rfl rfl)
theorem dJ3_init_3_33 : decode cJ3_init_3 33 = .ok (.return_, 1) := dk_177 (dk_at dksJ3_init_3_1 9 rfl rfl)
theorem q89 : (Jvm.Cond.initialized "java/lang/Throwable") ∈ lw_all := lw_g (lw_at lw_m1 11 rfl) rfl
theorem q433 : (Jvm.Cond.declares ({ cls := "java/lang/Throwable", name := "<init>", desc := "()V" } : Jvm.MethodName)) ∈ lw_tbl := lw_at lw_m2 115 rfl
theorem q434 : (Jvm.Cond.declares ({ cls := "java/lang/Throwable", name := "<init>", desc := "(Ljava/lang/String;)V" } : Jvm.MethodName)) ∈ lw_tbl := lw_at lw_m2 116 rfl
theorem q438 : (Jvm.Cond.lays "java/lang/Throwable" "java/lang/Throwable" "cause" "Ljava/lang/Throwable;") ∈ lw_all := lw_g (lw_at lw_m2 120 rfl) rfl
theorem q440 : (Jvm.Cond.lays "java/lang/Throwable" "java/lang/Throwable" "stackTrace" "[Ljava/lang/StackTraceElement;") ∈ lw_all := lw_g (lw_at lw_m2 122 rfl) rfl
theorem q442 : (Jvm.Cond.lays "java/lang/Throwable" "java/lang/Throwable" "suppressedExceptions" "Ljava/util/List;") ∈ lw_all := lw_g (lw_at lw_m2 124 rfl) rfl
theorem q444 : (Jvm.Cond.lays "java/lang/Throwable" "java/lang/Throwable" "detailMessage" "Ljava/lang/String;") ∈ lw_all := lw_g (lw_at lw_m2 126 rfl) rfl
theorem q446 : (Jvm.Cond.lays "java/lang/Throwable" "java/lang/Throwable" "backtrace" "Ljava/lang/Object;") ∈ lw_all := lw_g (lw_at lw_m2 128 rfl) rfl
theorem q447 : (Jvm.Cond.fieldLink "java/lang/Throwable" (198 : Nat) "java/lang/Throwable" "backtrace" "Ljava/lang/Object;") ∈ lw_all := lw_g (lw_at lw_m2 129 rfl) rfl
theorem q448 : (Jvm.Cond.superclass "java/lang/Throwable" "java/lang/Object") ∈ lw_all := lw_g (lw_at lw_m2 130 rfl) rfl
theorem q449 : (Jvm.Cond.instanceMethod ({ cls := "java/lang/Throwable", name := "<init>", desc := "()V" } : Jvm.MethodName)) ∈ lw_all := lw_g (lw_at lw_m2 131 rfl) rfl
theorem q450 : (Jvm.Cond.code ({ cls := "java/lang/Throwable", name := "<init>", desc := "()V" } : Jvm.MethodName) prog_25_method_1_code (1 : Nat) (Option.none : Option Jvm.ClassFile.FieldType)) ∈ lw_all := lw_g (lw_at lw_m2 132 rfl) rfl
theorem q451 : (Jvm.Cond.methodLink "java/lang/Throwable" (1 : Nat) ({ cls := "java/lang/Object", name := "<init>", desc := "()V" } : Jvm.MethodName)) ∈ lw_all := lw_g (lw_at lw_m2 133 rfl) rfl
theorem q452 : (Jvm.Cond.fieldLink "java/lang/Throwable" (13 : Nat) "java/lang/Throwable" "UNASSIGNED_STACK" "[Ljava/lang/StackTraceElement;") ∈ lw_all := lw_g (lw_at lw_m2 134 rfl) rfl
theorem q453 : (Jvm.Cond.laysStatic "java/lang/Throwable" "UNASSIGNED_STACK" "[Ljava/lang/StackTraceElement;") ∈ lw_tbl := lw_at lw_m2 135 rfl
theorem q454 : (Jvm.Cond.fieldLink "java/lang/Throwable" (20 : Nat) "java/lang/Throwable" "SUPPRESSED_SENTINEL" "Ljava/util/List;") ∈ lw_all := lw_g (lw_at lw_m2 136 rfl) rfl
theorem q455 : (Jvm.Cond.laysStatic "java/lang/Throwable" "SUPPRESSED_SENTINEL" "Ljava/util/List;") ∈ lw_tbl := lw_at lw_m2 137 rfl
theorem q456 : (Jvm.Cond.methodLink "java/lang/Throwable" (27 : Nat) ({ cls := "java/lang/Throwable", name := "fillInStackTrace", desc := "()Ljava/lang/Throwable;" } : Jvm.MethodName)) ∈ lw_all := lw_g (lw_at lw_m2 138 rfl) rfl
theorem q457 : (Jvm.Cond.instanceMethod ({ cls := "java/lang/Throwable", name := "fillInStackTrace", desc := "()Ljava/lang/Throwable;" } : Jvm.MethodName)) ∈ lw_all := lw_g (lw_at lw_m2 139 rfl) rfl
theorem q458 : (Jvm.Cond.sameMethod "java/lang/Throwable" "java/lang/Throwable" "fillInStackTrace" "()Ljava/lang/Throwable;") ∈ lw_all := lw_g (lw_at lw_m2 140 rfl) rfl
theorem q462 : (Jvm.Cond.codeSync ({ cls := "java/lang/Throwable", name := "fillInStackTrace", desc := "()Ljava/lang/Throwable;" } : Jvm.MethodName) prog_25_method_18_code (1 : Nat) (Option.some (Jvm.ClassFile.FieldType.object "java/lang/Throwable"))) ∈ lw_all := lw_g (lw_at lw_m2 144 rfl) rfl
theorem q463 : (Jvm.Cond.methodLink "java/lang/Throwable" (202 : Nat) ({ cls := "java/lang/Throwable", name := "fillInStackTrace", desc := "(I)Ljava/lang/Throwable;" } : Jvm.MethodName)) ∈ lw_all := lw_g (lw_at lw_m2 145 rfl) rfl
theorem q464 : (Jvm.Cond.privateMethod ({ cls := "java/lang/Throwable", name := "fillInStackTrace", desc := "(I)Ljava/lang/Throwable;" } : Jvm.MethodName)) ∈ lw_tbl := lw_at lw_m2 146 rfl
theorem q465 : (Jvm.Cond.instanceMethod ({ cls := "java/lang/Throwable", name := "fillInStackTrace", desc := "(I)Ljava/lang/Throwable;" } : Jvm.MethodName)) ∈ lw_all := lw_g (lw_at lw_m2 147 rfl) rfl
theorem q466 : (Jvm.Cond.instantiable "java/lang/Throwable" (6 : Nat)) ∈ lw_all := lw_g (lw_at lw_m2 148 rfl) rfl
theorem q467 : (Jvm.Cond.native ({ cls := "java/lang/Throwable", name := "fillInStackTrace", desc := "(I)Ljava/lang/Throwable;" } : Jvm.MethodName)) ∈ lw_all := lw_g (lw_at lw_m2 149 rfl) rfl
theorem q475 : (Jvm.Cond.instanceMethod ({ cls := "java/lang/Throwable", name := "<init>", desc := "(Ljava/lang/String;Ljava/lang/Throwable;ZZ)V" } : Jvm.MethodName)) ∈ lw_all := lw_g (lw_at lw_m2 157 rfl) rfl
theorem q476 : (Jvm.Cond.code ({ cls := "java/lang/Throwable", name := "<init>", desc := "(Ljava/lang/String;Ljava/lang/Throwable;ZZ)V" } : Jvm.MethodName) prog_25_method_5_code (5 : Nat) (Option.none : Option Jvm.ClassFile.FieldType)) ∈ lw_all := lw_g (lw_at lw_m2 158 rfl) rfl
theorem q479 : (Jvm.Cond.fieldLink "java/lang/Throwable" (198 : Nat) "java/lang/Throwable" "backtrace" "Ljava/lang/Object;") ∈ lw_all := lw_g (lw_at lw_m2 161 rfl) rfl
theorem q480 : (Jvm.Cond.fieldLink "java/lang/Throwable" (31 : Nat) "java/lang/Throwable" "detailMessage" "Ljava/lang/String;") ∈ lw_all := lw_g (lw_at lw_m2 162 rfl) rfl
theorem q481 : (Jvm.Cond.fieldLink "java/lang/Throwable" (7 : Nat) "java/lang/Throwable" "cause" "Ljava/lang/Throwable;") ∈ lw_all := lw_g (lw_at lw_m2 163 rfl) rfl
theorem q482 : (Jvm.Cond.fieldLink "java/lang/Throwable" (17 : Nat) "java/lang/Throwable" "stackTrace" "[Ljava/lang/StackTraceElement;") ∈ lw_all := lw_g (lw_at lw_m2 164 rfl) rfl
theorem q483 : (Jvm.Cond.fieldLink "java/lang/Throwable" (24 : Nat) "java/lang/Throwable" "suppressedExceptions" "Ljava/util/List;") ∈ lw_all := lw_g (lw_at lw_m2 165 rfl) rfl
theorem q486 : (Jvm.Cond.soleField "java/lang/Throwable" "backtrace") ∈ lw_all := lw_g (lw_at lw_m2 168 rfl) rfl
theorem q487 : (Jvm.Cond.soleField "java/lang/Throwable" "detailMessage") ∈ lw_all := lw_g (lw_at lw_m2 169 rfl) rfl
theorem q488 : (Jvm.Cond.soleField "java/lang/Throwable" "cause") ∈ lw_all := lw_g (lw_at lw_m2 170 rfl) rfl
theorem q489 : (Jvm.Cond.soleField "java/lang/Throwable" "stackTrace") ∈ lw_all := lw_g (lw_at lw_m2 171 rfl) rfl
theorem q491 : (Jvm.Cond.soleField "java/lang/Throwable" "depth") ∈ lw_all := lw_g (lw_at lw_m2 173 rfl) rfl
theorem q492 : (Jvm.Cond.soleField "java/lang/Throwable" "suppressedExceptions") ∈ lw_all := lw_g (lw_at lw_m2 174 rfl) rfl
theorem q943 : (Jvm.Cond.instanceMethod ({ cls := "java/lang/Throwable", name := "<init>", desc := "(Ljava/lang/String;)V" } : Jvm.MethodName)) ∈ lw_all := lw_g (lw_at lw_m4 145 rfl) rfl
theorem q944 : (Jvm.Cond.code ({ cls := "java/lang/Throwable", name := "<init>", desc := "(Ljava/lang/String;)V" } : Jvm.MethodName) prog_25_method_2_code (2 : Nat) (Option.none : Option Jvm.ClassFile.FieldType)) ∈ lw_all := lw_g (lw_at lw_m4 146 rfl) rfl
theorem q1495 : (Jvm.Cond.sameMethod "java/lang/Throwable" "java/lang/Throwable" "fillInStackTrace" "(I)Ljava/lang/Throwable;") ∈ lw_all := lw_g (lw_at lw_m6 217 rfl) rfl
theorem q1513 : (Jvm.Cond.castable "java/lang/Throwable" "java/lang/Object") ∈ lw_tbl := lw_at lw_m6 235 rfl
theorem in_J3 : ∀ w ∈ wsJ30, w ∈ lw_all := lw_in wsJ30 [438, 440, 442, 444, 446] (by decide +kernel) (by decide +kernel)

/-! java/lang/Exception -/
set_option maxRecDepth 100000
def RJ4 : String := "java/lang/Exception"
abbrev cJ4_init : ByteArray := prog_16_method_5_code
def yJ4_init : MethodName := ⟨RJ4, "<init>", "(Ljava/lang/String;Ljava/lang/Throwable;ZZ)V"⟩
def dkwJ4_init_0 : List UInt8 := [42, 43, 44, 29, 21, 4, 183, 0, 16, 177]
abbrev dktJ4_init_0 : List UInt8 := dkwJ4_init_0 ++ []
theorem dksJ4_init_0 : cJ4_init.data.toList.drop 0 = dktJ4_init_0 := by decide +kernel
theorem dJ4_init_0 : decode cJ4_init 0 = .ok (.aload_n 0, 1) := dk_42 (dk_at dksJ4_init_0 0 rfl rfl)
theorem dJ4_init_1 : decode cJ4_init 1 = .ok (.aload_n 1, 1) := dk_43 (dk_at dksJ4_init_0 1 rfl rfl)
theorem dJ4_init_2 : decode cJ4_init 2 = .ok (.aload_n 2, 1) := dk_44 (dk_at dksJ4_init_0 2 rfl rfl)
theorem dJ4_init_3 : decode cJ4_init 3 = .ok (.iload_n 3, 1) := dk_29 (dk_at dksJ4_init_0 3 rfl rfl)
theorem dJ4_init_4 : decode cJ4_init 4 = .ok (.iload 4, 2) := dk_21 4 (dk_at dksJ4_init_0 4 rfl rfl)
theorem dJ4_init_6 : decode cJ4_init 6 = .ok (.invokespecial 16, 3) := dk_183 0 16 (dk_at dksJ4_init_0 6 rfl rfl)
theorem dJ4_init_9 : decode cJ4_init 9 = .ok (.return_, 1) := dk_177 (dk_at dksJ4_init_0 9 rfl rfl)
abbrev cJ4_init_2 : ByteArray := prog_16_method_2_code
def yJ4_init_2 : MethodName := ⟨RJ4, "<init>", "(Ljava/lang/String;)V"⟩
def dkwJ4_init_2_0 : List UInt8 := [42, 43, 183, 0, 7, 177]
abbrev dktJ4_init_2_0 : List UInt8 := dkwJ4_init_2_0 ++ []
theorem dksJ4_init_2_0 : cJ4_init_2.data.toList.drop 0 = dktJ4_init_2_0 := by decide +kernel
theorem dJ4_init_2_0 : decode cJ4_init_2 0 = .ok (.aload_n 0, 1) := dk_42 (dk_at dksJ4_init_2_0 0 rfl rfl)
theorem dJ4_init_2_1 : decode cJ4_init_2 1 = .ok (.aload_n 1, 1) := dk_43 (dk_at dksJ4_init_2_0 1 rfl rfl)
theorem dJ4_init_2_2 : decode cJ4_init_2 2 = .ok (.invokespecial 7, 3) := dk_183 0 7 (dk_at dksJ4_init_2_0 2 rfl rfl)
theorem dJ4_init_2_5 : decode cJ4_init_2 5 = .ok (.return_, 1) := dk_177 (dk_at dksJ4_init_2_0 5 rfl rfl)
theorem q90 : (Jvm.Cond.initialized "java/lang/Exception") ∈ lw_all := lw_g (lw_at lw_m1 12 rfl) rfl
theorem q431 : (Jvm.Cond.declares ({ cls := "java/lang/Exception", name := "<init>", desc := "()V" } : Jvm.MethodName)) ∈ lw_tbl := lw_at lw_m2 113 rfl
theorem q432 : (Jvm.Cond.declares ({ cls := "java/lang/Exception", name := "<init>", desc := "(Ljava/lang/String;)V" } : Jvm.MethodName)) ∈ lw_tbl := lw_at lw_m2 114 rfl
theorem q472 : (Jvm.Cond.instanceMethod ({ cls := "java/lang/Exception", name := "<init>", desc := "(Ljava/lang/String;Ljava/lang/Throwable;ZZ)V" } : Jvm.MethodName)) ∈ lw_all := lw_g (lw_at lw_m2 154 rfl) rfl
theorem q473 : (Jvm.Cond.code ({ cls := "java/lang/Exception", name := "<init>", desc := "(Ljava/lang/String;Ljava/lang/Throwable;ZZ)V" } : Jvm.MethodName) prog_16_method_5_code (5 : Nat) (Option.none : Option Jvm.ClassFile.FieldType)) ∈ lw_all := lw_g (lw_at lw_m2 155 rfl) rfl
theorem q474 : (Jvm.Cond.methodLink "java/lang/Exception" (16 : Nat) ({ cls := "java/lang/Throwable", name := "<init>", desc := "(Ljava/lang/String;Ljava/lang/Throwable;ZZ)V" } : Jvm.MethodName)) ∈ lw_all := lw_g (lw_at lw_m2 156 rfl) rfl
theorem q940 : (Jvm.Cond.instanceMethod ({ cls := "java/lang/Exception", name := "<init>", desc := "(Ljava/lang/String;)V" } : Jvm.MethodName)) ∈ lw_all := lw_g (lw_at lw_m4 142 rfl) rfl
theorem q941 : (Jvm.Cond.code ({ cls := "java/lang/Exception", name := "<init>", desc := "(Ljava/lang/String;)V" } : Jvm.MethodName) prog_16_method_2_code (2 : Nat) (Option.none : Option Jvm.ClassFile.FieldType)) ∈ lw_all := lw_g (lw_at lw_m4 143 rfl) rfl
theorem q942 : (Jvm.Cond.methodLink "java/lang/Exception" (7 : Nat) ({ cls := "java/lang/Throwable", name := "<init>", desc := "(Ljava/lang/String;)V" } : Jvm.MethodName)) ∈ lw_all := lw_g (lw_at lw_m4 144 rfl) rfl

/-! jdk/internal/util/ArraysSupport -/
set_option maxRecDepth 100000
def RJ5 : String := "jdk/internal/util/ArraysSupport"
abbrev cJ5_newLength : ByteArray := prog_35_method_27_code
def yJ5_newLength : MethodName := ⟨RJ5, "newLength", "(III)I"⟩
def dkwJ5_newLength_1 : List UInt8 := [184, 0, 201, 172]
abbrev dktJ5_newLength_1 : List UInt8 := dkwJ5_newLength_1 ++ []
def dkwJ5_newLength_0 : List UInt8 := [26, 27, 28, 184, 0, 194, 96, 62, 3, 29, 162, 0, 11, 29, 18, 200, 163, 0, 5, 29, 172, 26, 27]
abbrev dktJ5_newLength_0 : List UInt8 := dkwJ5_newLength_0 ++ dktJ5_newLength_1
theorem dksJ5_newLength_0 : cJ5_newLength.data.toList.drop 0 = dktJ5_newLength_0 := by decide +kernel
theorem dksJ5_newLength_1 : cJ5_newLength.data.toList.drop 23 = dktJ5_newLength_1 := dk_seg dksJ5_newLength_0 23 rfl rfl
theorem dJ5_newLength_0 : decode cJ5_newLength 0 = .ok (.iload_n 0, 1) := dk_26 (dk_at dksJ5_newLength_0 0 rfl rfl)
theorem dJ5_newLength_1 : decode cJ5_newLength 1 = .ok (.iload_n 1, 1) := dk_27 (dk_at dksJ5_newLength_0 1 rfl rfl)
theorem dJ5_newLength_2 : decode cJ5_newLength 2 = .ok (.iload_n 2, 1) := dk_28 (dk_at dksJ5_newLength_0 2 rfl rfl)
theorem dJ5_newLength_3 : decode cJ5_newLength 3 = .ok (.invokestatic 194, 3) := dk_184 0 194 (dk_at dksJ5_newLength_0 3 rfl rfl)
theorem dJ5_newLength_6 : decode cJ5_newLength 6 = .ok (.iadd, 1) := dk_96 (dk_at dksJ5_newLength_0 6 rfl rfl)
theorem dJ5_newLength_7 : decode cJ5_newLength 7 = .ok (.istore_n 3, 1) := dk_62 (dk_at dksJ5_newLength_0 7 rfl rfl)
theorem dJ5_newLength_8 : decode cJ5_newLength 8 = .ok (.iconst 0, 1) := dk_3 (dk_at dksJ5_newLength_0 8 rfl rfl)
theorem dJ5_newLength_9 : decode cJ5_newLength 9 = .ok (.iload_n 3, 1) := dk_29 (dk_at dksJ5_newLength_0 9 rfl rfl)
theorem dJ5_newLength_10 : decode cJ5_newLength 10 = .ok (.if_icmp .ge 11, 3) := dk_162 0 11 (dk_at dksJ5_newLength_0 10 rfl rfl)
theorem dJ5_newLength_13 : decode cJ5_newLength 13 = .ok (.iload_n 3, 1) := dk_29 (dk_at dksJ5_newLength_0 13 rfl rfl)
theorem dJ5_newLength_14 : decode cJ5_newLength 14 = .ok (.ldc 200, 2) := dk_18 200 (dk_at dksJ5_newLength_0 14 rfl rfl)
theorem dJ5_newLength_16 : decode cJ5_newLength 16 = .ok (.if_icmp .gt 5, 3) := dk_163 0 5 (dk_at dksJ5_newLength_0 16 rfl rfl)
theorem dJ5_newLength_19 : decode cJ5_newLength 19 = .ok (.iload_n 3, 1) := dk_29 (dk_at dksJ5_newLength_0 19 rfl rfl)
theorem dJ5_newLength_20 : decode cJ5_newLength 20 = .ok (.ireturn, 1) := dk_172 (dk_at dksJ5_newLength_0 20 rfl rfl)
theorem dJ5_newLength_21 : decode cJ5_newLength 21 = .ok (.iload_n 0, 1) := dk_26 (dk_at dksJ5_newLength_0 21 rfl rfl)
theorem dJ5_newLength_22 : decode cJ5_newLength 22 = .ok (.iload_n 1, 1) := dk_27 (dk_at dksJ5_newLength_0 22 rfl rfl)
theorem dJ5_newLength_23 : decode cJ5_newLength 23 = .ok (.invokestatic 201, 3) := dk_184 0 201 (dk_at dksJ5_newLength_1 0 rfl rfl)
theorem dJ5_newLength_26 : decode cJ5_newLength 26 = .ok (.ireturn, 1) := dk_172 (dk_at dksJ5_newLength_1 3 rfl rfl)
abbrev cJ5_hugeLength : ByteArray := prog_35_method_28_code
def yJ5_hugeLength : MethodName := ⟨RJ5, "hugeLength", "(II)I"⟩
def dkwJ5_hugeLength_2 : List UInt8 := [191, 28, 18, 200, 163, 0, 6, 18, 200, 172, 28, 172]
abbrev dktJ5_hugeLength_2 : List UInt8 := dkwJ5_hugeLength_2 ++ []
def dkwJ5_hugeLength_1 : List UInt8 := [26, 182, 0, 98, 18, 208, 182, 0, 94, 27, 182, 0, 98, 18, 210, 182, 0, 94, 182, 0, 101, 183, 0, 212]
abbrev dktJ5_hugeLength_1 : List UInt8 := dkwJ5_hugeLength_1 ++ dktJ5_hugeLength_2
def dkwJ5_hugeLength_0 : List UInt8 := [26, 27, 96, 61, 28, 156, 0, 44, 187, 0, 204, 89, 187, 0, 89, 89, 183, 0, 91, 18, 206, 182, 0, 94]
abbrev dktJ5_hugeLength_0 : List UInt8 := dkwJ5_hugeLength_0 ++ dktJ5_hugeLength_1
theorem dksJ5_hugeLength_0 : cJ5_hugeLength.data.toList.drop 0 = dktJ5_hugeLength_0 := by decide +kernel
theorem dksJ5_hugeLength_1 : cJ5_hugeLength.data.toList.drop 24 = dktJ5_hugeLength_1 := dk_seg dksJ5_hugeLength_0 24 rfl rfl
theorem dksJ5_hugeLength_2 : cJ5_hugeLength.data.toList.drop 48 = dktJ5_hugeLength_2 := dk_seg dksJ5_hugeLength_1 24 rfl rfl
theorem dJ5_hugeLength_0 : decode cJ5_hugeLength 0 = .ok (.iload_n 0, 1) := dk_26 (dk_at dksJ5_hugeLength_0 0 rfl rfl)
theorem dJ5_hugeLength_1 : decode cJ5_hugeLength 1 = .ok (.iload_n 1, 1) := dk_27 (dk_at dksJ5_hugeLength_0 1 rfl rfl)
theorem dJ5_hugeLength_2 : decode cJ5_hugeLength 2 = .ok (.iadd, 1) := dk_96 (dk_at dksJ5_hugeLength_0 2 rfl rfl)
theorem dJ5_hugeLength_3 : decode cJ5_hugeLength 3 = .ok (.istore_n 2, 1) := dk_61 (dk_at dksJ5_hugeLength_0 3 rfl rfl)
theorem dJ5_hugeLength_4 : decode cJ5_hugeLength 4 = .ok (.iload_n 2, 1) := dk_28 (dk_at dksJ5_hugeLength_0 4 rfl rfl)
theorem dJ5_hugeLength_5 : decode cJ5_hugeLength 5 = .ok (.ifCond .ge 44, 3) := dk_156 0 44 (dk_at dksJ5_hugeLength_0 5 rfl rfl)
theorem dJ5_hugeLength_8 : decode cJ5_hugeLength 8 = .ok (.new 204, 3) := dk_187 0 204 (dk_at dksJ5_hugeLength_0 8 rfl rfl)
theorem dJ5_hugeLength_11 : decode cJ5_hugeLength 11 = .ok (.dup, 1) := dk_89 (dk_at dksJ5_hugeLength_0 11 rfl rfl)
theorem dJ5_hugeLength_12 : decode cJ5_hugeLength 12 = .ok (.new 89, 3) := dk_187 0 89 (dk_at dksJ5_hugeLength_0 12 rfl rfl)
theorem dJ5_hugeLength_15 : decode cJ5_hugeLength 15 = .ok (.dup, 1) := dk_89 (dk_at dksJ5_hugeLength_0 15 rfl rfl)
theorem dJ5_hugeLength_16 : decode cJ5_hugeLength 16 = .ok (.invokespecial 91, 3) := dk_183 0 91 (dk_at dksJ5_hugeLength_0 16 rfl rfl)
theorem dJ5_hugeLength_19 : decode cJ5_hugeLength 19 = .ok (.ldc 206, 2) := dk_18 206 (dk_at dksJ5_hugeLength_0 19 rfl rfl)
theorem dJ5_hugeLength_21 : decode cJ5_hugeLength 21 = .ok (.invokevirtual 94, 3) := dk_182 0 94 (dk_at dksJ5_hugeLength_0 21 rfl rfl)
theorem dJ5_hugeLength_24 : decode cJ5_hugeLength 24 = .ok (.iload_n 0, 1) := dk_26 (dk_at dksJ5_hugeLength_1 0 rfl rfl)
theorem dJ5_hugeLength_25 : decode cJ5_hugeLength 25 = .ok (.invokevirtual 98, 3) := dk_182 0 98 (dk_at dksJ5_hugeLength_1 1 rfl rfl)
theorem dJ5_hugeLength_28 : decode cJ5_hugeLength 28 = .ok (.ldc 208, 2) := dk_18 208 (dk_at dksJ5_hugeLength_1 4 rfl rfl)
theorem dJ5_hugeLength_30 : decode cJ5_hugeLength 30 = .ok (.invokevirtual 94, 3) := dk_182 0 94 (dk_at dksJ5_hugeLength_1 6 rfl rfl)
theorem dJ5_hugeLength_33 : decode cJ5_hugeLength 33 = .ok (.iload_n 1, 1) := dk_27 (dk_at dksJ5_hugeLength_1 9 rfl rfl)
theorem dJ5_hugeLength_34 : decode cJ5_hugeLength 34 = .ok (.invokevirtual 98, 3) := dk_182 0 98 (dk_at dksJ5_hugeLength_1 10 rfl rfl)
theorem dJ5_hugeLength_37 : decode cJ5_hugeLength 37 = .ok (.ldc 210, 2) := dk_18 210 (dk_at dksJ5_hugeLength_1 13 rfl rfl)
theorem dJ5_hugeLength_39 : decode cJ5_hugeLength 39 = .ok (.invokevirtual 94, 3) := dk_182 0 94 (dk_at dksJ5_hugeLength_1 15 rfl rfl)
theorem dJ5_hugeLength_42 : decode cJ5_hugeLength 42 = .ok (.invokevirtual 101, 3) := dk_182 0 101 (dk_at dksJ5_hugeLength_1 18 rfl rfl)
theorem dJ5_hugeLength_45 : decode cJ5_hugeLength 45 = .ok (.invokespecial 212, 3) := dk_183 0 212 (dk_at dksJ5_hugeLength_1 21 rfl rfl)
theorem dJ5_hugeLength_48 : decode cJ5_hugeLength 48 = .ok (.athrow, 1) := dk_191 (dk_at dksJ5_hugeLength_2 0 rfl rfl)
theorem dJ5_hugeLength_49 : decode cJ5_hugeLength 49 = .ok (.iload_n 2, 1) := dk_28 (dk_at dksJ5_hugeLength_2 1 rfl rfl)
theorem dJ5_hugeLength_50 : decode cJ5_hugeLength 50 = .ok (.ldc 200, 2) := dk_18 200 (dk_at dksJ5_hugeLength_2 2 rfl rfl)
theorem dJ5_hugeLength_52 : decode cJ5_hugeLength 52 = .ok (.if_icmp .gt 6, 3) := dk_163 0 6 (dk_at dksJ5_hugeLength_2 4 rfl rfl)
theorem dJ5_hugeLength_55 : decode cJ5_hugeLength 55 = .ok (.ldc 200, 2) := dk_18 200 (dk_at dksJ5_hugeLength_2 7 rfl rfl)
theorem dJ5_hugeLength_57 : decode cJ5_hugeLength 57 = .ok (.ireturn, 1) := dk_172 (dk_at dksJ5_hugeLength_2 9 rfl rfl)
theorem dJ5_hugeLength_58 : decode cJ5_hugeLength 58 = .ok (.iload_n 2, 1) := dk_28 (dk_at dksJ5_hugeLength_2 10 rfl rfl)
theorem dJ5_hugeLength_59 : decode cJ5_hugeLength 59 = .ok (.ireturn, 1) := dk_172 (dk_at dksJ5_hugeLength_2 11 rfl rfl)
theorem q93 : (Jvm.Cond.initialized "jdk/internal/util/ArraysSupport") ∈ lw_all := lw_g (lw_at lw_m1 15 rfl) rfl
theorem q569 : (Jvm.Cond.static ({ cls := "jdk/internal/util/ArraysSupport", name := "newLength", desc := "(III)I" } : Jvm.MethodName)) ∈ lw_all := lw_g (lw_at lw_m3 11 rfl) rfl
theorem q570 : (Jvm.Cond.code ({ cls := "jdk/internal/util/ArraysSupport", name := "newLength", desc := "(III)I" } : Jvm.MethodName) prog_35_method_27_code (4 : Nat) (Option.some Jvm.ClassFile.FieldType.int)) ∈ lw_all := lw_g (lw_at lw_m3 12 rfl) rfl
theorem q571 : (Jvm.Cond.methodLink "jdk/internal/util/ArraysSupport" (194 : Nat) ({ cls := "java/lang/Math", name := "max", desc := "(II)I" } : Jvm.MethodName)) ∈ lw_all := lw_g (lw_at lw_m3 13 rfl) rfl
theorem q574 : (Jvm.Cond.constant "jdk/internal/util/ArraysSupport" (200 : Nat) (2147483639 : Int32)) ∈ lw_all := lw_g (lw_at lw_m3 16 rfl) rfl
theorem q575 : (Jvm.Cond.methodLink "jdk/internal/util/ArraysSupport" (201 : Nat) ({ cls := "jdk/internal/util/ArraysSupport", name := "hugeLength", desc := "(II)I" } : Jvm.MethodName)) ∈ lw_all := lw_g (lw_at lw_m3 17 rfl) rfl
theorem q576 : (Jvm.Cond.static ({ cls := "jdk/internal/util/ArraysSupport", name := "hugeLength", desc := "(II)I" } : Jvm.MethodName)) ∈ lw_all := lw_g (lw_at lw_m3 18 rfl) rfl
theorem q577 : (Jvm.Cond.code ({ cls := "jdk/internal/util/ArraysSupport", name := "hugeLength", desc := "(II)I" } : Jvm.MethodName) prog_35_method_28_code (3 : Nat) (Option.some Jvm.ClassFile.FieldType.int)) ∈ lw_all := lw_g (lw_at lw_m3 19 rfl) rfl

/-! java/lang/Math -/
set_option maxRecDepth 100000
def RJ6 : String := "java/lang/Math"
abbrev cJ6_max : ByteArray := prog_20_method_65_code
def yJ6_max : MethodName := ⟨RJ6, "max", "(II)I"⟩
def dkwJ6_max_0 : List UInt8 := [26, 27, 161, 0, 7, 26, 167, 0, 4, 27, 172]
abbrev dktJ6_max_0 : List UInt8 := dkwJ6_max_0 ++ []
theorem dksJ6_max_0 : cJ6_max.data.toList.drop 0 = dktJ6_max_0 := by decide +kernel
theorem dJ6_max_0 : decode cJ6_max 0 = .ok (.iload_n 0, 1) := dk_26 (dk_at dksJ6_max_0 0 rfl rfl)
theorem dJ6_max_1 : decode cJ6_max 1 = .ok (.iload_n 1, 1) := dk_27 (dk_at dksJ6_max_0 1 rfl rfl)
theorem dJ6_max_2 : decode cJ6_max 2 = .ok (.if_icmp .lt 7, 3) := dk_161 0 7 (dk_at dksJ6_max_0 2 rfl rfl)
theorem dJ6_max_5 : decode cJ6_max 5 = .ok (.iload_n 0, 1) := dk_26 (dk_at dksJ6_max_0 5 rfl rfl)
theorem dJ6_max_6 : decode cJ6_max 6 = .ok (.goto 4, 3) := dk_167 0 4 (dk_at dksJ6_max_0 6 rfl rfl)
theorem dJ6_max_9 : decode cJ6_max 9 = .ok (.iload_n 1, 1) := dk_27 (dk_at dksJ6_max_0 9 rfl rfl)
theorem dJ6_max_10 : decode cJ6_max 10 = .ok (.ireturn, 1) := dk_172 (dk_at dksJ6_max_0 10 rfl rfl)
abbrev cJ6_min : ByteArray := prog_20_method_69_code
def yJ6_min : MethodName := ⟨RJ6, "min", "(II)I"⟩
def dkwJ6_min_0 : List UInt8 := [26, 27, 163, 0, 7, 26, 167, 0, 4, 27, 172]
abbrev dktJ6_min_0 : List UInt8 := dkwJ6_min_0 ++ []
theorem dksJ6_min_0 : cJ6_min.data.toList.drop 0 = dktJ6_min_0 := by decide +kernel
theorem dJ6_min_0 : decode cJ6_min 0 = .ok (.iload_n 0, 1) := dk_26 (dk_at dksJ6_min_0 0 rfl rfl)
theorem dJ6_min_1 : decode cJ6_min 1 = .ok (.iload_n 1, 1) := dk_27 (dk_at dksJ6_min_0 1 rfl rfl)
theorem dJ6_min_2 : decode cJ6_min 2 = .ok (.if_icmp .gt 7, 3) := dk_163 0 7 (dk_at dksJ6_min_0 2 rfl rfl)
theorem dJ6_min_5 : decode cJ6_min 5 = .ok (.iload_n 0, 1) := dk_26 (dk_at dksJ6_min_0 5 rfl rfl)
theorem dJ6_min_6 : decode cJ6_min 6 = .ok (.goto 4, 3) := dk_167 0 4 (dk_at dksJ6_min_0 6 rfl rfl)
theorem dJ6_min_9 : decode cJ6_min 9 = .ok (.iload_n 1, 1) := dk_27 (dk_at dksJ6_min_0 9 rfl rfl)
theorem dJ6_min_10 : decode cJ6_min 10 = .ok (.ireturn, 1) := dk_172 (dk_at dksJ6_min_0 10 rfl rfl)
abbrev cJ6_abs : ByteArray := prog_20_method_59_code
def yJ6_abs : MethodName := ⟨RJ6, "abs", "(I)I"⟩
def dkwJ6_abs_0 : List UInt8 := [26, 156, 0, 8, 26, 116, 167, 0, 4, 26, 172]
abbrev dktJ6_abs_0 : List UInt8 := dkwJ6_abs_0 ++ []
theorem dksJ6_abs_0 : cJ6_abs.data.toList.drop 0 = dktJ6_abs_0 := by decide +kernel
theorem dJ6_abs_0 : decode cJ6_abs 0 = .ok (.iload_n 0, 1) := dk_26 (dk_at dksJ6_abs_0 0 rfl rfl)
theorem dJ6_abs_1 : decode cJ6_abs 1 = .ok (.ifCond .ge 8, 3) := dk_156 0 8 (dk_at dksJ6_abs_0 1 rfl rfl)
theorem dJ6_abs_4 : decode cJ6_abs 4 = .ok (.iload_n 0, 1) := dk_26 (dk_at dksJ6_abs_0 4 rfl rfl)
theorem dJ6_abs_5 : decode cJ6_abs 5 = .ok (.ineg, 1) := dk_116 (dk_at dksJ6_abs_0 5 rfl rfl)
theorem dJ6_abs_6 : decode cJ6_abs 6 = .ok (.goto 4, 3) := dk_167 0 4 (dk_at dksJ6_abs_0 6 rfl rfl)
theorem dJ6_abs_9 : decode cJ6_abs 9 = .ok (.iload_n 0, 1) := dk_26 (dk_at dksJ6_abs_0 9 rfl rfl)
theorem dJ6_abs_10 : decode cJ6_abs 10 = .ok (.ireturn, 1) := dk_172 (dk_at dksJ6_abs_0 10 rfl rfl)
theorem q94 : (Jvm.Cond.initialized "java/lang/Math") ∈ lw_all := lw_g (lw_at lw_m1 16 rfl) rfl
theorem q572 : (Jvm.Cond.static ({ cls := "java/lang/Math", name := "max", desc := "(II)I" } : Jvm.MethodName)) ∈ lw_all := lw_g (lw_at lw_m3 14 rfl) rfl
theorem q573 : (Jvm.Cond.code ({ cls := "java/lang/Math", name := "max", desc := "(II)I" } : Jvm.MethodName) prog_20_method_65_code (2 : Nat) (Option.some Jvm.ClassFile.FieldType.int)) ∈ lw_all := lw_g (lw_at lw_m3 15 rfl) rfl
theorem q605 : (Jvm.Cond.static ({ cls := "java/lang/Math", name := "min", desc := "(II)I" } : Jvm.MethodName)) ∈ lw_all := lw_g (lw_at lw_m3 47 rfl) rfl
theorem q606 : (Jvm.Cond.code ({ cls := "java/lang/Math", name := "min", desc := "(II)I" } : Jvm.MethodName) prog_20_method_69_code (2 : Nat) (Option.some Jvm.ClassFile.FieldType.int)) ∈ lw_all := lw_g (lw_at lw_m3 48 rfl) rfl
theorem q868 : (Jvm.Cond.static ({ cls := "java/lang/Math", name := "abs", desc := "(I)I" } : Jvm.MethodName)) ∈ lw_all := lw_g (lw_at lw_m4 70 rfl) rfl
theorem q869 : (Jvm.Cond.code ({ cls := "java/lang/Math", name := "abs", desc := "(I)I" } : Jvm.MethodName) prog_20_method_59_code (1 : Nat) (Option.some Jvm.ClassFile.FieldType.int)) ∈ lw_all := lw_g (lw_at lw_m4 71 rfl) rfl

/-! java/util/Arrays -/
set_option maxRecDepth 100000
def RJ7 : String := "java/util/Arrays"
abbrev cJ7_copyOf : ByteArray := prog_29_method_119_code
def yJ7_copyOf : MethodName := ⟨RJ7, "copyOf", "([Ljava/lang/Object;I)[Ljava/lang/Object;"⟩
def dkwJ7_copyOf_0 : List UInt8 := [42, 27, 42, 182, 0, 86, 184, 1, 44, 176]
abbrev dktJ7_copyOf_0 : List UInt8 := dkwJ7_copyOf_0 ++ []
theorem dksJ7_copyOf_0 : cJ7_copyOf.data.toList.drop 0 = dktJ7_copyOf_0 := by decide +kernel
theorem dJ7_copyOf_0 : decode cJ7_copyOf 0 = .ok (.aload_n 0, 1) := dk_42 (dk_at dksJ7_copyOf_0 0 rfl rfl)
theorem dJ7_copyOf_1 : decode cJ7_copyOf 1 = .ok (.iload_n 1, 1) := dk_27 (dk_at dksJ7_copyOf_0 1 rfl rfl)
theorem dJ7_copyOf_2 : decode cJ7_copyOf 2 = .ok (.aload_n 0, 1) := dk_42 (dk_at dksJ7_copyOf_0 2 rfl rfl)
theorem dJ7_copyOf_3 : decode cJ7_copyOf 3 = .ok (.invokevirtual 86, 3) := dk_182 0 86 (dk_at dksJ7_copyOf_0 3 rfl rfl)
theorem dJ7_copyOf_6 : decode cJ7_copyOf 6 = .ok (.invokestatic 300, 3) := dk_184 1 44 (dk_at dksJ7_copyOf_0 6 rfl rfl)
theorem dJ7_copyOf_9 : decode cJ7_copyOf 9 = .ok (.areturn, 1) := dk_176 (dk_at dksJ7_copyOf_0 9 rfl rfl)
abbrev cJ7_copyOf_2 : ByteArray := prog_29_method_120_code
def yJ7_copyOf_2 : MethodName := ⟨RJ7, "copyOf", "([Ljava/lang/Object;ILjava/lang/Class;)[Ljava/lang/Object;"⟩
def dkwJ7_copyOf_2_1 : List UInt8 := [78, 42, 3, 45, 3, 42, 190, 27, 184, 1, 48, 184, 0, 150, 45, 176]
abbrev dktJ7_copyOf_2_1 : List UInt8 := dkwJ7_copyOf_2_1 ++ []
def dkwJ7_copyOf_2_0 : List UInt8 := [44, 18, 110, 166, 0, 10, 27, 189, 0, 2, 167, 0, 14, 44, 182, 0, 90, 27, 184, 0, 95, 192, 0, 110]
abbrev dktJ7_copyOf_2_0 : List UInt8 := dkwJ7_copyOf_2_0 ++ dktJ7_copyOf_2_1
theorem dksJ7_copyOf_2_0 : cJ7_copyOf_2.data.toList.drop 0 = dktJ7_copyOf_2_0 := by decide +kernel
theorem dksJ7_copyOf_2_1 : cJ7_copyOf_2.data.toList.drop 24 = dktJ7_copyOf_2_1 := dk_seg dksJ7_copyOf_2_0 24 rfl rfl
theorem dJ7_copyOf_2_0 : decode cJ7_copyOf_2 0 = .ok (.aload_n 2, 1) := dk_44 (dk_at dksJ7_copyOf_2_0 0 rfl rfl)
theorem dJ7_copyOf_2_1 : decode cJ7_copyOf_2 1 = .ok (.ldc 110, 2) := dk_18 110 (dk_at dksJ7_copyOf_2_0 1 rfl rfl)
theorem dJ7_copyOf_2_3 : decode cJ7_copyOf_2 3 = .ok (.if_acmp .ne 10, 3) := dk_166 0 10 (dk_at dksJ7_copyOf_2_0 3 rfl rfl)
theorem dJ7_copyOf_2_6 : decode cJ7_copyOf_2 6 = .ok (.iload_n 1, 1) := dk_27 (dk_at dksJ7_copyOf_2_0 6 rfl rfl)
theorem dJ7_copyOf_2_7 : decode cJ7_copyOf_2 7 = .ok (.anewarray 2, 3) := dk_189 0 2 (dk_at dksJ7_copyOf_2_0 7 rfl rfl)
theorem dJ7_copyOf_2_10 : decode cJ7_copyOf_2 10 = .ok (.goto 14, 3) := dk_167 0 14 (dk_at dksJ7_copyOf_2_0 10 rfl rfl)
theorem dJ7_copyOf_2_13 : decode cJ7_copyOf_2 13 = .ok (.aload_n 2, 1) := dk_44 (dk_at dksJ7_copyOf_2_0 13 rfl rfl)
theorem dJ7_copyOf_2_14 : decode cJ7_copyOf_2 14 = .ok (.invokevirtual 90, 3) := dk_182 0 90 (dk_at dksJ7_copyOf_2_0 14 rfl rfl)
theorem dJ7_copyOf_2_17 : decode cJ7_copyOf_2 17 = .ok (.iload_n 1, 1) := dk_27 (dk_at dksJ7_copyOf_2_0 17 rfl rfl)
theorem dJ7_copyOf_2_18 : decode cJ7_copyOf_2 18 = .ok (.invokestatic 95, 3) := dk_184 0 95 (dk_at dksJ7_copyOf_2_0 18 rfl rfl)
theorem dJ7_copyOf_2_21 : decode cJ7_copyOf_2 21 = .ok (.checkcast 110, 3) := dk_192 0 110 (dk_at dksJ7_copyOf_2_0 21 rfl rfl)
theorem dJ7_copyOf_2_24 : decode cJ7_copyOf_2 24 = .ok (.astore_n 3, 1) := dk_78 (dk_at dksJ7_copyOf_2_1 0 rfl rfl)
theorem dJ7_copyOf_2_25 : decode cJ7_copyOf_2 25 = .ok (.aload_n 0, 1) := dk_42 (dk_at dksJ7_copyOf_2_1 1 rfl rfl)
theorem dJ7_copyOf_2_26 : decode cJ7_copyOf_2 26 = .ok (.iconst 0, 1) := dk_3 (dk_at dksJ7_copyOf_2_1 2 rfl rfl)
theorem dJ7_copyOf_2_27 : decode cJ7_copyOf_2 27 = .ok (.aload_n 3, 1) := dk_45 (dk_at dksJ7_copyOf_2_1 3 rfl rfl)
theorem dJ7_copyOf_2_28 : decode cJ7_copyOf_2 28 = .ok (.iconst 0, 1) := dk_3 (dk_at dksJ7_copyOf_2_1 4 rfl rfl)
theorem dJ7_copyOf_2_29 : decode cJ7_copyOf_2 29 = .ok (.aload_n 0, 1) := dk_42 (dk_at dksJ7_copyOf_2_1 5 rfl rfl)
theorem dJ7_copyOf_2_30 : decode cJ7_copyOf_2 30 = .ok (.arraylength, 1) := dk_190 (dk_at dksJ7_copyOf_2_1 6 rfl rfl)
theorem dJ7_copyOf_2_31 : decode cJ7_copyOf_2 31 = .ok (.iload_n 1, 1) := dk_27 (dk_at dksJ7_copyOf_2_1 7 rfl rfl)
theorem dJ7_copyOf_2_32 : decode cJ7_copyOf_2 32 = .ok (.invokestatic 304, 3) := dk_184 1 48 (dk_at dksJ7_copyOf_2_1 8 rfl rfl)
theorem dJ7_copyOf_2_35 : decode cJ7_copyOf_2 35 = .ok (.invokestatic 150, 3) := dk_184 0 150 (dk_at dksJ7_copyOf_2_1 11 rfl rfl)
theorem dJ7_copyOf_2_38 : decode cJ7_copyOf_2 38 = .ok (.aload_n 3, 1) := dk_45 (dk_at dksJ7_copyOf_2_1 14 rfl rfl)
theorem dJ7_copyOf_2_39 : decode cJ7_copyOf_2 39 = .ok (.areturn, 1) := dk_176 (dk_at dksJ7_copyOf_2_1 15 rfl rfl)
theorem q95 : (Jvm.Cond.initialized "java/util/Arrays") ∈ lw_all := lw_g (lw_at lw_m1 17 rfl) rfl
theorem q579 : (Jvm.Cond.static ({ cls := "java/util/Arrays", name := "copyOf", desc := "([Ljava/lang/Object;I)[Ljava/lang/Object;" } : Jvm.MethodName)) ∈ lw_all := lw_g (lw_at lw_m3 21 rfl) rfl
theorem q580 : (Jvm.Cond.code ({ cls := "java/util/Arrays", name := "copyOf", desc := "([Ljava/lang/Object;I)[Ljava/lang/Object;" } : Jvm.MethodName) prog_29_method_119_code (2 : Nat) (Option.some (Jvm.ClassFile.FieldType.array (Jvm.ClassFile.FieldType.object "java/lang/Object")))) ∈ lw_all := lw_g (lw_at lw_m3 22 rfl) rfl
theorem q581 : (Jvm.Cond.methodLink "java/util/Arrays" (86 : Nat) ({ cls := "java/lang/Object", name := "getClass", desc := "()Ljava/lang/Class;" } : Jvm.MethodName)) ∈ lw_all := lw_g (lw_at lw_m3 23 rfl) rfl
theorem q598 : (Jvm.Cond.methodLink "java/util/Arrays" (300 : Nat) ({ cls := "java/util/Arrays", name := "copyOf", desc := "([Ljava/lang/Object;ILjava/lang/Class;)[Ljava/lang/Object;" } : Jvm.MethodName)) ∈ lw_all := lw_g (lw_at lw_m3 40 rfl) rfl
theorem q599 : (Jvm.Cond.static ({ cls := "java/util/Arrays", name := "copyOf", desc := "([Ljava/lang/Object;ILjava/lang/Class;)[Ljava/lang/Object;" } : Jvm.MethodName)) ∈ lw_all := lw_g (lw_at lw_m3 41 rfl) rfl
theorem q600 : (Jvm.Cond.code ({ cls := "java/util/Arrays", name := "copyOf", desc := "([Ljava/lang/Object;ILjava/lang/Class;)[Ljava/lang/Object;" } : Jvm.MethodName) prog_29_method_120_code (4 : Nat) (Option.some (Jvm.ClassFile.FieldType.array (Jvm.ClassFile.FieldType.object "java/lang/Object")))) ∈ lw_all := lw_g (lw_at lw_m3 42 rfl) rfl
theorem q601 : (Jvm.Cond.classLink "java/util/Arrays" (110 : Nat) "[Ljava/lang/Object;") ∈ lw_all := lw_g (lw_at lw_m3 43 rfl) rfl
theorem q603 : (Jvm.Cond.classLink "java/util/Arrays" (2 : Nat) "java/lang/Object") ∈ lw_all := lw_g (lw_at lw_m3 45 rfl) rfl
theorem q604 : (Jvm.Cond.methodLink "java/util/Arrays" (304 : Nat) ({ cls := "java/lang/Math", name := "min", desc := "(II)I" } : Jvm.MethodName)) ∈ lw_all := lw_g (lw_at lw_m3 46 rfl) rfl
theorem q607 : (Jvm.Cond.methodLink "java/util/Arrays" (150 : Nat) ({ cls := "java/lang/System", name := "arraycopy", desc := "(Ljava/lang/Object;ILjava/lang/Object;II)V" } : Jvm.MethodName)) ∈ lw_all := lw_g (lw_at lw_m3 49 rfl) rfl

/-! java/util/Objects -/
set_option maxRecDepth 100000
def RJ8 : String := "java/util/Objects"
abbrev cJ8_checkIndex : ByteArray := prog_32_method_17_code
def yJ8_checkIndex : MethodName := ⟨RJ8, "checkIndex", "(II)I"⟩
def dkwJ8_checkIndex_0 : List UInt8 := [26, 27, 1, 184, 0, 105, 172]
abbrev dktJ8_checkIndex_0 : List UInt8 := dkwJ8_checkIndex_0 ++ []
theorem dksJ8_checkIndex_0 : cJ8_checkIndex.data.toList.drop 0 = dktJ8_checkIndex_0 := by decide +kernel
theorem dJ8_checkIndex_0 : decode cJ8_checkIndex 0 = .ok (.iload_n 0, 1) := dk_26 (dk_at dksJ8_checkIndex_0 0 rfl rfl)
theorem dJ8_checkIndex_1 : decode cJ8_checkIndex 1 = .ok (.iload_n 1, 1) := dk_27 (dk_at dksJ8_checkIndex_0 1 rfl rfl)
theorem dJ8_checkIndex_2 : decode cJ8_checkIndex 2 = .ok (.aconst_null, 1) := dk_1 (dk_at dksJ8_checkIndex_0 2 rfl rfl)
theorem dJ8_checkIndex_3 : decode cJ8_checkIndex 3 = .ok (.invokestatic 105, 3) := dk_184 0 105 (dk_at dksJ8_checkIndex_0 3 rfl rfl)
theorem dJ8_checkIndex_6 : decode cJ8_checkIndex 6 = .ok (.ireturn, 1) := dk_172 (dk_at dksJ8_checkIndex_0 6 rfl rfl)
theorem q97 : (Jvm.Cond.initialized "java/util/Objects") ∈ lw_all := lw_g (lw_at lw_m1 19 rfl) rfl
theorem q656 : (Jvm.Cond.static ({ cls := "java/util/Objects", name := "checkIndex", desc := "(II)I" } : Jvm.MethodName)) ∈ lw_all := lw_g (lw_at lw_m3 98 rfl) rfl
theorem q657 : (Jvm.Cond.code ({ cls := "java/util/Objects", name := "checkIndex", desc := "(II)I" } : Jvm.MethodName) prog_32_method_17_code (2 : Nat) (Option.some Jvm.ClassFile.FieldType.int)) ∈ lw_all := lw_g (lw_at lw_m3 99 rfl) rfl
theorem q658 : (Jvm.Cond.methodLink "java/util/Objects" (105 : Nat) ({ cls := "jdk/internal/util/Preconditions", name := "checkIndex", desc := "(IILjava/util/function/BiFunction;)I" } : Jvm.MethodName)) ∈ lw_all := lw_g (lw_at lw_m3 100 rfl) rfl

/-! jdk/internal/util/Preconditions -/
set_option maxRecDepth 100000
def RJ9 : String := "jdk/internal/util/Preconditions"
abbrev cJ9_checkIndex : ByteArray := prog_36_method_11_code
def yJ9_checkIndex : MethodName := ⟨RJ9, "checkIndex", "(IILjava/util/function/BiFunction;)I"⟩
def dkwJ9_checkIndex_0 : List UInt8 := [26, 155, 0, 8, 26, 27, 161, 0, 10, 44, 26, 27, 184, 0, 95, 191, 26, 172]
abbrev dktJ9_checkIndex_0 : List UInt8 := dkwJ9_checkIndex_0 ++ []
theorem dksJ9_checkIndex_0 : cJ9_checkIndex.data.toList.drop 0 = dktJ9_checkIndex_0 := by decide +kernel
theorem dJ9_checkIndex_0 : decode cJ9_checkIndex 0 = .ok (.iload_n 0, 1) := dk_26 (dk_at dksJ9_checkIndex_0 0 rfl rfl)
theorem dJ9_checkIndex_1 : decode cJ9_checkIndex 1 = .ok (.ifCond .lt 8, 3) := dk_155 0 8 (dk_at dksJ9_checkIndex_0 1 rfl rfl)
theorem dJ9_checkIndex_4 : decode cJ9_checkIndex 4 = .ok (.iload_n 0, 1) := dk_26 (dk_at dksJ9_checkIndex_0 4 rfl rfl)
theorem dJ9_checkIndex_5 : decode cJ9_checkIndex 5 = .ok (.iload_n 1, 1) := dk_27 (dk_at dksJ9_checkIndex_0 5 rfl rfl)
theorem dJ9_checkIndex_6 : decode cJ9_checkIndex 6 = .ok (.if_icmp .lt 10, 3) := dk_161 0 10 (dk_at dksJ9_checkIndex_0 6 rfl rfl)
theorem dJ9_checkIndex_9 : decode cJ9_checkIndex 9 = .ok (.aload_n 2, 1) := dk_44 (dk_at dksJ9_checkIndex_0 9 rfl rfl)
theorem dJ9_checkIndex_10 : decode cJ9_checkIndex 10 = .ok (.iload_n 0, 1) := dk_26 (dk_at dksJ9_checkIndex_0 10 rfl rfl)
theorem dJ9_checkIndex_11 : decode cJ9_checkIndex 11 = .ok (.iload_n 1, 1) := dk_27 (dk_at dksJ9_checkIndex_0 11 rfl rfl)
theorem dJ9_checkIndex_12 : decode cJ9_checkIndex 12 = .ok (.invokestatic 95, 3) := dk_184 0 95 (dk_at dksJ9_checkIndex_0 12 rfl rfl)
theorem dJ9_checkIndex_15 : decode cJ9_checkIndex 15 = .ok (.athrow, 1) := dk_191 (dk_at dksJ9_checkIndex_0 15 rfl rfl)
theorem dJ9_checkIndex_16 : decode cJ9_checkIndex 16 = .ok (.iload_n 0, 1) := dk_26 (dk_at dksJ9_checkIndex_0 16 rfl rfl)
theorem dJ9_checkIndex_17 : decode cJ9_checkIndex 17 = .ok (.ireturn, 1) := dk_172 (dk_at dksJ9_checkIndex_0 17 rfl rfl)
theorem q98 : (Jvm.Cond.initialized "jdk/internal/util/Preconditions") ∈ lw_all := lw_g (lw_at lw_m1 20 rfl) rfl
theorem q659 : (Jvm.Cond.static ({ cls := "jdk/internal/util/Preconditions", name := "checkIndex", desc := "(IILjava/util/function/BiFunction;)I" } : Jvm.MethodName)) ∈ lw_all := lw_g (lw_at lw_m3 101 rfl) rfl
theorem q660 : (Jvm.Cond.code ({ cls := "jdk/internal/util/Preconditions", name := "checkIndex", desc := "(IILjava/util/function/BiFunction;)I" } : Jvm.MethodName) prog_36_method_11_code (3 : Nat) (Option.some Jvm.ClassFile.FieldType.int)) ∈ lw_all := lw_g (lw_at lw_m3 102 rfl) rfl

theorem q78 : (Jvm.Cond.initialized "SecondChancesLaw") ∈ lw_all := lw_g (lw_at lw_m1 0 rfl) rfl
set_option maxRecDepth 100000
theorem q107 : (Jvm.Cond.classLink "SecondChancesLaw" (7 : Nat) "SecondChances") ∈ lw_all := lw_g (lw_at lw_m1 29 rfl) rfl
theorem q109 : (Jvm.Cond.methodLink "SecondChancesLaw" (9 : Nat) ({ cls := "SecondChances", name := "<init>", desc := "()V" } : Jvm.MethodName)) ∈ lw_all := lw_g (lw_at lw_m1 31 rfl) rfl
theorem q290 : (Jvm.Cond.methodLink "SecondChancesLaw" (35 : Nat) ({ cls := "SecondChances", name := "person", desc := "(III)I" } : Jvm.MethodName)) ∈ lw_all := lw_g (lw_at lw_m1 212 rfl) rfl
theorem q304 : (Jvm.Cond.methodLink "SecondChancesLaw" (40 : Nat) ({ cls := "SecondChances", name := "weather", desc := "(II)I" } : Jvm.MethodName)) ∈ lw_all := lw_g (lw_at lw_m1 226 rfl) rfl
theorem q314 : (Jvm.Cond.methodLink "SecondChancesLaw" (44 : Nat) ({ cls := "SecondChances", name := "set", desc := "(II)I" } : Jvm.MethodName)) ∈ lw_all := lw_g (lw_at lw_m1 236 rfl) rfl
theorem q320 : (Jvm.Cond.methodLink "SecondChancesLaw" (48 : Nat) ({ cls := "SecondChances", name := "read", desc := "(I)I" } : Jvm.MethodName)) ∈ lw_all := lw_g (lw_at lw_m2 2 rfl) rfl
theorem q348 : (Jvm.Cond.methodLink "SecondChancesLaw" (13 : Nat) ({ cls := "SecondChances", name := "type", desc := "(II)I" } : Jvm.MethodName)) ∈ lw_all := lw_g (lw_at lw_m2 30 rfl) rfl
theorem q363 : (Jvm.Cond.methodLink "SecondChancesLaw" (18 : Nat) ({ cls := "SecondChances", name := "wipe", desc := "(I)I" } : Jvm.MethodName)) ∈ lw_all := lw_g (lw_at lw_m2 45 rfl) rfl
theorem q373 : (Jvm.Cond.methodLink "SecondChancesLaw" (23 : Nat) ({ cls := "SecondChances", name := "fault", desc := "(I)I" } : Jvm.MethodName)) ∈ lw_all := lw_g (lw_at lw_m2 55 rfl) rfl
theorem q622 : (Jvm.Cond.methodLink "SecondChancesLaw" (27 : Nat) ({ cls := "SecondChances", name := "deed", desc := "(II)I" } : Jvm.MethodName)) ∈ lw_all := lw_g (lw_at lw_m3 64 rfl) rfl
theorem q666 : (Jvm.Cond.methodLink "SecondChancesLaw" (31 : Nat) ({ cls := "SecondChances", name := "rule", desc := "(II)I" } : Jvm.MethodName)) ∈ lw_all := lw_g (lw_at lw_m3 108 rfl) rfl
theorem q675 : (Jvm.Cond.methodLink "SecondChancesLaw" (52 : Nat) ({ cls := "SecondChances", name := "can", desc := "(II)I" } : Jvm.MethodName)) ∈ lw_all := lw_g (lw_at lw_m3 117 rfl) rfl
theorem q711 : (Jvm.Cond.methodLink "SecondChancesLaw" (56 : Nat) ({ cls := "SecondChances", name := "hours", desc := "(I)I" } : Jvm.MethodName)) ∈ lw_all := lw_g (lw_at lw_m3 153 rfl) rfl
theorem q719 : (Jvm.Cond.methodLink "SecondChancesLaw" (60 : Nat) ({ cls := "SecondChances", name := "comes", desc := "(II)I" } : Jvm.MethodName)) ∈ lw_all := lw_g (lw_at lw_m3 161 rfl) rfl
theorem q723 : (Jvm.Cond.methodLink "SecondChancesLaw" (64 : Nat) ({ cls := "SecondChances", name := "costs", desc := "(II)I" } : Jvm.MethodName)) ∈ lw_all := lw_g (lw_at lw_m3 165 rfl) rfl
theorem q735 : (Jvm.Cond.methodLink "SecondChancesLaw" (68 : Nat) ({ cls := "SecondChances", name := "most", desc := "(I)I" } : Jvm.MethodName)) ∈ lw_all := lw_g (lw_at lw_m3 177 rfl) rfl
theorem q773 : (Jvm.Cond.methodLink "SecondChancesLaw" (72 : Nat) ({ cls := "SecondChances", name := "when", desc := "(I)I" } : Jvm.MethodName)) ∈ lw_all := lw_g (lw_at lw_m3 215 rfl) rfl
theorem q777 : (Jvm.Cond.methodLink "SecondChancesLaw" (76 : Nat) ({ cls := "SecondChances", name := "plan", desc := "(II)I" } : Jvm.MethodName)) ∈ lw_all := lw_g (lw_at lw_m3 219 rfl) rfl
theorem q790 : (Jvm.Cond.methodLink "SecondChancesLaw" (80 : Nat) ({ cls := "SecondChances", name := "asked", desc := "(II)I" } : Jvm.MethodName)) ∈ lw_all := lw_g (lw_at lw_m3 232 rfl) rfl
theorem q798 : (Jvm.Cond.methodLink "SecondChancesLaw" (84 : Nat) ({ cls := "SecondChances", name := "crowd", desc := "(I)I" } : Jvm.MethodName)) ∈ lw_all := lw_g (lw_at lw_m4 0 rfl) rfl
theorem q806 : (Jvm.Cond.methodLink "SecondChancesLaw" (88 : Nat) ({ cls := "SecondChances", name := "likeness", desc := "(II)I" } : Jvm.MethodName)) ∈ lw_all := lw_g (lw_at lw_m4 8 rfl) rfl
theorem q814 : (Jvm.Cond.methodLink "SecondChancesLaw" (92 : Nat) ({ cls := "SecondChances", name := "odds", desc := "(III)J" } : Jvm.MethodName)) ∈ lw_all := lw_g (lw_at lw_m4 16 rfl) rfl
theorem q833 : (Jvm.Cond.methodLink "SecondChancesLaw" (97 : Nat) ({ cls := "SecondChances", name := "seen", desc := "(III)I" } : Jvm.MethodName)) ∈ lw_all := lw_g (lw_at lw_m4 35 rfl) rfl
theorem q855 : (Jvm.Cond.methodLink "SecondChancesLaw" (101 : Nat) ({ cls := "SecondChances", name := "isFalse", desc := "(II)I" } : Jvm.MethodName)) ∈ lw_all := lw_g (lw_at lw_m4 57 rfl) rfl
theorem q870 : (Jvm.Cond.methodLink "SecondChancesLaw" (105 : Nat) ({ cls := "SecondChances", name := "hats", desc := "(I)I" } : Jvm.MethodName)) ∈ lw_all := lw_g (lw_at lw_m4 72 rfl) rfl
theorem q882 : (Jvm.Cond.methodLink "SecondChancesLaw" (109 : Nat) ({ cls := "SecondChances", name := "after", desc := "(II)I" } : Jvm.MethodName)) ∈ lw_all := lw_g (lw_at lw_m4 84 rfl) rfl
theorem q889 : (Jvm.Cond.methodLink "SecondChancesLaw" (113 : Nat) ({ cls := "SecondChances", name := "forget", desc := "(I)I" } : Jvm.MethodName)) ∈ lw_all := lw_g (lw_at lw_m4 91 rfl) rfl
theorem q894 : (Jvm.Cond.methodLink "SecondChancesLaw" (117 : Nat) ({ cls := "SecondChances", name := "spared", desc := "(I)I" } : Jvm.MethodName)) ∈ lw_all := lw_g (lw_at lw_m4 96 rfl) rfl
theorem q907 : (Jvm.Cond.methodLink "SecondChancesLaw" (121 : Nat) ({ cls := "SecondChances", name := "best", desc := "()I" } : Jvm.MethodName)) ∈ lw_all := lw_g (lw_at lw_m4 109 rfl) rfl
theorem q916 : (Jvm.Cond.methodLink "SecondChancesLaw" (126 : Nat) ({ cls := "SecondChances", name := "regrets", desc := "(II)J" } : Jvm.MethodName)) ∈ lw_all := lw_g (lw_at lw_m4 118 rfl) rfl
theorem q928 : (Jvm.Cond.methodLink "SecondChancesLaw" (131 : Nat) ({ cls := "SecondChances", name := "sheet", desc := "(III)I" } : Jvm.MethodName)) ∈ lw_all := lw_g (lw_at lw_m4 130 rfl) rfl
theorem q966 : (Jvm.Cond.methodLink "SecondChancesLaw" (135 : Nat) ({ cls := "SecondChances", name := "lose", desc := "(I)I" } : Jvm.MethodName)) ∈ lw_all := lw_g (lw_at lw_m4 168 rfl) rfl
theorem q970 : (Jvm.Cond.methodLink "SecondChancesLaw" (139 : Nat) ({ cls := "SecondChances", name := "put", desc := "(IIII)I" } : Jvm.MethodName)) ∈ lw_all := lw_g (lw_at lw_m4 172 rfl) rfl
theorem q1011 : (Jvm.Cond.methodLink "SecondChancesLaw" (144 : Nat) ({ cls := "SecondChances", name := "get", desc := "(III)I" } : Jvm.MethodName)) ∈ lw_all := lw_g (lw_at lw_m4 213 rfl) rfl
theorem q1020 : (Jvm.Cond.methodLink "SecondChancesLaw" (148 : Nat) ({ cls := "SecondChances", name := "copy", desc := "(IIIII)I" } : Jvm.MethodName)) ∈ lw_all := lw_g (lw_at lw_m4 222 rfl) rfl
theorem q1025 : (Jvm.Cond.methodLink "SecondChancesLaw" (153 : Nat) ({ cls := "SecondChances", name := "write", desc := "(I)I" } : Jvm.MethodName)) ∈ lw_all := lw_g (lw_at lw_m4 227 rfl) rfl
theorem q1029 : (Jvm.Cond.methodLink "SecondChancesLaw" (157 : Nat) ({ cls := "SecondChances", name := "count", desc := "(I)I" } : Jvm.MethodName)) ∈ lw_all := lw_g (lw_at lw_m4 231 rfl) rfl
theorem q1033 : (Jvm.Cond.methodLink "SecondChancesLaw" (161 : Nat) ({ cls := "SecondChances", name := "digest", desc := "()J" } : Jvm.MethodName)) ∈ lw_all := lw_g (lw_at lw_m4 235 rfl) rfl
theorem q1040 : (Jvm.Cond.classLink "SecondChancesLaw" (10 : Nat) "SecondChancesModel") ∈ lw_all := lw_g (lw_at lw_m5 2 rfl) rfl
theorem q1042 : (Jvm.Cond.methodLink "SecondChancesLaw" (12 : Nat) ({ cls := "SecondChancesModel", name := "<init>", desc := "()V" } : Jvm.MethodName)) ∈ lw_all := lw_g (lw_at lw_m5 4 rfl) rfl
theorem q1164 : (Jvm.Cond.methodLink "SecondChancesLaw" (17 : Nat) ({ cls := "SecondChancesModel", name := "type", desc := "(II)I" } : Jvm.MethodName)) ∈ lw_all := lw_g (lw_at lw_m5 126 rfl) rfl
theorem q1171 : (Jvm.Cond.methodLink "SecondChancesLaw" (22 : Nat) ({ cls := "SecondChancesModel", name := "wipe", desc := "(I)I" } : Jvm.MethodName)) ∈ lw_all := lw_g (lw_at lw_m5 133 rfl) rfl
theorem q1175 : (Jvm.Cond.methodLink "SecondChancesLaw" (26 : Nat) ({ cls := "SecondChancesModel", name := "fault", desc := "(I)I" } : Jvm.MethodName)) ∈ lw_all := lw_g (lw_at lw_m5 137 rfl) rfl
theorem q1205 : (Jvm.Cond.methodLink "SecondChancesLaw" (30 : Nat) ({ cls := "SecondChancesModel", name := "deed", desc := "(II)I" } : Jvm.MethodName)) ∈ lw_all := lw_g (lw_at lw_m5 167 rfl) rfl
theorem q1221 : (Jvm.Cond.methodLink "SecondChancesLaw" (34 : Nat) ({ cls := "SecondChancesModel", name := "rule", desc := "(II)I" } : Jvm.MethodName)) ∈ lw_all := lw_g (lw_at lw_m5 183 rfl) rfl
theorem q1229 : (Jvm.Cond.methodLink "SecondChancesLaw" (39 : Nat) ({ cls := "SecondChancesModel", name := "person", desc := "(III)I" } : Jvm.MethodName)) ∈ lw_all := lw_g (lw_at lw_m5 191 rfl) rfl
theorem q1236 : (Jvm.Cond.methodLink "SecondChancesLaw" (43 : Nat) ({ cls := "SecondChancesModel", name := "weather", desc := "(II)I" } : Jvm.MethodName)) ∈ lw_all := lw_g (lw_at lw_m5 198 rfl) rfl
theorem q1243 : (Jvm.Cond.methodLink "SecondChancesLaw" (47 : Nat) ({ cls := "SecondChancesModel", name := "set", desc := "(II)I" } : Jvm.MethodName)) ∈ lw_all := lw_g (lw_at lw_m5 205 rfl) rfl
theorem q1247 : (Jvm.Cond.methodLink "SecondChancesLaw" (51 : Nat) ({ cls := "SecondChancesModel", name := "read", desc := "(I)I" } : Jvm.MethodName)) ∈ lw_all := lw_g (lw_at lw_m5 209 rfl) rfl
theorem q1258 : (Jvm.Cond.methodLink "SecondChancesLaw" (55 : Nat) ({ cls := "SecondChancesModel", name := "can", desc := "(II)I" } : Jvm.MethodName)) ∈ lw_all := lw_g (lw_at lw_m5 220 rfl) rfl
theorem q1281 : (Jvm.Cond.methodLink "SecondChancesLaw" (59 : Nat) ({ cls := "SecondChancesModel", name := "hours", desc := "(I)I" } : Jvm.MethodName)) ∈ lw_all := lw_g (lw_at lw_m6 3 rfl) rfl
theorem q1289 : (Jvm.Cond.methodLink "SecondChancesLaw" (63 : Nat) ({ cls := "SecondChancesModel", name := "comes", desc := "(II)I" } : Jvm.MethodName)) ∈ lw_all := lw_g (lw_at lw_m6 11 rfl) rfl
theorem q1293 : (Jvm.Cond.methodLink "SecondChancesLaw" (67 : Nat) ({ cls := "SecondChancesModel", name := "costs", desc := "(II)I" } : Jvm.MethodName)) ∈ lw_all := lw_g (lw_at lw_m6 15 rfl) rfl
theorem q1305 : (Jvm.Cond.methodLink "SecondChancesLaw" (71 : Nat) ({ cls := "SecondChancesModel", name := "most", desc := "(I)I" } : Jvm.MethodName)) ∈ lw_all := lw_g (lw_at lw_m6 27 rfl) rfl
theorem q1326 : (Jvm.Cond.methodLink "SecondChancesLaw" (75 : Nat) ({ cls := "SecondChancesModel", name := "when", desc := "(I)I" } : Jvm.MethodName)) ∈ lw_all := lw_g (lw_at lw_m6 48 rfl) rfl
theorem q1330 : (Jvm.Cond.methodLink "SecondChancesLaw" (79 : Nat) ({ cls := "SecondChancesModel", name := "plan", desc := "(II)I" } : Jvm.MethodName)) ∈ lw_all := lw_g (lw_at lw_m6 52 rfl) rfl
theorem q1342 : (Jvm.Cond.methodLink "SecondChancesLaw" (83 : Nat) ({ cls := "SecondChancesModel", name := "asked", desc := "(II)I" } : Jvm.MethodName)) ∈ lw_all := lw_g (lw_at lw_m6 64 rfl) rfl
theorem q1350 : (Jvm.Cond.methodLink "SecondChancesLaw" (87 : Nat) ({ cls := "SecondChancesModel", name := "crowd", desc := "(I)I" } : Jvm.MethodName)) ∈ lw_all := lw_g (lw_at lw_m6 72 rfl) rfl
theorem q1358 : (Jvm.Cond.methodLink "SecondChancesLaw" (91 : Nat) ({ cls := "SecondChancesModel", name := "likeness", desc := "(II)I" } : Jvm.MethodName)) ∈ lw_all := lw_g (lw_at lw_m6 80 rfl) rfl
theorem q1366 : (Jvm.Cond.methodLink "SecondChancesLaw" (96 : Nat) ({ cls := "SecondChancesModel", name := "odds", desc := "(III)J" } : Jvm.MethodName)) ∈ lw_all := lw_g (lw_at lw_m6 88 rfl) rfl
theorem q1382 : (Jvm.Cond.methodLink "SecondChancesLaw" (100 : Nat) ({ cls := "SecondChancesModel", name := "seen", desc := "(III)I" } : Jvm.MethodName)) ∈ lw_all := lw_g (lw_at lw_m6 104 rfl) rfl
theorem q1386 : (Jvm.Cond.methodLink "SecondChancesLaw" (104 : Nat) ({ cls := "SecondChancesModel", name := "isFalse", desc := "(II)I" } : Jvm.MethodName)) ∈ lw_all := lw_g (lw_at lw_m6 108 rfl) rfl
theorem q1398 : (Jvm.Cond.methodLink "SecondChancesLaw" (108 : Nat) ({ cls := "SecondChancesModel", name := "hats", desc := "(I)I" } : Jvm.MethodName)) ∈ lw_all := lw_g (lw_at lw_m6 120 rfl) rfl
theorem q1406 : (Jvm.Cond.methodLink "SecondChancesLaw" (112 : Nat) ({ cls := "SecondChancesModel", name := "after", desc := "(II)I" } : Jvm.MethodName)) ∈ lw_all := lw_g (lw_at lw_m6 128 rfl) rfl
theorem q1410 : (Jvm.Cond.methodLink "SecondChancesLaw" (116 : Nat) ({ cls := "SecondChancesModel", name := "forget", desc := "(I)I" } : Jvm.MethodName)) ∈ lw_all := lw_g (lw_at lw_m6 132 rfl) rfl
theorem q1414 : (Jvm.Cond.methodLink "SecondChancesLaw" (120 : Nat) ({ cls := "SecondChancesModel", name := "spared", desc := "(I)I" } : Jvm.MethodName)) ∈ lw_all := lw_g (lw_at lw_m6 136 rfl) rfl
theorem q1426 : (Jvm.Cond.methodLink "SecondChancesLaw" (125 : Nat) ({ cls := "SecondChancesModel", name := "best", desc := "()I" } : Jvm.MethodName)) ∈ lw_all := lw_g (lw_at lw_m6 148 rfl) rfl
theorem q1434 : (Jvm.Cond.methodLink "SecondChancesLaw" (130 : Nat) ({ cls := "SecondChancesModel", name := "regrets", desc := "(II)J" } : Jvm.MethodName)) ∈ lw_all := lw_g (lw_at lw_m6 156 rfl) rfl
theorem q1445 : (Jvm.Cond.methodLink "SecondChancesLaw" (134 : Nat) ({ cls := "SecondChancesModel", name := "sheet", desc := "(III)I" } : Jvm.MethodName)) ∈ lw_all := lw_g (lw_at lw_m6 167 rfl) rfl
theorem q1449 : (Jvm.Cond.methodLink "SecondChancesLaw" (138 : Nat) ({ cls := "SecondChancesModel", name := "lose", desc := "(I)I" } : Jvm.MethodName)) ∈ lw_all := lw_g (lw_at lw_m6 171 rfl) rfl
theorem q1453 : (Jvm.Cond.methodLink "SecondChancesLaw" (143 : Nat) ({ cls := "SecondChancesModel", name := "put", desc := "(IIII)I" } : Jvm.MethodName)) ∈ lw_all := lw_g (lw_at lw_m6 175 rfl) rfl
theorem q1465 : (Jvm.Cond.methodLink "SecondChancesLaw" (147 : Nat) ({ cls := "SecondChancesModel", name := "get", desc := "(III)I" } : Jvm.MethodName)) ∈ lw_all := lw_g (lw_at lw_m6 187 rfl) rfl
theorem q1470 : (Jvm.Cond.methodLink "SecondChancesLaw" (152 : Nat) ({ cls := "SecondChancesModel", name := "copy", desc := "(IIIII)I" } : Jvm.MethodName)) ∈ lw_all := lw_g (lw_at lw_m6 192 rfl) rfl
theorem q1474 : (Jvm.Cond.methodLink "SecondChancesLaw" (156 : Nat) ({ cls := "SecondChancesModel", name := "write", desc := "(I)I" } : Jvm.MethodName)) ∈ lw_all := lw_g (lw_at lw_m6 196 rfl) rfl
theorem q1478 : (Jvm.Cond.methodLink "SecondChancesLaw" (160 : Nat) ({ cls := "SecondChancesModel", name := "count", desc := "(I)I" } : Jvm.MethodName)) ∈ lw_all := lw_g (lw_at lw_m6 200 rfl) rfl
theorem q1486 : (Jvm.Cond.methodLink "SecondChancesLaw" (165 : Nat) ({ cls := "SecondChancesModel", name := "digest", desc := "()J" } : Jvm.MethodName)) ∈ lw_all := lw_g (lw_at lw_m6 208 rfl) rfl

theorem q1524 : (Jvm.Cond.castable "[B" "java/lang/Object") ∈ lw_tbl := lw_at lw_m7 6 rfl
set_option maxRecDepth 100000

theorem q1519 : (Jvm.Cond.castable "[I" "java/lang/Object") ∈ lw_tbl := lw_at lw_m7 1 rfl
set_option maxRecDepth 100000

theorem q1518 : (Jvm.Cond.castable "[LSecondChances$Person;" "java/lang/Object") ∈ lw_tbl := lw_at lw_m7 0 rfl
set_option maxRecDepth 100000

theorem q1522 : (Jvm.Cond.castable "[LSecondChances$Sheet;" "java/lang/Object") ∈ lw_tbl := lw_at lw_m7 4 rfl
set_option maxRecDepth 100000

theorem q1515 : (Jvm.Cond.sameMethod "[Ljava/lang/Object;" "java/lang/Object" "getClass" "()Ljava/lang/Class;") ∈ lw_all := lw_g (lw_at lw_m6 237 rfl) rfl
set_option maxRecDepth 100000
theorem q1516 : (Jvm.Cond.selects "[Ljava/lang/Object;" ({ cls := "java/lang/Object", name := "getClass", desc := "()Ljava/lang/Class;" } : Jvm.MethodName) ({ cls := "java/lang/Object", name := "getClass", desc := "()Ljava/lang/Class;" } : Jvm.MethodName)) ∈ lw_all := lw_g (lw_at lw_m6 238 rfl) rfl
theorem q1523 : (Jvm.Cond.castable "[Ljava/lang/Object;" "java/lang/Object") ∈ lw_tbl := lw_at lw_m7 5 rfl

theorem q1525 : (Jvm.Cond.castable "[S" "java/lang/Object") ∈ lw_tbl := lw_at lw_m7 7 rfl
set_option maxRecDepth 100000

theorem q1520 : (Jvm.Cond.castable "[Z" "java/lang/Object") ∈ lw_tbl := lw_at lw_m7 2 rfl
set_option maxRecDepth 100000

theorem q1521 : (Jvm.Cond.castable "[[I" "java/lang/Object") ∈ lw_tbl := lw_at lw_m7 3 rfl
set_option maxRecDepth 100000

theorem q96 : (Jvm.Cond.initialized "java/lang/System") ∈ lw_all := lw_g (lw_at lw_m1 18 rfl) rfl
set_option maxRecDepth 100000
theorem q608 : (Jvm.Cond.static ({ cls := "java/lang/System", name := "arraycopy", desc := "(Ljava/lang/Object;ILjava/lang/Object;II)V" } : Jvm.MethodName)) ∈ lw_all := lw_g (lw_at lw_m3 50 rfl) rfl
theorem q609 : (Jvm.Cond.native ({ cls := "java/lang/System", name := "arraycopy", desc := "(Ljava/lang/Object;ILjava/lang/Object;II)V" } : Jvm.MethodName)) ∈ lw_all := lw_g (lw_at lw_m3 51 rfl) rfl

theorem q116 : (Jvm.Cond.arrayOver (Jvm.ClassFile.FieldType.object "SecondChances$Person")) ∈ lw_tbl := lw_at lw_m1 38 rfl
set_option maxRecDepth 100000
theorem q127 : (Jvm.Cond.arrayClass Jvm.ClassFile.FieldType.int) ∈ lw_all := lw_g (lw_at lw_m1 49 rfl) rfl
theorem q212 : (Jvm.Cond.arrayClass Jvm.ClassFile.FieldType.boolean) ∈ lw_all := lw_g (lw_at lw_m1 134 rfl) rfl
theorem q214 : (Jvm.Cond.arrayOver (Jvm.ClassFile.FieldType.array Jvm.ClassFile.FieldType.int)) ∈ lw_tbl := lw_at lw_m1 136 rfl
theorem q218 : (Jvm.Cond.arrayOver (Jvm.ClassFile.FieldType.object "SecondChances$Sheet")) ∈ lw_tbl := lw_at lw_m1 140 rfl
theorem q602 : (Jvm.Cond.arrayOver (Jvm.ClassFile.FieldType.object "java/lang/Object")) ∈ lw_tbl := lw_at lw_m3 44 rfl
theorem q957 : (Jvm.Cond.arrayClass Jvm.ClassFile.FieldType.byte) ∈ lw_all := lw_g (lw_at lw_m4 159 rfl) rfl
theorem q965 : (Jvm.Cond.arrayClass Jvm.ClassFile.FieldType.short) ∈ lw_all := lw_g (lw_at lw_m4 167 rfl) rfl

/-! the law's own entry -/
set_option maxRecDepth 100000
abbrev cL_law : ByteArray := code
def dkwL_law_50 : List UInt8 := [153, 0, 5, 3, 172, 132, 3, 6, 167, 250, 238, 4, 172]
abbrev dktL_law_50 : List UInt8 := dkwL_law_50 ++ []
def dkwL_law_49 : List UInt8 := [42, 29, 4, 96, 46, 182, 0, 160, 159, 0, 19, 3, 172, 43, 182, 0, 161, 44, 182, 0, 165, 148]
abbrev dktL_law_49 : List UInt8 := dkwL_law_49 ++ dktL_law_50
def dkwL_law_48 : List UInt8 := [44, 42, 29, 4, 96, 46, 182, 0, 156, 159, 0, 42, 3, 172, 43, 42, 29, 4, 96, 46, 182, 0, 157, 44]
abbrev dktL_law_48 : List UInt8 := dkwL_law_48 ++ dktL_law_49
def dkwL_law_47 : List UInt8 := [96, 46, 42, 29, 8, 96, 46, 182, 0, 152, 159, 0, 65, 3, 172, 43, 42, 29, 4, 96, 46, 182, 0, 153]
abbrev dktL_law_47 : List UInt8 := dkwL_law_47 ++ dktL_law_48
def dkwL_law_46 : List UInt8 := [96, 46, 182, 0, 148, 44, 42, 29, 4, 96, 46, 42, 29, 5, 96, 46, 42, 29, 6, 96, 46, 42, 29, 7]
abbrev dktL_law_46 : List UInt8 := dkwL_law_46 ++ dktL_law_47
def dkwL_law_45 : List UInt8 := [43, 42, 29, 4, 96, 46, 42, 29, 5, 96, 46, 42, 29, 6, 96, 46, 42, 29, 7, 96, 46, 42, 29, 8]
abbrev dktL_law_45 : List UInt8 := dkwL_law_45 ++ dktL_law_46
def dkwL_law_44 : List UInt8 := [44, 42, 29, 4, 96, 46, 42, 29, 5, 96, 46, 42, 29, 6, 96, 46, 182, 0, 147, 159, 0, 128, 3, 172]
abbrev dktL_law_44 : List UInt8 := dkwL_law_44 ++ dktL_law_45
def dkwL_law_43 : List UInt8 := [159, 0, 171, 3, 172, 43, 42, 29, 4, 96, 46, 42, 29, 5, 96, 46, 42, 29, 6, 96, 46, 182, 0, 144]
abbrev dktL_law_43 : List UInt8 := dkwL_law_43 ++ dktL_law_44
def dkwL_law_42 : List UInt8 := [42, 29, 4, 96, 46, 42, 29, 5, 96, 46, 42, 29, 6, 96, 46, 42, 29, 7, 96, 46, 182, 0, 143]
abbrev dktL_law_42 : List UInt8 := dkwL_law_42 ++ dktL_law_43
def dkwL_law_41 : List UInt8 := [42, 29, 4, 96, 46, 42, 29, 5, 96, 46, 42, 29, 6, 96, 46, 42, 29, 7, 96, 46, 182, 0, 139, 44]
abbrev dktL_law_41 : List UInt8 := dkwL_law_41 ++ dktL_law_42
def dkwL_law_40 : List UInt8 := [43, 42, 29, 4, 96, 46, 182, 0, 135, 44, 42, 29, 4, 96, 46, 182, 0, 138, 159, 0, 224, 3, 172, 43]
abbrev dktL_law_40 : List UInt8 := dkwL_law_40 ++ dktL_law_41
def dkwL_law_39 : List UInt8 := [44, 42, 29, 4, 96, 46, 42, 29, 5, 96, 46, 42, 29, 6, 96, 46, 182, 0, 134, 159, 0, 247, 3, 172]
abbrev dktL_law_39 : List UInt8 := dkwL_law_39 ++ dktL_law_40
def dkwL_law_38 : List UInt8 := [153, 1, 34, 3, 172, 43, 42, 29, 4, 96, 46, 42, 29, 5, 96, 46, 42, 29, 6, 96, 46, 182, 0, 131]
abbrev dktL_law_38 : List UInt8 := dkwL_law_38 ++ dktL_law_39
def dkwL_law_37 : List UInt8 := [42, 29, 5, 96, 46, 182, 0, 126, 44, 42, 29, 4, 96, 46, 42, 29, 5, 96, 46, 182, 0, 130, 148]
abbrev dktL_law_37 : List UInt8 := dkwL_law_37 ++ dktL_law_38
def dkwL_law_36 : List UInt8 := [159, 1, 81, 3, 172, 43, 182, 0, 121, 44, 182, 0, 125, 159, 1, 68, 3, 172, 43, 42, 29, 4, 96, 46]
abbrev dktL_law_36 : List UInt8 := dkwL_law_36 ++ dktL_law_37
def dkwL_law_35 : List UInt8 := [159, 1, 104, 3, 172, 43, 42, 29, 4, 96, 46, 182, 0, 117, 44, 42, 29, 4, 96, 46, 182, 0, 120]
abbrev dktL_law_35 : List UInt8 := dkwL_law_35 ++ dktL_law_36
def dkwL_law_34 : List UInt8 := [159, 1, 127, 3, 172, 43, 42, 29, 4, 96, 46, 182, 0, 113, 44, 42, 29, 4, 96, 46, 182, 0, 116]
abbrev dktL_law_34 : List UInt8 := dkwL_law_34 ++ dktL_law_35
def dkwL_law_33 : List UInt8 := [42, 29, 5, 96, 46, 182, 0, 109, 44, 42, 29, 4, 96, 46, 42, 29, 5, 96, 46, 182, 0, 112]
abbrev dktL_law_33 : List UInt8 := dkwL_law_33 ++ dktL_law_34
def dkwL_law_32 : List UInt8 := [46, 182, 0, 105, 44, 42, 29, 4, 96, 46, 182, 0, 108, 159, 1, 160, 3, 172, 43, 42, 29, 4, 96, 46]
abbrev dktL_law_32 : List UInt8 := dkwL_law_32 ++ dktL_law_33
def dkwL_law_31 : List UInt8 := [44, 42, 29, 4, 96, 46, 42, 29, 5, 96, 46, 182, 0, 104, 159, 1, 183, 3, 172, 43, 42, 29, 4, 96]
abbrev dktL_law_31 : List UInt8 := dkwL_law_31 ++ dktL_law_32
def dkwL_law_30 : List UInt8 := [96, 46, 182, 0, 100, 159, 1, 216, 3, 172, 43, 42, 29, 4, 96, 46, 42, 29, 5, 96, 46, 182, 0, 101]
abbrev dktL_law_30 : List UInt8 := dkwL_law_30 ++ dktL_law_31
def dkwL_law_29 : List UInt8 := [96, 46, 42, 29, 6, 96, 46, 182, 0, 97, 44, 42, 29, 4, 96, 46, 42, 29, 5, 96, 46, 42, 29, 6]
abbrev dktL_law_29 : List UInt8 := dkwL_law_29 ++ dktL_law_30
def dkwL_law_28 : List UInt8 := [46, 42, 29, 6, 96, 46, 182, 0, 96, 148, 153, 2, 3, 3, 172, 43, 42, 29, 4, 96, 46, 42, 29, 5]
abbrev dktL_law_28 : List UInt8 := dkwL_law_28 ++ dktL_law_29
def dkwL_law_27 : List UInt8 := [46, 42, 29, 5, 96, 46, 42, 29, 6, 96, 46, 182, 0, 92, 44, 42, 29, 4, 96, 46, 42, 29, 5, 96]
abbrev dktL_law_27 : List UInt8 := dkwL_law_27 ++ dktL_law_28
def dkwL_law_26 : List UInt8 := [44, 42, 29, 4, 96, 46, 42, 29, 5, 96, 46, 182, 0, 91, 159, 2, 47, 3, 172, 43, 42, 29, 4, 96]
abbrev dktL_law_26 : List UInt8 := dkwL_law_26 ++ dktL_law_27
def dkwL_law_25 : List UInt8 := [96, 46, 182, 0, 87, 159, 2, 80, 3, 172, 43, 42, 29, 4, 96, 46, 42, 29, 5, 96, 46, 182, 0, 88]
abbrev dktL_law_25 : List UInt8 := dkwL_law_25 ++ dktL_law_26
def dkwL_law_24 : List UInt8 := [5, 96, 46, 182, 0, 83, 159, 2, 103, 3, 172, 43, 42, 29, 4, 96, 46, 182, 0, 84, 44, 42, 29, 4]
abbrev dktL_law_24 : List UInt8 := dkwL_law_24 ++ dktL_law_25
def dkwL_law_23 : List UInt8 := [3, 172, 43, 42, 29, 4, 96, 46, 42, 29, 5, 96, 46, 182, 0, 80, 44, 42, 29, 4, 96, 46, 42, 29]
abbrev dktL_law_23 : List UInt8 := dkwL_law_23 ++ dktL_law_24
def dkwL_law_22 : List UInt8 := [29, 5, 96, 46, 182, 0, 76, 44, 42, 29, 4, 96, 46, 42, 29, 5, 96, 46, 182, 0, 79, 159, 2, 136]
abbrev dktL_law_22 : List UInt8 := dkwL_law_22 ++ dktL_law_23
def dkwL_law_21 : List UInt8 := [182, 0, 72, 44, 42, 29, 4, 96, 46, 182, 0, 75, 159, 2, 169, 3, 172, 43, 42, 29, 4, 96, 46, 42]
abbrev dktL_law_21 : List UInt8 := dkwL_law_21 ++ dktL_law_22
def dkwL_law_20 : List UInt8 := [46, 182, 0, 68, 44, 42, 29, 4, 96, 46, 182, 0, 71, 159, 2, 192, 3, 172, 43, 42, 29, 4, 96, 46]
abbrev dktL_law_20 : List UInt8 := dkwL_law_20 ++ dktL_law_21
def dkwL_law_19 : List UInt8 := [44, 42, 29, 4, 96, 46, 42, 29, 5, 96, 46, 182, 0, 67, 159, 2, 215, 3, 172, 43, 42, 29, 4, 96]
abbrev dktL_law_19 : List UInt8 := dkwL_law_19 ++ dktL_law_20
def dkwL_law_18 : List UInt8 := [96, 46, 182, 0, 63, 159, 2, 248, 3, 172, 43, 42, 29, 4, 96, 46, 42, 29, 5, 96, 46, 182, 0, 64]
abbrev dktL_law_18 : List UInt8 := dkwL_law_18 ++ dktL_law_19
def dkwL_law_17 : List UInt8 := [172, 43, 42, 29, 4, 96, 46, 42, 29, 5, 96, 46, 182, 0, 60, 44, 42, 29, 4, 96, 46, 42, 29, 5]
abbrev dktL_law_17 : List UInt8 := dkwL_law_17 ++ dktL_law_18
def dkwL_law_16 : List UInt8 := [3, 172, 43, 42, 29, 4, 96, 46, 182, 0, 56, 44, 42, 29, 4, 96, 46, 182, 0, 59, 159, 3, 25, 3]
abbrev dktL_law_16 : List UInt8 := dkwL_law_16 ++ dktL_law_17
def dkwL_law_15 : List UInt8 := [29, 5, 96, 46, 182, 0, 52, 44, 42, 29, 4, 96, 46, 42, 29, 5, 96, 46, 182, 0, 55, 159, 3, 48]
abbrev dktL_law_15 : List UInt8 := dkwL_law_15 ++ dktL_law_16
def dkwL_law_14 : List UInt8 := [182, 0, 48, 44, 42, 29, 4, 96, 46, 182, 0, 51, 159, 3, 81, 3, 172, 43, 42, 29, 4, 96, 46, 42]
abbrev dktL_law_14 : List UInt8 := dkwL_law_14 ++ dktL_law_15
def dkwL_law_13 : List UInt8 := [29, 4, 96, 46, 42, 29, 5, 96, 46, 182, 0, 47, 159, 3, 104, 3, 172, 43, 42, 29, 4, 96, 46]
abbrev dktL_law_13 : List UInt8 := dkwL_law_13 ++ dktL_law_14
def dkwL_law_12 : List UInt8 := [182, 0, 43, 159, 3, 137, 3, 172, 43, 42, 29, 4, 96, 46, 42, 29, 5, 96, 46, 182, 0, 44, 44, 42]
abbrev dktL_law_12 : List UInt8 := dkwL_law_12 ++ dktL_law_13
def dkwL_law_11 : List UInt8 := [4, 96, 46, 42, 29, 5, 96, 46, 182, 0, 40, 44, 42, 29, 4, 96, 46, 42, 29, 5, 96, 46]
abbrev dktL_law_11 : List UInt8 := dkwL_law_11 ++ dktL_law_12
def dkwL_law_10 : List UInt8 := [4, 96, 46, 42, 29, 5, 96, 46, 42, 29, 6, 96, 46, 182, 0, 39, 159, 3, 170, 3, 172, 43, 42, 29]
abbrev dktL_law_10 : List UInt8 := dkwL_law_10 ++ dktL_law_11
def dkwL_law_9 : List UInt8 := [3, 172, 43, 42, 29, 4, 96, 46, 42, 29, 5, 96, 46, 42, 29, 6, 96, 46, 182, 0, 35, 44, 42, 29]
abbrev dktL_law_9 : List UInt8 := dkwL_law_9 ++ dktL_law_10
def dkwL_law_8 : List UInt8 := [29, 5, 96, 46, 182, 0, 31, 44, 42, 29, 4, 96, 46, 42, 29, 5, 96, 46, 182, 0, 34, 159, 3, 213]
abbrev dktL_law_8 : List UInt8 := dkwL_law_8 ++ dktL_law_9
def dkwL_law_7 : List UInt8 := [29, 4, 96, 46, 42, 29, 5, 96, 46, 182, 0, 30, 159, 3, 246, 3, 172, 43, 42, 29, 4, 96, 46, 42]
abbrev dktL_law_7 : List UInt8 := dkwL_law_7 ++ dktL_law_8
def dkwL_law_6 : List UInt8 := [182, 0, 26, 159, 4, 23, 3, 172, 43, 42, 29, 4, 96, 46, 42, 29, 5, 96, 46, 182, 0, 27, 44, 42]
abbrev dktL_law_6 : List UInt8 := dkwL_law_6 ++ dktL_law_7
def dkwL_law_5 : List UInt8 := [182, 0, 22, 159, 4, 46, 3, 172, 43, 42, 29, 4, 96, 46, 182, 0, 23, 44, 42, 29, 4, 96, 46]
abbrev dktL_law_5 : List UInt8 := dkwL_law_5 ++ dktL_law_6
def dkwL_law_4 : List UInt8 := [46, 182, 0, 17, 159, 4, 69, 3, 172, 43, 42, 29, 4, 96, 46, 182, 0, 18, 44, 42, 29, 4, 96, 46]
abbrev dktL_law_4 : List UInt8 := dkwL_law_4 ++ dktL_law_5
def dkwL_law_3 : List UInt8 := [43, 42, 29, 4, 96, 46, 42, 29, 5, 96, 46, 182, 0, 13, 44, 42, 29, 4, 96, 46, 42, 29, 5, 96]
abbrev dktL_law_3 : List UInt8 := dkwL_law_3 ++ dktL_law_4
def dkwL_law_2 : List UInt8 := [170, 0, 0, 0, 0, 5, 0, 0, 0, 0, 0, 0, 0, 0, 35, 0, 0, 0, 159, 0, 0, 0, 192, 0, 0, 0, 215, 0, 0, 0, 238, 0, 0, 1, 15, 0, 0, 1, 48, 0, 0, 1, 91, 0, 0, 1, 124, 0, 0, 1, 157, 0, 0, 1, 180, 0, 0, 1, 213, 0, 0, 1, 236, 0, 0, 2, 13, 0, 0, 2, 46, 0, 0, 2, 69, 0, 0, 2, 92, 0, 0, 2, 125, 0, 0, 2, 158, 0, 0, 2, 181, 0, 0, 2, 214, 0, 0, 3, 2, 0, 0, 3, 45, 0, 0, 3, 78, 0, 0, 3, 101, 0, 0, 3, 134, 0, 0, 3, 157, 0, 0, 3, 180, 0, 0, 3, 193, 0, 0, 3, 227, 0, 0, 4, 14, 0, 0, 4, 37, 0, 0, 4, 90, 0, 0, 4, 133, 0, 0, 4, 196, 0, 0, 4, 219, 0, 0, 4, 242]
abbrev dktL_law_2 : List UInt8 := dkwL_law_2 ++ dktL_law_3
def dkwL_law_1 : List UInt8 := [163, 5, 15, 42, 29, 46, 16, 63, 126]
abbrev dktL_law_1 : List UInt8 := dkwL_law_1 ++ dktL_law_2
def dkwL_law_0 : List UInt8 := [187, 0, 7, 89, 183, 0, 9, 76, 187, 0, 10, 89, 183, 0, 12, 77, 3, 62, 29, 42, 190, 16, 6, 100]
abbrev dktL_law_0 : List UInt8 := dkwL_law_0 ++ dktL_law_1
theorem dksL_law_0 : cL_law.data.toList.drop 0 = dktL_law_0 := by decide +kernel
theorem dksL_law_1 : cL_law.data.toList.drop 24 = dktL_law_1 := dk_seg dksL_law_0 24 rfl rfl
theorem dksL_law_2 : cL_law.data.toList.drop 33 = dktL_law_2 := dk_seg dksL_law_1 9 rfl rfl
theorem dksL_law_3 : cL_law.data.toList.drop 192 = dktL_law_3 := dk_seg dksL_law_2 159 rfl rfl
theorem dksL_law_4 : cL_law.data.toList.drop 216 = dktL_law_4 := dk_seg dksL_law_3 24 rfl rfl
theorem dksL_law_5 : cL_law.data.toList.drop 240 = dktL_law_5 := dk_seg dksL_law_4 24 rfl rfl
theorem dksL_law_6 : cL_law.data.toList.drop 263 = dktL_law_6 := dk_seg dksL_law_5 23 rfl rfl
theorem dksL_law_7 : cL_law.data.toList.drop 287 = dktL_law_7 := dk_seg dksL_law_6 24 rfl rfl
theorem dksL_law_8 : cL_law.data.toList.drop 311 = dktL_law_8 := dk_seg dksL_law_7 24 rfl rfl
theorem dksL_law_9 : cL_law.data.toList.drop 335 = dktL_law_9 := dk_seg dksL_law_8 24 rfl rfl
theorem dksL_law_10 : cL_law.data.toList.drop 359 = dktL_law_10 := dk_seg dksL_law_9 24 rfl rfl
theorem dksL_law_11 : cL_law.data.toList.drop 383 = dktL_law_11 := dk_seg dksL_law_10 24 rfl rfl
theorem dksL_law_12 : cL_law.data.toList.drop 405 = dktL_law_12 := dk_seg dksL_law_11 22 rfl rfl
theorem dksL_law_13 : cL_law.data.toList.drop 429 = dktL_law_13 := dk_seg dksL_law_12 24 rfl rfl
theorem dksL_law_14 : cL_law.data.toList.drop 452 = dktL_law_14 := dk_seg dksL_law_13 23 rfl rfl
theorem dksL_law_15 : cL_law.data.toList.drop 476 = dktL_law_15 := dk_seg dksL_law_14 24 rfl rfl
theorem dksL_law_16 : cL_law.data.toList.drop 500 = dktL_law_16 := dk_seg dksL_law_15 24 rfl rfl
theorem dksL_law_17 : cL_law.data.toList.drop 524 = dktL_law_17 := dk_seg dksL_law_16 24 rfl rfl
theorem dksL_law_18 : cL_law.data.toList.drop 548 = dktL_law_18 := dk_seg dksL_law_17 24 rfl rfl
theorem dksL_law_19 : cL_law.data.toList.drop 572 = dktL_law_19 := dk_seg dksL_law_18 24 rfl rfl
theorem dksL_law_20 : cL_law.data.toList.drop 596 = dktL_law_20 := dk_seg dksL_law_19 24 rfl rfl
theorem dksL_law_21 : cL_law.data.toList.drop 620 = dktL_law_21 := dk_seg dksL_law_20 24 rfl rfl
theorem dksL_law_22 : cL_law.data.toList.drop 644 = dktL_law_22 := dk_seg dksL_law_21 24 rfl rfl
theorem dksL_law_23 : cL_law.data.toList.drop 668 = dktL_law_23 := dk_seg dksL_law_22 24 rfl rfl
theorem dksL_law_24 : cL_law.data.toList.drop 692 = dktL_law_24 := dk_seg dksL_law_23 24 rfl rfl
theorem dksL_law_25 : cL_law.data.toList.drop 716 = dktL_law_25 := dk_seg dksL_law_24 24 rfl rfl
theorem dksL_law_26 : cL_law.data.toList.drop 740 = dktL_law_26 := dk_seg dksL_law_25 24 rfl rfl
theorem dksL_law_27 : cL_law.data.toList.drop 764 = dktL_law_27 := dk_seg dksL_law_26 24 rfl rfl
theorem dksL_law_28 : cL_law.data.toList.drop 788 = dktL_law_28 := dk_seg dksL_law_27 24 rfl rfl
theorem dksL_law_29 : cL_law.data.toList.drop 812 = dktL_law_29 := dk_seg dksL_law_28 24 rfl rfl
theorem dksL_law_30 : cL_law.data.toList.drop 836 = dktL_law_30 := dk_seg dksL_law_29 24 rfl rfl
theorem dksL_law_31 : cL_law.data.toList.drop 860 = dktL_law_31 := dk_seg dksL_law_30 24 rfl rfl
theorem dksL_law_32 : cL_law.data.toList.drop 884 = dktL_law_32 := dk_seg dksL_law_31 24 rfl rfl
theorem dksL_law_33 : cL_law.data.toList.drop 908 = dktL_law_33 := dk_seg dksL_law_32 24 rfl rfl
theorem dksL_law_34 : cL_law.data.toList.drop 930 = dktL_law_34 := dk_seg dksL_law_33 22 rfl rfl
theorem dksL_law_35 : cL_law.data.toList.drop 953 = dktL_law_35 := dk_seg dksL_law_34 23 rfl rfl
theorem dksL_law_36 : cL_law.data.toList.drop 976 = dktL_law_36 := dk_seg dksL_law_35 23 rfl rfl
theorem dksL_law_37 : cL_law.data.toList.drop 1000 = dktL_law_37 := dk_seg dksL_law_36 24 rfl rfl
theorem dksL_law_38 : cL_law.data.toList.drop 1023 = dktL_law_38 := dk_seg dksL_law_37 23 rfl rfl
theorem dksL_law_39 : cL_law.data.toList.drop 1047 = dktL_law_39 := dk_seg dksL_law_38 24 rfl rfl
theorem dksL_law_40 : cL_law.data.toList.drop 1071 = dktL_law_40 := dk_seg dksL_law_39 24 rfl rfl
theorem dksL_law_41 : cL_law.data.toList.drop 1095 = dktL_law_41 := dk_seg dksL_law_40 24 rfl rfl
theorem dksL_law_42 : cL_law.data.toList.drop 1119 = dktL_law_42 := dk_seg dksL_law_41 24 rfl rfl
theorem dksL_law_43 : cL_law.data.toList.drop 1142 = dktL_law_43 := dk_seg dksL_law_42 23 rfl rfl
theorem dksL_law_44 : cL_law.data.toList.drop 1166 = dktL_law_44 := dk_seg dksL_law_43 24 rfl rfl
theorem dksL_law_45 : cL_law.data.toList.drop 1190 = dktL_law_45 := dk_seg dksL_law_44 24 rfl rfl
theorem dksL_law_46 : cL_law.data.toList.drop 1214 = dktL_law_46 := dk_seg dksL_law_45 24 rfl rfl
theorem dksL_law_47 : cL_law.data.toList.drop 1238 = dktL_law_47 := dk_seg dksL_law_46 24 rfl rfl
theorem dksL_law_48 : cL_law.data.toList.drop 1262 = dktL_law_48 := dk_seg dksL_law_47 24 rfl rfl
theorem dksL_law_49 : cL_law.data.toList.drop 1286 = dktL_law_49 := dk_seg dksL_law_48 24 rfl rfl
theorem dksL_law_50 : cL_law.data.toList.drop 1308 = dktL_law_50 := dk_seg dksL_law_49 22 rfl rfl
theorem dL_law_0 : decode cL_law 0 = .ok (.new 7, 3) := dk_187 0 7 (dk_at dksL_law_0 0 rfl rfl)
theorem dL_law_3 : decode cL_law 3 = .ok (.dup, 1) := dk_89 (dk_at dksL_law_0 3 rfl rfl)
theorem dL_law_4 : decode cL_law 4 = .ok (.invokespecial 9, 3) := dk_183 0 9 (dk_at dksL_law_0 4 rfl rfl)
theorem dL_law_7 : decode cL_law 7 = .ok (.astore_n 1, 1) := dk_76 (dk_at dksL_law_0 7 rfl rfl)
theorem dL_law_8 : decode cL_law 8 = .ok (.new 10, 3) := dk_187 0 10 (dk_at dksL_law_0 8 rfl rfl)
theorem dL_law_11 : decode cL_law 11 = .ok (.dup, 1) := dk_89 (dk_at dksL_law_0 11 rfl rfl)
theorem dL_law_12 : decode cL_law 12 = .ok (.invokespecial 12, 3) := dk_183 0 12 (dk_at dksL_law_0 12 rfl rfl)
theorem dL_law_15 : decode cL_law 15 = .ok (.astore_n 2, 1) := dk_77 (dk_at dksL_law_0 15 rfl rfl)
theorem dL_law_16 : decode cL_law 16 = .ok (.iconst 0, 1) := dk_3 (dk_at dksL_law_0 16 rfl rfl)
theorem dL_law_17 : decode cL_law 17 = .ok (.istore_n 3, 1) := dk_62 (dk_at dksL_law_0 17 rfl rfl)
theorem dL_law_18 : decode cL_law 18 = .ok (.iload_n 3, 1) := dk_29 (dk_at dksL_law_0 18 rfl rfl)
theorem dL_law_19 : decode cL_law 19 = .ok (.aload_n 0, 1) := dk_42 (dk_at dksL_law_0 19 rfl rfl)
theorem dL_law_20 : decode cL_law 20 = .ok (.arraylength, 1) := dk_190 (dk_at dksL_law_0 20 rfl rfl)
theorem dL_law_21 : decode cL_law 21 = .ok (.bipush 6, 2) := dk_16 6 (dk_at dksL_law_0 21 rfl rfl)
theorem dL_law_23 : decode cL_law 23 = .ok (.isub, 1) := dk_100 (dk_at dksL_law_0 23 rfl rfl)
theorem dL_law_24 : decode cL_law 24 = .ok (.if_icmp .gt 1295, 3) := dk_163 5 15 (dk_at dksL_law_1 0 rfl rfl)
theorem dL_law_27 : decode cL_law 27 = .ok (.aload_n 0, 1) := dk_42 (dk_at dksL_law_1 3 rfl rfl)
theorem dL_law_28 : decode cL_law 28 = .ok (.iload_n 3, 1) := dk_29 (dk_at dksL_law_1 4 rfl rfl)
theorem dL_law_29 : decode cL_law 29 = .ok (.iaload, 1) := dk_46 (dk_at dksL_law_1 5 rfl rfl)
theorem dL_law_30 : decode cL_law 30 = .ok (.bipush 63, 2) := dk_16 63 (dk_at dksL_law_1 6 rfl rfl)
theorem dL_law_32 : decode cL_law 32 = .ok (.iand, 1) := dk_126 (dk_at dksL_law_1 8 rfl rfl)
theorem dL_law_33 : decode cL_law 33 = .ok (.tableswitch 1280 0 35 #[159, 192, 215, 238, 271, 304, 347, 380, 413, 436, 469, 492, 525, 558, 581, 604, 637, 670, 693, 726, 770, 813, 846, 869, 902, 925, 948, 961, 995, 1038, 1061, 1114, 1157, 1220, 1243, 1266], 159) := by decide +kernel
theorem dL_law_192 : decode cL_law 192 = .ok (.aload_n 1, 1) := dk_43 (dk_at dksL_law_3 0 rfl rfl)
theorem dL_law_193 : decode cL_law 193 = .ok (.aload_n 0, 1) := dk_42 (dk_at dksL_law_3 1 rfl rfl)
theorem dL_law_194 : decode cL_law 194 = .ok (.iload_n 3, 1) := dk_29 (dk_at dksL_law_3 2 rfl rfl)
theorem dL_law_195 : decode cL_law 195 = .ok (.iconst 1, 1) := dk_4 (dk_at dksL_law_3 3 rfl rfl)
theorem dL_law_196 : decode cL_law 196 = .ok (.iadd, 1) := dk_96 (dk_at dksL_law_3 4 rfl rfl)
theorem dL_law_197 : decode cL_law 197 = .ok (.iaload, 1) := dk_46 (dk_at dksL_law_3 5 rfl rfl)
theorem dL_law_198 : decode cL_law 198 = .ok (.aload_n 0, 1) := dk_42 (dk_at dksL_law_3 6 rfl rfl)
theorem dL_law_199 : decode cL_law 199 = .ok (.iload_n 3, 1) := dk_29 (dk_at dksL_law_3 7 rfl rfl)
theorem dL_law_200 : decode cL_law 200 = .ok (.iconst 2, 1) := dk_5 (dk_at dksL_law_3 8 rfl rfl)
theorem dL_law_201 : decode cL_law 201 = .ok (.iadd, 1) := dk_96 (dk_at dksL_law_3 9 rfl rfl)
theorem dL_law_202 : decode cL_law 202 = .ok (.iaload, 1) := dk_46 (dk_at dksL_law_3 10 rfl rfl)
theorem dL_law_203 : decode cL_law 203 = .ok (.invokevirtual 13, 3) := dk_182 0 13 (dk_at dksL_law_3 11 rfl rfl)
theorem dL_law_206 : decode cL_law 206 = .ok (.aload_n 2, 1) := dk_44 (dk_at dksL_law_3 14 rfl rfl)
theorem dL_law_207 : decode cL_law 207 = .ok (.aload_n 0, 1) := dk_42 (dk_at dksL_law_3 15 rfl rfl)
theorem dL_law_208 : decode cL_law 208 = .ok (.iload_n 3, 1) := dk_29 (dk_at dksL_law_3 16 rfl rfl)
theorem dL_law_209 : decode cL_law 209 = .ok (.iconst 1, 1) := dk_4 (dk_at dksL_law_3 17 rfl rfl)
theorem dL_law_210 : decode cL_law 210 = .ok (.iadd, 1) := dk_96 (dk_at dksL_law_3 18 rfl rfl)
theorem dL_law_211 : decode cL_law 211 = .ok (.iaload, 1) := dk_46 (dk_at dksL_law_3 19 rfl rfl)
theorem dL_law_212 : decode cL_law 212 = .ok (.aload_n 0, 1) := dk_42 (dk_at dksL_law_3 20 rfl rfl)
theorem dL_law_213 : decode cL_law 213 = .ok (.iload_n 3, 1) := dk_29 (dk_at dksL_law_3 21 rfl rfl)
theorem dL_law_214 : decode cL_law 214 = .ok (.iconst 2, 1) := dk_5 (dk_at dksL_law_3 22 rfl rfl)
theorem dL_law_215 : decode cL_law 215 = .ok (.iadd, 1) := dk_96 (dk_at dksL_law_3 23 rfl rfl)
theorem dL_law_216 : decode cL_law 216 = .ok (.iaload, 1) := dk_46 (dk_at dksL_law_4 0 rfl rfl)
theorem dL_law_217 : decode cL_law 217 = .ok (.invokevirtual 17, 3) := dk_182 0 17 (dk_at dksL_law_4 1 rfl rfl)
theorem dL_law_220 : decode cL_law 220 = .ok (.if_icmp .eq 1093, 3) := dk_159 4 69 (dk_at dksL_law_4 4 rfl rfl)
theorem dL_law_223 : decode cL_law 223 = .ok (.iconst 0, 1) := dk_3 (dk_at dksL_law_4 7 rfl rfl)
theorem dL_law_224 : decode cL_law 224 = .ok (.ireturn, 1) := dk_172 (dk_at dksL_law_4 8 rfl rfl)
theorem dL_law_225 : decode cL_law 225 = .ok (.aload_n 1, 1) := dk_43 (dk_at dksL_law_4 9 rfl rfl)
theorem dL_law_226 : decode cL_law 226 = .ok (.aload_n 0, 1) := dk_42 (dk_at dksL_law_4 10 rfl rfl)
theorem dL_law_227 : decode cL_law 227 = .ok (.iload_n 3, 1) := dk_29 (dk_at dksL_law_4 11 rfl rfl)
theorem dL_law_228 : decode cL_law 228 = .ok (.iconst 1, 1) := dk_4 (dk_at dksL_law_4 12 rfl rfl)
theorem dL_law_229 : decode cL_law 229 = .ok (.iadd, 1) := dk_96 (dk_at dksL_law_4 13 rfl rfl)
theorem dL_law_230 : decode cL_law 230 = .ok (.iaload, 1) := dk_46 (dk_at dksL_law_4 14 rfl rfl)
theorem dL_law_231 : decode cL_law 231 = .ok (.invokevirtual 18, 3) := dk_182 0 18 (dk_at dksL_law_4 15 rfl rfl)
theorem dL_law_234 : decode cL_law 234 = .ok (.aload_n 2, 1) := dk_44 (dk_at dksL_law_4 18 rfl rfl)
theorem dL_law_235 : decode cL_law 235 = .ok (.aload_n 0, 1) := dk_42 (dk_at dksL_law_4 19 rfl rfl)
theorem dL_law_236 : decode cL_law 236 = .ok (.iload_n 3, 1) := dk_29 (dk_at dksL_law_4 20 rfl rfl)
theorem dL_law_237 : decode cL_law 237 = .ok (.iconst 1, 1) := dk_4 (dk_at dksL_law_4 21 rfl rfl)
theorem dL_law_238 : decode cL_law 238 = .ok (.iadd, 1) := dk_96 (dk_at dksL_law_4 22 rfl rfl)
theorem dL_law_239 : decode cL_law 239 = .ok (.iaload, 1) := dk_46 (dk_at dksL_law_4 23 rfl rfl)
theorem dL_law_240 : decode cL_law 240 = .ok (.invokevirtual 22, 3) := dk_182 0 22 (dk_at dksL_law_5 0 rfl rfl)
theorem dL_law_243 : decode cL_law 243 = .ok (.if_icmp .eq 1070, 3) := dk_159 4 46 (dk_at dksL_law_5 3 rfl rfl)
theorem dL_law_246 : decode cL_law 246 = .ok (.iconst 0, 1) := dk_3 (dk_at dksL_law_5 6 rfl rfl)
theorem dL_law_247 : decode cL_law 247 = .ok (.ireturn, 1) := dk_172 (dk_at dksL_law_5 7 rfl rfl)
theorem dL_law_248 : decode cL_law 248 = .ok (.aload_n 1, 1) := dk_43 (dk_at dksL_law_5 8 rfl rfl)
theorem dL_law_249 : decode cL_law 249 = .ok (.aload_n 0, 1) := dk_42 (dk_at dksL_law_5 9 rfl rfl)
theorem dL_law_250 : decode cL_law 250 = .ok (.iload_n 3, 1) := dk_29 (dk_at dksL_law_5 10 rfl rfl)
theorem dL_law_251 : decode cL_law 251 = .ok (.iconst 1, 1) := dk_4 (dk_at dksL_law_5 11 rfl rfl)
theorem dL_law_252 : decode cL_law 252 = .ok (.iadd, 1) := dk_96 (dk_at dksL_law_5 12 rfl rfl)
theorem dL_law_253 : decode cL_law 253 = .ok (.iaload, 1) := dk_46 (dk_at dksL_law_5 13 rfl rfl)
theorem dL_law_254 : decode cL_law 254 = .ok (.invokevirtual 23, 3) := dk_182 0 23 (dk_at dksL_law_5 14 rfl rfl)
theorem dL_law_257 : decode cL_law 257 = .ok (.aload_n 2, 1) := dk_44 (dk_at dksL_law_5 17 rfl rfl)
theorem dL_law_258 : decode cL_law 258 = .ok (.aload_n 0, 1) := dk_42 (dk_at dksL_law_5 18 rfl rfl)
theorem dL_law_259 : decode cL_law 259 = .ok (.iload_n 3, 1) := dk_29 (dk_at dksL_law_5 19 rfl rfl)
theorem dL_law_260 : decode cL_law 260 = .ok (.iconst 1, 1) := dk_4 (dk_at dksL_law_5 20 rfl rfl)
theorem dL_law_261 : decode cL_law 261 = .ok (.iadd, 1) := dk_96 (dk_at dksL_law_5 21 rfl rfl)
theorem dL_law_262 : decode cL_law 262 = .ok (.iaload, 1) := dk_46 (dk_at dksL_law_5 22 rfl rfl)
theorem dL_law_263 : decode cL_law 263 = .ok (.invokevirtual 26, 3) := dk_182 0 26 (dk_at dksL_law_6 0 rfl rfl)
theorem dL_law_266 : decode cL_law 266 = .ok (.if_icmp .eq 1047, 3) := dk_159 4 23 (dk_at dksL_law_6 3 rfl rfl)
theorem dL_law_269 : decode cL_law 269 = .ok (.iconst 0, 1) := dk_3 (dk_at dksL_law_6 6 rfl rfl)
theorem dL_law_270 : decode cL_law 270 = .ok (.ireturn, 1) := dk_172 (dk_at dksL_law_6 7 rfl rfl)
theorem dL_law_271 : decode cL_law 271 = .ok (.aload_n 1, 1) := dk_43 (dk_at dksL_law_6 8 rfl rfl)
theorem dL_law_272 : decode cL_law 272 = .ok (.aload_n 0, 1) := dk_42 (dk_at dksL_law_6 9 rfl rfl)
theorem dL_law_273 : decode cL_law 273 = .ok (.iload_n 3, 1) := dk_29 (dk_at dksL_law_6 10 rfl rfl)
theorem dL_law_274 : decode cL_law 274 = .ok (.iconst 1, 1) := dk_4 (dk_at dksL_law_6 11 rfl rfl)
theorem dL_law_275 : decode cL_law 275 = .ok (.iadd, 1) := dk_96 (dk_at dksL_law_6 12 rfl rfl)
theorem dL_law_276 : decode cL_law 276 = .ok (.iaload, 1) := dk_46 (dk_at dksL_law_6 13 rfl rfl)
theorem dL_law_277 : decode cL_law 277 = .ok (.aload_n 0, 1) := dk_42 (dk_at dksL_law_6 14 rfl rfl)
theorem dL_law_278 : decode cL_law 278 = .ok (.iload_n 3, 1) := dk_29 (dk_at dksL_law_6 15 rfl rfl)
theorem dL_law_279 : decode cL_law 279 = .ok (.iconst 2, 1) := dk_5 (dk_at dksL_law_6 16 rfl rfl)
theorem dL_law_280 : decode cL_law 280 = .ok (.iadd, 1) := dk_96 (dk_at dksL_law_6 17 rfl rfl)
theorem dL_law_281 : decode cL_law 281 = .ok (.iaload, 1) := dk_46 (dk_at dksL_law_6 18 rfl rfl)
theorem dL_law_282 : decode cL_law 282 = .ok (.invokevirtual 27, 3) := dk_182 0 27 (dk_at dksL_law_6 19 rfl rfl)
theorem dL_law_285 : decode cL_law 285 = .ok (.aload_n 2, 1) := dk_44 (dk_at dksL_law_6 22 rfl rfl)
theorem dL_law_286 : decode cL_law 286 = .ok (.aload_n 0, 1) := dk_42 (dk_at dksL_law_6 23 rfl rfl)
theorem dL_law_287 : decode cL_law 287 = .ok (.iload_n 3, 1) := dk_29 (dk_at dksL_law_7 0 rfl rfl)
theorem dL_law_288 : decode cL_law 288 = .ok (.iconst 1, 1) := dk_4 (dk_at dksL_law_7 1 rfl rfl)
theorem dL_law_289 : decode cL_law 289 = .ok (.iadd, 1) := dk_96 (dk_at dksL_law_7 2 rfl rfl)
theorem dL_law_290 : decode cL_law 290 = .ok (.iaload, 1) := dk_46 (dk_at dksL_law_7 3 rfl rfl)
theorem dL_law_291 : decode cL_law 291 = .ok (.aload_n 0, 1) := dk_42 (dk_at dksL_law_7 4 rfl rfl)
theorem dL_law_292 : decode cL_law 292 = .ok (.iload_n 3, 1) := dk_29 (dk_at dksL_law_7 5 rfl rfl)
theorem dL_law_293 : decode cL_law 293 = .ok (.iconst 2, 1) := dk_5 (dk_at dksL_law_7 6 rfl rfl)
theorem dL_law_294 : decode cL_law 294 = .ok (.iadd, 1) := dk_96 (dk_at dksL_law_7 7 rfl rfl)
theorem dL_law_295 : decode cL_law 295 = .ok (.iaload, 1) := dk_46 (dk_at dksL_law_7 8 rfl rfl)
theorem dL_law_296 : decode cL_law 296 = .ok (.invokevirtual 30, 3) := dk_182 0 30 (dk_at dksL_law_7 9 rfl rfl)
theorem dL_law_299 : decode cL_law 299 = .ok (.if_icmp .eq 1014, 3) := dk_159 3 246 (dk_at dksL_law_7 12 rfl rfl)
theorem dL_law_302 : decode cL_law 302 = .ok (.iconst 0, 1) := dk_3 (dk_at dksL_law_7 15 rfl rfl)
theorem dL_law_303 : decode cL_law 303 = .ok (.ireturn, 1) := dk_172 (dk_at dksL_law_7 16 rfl rfl)
theorem dL_law_304 : decode cL_law 304 = .ok (.aload_n 1, 1) := dk_43 (dk_at dksL_law_7 17 rfl rfl)
theorem dL_law_305 : decode cL_law 305 = .ok (.aload_n 0, 1) := dk_42 (dk_at dksL_law_7 18 rfl rfl)
theorem dL_law_306 : decode cL_law 306 = .ok (.iload_n 3, 1) := dk_29 (dk_at dksL_law_7 19 rfl rfl)
theorem dL_law_307 : decode cL_law 307 = .ok (.iconst 1, 1) := dk_4 (dk_at dksL_law_7 20 rfl rfl)
theorem dL_law_308 : decode cL_law 308 = .ok (.iadd, 1) := dk_96 (dk_at dksL_law_7 21 rfl rfl)
theorem dL_law_309 : decode cL_law 309 = .ok (.iaload, 1) := dk_46 (dk_at dksL_law_7 22 rfl rfl)
theorem dL_law_310 : decode cL_law 310 = .ok (.aload_n 0, 1) := dk_42 (dk_at dksL_law_7 23 rfl rfl)
theorem dL_law_311 : decode cL_law 311 = .ok (.iload_n 3, 1) := dk_29 (dk_at dksL_law_8 0 rfl rfl)
theorem dL_law_312 : decode cL_law 312 = .ok (.iconst 2, 1) := dk_5 (dk_at dksL_law_8 1 rfl rfl)
theorem dL_law_313 : decode cL_law 313 = .ok (.iadd, 1) := dk_96 (dk_at dksL_law_8 2 rfl rfl)
theorem dL_law_314 : decode cL_law 314 = .ok (.iaload, 1) := dk_46 (dk_at dksL_law_8 3 rfl rfl)
theorem dL_law_315 : decode cL_law 315 = .ok (.invokevirtual 31, 3) := dk_182 0 31 (dk_at dksL_law_8 4 rfl rfl)
theorem dL_law_318 : decode cL_law 318 = .ok (.aload_n 2, 1) := dk_44 (dk_at dksL_law_8 7 rfl rfl)
theorem dL_law_319 : decode cL_law 319 = .ok (.aload_n 0, 1) := dk_42 (dk_at dksL_law_8 8 rfl rfl)
theorem dL_law_320 : decode cL_law 320 = .ok (.iload_n 3, 1) := dk_29 (dk_at dksL_law_8 9 rfl rfl)
theorem dL_law_321 : decode cL_law 321 = .ok (.iconst 1, 1) := dk_4 (dk_at dksL_law_8 10 rfl rfl)
theorem dL_law_322 : decode cL_law 322 = .ok (.iadd, 1) := dk_96 (dk_at dksL_law_8 11 rfl rfl)
theorem dL_law_323 : decode cL_law 323 = .ok (.iaload, 1) := dk_46 (dk_at dksL_law_8 12 rfl rfl)
theorem dL_law_324 : decode cL_law 324 = .ok (.aload_n 0, 1) := dk_42 (dk_at dksL_law_8 13 rfl rfl)
theorem dL_law_325 : decode cL_law 325 = .ok (.iload_n 3, 1) := dk_29 (dk_at dksL_law_8 14 rfl rfl)
theorem dL_law_326 : decode cL_law 326 = .ok (.iconst 2, 1) := dk_5 (dk_at dksL_law_8 15 rfl rfl)
theorem dL_law_327 : decode cL_law 327 = .ok (.iadd, 1) := dk_96 (dk_at dksL_law_8 16 rfl rfl)
theorem dL_law_328 : decode cL_law 328 = .ok (.iaload, 1) := dk_46 (dk_at dksL_law_8 17 rfl rfl)
theorem dL_law_329 : decode cL_law 329 = .ok (.invokevirtual 34, 3) := dk_182 0 34 (dk_at dksL_law_8 18 rfl rfl)
theorem dL_law_332 : decode cL_law 332 = .ok (.if_icmp .eq 981, 3) := dk_159 3 213 (dk_at dksL_law_8 21 rfl rfl)
theorem dL_law_335 : decode cL_law 335 = .ok (.iconst 0, 1) := dk_3 (dk_at dksL_law_9 0 rfl rfl)
theorem dL_law_336 : decode cL_law 336 = .ok (.ireturn, 1) := dk_172 (dk_at dksL_law_9 1 rfl rfl)
theorem dL_law_337 : decode cL_law 337 = .ok (.aload_n 1, 1) := dk_43 (dk_at dksL_law_9 2 rfl rfl)
theorem dL_law_338 : decode cL_law 338 = .ok (.aload_n 0, 1) := dk_42 (dk_at dksL_law_9 3 rfl rfl)
theorem dL_law_339 : decode cL_law 339 = .ok (.iload_n 3, 1) := dk_29 (dk_at dksL_law_9 4 rfl rfl)
theorem dL_law_340 : decode cL_law 340 = .ok (.iconst 1, 1) := dk_4 (dk_at dksL_law_9 5 rfl rfl)
theorem dL_law_341 : decode cL_law 341 = .ok (.iadd, 1) := dk_96 (dk_at dksL_law_9 6 rfl rfl)
theorem dL_law_342 : decode cL_law 342 = .ok (.iaload, 1) := dk_46 (dk_at dksL_law_9 7 rfl rfl)
theorem dL_law_343 : decode cL_law 343 = .ok (.aload_n 0, 1) := dk_42 (dk_at dksL_law_9 8 rfl rfl)
theorem dL_law_344 : decode cL_law 344 = .ok (.iload_n 3, 1) := dk_29 (dk_at dksL_law_9 9 rfl rfl)
theorem dL_law_345 : decode cL_law 345 = .ok (.iconst 2, 1) := dk_5 (dk_at dksL_law_9 10 rfl rfl)
theorem dL_law_346 : decode cL_law 346 = .ok (.iadd, 1) := dk_96 (dk_at dksL_law_9 11 rfl rfl)
theorem dL_law_347 : decode cL_law 347 = .ok (.iaload, 1) := dk_46 (dk_at dksL_law_9 12 rfl rfl)
theorem dL_law_348 : decode cL_law 348 = .ok (.aload_n 0, 1) := dk_42 (dk_at dksL_law_9 13 rfl rfl)
theorem dL_law_349 : decode cL_law 349 = .ok (.iload_n 3, 1) := dk_29 (dk_at dksL_law_9 14 rfl rfl)
theorem dL_law_350 : decode cL_law 350 = .ok (.iconst 3, 1) := dk_6 (dk_at dksL_law_9 15 rfl rfl)
theorem dL_law_351 : decode cL_law 351 = .ok (.iadd, 1) := dk_96 (dk_at dksL_law_9 16 rfl rfl)
theorem dL_law_352 : decode cL_law 352 = .ok (.iaload, 1) := dk_46 (dk_at dksL_law_9 17 rfl rfl)
theorem dL_law_353 : decode cL_law 353 = .ok (.invokevirtual 35, 3) := dk_182 0 35 (dk_at dksL_law_9 18 rfl rfl)
theorem dL_law_356 : decode cL_law 356 = .ok (.aload_n 2, 1) := dk_44 (dk_at dksL_law_9 21 rfl rfl)
theorem dL_law_357 : decode cL_law 357 = .ok (.aload_n 0, 1) := dk_42 (dk_at dksL_law_9 22 rfl rfl)
theorem dL_law_358 : decode cL_law 358 = .ok (.iload_n 3, 1) := dk_29 (dk_at dksL_law_9 23 rfl rfl)
theorem dL_law_359 : decode cL_law 359 = .ok (.iconst 1, 1) := dk_4 (dk_at dksL_law_10 0 rfl rfl)
theorem dL_law_360 : decode cL_law 360 = .ok (.iadd, 1) := dk_96 (dk_at dksL_law_10 1 rfl rfl)
theorem dL_law_361 : decode cL_law 361 = .ok (.iaload, 1) := dk_46 (dk_at dksL_law_10 2 rfl rfl)
theorem dL_law_362 : decode cL_law 362 = .ok (.aload_n 0, 1) := dk_42 (dk_at dksL_law_10 3 rfl rfl)
theorem dL_law_363 : decode cL_law 363 = .ok (.iload_n 3, 1) := dk_29 (dk_at dksL_law_10 4 rfl rfl)
theorem dL_law_364 : decode cL_law 364 = .ok (.iconst 2, 1) := dk_5 (dk_at dksL_law_10 5 rfl rfl)
theorem dL_law_365 : decode cL_law 365 = .ok (.iadd, 1) := dk_96 (dk_at dksL_law_10 6 rfl rfl)
theorem dL_law_366 : decode cL_law 366 = .ok (.iaload, 1) := dk_46 (dk_at dksL_law_10 7 rfl rfl)
theorem dL_law_367 : decode cL_law 367 = .ok (.aload_n 0, 1) := dk_42 (dk_at dksL_law_10 8 rfl rfl)
theorem dL_law_368 : decode cL_law 368 = .ok (.iload_n 3, 1) := dk_29 (dk_at dksL_law_10 9 rfl rfl)
theorem dL_law_369 : decode cL_law 369 = .ok (.iconst 3, 1) := dk_6 (dk_at dksL_law_10 10 rfl rfl)
theorem dL_law_370 : decode cL_law 370 = .ok (.iadd, 1) := dk_96 (dk_at dksL_law_10 11 rfl rfl)
theorem dL_law_371 : decode cL_law 371 = .ok (.iaload, 1) := dk_46 (dk_at dksL_law_10 12 rfl rfl)
theorem dL_law_372 : decode cL_law 372 = .ok (.invokevirtual 39, 3) := dk_182 0 39 (dk_at dksL_law_10 13 rfl rfl)
theorem dL_law_375 : decode cL_law 375 = .ok (.if_icmp .eq 938, 3) := dk_159 3 170 (dk_at dksL_law_10 16 rfl rfl)
theorem dL_law_378 : decode cL_law 378 = .ok (.iconst 0, 1) := dk_3 (dk_at dksL_law_10 19 rfl rfl)
theorem dL_law_379 : decode cL_law 379 = .ok (.ireturn, 1) := dk_172 (dk_at dksL_law_10 20 rfl rfl)
theorem dL_law_380 : decode cL_law 380 = .ok (.aload_n 1, 1) := dk_43 (dk_at dksL_law_10 21 rfl rfl)
theorem dL_law_381 : decode cL_law 381 = .ok (.aload_n 0, 1) := dk_42 (dk_at dksL_law_10 22 rfl rfl)
theorem dL_law_382 : decode cL_law 382 = .ok (.iload_n 3, 1) := dk_29 (dk_at dksL_law_10 23 rfl rfl)
theorem dL_law_383 : decode cL_law 383 = .ok (.iconst 1, 1) := dk_4 (dk_at dksL_law_11 0 rfl rfl)
theorem dL_law_384 : decode cL_law 384 = .ok (.iadd, 1) := dk_96 (dk_at dksL_law_11 1 rfl rfl)
theorem dL_law_385 : decode cL_law 385 = .ok (.iaload, 1) := dk_46 (dk_at dksL_law_11 2 rfl rfl)
theorem dL_law_386 : decode cL_law 386 = .ok (.aload_n 0, 1) := dk_42 (dk_at dksL_law_11 3 rfl rfl)
theorem dL_law_387 : decode cL_law 387 = .ok (.iload_n 3, 1) := dk_29 (dk_at dksL_law_11 4 rfl rfl)
theorem dL_law_388 : decode cL_law 388 = .ok (.iconst 2, 1) := dk_5 (dk_at dksL_law_11 5 rfl rfl)
theorem dL_law_389 : decode cL_law 389 = .ok (.iadd, 1) := dk_96 (dk_at dksL_law_11 6 rfl rfl)
theorem dL_law_390 : decode cL_law 390 = .ok (.iaload, 1) := dk_46 (dk_at dksL_law_11 7 rfl rfl)
theorem dL_law_391 : decode cL_law 391 = .ok (.invokevirtual 40, 3) := dk_182 0 40 (dk_at dksL_law_11 8 rfl rfl)
theorem dL_law_394 : decode cL_law 394 = .ok (.aload_n 2, 1) := dk_44 (dk_at dksL_law_11 11 rfl rfl)
theorem dL_law_395 : decode cL_law 395 = .ok (.aload_n 0, 1) := dk_42 (dk_at dksL_law_11 12 rfl rfl)
theorem dL_law_396 : decode cL_law 396 = .ok (.iload_n 3, 1) := dk_29 (dk_at dksL_law_11 13 rfl rfl)
theorem dL_law_397 : decode cL_law 397 = .ok (.iconst 1, 1) := dk_4 (dk_at dksL_law_11 14 rfl rfl)
theorem dL_law_398 : decode cL_law 398 = .ok (.iadd, 1) := dk_96 (dk_at dksL_law_11 15 rfl rfl)
theorem dL_law_399 : decode cL_law 399 = .ok (.iaload, 1) := dk_46 (dk_at dksL_law_11 16 rfl rfl)
theorem dL_law_400 : decode cL_law 400 = .ok (.aload_n 0, 1) := dk_42 (dk_at dksL_law_11 17 rfl rfl)
theorem dL_law_401 : decode cL_law 401 = .ok (.iload_n 3, 1) := dk_29 (dk_at dksL_law_11 18 rfl rfl)
theorem dL_law_402 : decode cL_law 402 = .ok (.iconst 2, 1) := dk_5 (dk_at dksL_law_11 19 rfl rfl)
theorem dL_law_403 : decode cL_law 403 = .ok (.iadd, 1) := dk_96 (dk_at dksL_law_11 20 rfl rfl)
theorem dL_law_404 : decode cL_law 404 = .ok (.iaload, 1) := dk_46 (dk_at dksL_law_11 21 rfl rfl)
theorem dL_law_405 : decode cL_law 405 = .ok (.invokevirtual 43, 3) := dk_182 0 43 (dk_at dksL_law_12 0 rfl rfl)
theorem dL_law_408 : decode cL_law 408 = .ok (.if_icmp .eq 905, 3) := dk_159 3 137 (dk_at dksL_law_12 3 rfl rfl)
theorem dL_law_411 : decode cL_law 411 = .ok (.iconst 0, 1) := dk_3 (dk_at dksL_law_12 6 rfl rfl)
theorem dL_law_412 : decode cL_law 412 = .ok (.ireturn, 1) := dk_172 (dk_at dksL_law_12 7 rfl rfl)
theorem dL_law_413 : decode cL_law 413 = .ok (.aload_n 1, 1) := dk_43 (dk_at dksL_law_12 8 rfl rfl)
theorem dL_law_414 : decode cL_law 414 = .ok (.aload_n 0, 1) := dk_42 (dk_at dksL_law_12 9 rfl rfl)
theorem dL_law_415 : decode cL_law 415 = .ok (.iload_n 3, 1) := dk_29 (dk_at dksL_law_12 10 rfl rfl)
theorem dL_law_416 : decode cL_law 416 = .ok (.iconst 1, 1) := dk_4 (dk_at dksL_law_12 11 rfl rfl)
theorem dL_law_417 : decode cL_law 417 = .ok (.iadd, 1) := dk_96 (dk_at dksL_law_12 12 rfl rfl)
theorem dL_law_418 : decode cL_law 418 = .ok (.iaload, 1) := dk_46 (dk_at dksL_law_12 13 rfl rfl)
theorem dL_law_419 : decode cL_law 419 = .ok (.aload_n 0, 1) := dk_42 (dk_at dksL_law_12 14 rfl rfl)
theorem dL_law_420 : decode cL_law 420 = .ok (.iload_n 3, 1) := dk_29 (dk_at dksL_law_12 15 rfl rfl)
theorem dL_law_421 : decode cL_law 421 = .ok (.iconst 2, 1) := dk_5 (dk_at dksL_law_12 16 rfl rfl)
theorem dL_law_422 : decode cL_law 422 = .ok (.iadd, 1) := dk_96 (dk_at dksL_law_12 17 rfl rfl)
theorem dL_law_423 : decode cL_law 423 = .ok (.iaload, 1) := dk_46 (dk_at dksL_law_12 18 rfl rfl)
theorem dL_law_424 : decode cL_law 424 = .ok (.invokevirtual 44, 3) := dk_182 0 44 (dk_at dksL_law_12 19 rfl rfl)
theorem dL_law_427 : decode cL_law 427 = .ok (.aload_n 2, 1) := dk_44 (dk_at dksL_law_12 22 rfl rfl)
theorem dL_law_428 : decode cL_law 428 = .ok (.aload_n 0, 1) := dk_42 (dk_at dksL_law_12 23 rfl rfl)
theorem dL_law_429 : decode cL_law 429 = .ok (.iload_n 3, 1) := dk_29 (dk_at dksL_law_13 0 rfl rfl)
theorem dL_law_430 : decode cL_law 430 = .ok (.iconst 1, 1) := dk_4 (dk_at dksL_law_13 1 rfl rfl)
theorem dL_law_431 : decode cL_law 431 = .ok (.iadd, 1) := dk_96 (dk_at dksL_law_13 2 rfl rfl)
theorem dL_law_432 : decode cL_law 432 = .ok (.iaload, 1) := dk_46 (dk_at dksL_law_13 3 rfl rfl)
theorem dL_law_433 : decode cL_law 433 = .ok (.aload_n 0, 1) := dk_42 (dk_at dksL_law_13 4 rfl rfl)
theorem dL_law_434 : decode cL_law 434 = .ok (.iload_n 3, 1) := dk_29 (dk_at dksL_law_13 5 rfl rfl)
theorem dL_law_435 : decode cL_law 435 = .ok (.iconst 2, 1) := dk_5 (dk_at dksL_law_13 6 rfl rfl)
theorem dL_law_436 : decode cL_law 436 = .ok (.iadd, 1) := dk_96 (dk_at dksL_law_13 7 rfl rfl)
theorem dL_law_437 : decode cL_law 437 = .ok (.iaload, 1) := dk_46 (dk_at dksL_law_13 8 rfl rfl)
theorem dL_law_438 : decode cL_law 438 = .ok (.invokevirtual 47, 3) := dk_182 0 47 (dk_at dksL_law_13 9 rfl rfl)
theorem dL_law_441 : decode cL_law 441 = .ok (.if_icmp .eq 872, 3) := dk_159 3 104 (dk_at dksL_law_13 12 rfl rfl)
theorem dL_law_444 : decode cL_law 444 = .ok (.iconst 0, 1) := dk_3 (dk_at dksL_law_13 15 rfl rfl)
theorem dL_law_445 : decode cL_law 445 = .ok (.ireturn, 1) := dk_172 (dk_at dksL_law_13 16 rfl rfl)
theorem dL_law_446 : decode cL_law 446 = .ok (.aload_n 1, 1) := dk_43 (dk_at dksL_law_13 17 rfl rfl)
theorem dL_law_447 : decode cL_law 447 = .ok (.aload_n 0, 1) := dk_42 (dk_at dksL_law_13 18 rfl rfl)
theorem dL_law_448 : decode cL_law 448 = .ok (.iload_n 3, 1) := dk_29 (dk_at dksL_law_13 19 rfl rfl)
theorem dL_law_449 : decode cL_law 449 = .ok (.iconst 1, 1) := dk_4 (dk_at dksL_law_13 20 rfl rfl)
theorem dL_law_450 : decode cL_law 450 = .ok (.iadd, 1) := dk_96 (dk_at dksL_law_13 21 rfl rfl)
theorem dL_law_451 : decode cL_law 451 = .ok (.iaload, 1) := dk_46 (dk_at dksL_law_13 22 rfl rfl)
theorem dL_law_452 : decode cL_law 452 = .ok (.invokevirtual 48, 3) := dk_182 0 48 (dk_at dksL_law_14 0 rfl rfl)
theorem dL_law_455 : decode cL_law 455 = .ok (.aload_n 2, 1) := dk_44 (dk_at dksL_law_14 3 rfl rfl)
theorem dL_law_456 : decode cL_law 456 = .ok (.aload_n 0, 1) := dk_42 (dk_at dksL_law_14 4 rfl rfl)
theorem dL_law_457 : decode cL_law 457 = .ok (.iload_n 3, 1) := dk_29 (dk_at dksL_law_14 5 rfl rfl)
theorem dL_law_458 : decode cL_law 458 = .ok (.iconst 1, 1) := dk_4 (dk_at dksL_law_14 6 rfl rfl)
theorem dL_law_459 : decode cL_law 459 = .ok (.iadd, 1) := dk_96 (dk_at dksL_law_14 7 rfl rfl)
theorem dL_law_460 : decode cL_law 460 = .ok (.iaload, 1) := dk_46 (dk_at dksL_law_14 8 rfl rfl)
theorem dL_law_461 : decode cL_law 461 = .ok (.invokevirtual 51, 3) := dk_182 0 51 (dk_at dksL_law_14 9 rfl rfl)
theorem dL_law_464 : decode cL_law 464 = .ok (.if_icmp .eq 849, 3) := dk_159 3 81 (dk_at dksL_law_14 12 rfl rfl)
theorem dL_law_467 : decode cL_law 467 = .ok (.iconst 0, 1) := dk_3 (dk_at dksL_law_14 15 rfl rfl)
theorem dL_law_468 : decode cL_law 468 = .ok (.ireturn, 1) := dk_172 (dk_at dksL_law_14 16 rfl rfl)
theorem dL_law_469 : decode cL_law 469 = .ok (.aload_n 1, 1) := dk_43 (dk_at dksL_law_14 17 rfl rfl)
theorem dL_law_470 : decode cL_law 470 = .ok (.aload_n 0, 1) := dk_42 (dk_at dksL_law_14 18 rfl rfl)
theorem dL_law_471 : decode cL_law 471 = .ok (.iload_n 3, 1) := dk_29 (dk_at dksL_law_14 19 rfl rfl)
theorem dL_law_472 : decode cL_law 472 = .ok (.iconst 1, 1) := dk_4 (dk_at dksL_law_14 20 rfl rfl)
theorem dL_law_473 : decode cL_law 473 = .ok (.iadd, 1) := dk_96 (dk_at dksL_law_14 21 rfl rfl)
theorem dL_law_474 : decode cL_law 474 = .ok (.iaload, 1) := dk_46 (dk_at dksL_law_14 22 rfl rfl)
theorem dL_law_475 : decode cL_law 475 = .ok (.aload_n 0, 1) := dk_42 (dk_at dksL_law_14 23 rfl rfl)
theorem dL_law_476 : decode cL_law 476 = .ok (.iload_n 3, 1) := dk_29 (dk_at dksL_law_15 0 rfl rfl)
theorem dL_law_477 : decode cL_law 477 = .ok (.iconst 2, 1) := dk_5 (dk_at dksL_law_15 1 rfl rfl)
theorem dL_law_478 : decode cL_law 478 = .ok (.iadd, 1) := dk_96 (dk_at dksL_law_15 2 rfl rfl)
theorem dL_law_479 : decode cL_law 479 = .ok (.iaload, 1) := dk_46 (dk_at dksL_law_15 3 rfl rfl)
theorem dL_law_480 : decode cL_law 480 = .ok (.invokevirtual 52, 3) := dk_182 0 52 (dk_at dksL_law_15 4 rfl rfl)
theorem dL_law_483 : decode cL_law 483 = .ok (.aload_n 2, 1) := dk_44 (dk_at dksL_law_15 7 rfl rfl)
theorem dL_law_484 : decode cL_law 484 = .ok (.aload_n 0, 1) := dk_42 (dk_at dksL_law_15 8 rfl rfl)
theorem dL_law_485 : decode cL_law 485 = .ok (.iload_n 3, 1) := dk_29 (dk_at dksL_law_15 9 rfl rfl)
theorem dL_law_486 : decode cL_law 486 = .ok (.iconst 1, 1) := dk_4 (dk_at dksL_law_15 10 rfl rfl)
theorem dL_law_487 : decode cL_law 487 = .ok (.iadd, 1) := dk_96 (dk_at dksL_law_15 11 rfl rfl)
theorem dL_law_488 : decode cL_law 488 = .ok (.iaload, 1) := dk_46 (dk_at dksL_law_15 12 rfl rfl)
theorem dL_law_489 : decode cL_law 489 = .ok (.aload_n 0, 1) := dk_42 (dk_at dksL_law_15 13 rfl rfl)
theorem dL_law_490 : decode cL_law 490 = .ok (.iload_n 3, 1) := dk_29 (dk_at dksL_law_15 14 rfl rfl)
theorem dL_law_491 : decode cL_law 491 = .ok (.iconst 2, 1) := dk_5 (dk_at dksL_law_15 15 rfl rfl)
theorem dL_law_492 : decode cL_law 492 = .ok (.iadd, 1) := dk_96 (dk_at dksL_law_15 16 rfl rfl)
theorem dL_law_493 : decode cL_law 493 = .ok (.iaload, 1) := dk_46 (dk_at dksL_law_15 17 rfl rfl)
theorem dL_law_494 : decode cL_law 494 = .ok (.invokevirtual 55, 3) := dk_182 0 55 (dk_at dksL_law_15 18 rfl rfl)
theorem dL_law_497 : decode cL_law 497 = .ok (.if_icmp .eq 816, 3) := dk_159 3 48 (dk_at dksL_law_15 21 rfl rfl)
theorem dL_law_500 : decode cL_law 500 = .ok (.iconst 0, 1) := dk_3 (dk_at dksL_law_16 0 rfl rfl)
theorem dL_law_501 : decode cL_law 501 = .ok (.ireturn, 1) := dk_172 (dk_at dksL_law_16 1 rfl rfl)
theorem dL_law_502 : decode cL_law 502 = .ok (.aload_n 1, 1) := dk_43 (dk_at dksL_law_16 2 rfl rfl)
theorem dL_law_503 : decode cL_law 503 = .ok (.aload_n 0, 1) := dk_42 (dk_at dksL_law_16 3 rfl rfl)
theorem dL_law_504 : decode cL_law 504 = .ok (.iload_n 3, 1) := dk_29 (dk_at dksL_law_16 4 rfl rfl)
theorem dL_law_505 : decode cL_law 505 = .ok (.iconst 1, 1) := dk_4 (dk_at dksL_law_16 5 rfl rfl)
theorem dL_law_506 : decode cL_law 506 = .ok (.iadd, 1) := dk_96 (dk_at dksL_law_16 6 rfl rfl)
theorem dL_law_507 : decode cL_law 507 = .ok (.iaload, 1) := dk_46 (dk_at dksL_law_16 7 rfl rfl)
theorem dL_law_508 : decode cL_law 508 = .ok (.invokevirtual 56, 3) := dk_182 0 56 (dk_at dksL_law_16 8 rfl rfl)
theorem dL_law_511 : decode cL_law 511 = .ok (.aload_n 2, 1) := dk_44 (dk_at dksL_law_16 11 rfl rfl)
theorem dL_law_512 : decode cL_law 512 = .ok (.aload_n 0, 1) := dk_42 (dk_at dksL_law_16 12 rfl rfl)
theorem dL_law_513 : decode cL_law 513 = .ok (.iload_n 3, 1) := dk_29 (dk_at dksL_law_16 13 rfl rfl)
theorem dL_law_514 : decode cL_law 514 = .ok (.iconst 1, 1) := dk_4 (dk_at dksL_law_16 14 rfl rfl)
theorem dL_law_515 : decode cL_law 515 = .ok (.iadd, 1) := dk_96 (dk_at dksL_law_16 15 rfl rfl)
theorem dL_law_516 : decode cL_law 516 = .ok (.iaload, 1) := dk_46 (dk_at dksL_law_16 16 rfl rfl)
theorem dL_law_517 : decode cL_law 517 = .ok (.invokevirtual 59, 3) := dk_182 0 59 (dk_at dksL_law_16 17 rfl rfl)
theorem dL_law_520 : decode cL_law 520 = .ok (.if_icmp .eq 793, 3) := dk_159 3 25 (dk_at dksL_law_16 20 rfl rfl)
theorem dL_law_523 : decode cL_law 523 = .ok (.iconst 0, 1) := dk_3 (dk_at dksL_law_16 23 rfl rfl)
theorem dL_law_524 : decode cL_law 524 = .ok (.ireturn, 1) := dk_172 (dk_at dksL_law_17 0 rfl rfl)
theorem dL_law_525 : decode cL_law 525 = .ok (.aload_n 1, 1) := dk_43 (dk_at dksL_law_17 1 rfl rfl)
theorem dL_law_526 : decode cL_law 526 = .ok (.aload_n 0, 1) := dk_42 (dk_at dksL_law_17 2 rfl rfl)
theorem dL_law_527 : decode cL_law 527 = .ok (.iload_n 3, 1) := dk_29 (dk_at dksL_law_17 3 rfl rfl)
theorem dL_law_528 : decode cL_law 528 = .ok (.iconst 1, 1) := dk_4 (dk_at dksL_law_17 4 rfl rfl)
theorem dL_law_529 : decode cL_law 529 = .ok (.iadd, 1) := dk_96 (dk_at dksL_law_17 5 rfl rfl)
theorem dL_law_530 : decode cL_law 530 = .ok (.iaload, 1) := dk_46 (dk_at dksL_law_17 6 rfl rfl)
theorem dL_law_531 : decode cL_law 531 = .ok (.aload_n 0, 1) := dk_42 (dk_at dksL_law_17 7 rfl rfl)
theorem dL_law_532 : decode cL_law 532 = .ok (.iload_n 3, 1) := dk_29 (dk_at dksL_law_17 8 rfl rfl)
theorem dL_law_533 : decode cL_law 533 = .ok (.iconst 2, 1) := dk_5 (dk_at dksL_law_17 9 rfl rfl)
theorem dL_law_534 : decode cL_law 534 = .ok (.iadd, 1) := dk_96 (dk_at dksL_law_17 10 rfl rfl)
theorem dL_law_535 : decode cL_law 535 = .ok (.iaload, 1) := dk_46 (dk_at dksL_law_17 11 rfl rfl)
theorem dL_law_536 : decode cL_law 536 = .ok (.invokevirtual 60, 3) := dk_182 0 60 (dk_at dksL_law_17 12 rfl rfl)
theorem dL_law_539 : decode cL_law 539 = .ok (.aload_n 2, 1) := dk_44 (dk_at dksL_law_17 15 rfl rfl)
theorem dL_law_540 : decode cL_law 540 = .ok (.aload_n 0, 1) := dk_42 (dk_at dksL_law_17 16 rfl rfl)
theorem dL_law_541 : decode cL_law 541 = .ok (.iload_n 3, 1) := dk_29 (dk_at dksL_law_17 17 rfl rfl)
theorem dL_law_542 : decode cL_law 542 = .ok (.iconst 1, 1) := dk_4 (dk_at dksL_law_17 18 rfl rfl)
theorem dL_law_543 : decode cL_law 543 = .ok (.iadd, 1) := dk_96 (dk_at dksL_law_17 19 rfl rfl)
theorem dL_law_544 : decode cL_law 544 = .ok (.iaload, 1) := dk_46 (dk_at dksL_law_17 20 rfl rfl)
theorem dL_law_545 : decode cL_law 545 = .ok (.aload_n 0, 1) := dk_42 (dk_at dksL_law_17 21 rfl rfl)
theorem dL_law_546 : decode cL_law 546 = .ok (.iload_n 3, 1) := dk_29 (dk_at dksL_law_17 22 rfl rfl)
theorem dL_law_547 : decode cL_law 547 = .ok (.iconst 2, 1) := dk_5 (dk_at dksL_law_17 23 rfl rfl)
theorem dL_law_548 : decode cL_law 548 = .ok (.iadd, 1) := dk_96 (dk_at dksL_law_18 0 rfl rfl)
theorem dL_law_549 : decode cL_law 549 = .ok (.iaload, 1) := dk_46 (dk_at dksL_law_18 1 rfl rfl)
theorem dL_law_550 : decode cL_law 550 = .ok (.invokevirtual 63, 3) := dk_182 0 63 (dk_at dksL_law_18 2 rfl rfl)
theorem dL_law_553 : decode cL_law 553 = .ok (.if_icmp .eq 760, 3) := dk_159 2 248 (dk_at dksL_law_18 5 rfl rfl)
theorem dL_law_556 : decode cL_law 556 = .ok (.iconst 0, 1) := dk_3 (dk_at dksL_law_18 8 rfl rfl)
theorem dL_law_557 : decode cL_law 557 = .ok (.ireturn, 1) := dk_172 (dk_at dksL_law_18 9 rfl rfl)
theorem dL_law_558 : decode cL_law 558 = .ok (.aload_n 1, 1) := dk_43 (dk_at dksL_law_18 10 rfl rfl)
theorem dL_law_559 : decode cL_law 559 = .ok (.aload_n 0, 1) := dk_42 (dk_at dksL_law_18 11 rfl rfl)
theorem dL_law_560 : decode cL_law 560 = .ok (.iload_n 3, 1) := dk_29 (dk_at dksL_law_18 12 rfl rfl)
theorem dL_law_561 : decode cL_law 561 = .ok (.iconst 1, 1) := dk_4 (dk_at dksL_law_18 13 rfl rfl)
theorem dL_law_562 : decode cL_law 562 = .ok (.iadd, 1) := dk_96 (dk_at dksL_law_18 14 rfl rfl)
theorem dL_law_563 : decode cL_law 563 = .ok (.iaload, 1) := dk_46 (dk_at dksL_law_18 15 rfl rfl)
theorem dL_law_564 : decode cL_law 564 = .ok (.aload_n 0, 1) := dk_42 (dk_at dksL_law_18 16 rfl rfl)
theorem dL_law_565 : decode cL_law 565 = .ok (.iload_n 3, 1) := dk_29 (dk_at dksL_law_18 17 rfl rfl)
theorem dL_law_566 : decode cL_law 566 = .ok (.iconst 2, 1) := dk_5 (dk_at dksL_law_18 18 rfl rfl)
theorem dL_law_567 : decode cL_law 567 = .ok (.iadd, 1) := dk_96 (dk_at dksL_law_18 19 rfl rfl)
theorem dL_law_568 : decode cL_law 568 = .ok (.iaload, 1) := dk_46 (dk_at dksL_law_18 20 rfl rfl)
theorem dL_law_569 : decode cL_law 569 = .ok (.invokevirtual 64, 3) := dk_182 0 64 (dk_at dksL_law_18 21 rfl rfl)
theorem dL_law_572 : decode cL_law 572 = .ok (.aload_n 2, 1) := dk_44 (dk_at dksL_law_19 0 rfl rfl)
theorem dL_law_573 : decode cL_law 573 = .ok (.aload_n 0, 1) := dk_42 (dk_at dksL_law_19 1 rfl rfl)
theorem dL_law_574 : decode cL_law 574 = .ok (.iload_n 3, 1) := dk_29 (dk_at dksL_law_19 2 rfl rfl)
theorem dL_law_575 : decode cL_law 575 = .ok (.iconst 1, 1) := dk_4 (dk_at dksL_law_19 3 rfl rfl)
theorem dL_law_576 : decode cL_law 576 = .ok (.iadd, 1) := dk_96 (dk_at dksL_law_19 4 rfl rfl)
theorem dL_law_577 : decode cL_law 577 = .ok (.iaload, 1) := dk_46 (dk_at dksL_law_19 5 rfl rfl)
theorem dL_law_578 : decode cL_law 578 = .ok (.aload_n 0, 1) := dk_42 (dk_at dksL_law_19 6 rfl rfl)
theorem dL_law_579 : decode cL_law 579 = .ok (.iload_n 3, 1) := dk_29 (dk_at dksL_law_19 7 rfl rfl)
theorem dL_law_580 : decode cL_law 580 = .ok (.iconst 2, 1) := dk_5 (dk_at dksL_law_19 8 rfl rfl)
theorem dL_law_581 : decode cL_law 581 = .ok (.iadd, 1) := dk_96 (dk_at dksL_law_19 9 rfl rfl)
theorem dL_law_582 : decode cL_law 582 = .ok (.iaload, 1) := dk_46 (dk_at dksL_law_19 10 rfl rfl)
theorem dL_law_583 : decode cL_law 583 = .ok (.invokevirtual 67, 3) := dk_182 0 67 (dk_at dksL_law_19 11 rfl rfl)
theorem dL_law_586 : decode cL_law 586 = .ok (.if_icmp .eq 727, 3) := dk_159 2 215 (dk_at dksL_law_19 14 rfl rfl)
theorem dL_law_589 : decode cL_law 589 = .ok (.iconst 0, 1) := dk_3 (dk_at dksL_law_19 17 rfl rfl)
theorem dL_law_590 : decode cL_law 590 = .ok (.ireturn, 1) := dk_172 (dk_at dksL_law_19 18 rfl rfl)
theorem dL_law_591 : decode cL_law 591 = .ok (.aload_n 1, 1) := dk_43 (dk_at dksL_law_19 19 rfl rfl)
theorem dL_law_592 : decode cL_law 592 = .ok (.aload_n 0, 1) := dk_42 (dk_at dksL_law_19 20 rfl rfl)
theorem dL_law_593 : decode cL_law 593 = .ok (.iload_n 3, 1) := dk_29 (dk_at dksL_law_19 21 rfl rfl)
theorem dL_law_594 : decode cL_law 594 = .ok (.iconst 1, 1) := dk_4 (dk_at dksL_law_19 22 rfl rfl)
theorem dL_law_595 : decode cL_law 595 = .ok (.iadd, 1) := dk_96 (dk_at dksL_law_19 23 rfl rfl)
theorem dL_law_596 : decode cL_law 596 = .ok (.iaload, 1) := dk_46 (dk_at dksL_law_20 0 rfl rfl)
theorem dL_law_597 : decode cL_law 597 = .ok (.invokevirtual 68, 3) := dk_182 0 68 (dk_at dksL_law_20 1 rfl rfl)
theorem dL_law_600 : decode cL_law 600 = .ok (.aload_n 2, 1) := dk_44 (dk_at dksL_law_20 4 rfl rfl)
theorem dL_law_601 : decode cL_law 601 = .ok (.aload_n 0, 1) := dk_42 (dk_at dksL_law_20 5 rfl rfl)
theorem dL_law_602 : decode cL_law 602 = .ok (.iload_n 3, 1) := dk_29 (dk_at dksL_law_20 6 rfl rfl)
theorem dL_law_603 : decode cL_law 603 = .ok (.iconst 1, 1) := dk_4 (dk_at dksL_law_20 7 rfl rfl)
theorem dL_law_604 : decode cL_law 604 = .ok (.iadd, 1) := dk_96 (dk_at dksL_law_20 8 rfl rfl)
theorem dL_law_605 : decode cL_law 605 = .ok (.iaload, 1) := dk_46 (dk_at dksL_law_20 9 rfl rfl)
theorem dL_law_606 : decode cL_law 606 = .ok (.invokevirtual 71, 3) := dk_182 0 71 (dk_at dksL_law_20 10 rfl rfl)
theorem dL_law_609 : decode cL_law 609 = .ok (.if_icmp .eq 704, 3) := dk_159 2 192 (dk_at dksL_law_20 13 rfl rfl)
theorem dL_law_612 : decode cL_law 612 = .ok (.iconst 0, 1) := dk_3 (dk_at dksL_law_20 16 rfl rfl)
theorem dL_law_613 : decode cL_law 613 = .ok (.ireturn, 1) := dk_172 (dk_at dksL_law_20 17 rfl rfl)
theorem dL_law_614 : decode cL_law 614 = .ok (.aload_n 1, 1) := dk_43 (dk_at dksL_law_20 18 rfl rfl)
theorem dL_law_615 : decode cL_law 615 = .ok (.aload_n 0, 1) := dk_42 (dk_at dksL_law_20 19 rfl rfl)
theorem dL_law_616 : decode cL_law 616 = .ok (.iload_n 3, 1) := dk_29 (dk_at dksL_law_20 20 rfl rfl)
theorem dL_law_617 : decode cL_law 617 = .ok (.iconst 1, 1) := dk_4 (dk_at dksL_law_20 21 rfl rfl)
theorem dL_law_618 : decode cL_law 618 = .ok (.iadd, 1) := dk_96 (dk_at dksL_law_20 22 rfl rfl)
theorem dL_law_619 : decode cL_law 619 = .ok (.iaload, 1) := dk_46 (dk_at dksL_law_20 23 rfl rfl)
theorem dL_law_620 : decode cL_law 620 = .ok (.invokevirtual 72, 3) := dk_182 0 72 (dk_at dksL_law_21 0 rfl rfl)
theorem dL_law_623 : decode cL_law 623 = .ok (.aload_n 2, 1) := dk_44 (dk_at dksL_law_21 3 rfl rfl)
theorem dL_law_624 : decode cL_law 624 = .ok (.aload_n 0, 1) := dk_42 (dk_at dksL_law_21 4 rfl rfl)
theorem dL_law_625 : decode cL_law 625 = .ok (.iload_n 3, 1) := dk_29 (dk_at dksL_law_21 5 rfl rfl)
theorem dL_law_626 : decode cL_law 626 = .ok (.iconst 1, 1) := dk_4 (dk_at dksL_law_21 6 rfl rfl)
theorem dL_law_627 : decode cL_law 627 = .ok (.iadd, 1) := dk_96 (dk_at dksL_law_21 7 rfl rfl)
theorem dL_law_628 : decode cL_law 628 = .ok (.iaload, 1) := dk_46 (dk_at dksL_law_21 8 rfl rfl)
theorem dL_law_629 : decode cL_law 629 = .ok (.invokevirtual 75, 3) := dk_182 0 75 (dk_at dksL_law_21 9 rfl rfl)
theorem dL_law_632 : decode cL_law 632 = .ok (.if_icmp .eq 681, 3) := dk_159 2 169 (dk_at dksL_law_21 12 rfl rfl)
theorem dL_law_635 : decode cL_law 635 = .ok (.iconst 0, 1) := dk_3 (dk_at dksL_law_21 15 rfl rfl)
theorem dL_law_636 : decode cL_law 636 = .ok (.ireturn, 1) := dk_172 (dk_at dksL_law_21 16 rfl rfl)
theorem dL_law_637 : decode cL_law 637 = .ok (.aload_n 1, 1) := dk_43 (dk_at dksL_law_21 17 rfl rfl)
theorem dL_law_638 : decode cL_law 638 = .ok (.aload_n 0, 1) := dk_42 (dk_at dksL_law_21 18 rfl rfl)
theorem dL_law_639 : decode cL_law 639 = .ok (.iload_n 3, 1) := dk_29 (dk_at dksL_law_21 19 rfl rfl)
theorem dL_law_640 : decode cL_law 640 = .ok (.iconst 1, 1) := dk_4 (dk_at dksL_law_21 20 rfl rfl)
theorem dL_law_641 : decode cL_law 641 = .ok (.iadd, 1) := dk_96 (dk_at dksL_law_21 21 rfl rfl)
theorem dL_law_642 : decode cL_law 642 = .ok (.iaload, 1) := dk_46 (dk_at dksL_law_21 22 rfl rfl)
theorem dL_law_643 : decode cL_law 643 = .ok (.aload_n 0, 1) := dk_42 (dk_at dksL_law_21 23 rfl rfl)
theorem dL_law_644 : decode cL_law 644 = .ok (.iload_n 3, 1) := dk_29 (dk_at dksL_law_22 0 rfl rfl)
theorem dL_law_645 : decode cL_law 645 = .ok (.iconst 2, 1) := dk_5 (dk_at dksL_law_22 1 rfl rfl)
theorem dL_law_646 : decode cL_law 646 = .ok (.iadd, 1) := dk_96 (dk_at dksL_law_22 2 rfl rfl)
theorem dL_law_647 : decode cL_law 647 = .ok (.iaload, 1) := dk_46 (dk_at dksL_law_22 3 rfl rfl)
theorem dL_law_648 : decode cL_law 648 = .ok (.invokevirtual 76, 3) := dk_182 0 76 (dk_at dksL_law_22 4 rfl rfl)
theorem dL_law_651 : decode cL_law 651 = .ok (.aload_n 2, 1) := dk_44 (dk_at dksL_law_22 7 rfl rfl)
theorem dL_law_652 : decode cL_law 652 = .ok (.aload_n 0, 1) := dk_42 (dk_at dksL_law_22 8 rfl rfl)
theorem dL_law_653 : decode cL_law 653 = .ok (.iload_n 3, 1) := dk_29 (dk_at dksL_law_22 9 rfl rfl)
theorem dL_law_654 : decode cL_law 654 = .ok (.iconst 1, 1) := dk_4 (dk_at dksL_law_22 10 rfl rfl)
theorem dL_law_655 : decode cL_law 655 = .ok (.iadd, 1) := dk_96 (dk_at dksL_law_22 11 rfl rfl)
theorem dL_law_656 : decode cL_law 656 = .ok (.iaload, 1) := dk_46 (dk_at dksL_law_22 12 rfl rfl)
theorem dL_law_657 : decode cL_law 657 = .ok (.aload_n 0, 1) := dk_42 (dk_at dksL_law_22 13 rfl rfl)
theorem dL_law_658 : decode cL_law 658 = .ok (.iload_n 3, 1) := dk_29 (dk_at dksL_law_22 14 rfl rfl)
theorem dL_law_659 : decode cL_law 659 = .ok (.iconst 2, 1) := dk_5 (dk_at dksL_law_22 15 rfl rfl)
theorem dL_law_660 : decode cL_law 660 = .ok (.iadd, 1) := dk_96 (dk_at dksL_law_22 16 rfl rfl)
theorem dL_law_661 : decode cL_law 661 = .ok (.iaload, 1) := dk_46 (dk_at dksL_law_22 17 rfl rfl)
theorem dL_law_662 : decode cL_law 662 = .ok (.invokevirtual 79, 3) := dk_182 0 79 (dk_at dksL_law_22 18 rfl rfl)
theorem dL_law_665 : decode cL_law 665 = .ok (.if_icmp .eq 648, 3) := dk_159 2 136 (dk_at dksL_law_22 21 rfl rfl)
theorem dL_law_668 : decode cL_law 668 = .ok (.iconst 0, 1) := dk_3 (dk_at dksL_law_23 0 rfl rfl)
theorem dL_law_669 : decode cL_law 669 = .ok (.ireturn, 1) := dk_172 (dk_at dksL_law_23 1 rfl rfl)
theorem dL_law_670 : decode cL_law 670 = .ok (.aload_n 1, 1) := dk_43 (dk_at dksL_law_23 2 rfl rfl)
theorem dL_law_671 : decode cL_law 671 = .ok (.aload_n 0, 1) := dk_42 (dk_at dksL_law_23 3 rfl rfl)
theorem dL_law_672 : decode cL_law 672 = .ok (.iload_n 3, 1) := dk_29 (dk_at dksL_law_23 4 rfl rfl)
theorem dL_law_673 : decode cL_law 673 = .ok (.iconst 1, 1) := dk_4 (dk_at dksL_law_23 5 rfl rfl)
theorem dL_law_674 : decode cL_law 674 = .ok (.iadd, 1) := dk_96 (dk_at dksL_law_23 6 rfl rfl)
theorem dL_law_675 : decode cL_law 675 = .ok (.iaload, 1) := dk_46 (dk_at dksL_law_23 7 rfl rfl)
theorem dL_law_676 : decode cL_law 676 = .ok (.aload_n 0, 1) := dk_42 (dk_at dksL_law_23 8 rfl rfl)
theorem dL_law_677 : decode cL_law 677 = .ok (.iload_n 3, 1) := dk_29 (dk_at dksL_law_23 9 rfl rfl)
theorem dL_law_678 : decode cL_law 678 = .ok (.iconst 2, 1) := dk_5 (dk_at dksL_law_23 10 rfl rfl)
theorem dL_law_679 : decode cL_law 679 = .ok (.iadd, 1) := dk_96 (dk_at dksL_law_23 11 rfl rfl)
theorem dL_law_680 : decode cL_law 680 = .ok (.iaload, 1) := dk_46 (dk_at dksL_law_23 12 rfl rfl)
theorem dL_law_681 : decode cL_law 681 = .ok (.invokevirtual 80, 3) := dk_182 0 80 (dk_at dksL_law_23 13 rfl rfl)
theorem dL_law_684 : decode cL_law 684 = .ok (.aload_n 2, 1) := dk_44 (dk_at dksL_law_23 16 rfl rfl)
theorem dL_law_685 : decode cL_law 685 = .ok (.aload_n 0, 1) := dk_42 (dk_at dksL_law_23 17 rfl rfl)
theorem dL_law_686 : decode cL_law 686 = .ok (.iload_n 3, 1) := dk_29 (dk_at dksL_law_23 18 rfl rfl)
theorem dL_law_687 : decode cL_law 687 = .ok (.iconst 1, 1) := dk_4 (dk_at dksL_law_23 19 rfl rfl)
theorem dL_law_688 : decode cL_law 688 = .ok (.iadd, 1) := dk_96 (dk_at dksL_law_23 20 rfl rfl)
theorem dL_law_689 : decode cL_law 689 = .ok (.iaload, 1) := dk_46 (dk_at dksL_law_23 21 rfl rfl)
theorem dL_law_690 : decode cL_law 690 = .ok (.aload_n 0, 1) := dk_42 (dk_at dksL_law_23 22 rfl rfl)
theorem dL_law_691 : decode cL_law 691 = .ok (.iload_n 3, 1) := dk_29 (dk_at dksL_law_23 23 rfl rfl)
theorem dL_law_692 : decode cL_law 692 = .ok (.iconst 2, 1) := dk_5 (dk_at dksL_law_24 0 rfl rfl)
theorem dL_law_693 : decode cL_law 693 = .ok (.iadd, 1) := dk_96 (dk_at dksL_law_24 1 rfl rfl)
theorem dL_law_694 : decode cL_law 694 = .ok (.iaload, 1) := dk_46 (dk_at dksL_law_24 2 rfl rfl)
theorem dL_law_695 : decode cL_law 695 = .ok (.invokevirtual 83, 3) := dk_182 0 83 (dk_at dksL_law_24 3 rfl rfl)
theorem dL_law_698 : decode cL_law 698 = .ok (.if_icmp .eq 615, 3) := dk_159 2 103 (dk_at dksL_law_24 6 rfl rfl)
theorem dL_law_701 : decode cL_law 701 = .ok (.iconst 0, 1) := dk_3 (dk_at dksL_law_24 9 rfl rfl)
theorem dL_law_702 : decode cL_law 702 = .ok (.ireturn, 1) := dk_172 (dk_at dksL_law_24 10 rfl rfl)
theorem dL_law_703 : decode cL_law 703 = .ok (.aload_n 1, 1) := dk_43 (dk_at dksL_law_24 11 rfl rfl)
theorem dL_law_704 : decode cL_law 704 = .ok (.aload_n 0, 1) := dk_42 (dk_at dksL_law_24 12 rfl rfl)
theorem dL_law_705 : decode cL_law 705 = .ok (.iload_n 3, 1) := dk_29 (dk_at dksL_law_24 13 rfl rfl)
theorem dL_law_706 : decode cL_law 706 = .ok (.iconst 1, 1) := dk_4 (dk_at dksL_law_24 14 rfl rfl)
theorem dL_law_707 : decode cL_law 707 = .ok (.iadd, 1) := dk_96 (dk_at dksL_law_24 15 rfl rfl)
theorem dL_law_708 : decode cL_law 708 = .ok (.iaload, 1) := dk_46 (dk_at dksL_law_24 16 rfl rfl)
theorem dL_law_709 : decode cL_law 709 = .ok (.invokevirtual 84, 3) := dk_182 0 84 (dk_at dksL_law_24 17 rfl rfl)
theorem dL_law_712 : decode cL_law 712 = .ok (.aload_n 2, 1) := dk_44 (dk_at dksL_law_24 20 rfl rfl)
theorem dL_law_713 : decode cL_law 713 = .ok (.aload_n 0, 1) := dk_42 (dk_at dksL_law_24 21 rfl rfl)
theorem dL_law_714 : decode cL_law 714 = .ok (.iload_n 3, 1) := dk_29 (dk_at dksL_law_24 22 rfl rfl)
theorem dL_law_715 : decode cL_law 715 = .ok (.iconst 1, 1) := dk_4 (dk_at dksL_law_24 23 rfl rfl)
theorem dL_law_716 : decode cL_law 716 = .ok (.iadd, 1) := dk_96 (dk_at dksL_law_25 0 rfl rfl)
theorem dL_law_717 : decode cL_law 717 = .ok (.iaload, 1) := dk_46 (dk_at dksL_law_25 1 rfl rfl)
theorem dL_law_718 : decode cL_law 718 = .ok (.invokevirtual 87, 3) := dk_182 0 87 (dk_at dksL_law_25 2 rfl rfl)
theorem dL_law_721 : decode cL_law 721 = .ok (.if_icmp .eq 592, 3) := dk_159 2 80 (dk_at dksL_law_25 5 rfl rfl)
theorem dL_law_724 : decode cL_law 724 = .ok (.iconst 0, 1) := dk_3 (dk_at dksL_law_25 8 rfl rfl)
theorem dL_law_725 : decode cL_law 725 = .ok (.ireturn, 1) := dk_172 (dk_at dksL_law_25 9 rfl rfl)
theorem dL_law_726 : decode cL_law 726 = .ok (.aload_n 1, 1) := dk_43 (dk_at dksL_law_25 10 rfl rfl)
theorem dL_law_727 : decode cL_law 727 = .ok (.aload_n 0, 1) := dk_42 (dk_at dksL_law_25 11 rfl rfl)
theorem dL_law_728 : decode cL_law 728 = .ok (.iload_n 3, 1) := dk_29 (dk_at dksL_law_25 12 rfl rfl)
theorem dL_law_729 : decode cL_law 729 = .ok (.iconst 1, 1) := dk_4 (dk_at dksL_law_25 13 rfl rfl)
theorem dL_law_730 : decode cL_law 730 = .ok (.iadd, 1) := dk_96 (dk_at dksL_law_25 14 rfl rfl)
theorem dL_law_731 : decode cL_law 731 = .ok (.iaload, 1) := dk_46 (dk_at dksL_law_25 15 rfl rfl)
theorem dL_law_732 : decode cL_law 732 = .ok (.aload_n 0, 1) := dk_42 (dk_at dksL_law_25 16 rfl rfl)
theorem dL_law_733 : decode cL_law 733 = .ok (.iload_n 3, 1) := dk_29 (dk_at dksL_law_25 17 rfl rfl)
theorem dL_law_734 : decode cL_law 734 = .ok (.iconst 2, 1) := dk_5 (dk_at dksL_law_25 18 rfl rfl)
theorem dL_law_735 : decode cL_law 735 = .ok (.iadd, 1) := dk_96 (dk_at dksL_law_25 19 rfl rfl)
theorem dL_law_736 : decode cL_law 736 = .ok (.iaload, 1) := dk_46 (dk_at dksL_law_25 20 rfl rfl)
theorem dL_law_737 : decode cL_law 737 = .ok (.invokevirtual 88, 3) := dk_182 0 88 (dk_at dksL_law_25 21 rfl rfl)
theorem dL_law_740 : decode cL_law 740 = .ok (.aload_n 2, 1) := dk_44 (dk_at dksL_law_26 0 rfl rfl)
theorem dL_law_741 : decode cL_law 741 = .ok (.aload_n 0, 1) := dk_42 (dk_at dksL_law_26 1 rfl rfl)
theorem dL_law_742 : decode cL_law 742 = .ok (.iload_n 3, 1) := dk_29 (dk_at dksL_law_26 2 rfl rfl)
theorem dL_law_743 : decode cL_law 743 = .ok (.iconst 1, 1) := dk_4 (dk_at dksL_law_26 3 rfl rfl)
theorem dL_law_744 : decode cL_law 744 = .ok (.iadd, 1) := dk_96 (dk_at dksL_law_26 4 rfl rfl)
theorem dL_law_745 : decode cL_law 745 = .ok (.iaload, 1) := dk_46 (dk_at dksL_law_26 5 rfl rfl)
theorem dL_law_746 : decode cL_law 746 = .ok (.aload_n 0, 1) := dk_42 (dk_at dksL_law_26 6 rfl rfl)
theorem dL_law_747 : decode cL_law 747 = .ok (.iload_n 3, 1) := dk_29 (dk_at dksL_law_26 7 rfl rfl)
theorem dL_law_748 : decode cL_law 748 = .ok (.iconst 2, 1) := dk_5 (dk_at dksL_law_26 8 rfl rfl)
theorem dL_law_749 : decode cL_law 749 = .ok (.iadd, 1) := dk_96 (dk_at dksL_law_26 9 rfl rfl)
theorem dL_law_750 : decode cL_law 750 = .ok (.iaload, 1) := dk_46 (dk_at dksL_law_26 10 rfl rfl)
theorem dL_law_751 : decode cL_law 751 = .ok (.invokevirtual 91, 3) := dk_182 0 91 (dk_at dksL_law_26 11 rfl rfl)
theorem dL_law_754 : decode cL_law 754 = .ok (.if_icmp .eq 559, 3) := dk_159 2 47 (dk_at dksL_law_26 14 rfl rfl)
theorem dL_law_757 : decode cL_law 757 = .ok (.iconst 0, 1) := dk_3 (dk_at dksL_law_26 17 rfl rfl)
theorem dL_law_758 : decode cL_law 758 = .ok (.ireturn, 1) := dk_172 (dk_at dksL_law_26 18 rfl rfl)
theorem dL_law_759 : decode cL_law 759 = .ok (.aload_n 1, 1) := dk_43 (dk_at dksL_law_26 19 rfl rfl)
theorem dL_law_760 : decode cL_law 760 = .ok (.aload_n 0, 1) := dk_42 (dk_at dksL_law_26 20 rfl rfl)
theorem dL_law_761 : decode cL_law 761 = .ok (.iload_n 3, 1) := dk_29 (dk_at dksL_law_26 21 rfl rfl)
theorem dL_law_762 : decode cL_law 762 = .ok (.iconst 1, 1) := dk_4 (dk_at dksL_law_26 22 rfl rfl)
theorem dL_law_763 : decode cL_law 763 = .ok (.iadd, 1) := dk_96 (dk_at dksL_law_26 23 rfl rfl)
theorem dL_law_764 : decode cL_law 764 = .ok (.iaload, 1) := dk_46 (dk_at dksL_law_27 0 rfl rfl)
theorem dL_law_765 : decode cL_law 765 = .ok (.aload_n 0, 1) := dk_42 (dk_at dksL_law_27 1 rfl rfl)
theorem dL_law_766 : decode cL_law 766 = .ok (.iload_n 3, 1) := dk_29 (dk_at dksL_law_27 2 rfl rfl)
theorem dL_law_767 : decode cL_law 767 = .ok (.iconst 2, 1) := dk_5 (dk_at dksL_law_27 3 rfl rfl)
theorem dL_law_768 : decode cL_law 768 = .ok (.iadd, 1) := dk_96 (dk_at dksL_law_27 4 rfl rfl)
theorem dL_law_769 : decode cL_law 769 = .ok (.iaload, 1) := dk_46 (dk_at dksL_law_27 5 rfl rfl)
theorem dL_law_770 : decode cL_law 770 = .ok (.aload_n 0, 1) := dk_42 (dk_at dksL_law_27 6 rfl rfl)
theorem dL_law_771 : decode cL_law 771 = .ok (.iload_n 3, 1) := dk_29 (dk_at dksL_law_27 7 rfl rfl)
theorem dL_law_772 : decode cL_law 772 = .ok (.iconst 3, 1) := dk_6 (dk_at dksL_law_27 8 rfl rfl)
theorem dL_law_773 : decode cL_law 773 = .ok (.iadd, 1) := dk_96 (dk_at dksL_law_27 9 rfl rfl)
theorem dL_law_774 : decode cL_law 774 = .ok (.iaload, 1) := dk_46 (dk_at dksL_law_27 10 rfl rfl)
theorem dL_law_775 : decode cL_law 775 = .ok (.invokevirtual 92, 3) := dk_182 0 92 (dk_at dksL_law_27 11 rfl rfl)
theorem dL_law_778 : decode cL_law 778 = .ok (.aload_n 2, 1) := dk_44 (dk_at dksL_law_27 14 rfl rfl)
theorem dL_law_779 : decode cL_law 779 = .ok (.aload_n 0, 1) := dk_42 (dk_at dksL_law_27 15 rfl rfl)
theorem dL_law_780 : decode cL_law 780 = .ok (.iload_n 3, 1) := dk_29 (dk_at dksL_law_27 16 rfl rfl)
theorem dL_law_781 : decode cL_law 781 = .ok (.iconst 1, 1) := dk_4 (dk_at dksL_law_27 17 rfl rfl)
theorem dL_law_782 : decode cL_law 782 = .ok (.iadd, 1) := dk_96 (dk_at dksL_law_27 18 rfl rfl)
theorem dL_law_783 : decode cL_law 783 = .ok (.iaload, 1) := dk_46 (dk_at dksL_law_27 19 rfl rfl)
theorem dL_law_784 : decode cL_law 784 = .ok (.aload_n 0, 1) := dk_42 (dk_at dksL_law_27 20 rfl rfl)
theorem dL_law_785 : decode cL_law 785 = .ok (.iload_n 3, 1) := dk_29 (dk_at dksL_law_27 21 rfl rfl)
theorem dL_law_786 : decode cL_law 786 = .ok (.iconst 2, 1) := dk_5 (dk_at dksL_law_27 22 rfl rfl)
theorem dL_law_787 : decode cL_law 787 = .ok (.iadd, 1) := dk_96 (dk_at dksL_law_27 23 rfl rfl)
theorem dL_law_788 : decode cL_law 788 = .ok (.iaload, 1) := dk_46 (dk_at dksL_law_28 0 rfl rfl)
theorem dL_law_789 : decode cL_law 789 = .ok (.aload_n 0, 1) := dk_42 (dk_at dksL_law_28 1 rfl rfl)
theorem dL_law_790 : decode cL_law 790 = .ok (.iload_n 3, 1) := dk_29 (dk_at dksL_law_28 2 rfl rfl)
theorem dL_law_791 : decode cL_law 791 = .ok (.iconst 3, 1) := dk_6 (dk_at dksL_law_28 3 rfl rfl)
theorem dL_law_792 : decode cL_law 792 = .ok (.iadd, 1) := dk_96 (dk_at dksL_law_28 4 rfl rfl)
theorem dL_law_793 : decode cL_law 793 = .ok (.iaload, 1) := dk_46 (dk_at dksL_law_28 5 rfl rfl)
theorem dL_law_794 : decode cL_law 794 = .ok (.invokevirtual 96, 3) := dk_182 0 96 (dk_at dksL_law_28 6 rfl rfl)
theorem dL_law_797 : decode cL_law 797 = .ok (.lcmp, 1) := dk_148 (dk_at dksL_law_28 9 rfl rfl)
theorem dL_law_798 : decode cL_law 798 = .ok (.ifCond .eq 515, 3) := dk_153 2 3 (dk_at dksL_law_28 10 rfl rfl)
theorem dL_law_801 : decode cL_law 801 = .ok (.iconst 0, 1) := dk_3 (dk_at dksL_law_28 13 rfl rfl)
theorem dL_law_802 : decode cL_law 802 = .ok (.ireturn, 1) := dk_172 (dk_at dksL_law_28 14 rfl rfl)
theorem dL_law_803 : decode cL_law 803 = .ok (.aload_n 1, 1) := dk_43 (dk_at dksL_law_28 15 rfl rfl)
theorem dL_law_804 : decode cL_law 804 = .ok (.aload_n 0, 1) := dk_42 (dk_at dksL_law_28 16 rfl rfl)
theorem dL_law_805 : decode cL_law 805 = .ok (.iload_n 3, 1) := dk_29 (dk_at dksL_law_28 17 rfl rfl)
theorem dL_law_806 : decode cL_law 806 = .ok (.iconst 1, 1) := dk_4 (dk_at dksL_law_28 18 rfl rfl)
theorem dL_law_807 : decode cL_law 807 = .ok (.iadd, 1) := dk_96 (dk_at dksL_law_28 19 rfl rfl)
theorem dL_law_808 : decode cL_law 808 = .ok (.iaload, 1) := dk_46 (dk_at dksL_law_28 20 rfl rfl)
theorem dL_law_809 : decode cL_law 809 = .ok (.aload_n 0, 1) := dk_42 (dk_at dksL_law_28 21 rfl rfl)
theorem dL_law_810 : decode cL_law 810 = .ok (.iload_n 3, 1) := dk_29 (dk_at dksL_law_28 22 rfl rfl)
theorem dL_law_811 : decode cL_law 811 = .ok (.iconst 2, 1) := dk_5 (dk_at dksL_law_28 23 rfl rfl)
theorem dL_law_812 : decode cL_law 812 = .ok (.iadd, 1) := dk_96 (dk_at dksL_law_29 0 rfl rfl)
theorem dL_law_813 : decode cL_law 813 = .ok (.iaload, 1) := dk_46 (dk_at dksL_law_29 1 rfl rfl)
theorem dL_law_814 : decode cL_law 814 = .ok (.aload_n 0, 1) := dk_42 (dk_at dksL_law_29 2 rfl rfl)
theorem dL_law_815 : decode cL_law 815 = .ok (.iload_n 3, 1) := dk_29 (dk_at dksL_law_29 3 rfl rfl)
theorem dL_law_816 : decode cL_law 816 = .ok (.iconst 3, 1) := dk_6 (dk_at dksL_law_29 4 rfl rfl)
theorem dL_law_817 : decode cL_law 817 = .ok (.iadd, 1) := dk_96 (dk_at dksL_law_29 5 rfl rfl)
theorem dL_law_818 : decode cL_law 818 = .ok (.iaload, 1) := dk_46 (dk_at dksL_law_29 6 rfl rfl)
theorem dL_law_819 : decode cL_law 819 = .ok (.invokevirtual 97, 3) := dk_182 0 97 (dk_at dksL_law_29 7 rfl rfl)
theorem dL_law_822 : decode cL_law 822 = .ok (.aload_n 2, 1) := dk_44 (dk_at dksL_law_29 10 rfl rfl)
theorem dL_law_823 : decode cL_law 823 = .ok (.aload_n 0, 1) := dk_42 (dk_at dksL_law_29 11 rfl rfl)
theorem dL_law_824 : decode cL_law 824 = .ok (.iload_n 3, 1) := dk_29 (dk_at dksL_law_29 12 rfl rfl)
theorem dL_law_825 : decode cL_law 825 = .ok (.iconst 1, 1) := dk_4 (dk_at dksL_law_29 13 rfl rfl)
theorem dL_law_826 : decode cL_law 826 = .ok (.iadd, 1) := dk_96 (dk_at dksL_law_29 14 rfl rfl)
theorem dL_law_827 : decode cL_law 827 = .ok (.iaload, 1) := dk_46 (dk_at dksL_law_29 15 rfl rfl)
theorem dL_law_828 : decode cL_law 828 = .ok (.aload_n 0, 1) := dk_42 (dk_at dksL_law_29 16 rfl rfl)
theorem dL_law_829 : decode cL_law 829 = .ok (.iload_n 3, 1) := dk_29 (dk_at dksL_law_29 17 rfl rfl)
theorem dL_law_830 : decode cL_law 830 = .ok (.iconst 2, 1) := dk_5 (dk_at dksL_law_29 18 rfl rfl)
theorem dL_law_831 : decode cL_law 831 = .ok (.iadd, 1) := dk_96 (dk_at dksL_law_29 19 rfl rfl)
theorem dL_law_832 : decode cL_law 832 = .ok (.iaload, 1) := dk_46 (dk_at dksL_law_29 20 rfl rfl)
theorem dL_law_833 : decode cL_law 833 = .ok (.aload_n 0, 1) := dk_42 (dk_at dksL_law_29 21 rfl rfl)
theorem dL_law_834 : decode cL_law 834 = .ok (.iload_n 3, 1) := dk_29 (dk_at dksL_law_29 22 rfl rfl)
theorem dL_law_835 : decode cL_law 835 = .ok (.iconst 3, 1) := dk_6 (dk_at dksL_law_29 23 rfl rfl)
theorem dL_law_836 : decode cL_law 836 = .ok (.iadd, 1) := dk_96 (dk_at dksL_law_30 0 rfl rfl)
theorem dL_law_837 : decode cL_law 837 = .ok (.iaload, 1) := dk_46 (dk_at dksL_law_30 1 rfl rfl)
theorem dL_law_838 : decode cL_law 838 = .ok (.invokevirtual 100, 3) := dk_182 0 100 (dk_at dksL_law_30 2 rfl rfl)
theorem dL_law_841 : decode cL_law 841 = .ok (.if_icmp .eq 472, 3) := dk_159 1 216 (dk_at dksL_law_30 5 rfl rfl)
theorem dL_law_844 : decode cL_law 844 = .ok (.iconst 0, 1) := dk_3 (dk_at dksL_law_30 8 rfl rfl)
theorem dL_law_845 : decode cL_law 845 = .ok (.ireturn, 1) := dk_172 (dk_at dksL_law_30 9 rfl rfl)
theorem dL_law_846 : decode cL_law 846 = .ok (.aload_n 1, 1) := dk_43 (dk_at dksL_law_30 10 rfl rfl)
theorem dL_law_847 : decode cL_law 847 = .ok (.aload_n 0, 1) := dk_42 (dk_at dksL_law_30 11 rfl rfl)
theorem dL_law_848 : decode cL_law 848 = .ok (.iload_n 3, 1) := dk_29 (dk_at dksL_law_30 12 rfl rfl)
theorem dL_law_849 : decode cL_law 849 = .ok (.iconst 1, 1) := dk_4 (dk_at dksL_law_30 13 rfl rfl)
theorem dL_law_850 : decode cL_law 850 = .ok (.iadd, 1) := dk_96 (dk_at dksL_law_30 14 rfl rfl)
theorem dL_law_851 : decode cL_law 851 = .ok (.iaload, 1) := dk_46 (dk_at dksL_law_30 15 rfl rfl)
theorem dL_law_852 : decode cL_law 852 = .ok (.aload_n 0, 1) := dk_42 (dk_at dksL_law_30 16 rfl rfl)
theorem dL_law_853 : decode cL_law 853 = .ok (.iload_n 3, 1) := dk_29 (dk_at dksL_law_30 17 rfl rfl)
theorem dL_law_854 : decode cL_law 854 = .ok (.iconst 2, 1) := dk_5 (dk_at dksL_law_30 18 rfl rfl)
theorem dL_law_855 : decode cL_law 855 = .ok (.iadd, 1) := dk_96 (dk_at dksL_law_30 19 rfl rfl)
theorem dL_law_856 : decode cL_law 856 = .ok (.iaload, 1) := dk_46 (dk_at dksL_law_30 20 rfl rfl)
theorem dL_law_857 : decode cL_law 857 = .ok (.invokevirtual 101, 3) := dk_182 0 101 (dk_at dksL_law_30 21 rfl rfl)
theorem dL_law_860 : decode cL_law 860 = .ok (.aload_n 2, 1) := dk_44 (dk_at dksL_law_31 0 rfl rfl)
theorem dL_law_861 : decode cL_law 861 = .ok (.aload_n 0, 1) := dk_42 (dk_at dksL_law_31 1 rfl rfl)
theorem dL_law_862 : decode cL_law 862 = .ok (.iload_n 3, 1) := dk_29 (dk_at dksL_law_31 2 rfl rfl)
theorem dL_law_863 : decode cL_law 863 = .ok (.iconst 1, 1) := dk_4 (dk_at dksL_law_31 3 rfl rfl)
theorem dL_law_864 : decode cL_law 864 = .ok (.iadd, 1) := dk_96 (dk_at dksL_law_31 4 rfl rfl)
theorem dL_law_865 : decode cL_law 865 = .ok (.iaload, 1) := dk_46 (dk_at dksL_law_31 5 rfl rfl)
theorem dL_law_866 : decode cL_law 866 = .ok (.aload_n 0, 1) := dk_42 (dk_at dksL_law_31 6 rfl rfl)
theorem dL_law_867 : decode cL_law 867 = .ok (.iload_n 3, 1) := dk_29 (dk_at dksL_law_31 7 rfl rfl)
theorem dL_law_868 : decode cL_law 868 = .ok (.iconst 2, 1) := dk_5 (dk_at dksL_law_31 8 rfl rfl)
theorem dL_law_869 : decode cL_law 869 = .ok (.iadd, 1) := dk_96 (dk_at dksL_law_31 9 rfl rfl)
theorem dL_law_870 : decode cL_law 870 = .ok (.iaload, 1) := dk_46 (dk_at dksL_law_31 10 rfl rfl)
theorem dL_law_871 : decode cL_law 871 = .ok (.invokevirtual 104, 3) := dk_182 0 104 (dk_at dksL_law_31 11 rfl rfl)
theorem dL_law_874 : decode cL_law 874 = .ok (.if_icmp .eq 439, 3) := dk_159 1 183 (dk_at dksL_law_31 14 rfl rfl)
theorem dL_law_877 : decode cL_law 877 = .ok (.iconst 0, 1) := dk_3 (dk_at dksL_law_31 17 rfl rfl)
theorem dL_law_878 : decode cL_law 878 = .ok (.ireturn, 1) := dk_172 (dk_at dksL_law_31 18 rfl rfl)
theorem dL_law_879 : decode cL_law 879 = .ok (.aload_n 1, 1) := dk_43 (dk_at dksL_law_31 19 rfl rfl)
theorem dL_law_880 : decode cL_law 880 = .ok (.aload_n 0, 1) := dk_42 (dk_at dksL_law_31 20 rfl rfl)
theorem dL_law_881 : decode cL_law 881 = .ok (.iload_n 3, 1) := dk_29 (dk_at dksL_law_31 21 rfl rfl)
theorem dL_law_882 : decode cL_law 882 = .ok (.iconst 1, 1) := dk_4 (dk_at dksL_law_31 22 rfl rfl)
theorem dL_law_883 : decode cL_law 883 = .ok (.iadd, 1) := dk_96 (dk_at dksL_law_31 23 rfl rfl)
theorem dL_law_884 : decode cL_law 884 = .ok (.iaload, 1) := dk_46 (dk_at dksL_law_32 0 rfl rfl)
theorem dL_law_885 : decode cL_law 885 = .ok (.invokevirtual 105, 3) := dk_182 0 105 (dk_at dksL_law_32 1 rfl rfl)
theorem dL_law_888 : decode cL_law 888 = .ok (.aload_n 2, 1) := dk_44 (dk_at dksL_law_32 4 rfl rfl)
theorem dL_law_889 : decode cL_law 889 = .ok (.aload_n 0, 1) := dk_42 (dk_at dksL_law_32 5 rfl rfl)
theorem dL_law_890 : decode cL_law 890 = .ok (.iload_n 3, 1) := dk_29 (dk_at dksL_law_32 6 rfl rfl)
theorem dL_law_891 : decode cL_law 891 = .ok (.iconst 1, 1) := dk_4 (dk_at dksL_law_32 7 rfl rfl)
theorem dL_law_892 : decode cL_law 892 = .ok (.iadd, 1) := dk_96 (dk_at dksL_law_32 8 rfl rfl)
theorem dL_law_893 : decode cL_law 893 = .ok (.iaload, 1) := dk_46 (dk_at dksL_law_32 9 rfl rfl)
theorem dL_law_894 : decode cL_law 894 = .ok (.invokevirtual 108, 3) := dk_182 0 108 (dk_at dksL_law_32 10 rfl rfl)
theorem dL_law_897 : decode cL_law 897 = .ok (.if_icmp .eq 416, 3) := dk_159 1 160 (dk_at dksL_law_32 13 rfl rfl)
theorem dL_law_900 : decode cL_law 900 = .ok (.iconst 0, 1) := dk_3 (dk_at dksL_law_32 16 rfl rfl)
theorem dL_law_901 : decode cL_law 901 = .ok (.ireturn, 1) := dk_172 (dk_at dksL_law_32 17 rfl rfl)
theorem dL_law_902 : decode cL_law 902 = .ok (.aload_n 1, 1) := dk_43 (dk_at dksL_law_32 18 rfl rfl)
theorem dL_law_903 : decode cL_law 903 = .ok (.aload_n 0, 1) := dk_42 (dk_at dksL_law_32 19 rfl rfl)
theorem dL_law_904 : decode cL_law 904 = .ok (.iload_n 3, 1) := dk_29 (dk_at dksL_law_32 20 rfl rfl)
theorem dL_law_905 : decode cL_law 905 = .ok (.iconst 1, 1) := dk_4 (dk_at dksL_law_32 21 rfl rfl)
theorem dL_law_906 : decode cL_law 906 = .ok (.iadd, 1) := dk_96 (dk_at dksL_law_32 22 rfl rfl)
theorem dL_law_907 : decode cL_law 907 = .ok (.iaload, 1) := dk_46 (dk_at dksL_law_32 23 rfl rfl)
theorem dL_law_908 : decode cL_law 908 = .ok (.aload_n 0, 1) := dk_42 (dk_at dksL_law_33 0 rfl rfl)
theorem dL_law_909 : decode cL_law 909 = .ok (.iload_n 3, 1) := dk_29 (dk_at dksL_law_33 1 rfl rfl)
theorem dL_law_910 : decode cL_law 910 = .ok (.iconst 2, 1) := dk_5 (dk_at dksL_law_33 2 rfl rfl)
theorem dL_law_911 : decode cL_law 911 = .ok (.iadd, 1) := dk_96 (dk_at dksL_law_33 3 rfl rfl)
theorem dL_law_912 : decode cL_law 912 = .ok (.iaload, 1) := dk_46 (dk_at dksL_law_33 4 rfl rfl)
theorem dL_law_913 : decode cL_law 913 = .ok (.invokevirtual 109, 3) := dk_182 0 109 (dk_at dksL_law_33 5 rfl rfl)
theorem dL_law_916 : decode cL_law 916 = .ok (.aload_n 2, 1) := dk_44 (dk_at dksL_law_33 8 rfl rfl)
theorem dL_law_917 : decode cL_law 917 = .ok (.aload_n 0, 1) := dk_42 (dk_at dksL_law_33 9 rfl rfl)
theorem dL_law_918 : decode cL_law 918 = .ok (.iload_n 3, 1) := dk_29 (dk_at dksL_law_33 10 rfl rfl)
theorem dL_law_919 : decode cL_law 919 = .ok (.iconst 1, 1) := dk_4 (dk_at dksL_law_33 11 rfl rfl)
theorem dL_law_920 : decode cL_law 920 = .ok (.iadd, 1) := dk_96 (dk_at dksL_law_33 12 rfl rfl)
theorem dL_law_921 : decode cL_law 921 = .ok (.iaload, 1) := dk_46 (dk_at dksL_law_33 13 rfl rfl)
theorem dL_law_922 : decode cL_law 922 = .ok (.aload_n 0, 1) := dk_42 (dk_at dksL_law_33 14 rfl rfl)
theorem dL_law_923 : decode cL_law 923 = .ok (.iload_n 3, 1) := dk_29 (dk_at dksL_law_33 15 rfl rfl)
theorem dL_law_924 : decode cL_law 924 = .ok (.iconst 2, 1) := dk_5 (dk_at dksL_law_33 16 rfl rfl)
theorem dL_law_925 : decode cL_law 925 = .ok (.iadd, 1) := dk_96 (dk_at dksL_law_33 17 rfl rfl)
theorem dL_law_926 : decode cL_law 926 = .ok (.iaload, 1) := dk_46 (dk_at dksL_law_33 18 rfl rfl)
theorem dL_law_927 : decode cL_law 927 = .ok (.invokevirtual 112, 3) := dk_182 0 112 (dk_at dksL_law_33 19 rfl rfl)
theorem dL_law_930 : decode cL_law 930 = .ok (.if_icmp .eq 383, 3) := dk_159 1 127 (dk_at dksL_law_34 0 rfl rfl)
theorem dL_law_933 : decode cL_law 933 = .ok (.iconst 0, 1) := dk_3 (dk_at dksL_law_34 3 rfl rfl)
theorem dL_law_934 : decode cL_law 934 = .ok (.ireturn, 1) := dk_172 (dk_at dksL_law_34 4 rfl rfl)
theorem dL_law_935 : decode cL_law 935 = .ok (.aload_n 1, 1) := dk_43 (dk_at dksL_law_34 5 rfl rfl)
theorem dL_law_936 : decode cL_law 936 = .ok (.aload_n 0, 1) := dk_42 (dk_at dksL_law_34 6 rfl rfl)
theorem dL_law_937 : decode cL_law 937 = .ok (.iload_n 3, 1) := dk_29 (dk_at dksL_law_34 7 rfl rfl)
theorem dL_law_938 : decode cL_law 938 = .ok (.iconst 1, 1) := dk_4 (dk_at dksL_law_34 8 rfl rfl)
theorem dL_law_939 : decode cL_law 939 = .ok (.iadd, 1) := dk_96 (dk_at dksL_law_34 9 rfl rfl)
theorem dL_law_940 : decode cL_law 940 = .ok (.iaload, 1) := dk_46 (dk_at dksL_law_34 10 rfl rfl)
theorem dL_law_941 : decode cL_law 941 = .ok (.invokevirtual 113, 3) := dk_182 0 113 (dk_at dksL_law_34 11 rfl rfl)
theorem dL_law_944 : decode cL_law 944 = .ok (.aload_n 2, 1) := dk_44 (dk_at dksL_law_34 14 rfl rfl)
theorem dL_law_945 : decode cL_law 945 = .ok (.aload_n 0, 1) := dk_42 (dk_at dksL_law_34 15 rfl rfl)
theorem dL_law_946 : decode cL_law 946 = .ok (.iload_n 3, 1) := dk_29 (dk_at dksL_law_34 16 rfl rfl)
theorem dL_law_947 : decode cL_law 947 = .ok (.iconst 1, 1) := dk_4 (dk_at dksL_law_34 17 rfl rfl)
theorem dL_law_948 : decode cL_law 948 = .ok (.iadd, 1) := dk_96 (dk_at dksL_law_34 18 rfl rfl)
theorem dL_law_949 : decode cL_law 949 = .ok (.iaload, 1) := dk_46 (dk_at dksL_law_34 19 rfl rfl)
theorem dL_law_950 : decode cL_law 950 = .ok (.invokevirtual 116, 3) := dk_182 0 116 (dk_at dksL_law_34 20 rfl rfl)
theorem dL_law_953 : decode cL_law 953 = .ok (.if_icmp .eq 360, 3) := dk_159 1 104 (dk_at dksL_law_35 0 rfl rfl)
theorem dL_law_956 : decode cL_law 956 = .ok (.iconst 0, 1) := dk_3 (dk_at dksL_law_35 3 rfl rfl)
theorem dL_law_957 : decode cL_law 957 = .ok (.ireturn, 1) := dk_172 (dk_at dksL_law_35 4 rfl rfl)
theorem dL_law_958 : decode cL_law 958 = .ok (.aload_n 1, 1) := dk_43 (dk_at dksL_law_35 5 rfl rfl)
theorem dL_law_959 : decode cL_law 959 = .ok (.aload_n 0, 1) := dk_42 (dk_at dksL_law_35 6 rfl rfl)
theorem dL_law_960 : decode cL_law 960 = .ok (.iload_n 3, 1) := dk_29 (dk_at dksL_law_35 7 rfl rfl)
theorem dL_law_961 : decode cL_law 961 = .ok (.iconst 1, 1) := dk_4 (dk_at dksL_law_35 8 rfl rfl)
theorem dL_law_962 : decode cL_law 962 = .ok (.iadd, 1) := dk_96 (dk_at dksL_law_35 9 rfl rfl)
theorem dL_law_963 : decode cL_law 963 = .ok (.iaload, 1) := dk_46 (dk_at dksL_law_35 10 rfl rfl)
theorem dL_law_964 : decode cL_law 964 = .ok (.invokevirtual 117, 3) := dk_182 0 117 (dk_at dksL_law_35 11 rfl rfl)
theorem dL_law_967 : decode cL_law 967 = .ok (.aload_n 2, 1) := dk_44 (dk_at dksL_law_35 14 rfl rfl)
theorem dL_law_968 : decode cL_law 968 = .ok (.aload_n 0, 1) := dk_42 (dk_at dksL_law_35 15 rfl rfl)
theorem dL_law_969 : decode cL_law 969 = .ok (.iload_n 3, 1) := dk_29 (dk_at dksL_law_35 16 rfl rfl)
theorem dL_law_970 : decode cL_law 970 = .ok (.iconst 1, 1) := dk_4 (dk_at dksL_law_35 17 rfl rfl)
theorem dL_law_971 : decode cL_law 971 = .ok (.iadd, 1) := dk_96 (dk_at dksL_law_35 18 rfl rfl)
theorem dL_law_972 : decode cL_law 972 = .ok (.iaload, 1) := dk_46 (dk_at dksL_law_35 19 rfl rfl)
theorem dL_law_973 : decode cL_law 973 = .ok (.invokevirtual 120, 3) := dk_182 0 120 (dk_at dksL_law_35 20 rfl rfl)
theorem dL_law_976 : decode cL_law 976 = .ok (.if_icmp .eq 337, 3) := dk_159 1 81 (dk_at dksL_law_36 0 rfl rfl)
theorem dL_law_979 : decode cL_law 979 = .ok (.iconst 0, 1) := dk_3 (dk_at dksL_law_36 3 rfl rfl)
theorem dL_law_980 : decode cL_law 980 = .ok (.ireturn, 1) := dk_172 (dk_at dksL_law_36 4 rfl rfl)
theorem dL_law_981 : decode cL_law 981 = .ok (.aload_n 1, 1) := dk_43 (dk_at dksL_law_36 5 rfl rfl)
theorem dL_law_982 : decode cL_law 982 = .ok (.invokevirtual 121, 3) := dk_182 0 121 (dk_at dksL_law_36 6 rfl rfl)
theorem dL_law_985 : decode cL_law 985 = .ok (.aload_n 2, 1) := dk_44 (dk_at dksL_law_36 9 rfl rfl)
theorem dL_law_986 : decode cL_law 986 = .ok (.invokevirtual 125, 3) := dk_182 0 125 (dk_at dksL_law_36 10 rfl rfl)
theorem dL_law_989 : decode cL_law 989 = .ok (.if_icmp .eq 324, 3) := dk_159 1 68 (dk_at dksL_law_36 13 rfl rfl)
theorem dL_law_992 : decode cL_law 992 = .ok (.iconst 0, 1) := dk_3 (dk_at dksL_law_36 16 rfl rfl)
theorem dL_law_993 : decode cL_law 993 = .ok (.ireturn, 1) := dk_172 (dk_at dksL_law_36 17 rfl rfl)
theorem dL_law_994 : decode cL_law 994 = .ok (.aload_n 1, 1) := dk_43 (dk_at dksL_law_36 18 rfl rfl)
theorem dL_law_995 : decode cL_law 995 = .ok (.aload_n 0, 1) := dk_42 (dk_at dksL_law_36 19 rfl rfl)
theorem dL_law_996 : decode cL_law 996 = .ok (.iload_n 3, 1) := dk_29 (dk_at dksL_law_36 20 rfl rfl)
theorem dL_law_997 : decode cL_law 997 = .ok (.iconst 1, 1) := dk_4 (dk_at dksL_law_36 21 rfl rfl)
theorem dL_law_998 : decode cL_law 998 = .ok (.iadd, 1) := dk_96 (dk_at dksL_law_36 22 rfl rfl)
theorem dL_law_999 : decode cL_law 999 = .ok (.iaload, 1) := dk_46 (dk_at dksL_law_36 23 rfl rfl)
theorem dL_law_1000 : decode cL_law 1000 = .ok (.aload_n 0, 1) := dk_42 (dk_at dksL_law_37 0 rfl rfl)
theorem dL_law_1001 : decode cL_law 1001 = .ok (.iload_n 3, 1) := dk_29 (dk_at dksL_law_37 1 rfl rfl)
theorem dL_law_1002 : decode cL_law 1002 = .ok (.iconst 2, 1) := dk_5 (dk_at dksL_law_37 2 rfl rfl)
theorem dL_law_1003 : decode cL_law 1003 = .ok (.iadd, 1) := dk_96 (dk_at dksL_law_37 3 rfl rfl)
theorem dL_law_1004 : decode cL_law 1004 = .ok (.iaload, 1) := dk_46 (dk_at dksL_law_37 4 rfl rfl)
theorem dL_law_1005 : decode cL_law 1005 = .ok (.invokevirtual 126, 3) := dk_182 0 126 (dk_at dksL_law_37 5 rfl rfl)
theorem dL_law_1008 : decode cL_law 1008 = .ok (.aload_n 2, 1) := dk_44 (dk_at dksL_law_37 8 rfl rfl)
theorem dL_law_1009 : decode cL_law 1009 = .ok (.aload_n 0, 1) := dk_42 (dk_at dksL_law_37 9 rfl rfl)
theorem dL_law_1010 : decode cL_law 1010 = .ok (.iload_n 3, 1) := dk_29 (dk_at dksL_law_37 10 rfl rfl)
theorem dL_law_1011 : decode cL_law 1011 = .ok (.iconst 1, 1) := dk_4 (dk_at dksL_law_37 11 rfl rfl)
theorem dL_law_1012 : decode cL_law 1012 = .ok (.iadd, 1) := dk_96 (dk_at dksL_law_37 12 rfl rfl)
theorem dL_law_1013 : decode cL_law 1013 = .ok (.iaload, 1) := dk_46 (dk_at dksL_law_37 13 rfl rfl)
theorem dL_law_1014 : decode cL_law 1014 = .ok (.aload_n 0, 1) := dk_42 (dk_at dksL_law_37 14 rfl rfl)
theorem dL_law_1015 : decode cL_law 1015 = .ok (.iload_n 3, 1) := dk_29 (dk_at dksL_law_37 15 rfl rfl)
theorem dL_law_1016 : decode cL_law 1016 = .ok (.iconst 2, 1) := dk_5 (dk_at dksL_law_37 16 rfl rfl)
theorem dL_law_1017 : decode cL_law 1017 = .ok (.iadd, 1) := dk_96 (dk_at dksL_law_37 17 rfl rfl)
theorem dL_law_1018 : decode cL_law 1018 = .ok (.iaload, 1) := dk_46 (dk_at dksL_law_37 18 rfl rfl)
theorem dL_law_1019 : decode cL_law 1019 = .ok (.invokevirtual 130, 3) := dk_182 0 130 (dk_at dksL_law_37 19 rfl rfl)
theorem dL_law_1022 : decode cL_law 1022 = .ok (.lcmp, 1) := dk_148 (dk_at dksL_law_37 22 rfl rfl)
theorem dL_law_1023 : decode cL_law 1023 = .ok (.ifCond .eq 290, 3) := dk_153 1 34 (dk_at dksL_law_38 0 rfl rfl)
theorem dL_law_1026 : decode cL_law 1026 = .ok (.iconst 0, 1) := dk_3 (dk_at dksL_law_38 3 rfl rfl)
theorem dL_law_1027 : decode cL_law 1027 = .ok (.ireturn, 1) := dk_172 (dk_at dksL_law_38 4 rfl rfl)
theorem dL_law_1028 : decode cL_law 1028 = .ok (.aload_n 1, 1) := dk_43 (dk_at dksL_law_38 5 rfl rfl)
theorem dL_law_1029 : decode cL_law 1029 = .ok (.aload_n 0, 1) := dk_42 (dk_at dksL_law_38 6 rfl rfl)
theorem dL_law_1030 : decode cL_law 1030 = .ok (.iload_n 3, 1) := dk_29 (dk_at dksL_law_38 7 rfl rfl)
theorem dL_law_1031 : decode cL_law 1031 = .ok (.iconst 1, 1) := dk_4 (dk_at dksL_law_38 8 rfl rfl)
theorem dL_law_1032 : decode cL_law 1032 = .ok (.iadd, 1) := dk_96 (dk_at dksL_law_38 9 rfl rfl)
theorem dL_law_1033 : decode cL_law 1033 = .ok (.iaload, 1) := dk_46 (dk_at dksL_law_38 10 rfl rfl)
theorem dL_law_1034 : decode cL_law 1034 = .ok (.aload_n 0, 1) := dk_42 (dk_at dksL_law_38 11 rfl rfl)
theorem dL_law_1035 : decode cL_law 1035 = .ok (.iload_n 3, 1) := dk_29 (dk_at dksL_law_38 12 rfl rfl)
theorem dL_law_1036 : decode cL_law 1036 = .ok (.iconst 2, 1) := dk_5 (dk_at dksL_law_38 13 rfl rfl)
theorem dL_law_1037 : decode cL_law 1037 = .ok (.iadd, 1) := dk_96 (dk_at dksL_law_38 14 rfl rfl)
theorem dL_law_1038 : decode cL_law 1038 = .ok (.iaload, 1) := dk_46 (dk_at dksL_law_38 15 rfl rfl)
theorem dL_law_1039 : decode cL_law 1039 = .ok (.aload_n 0, 1) := dk_42 (dk_at dksL_law_38 16 rfl rfl)
theorem dL_law_1040 : decode cL_law 1040 = .ok (.iload_n 3, 1) := dk_29 (dk_at dksL_law_38 17 rfl rfl)
theorem dL_law_1041 : decode cL_law 1041 = .ok (.iconst 3, 1) := dk_6 (dk_at dksL_law_38 18 rfl rfl)
theorem dL_law_1042 : decode cL_law 1042 = .ok (.iadd, 1) := dk_96 (dk_at dksL_law_38 19 rfl rfl)
theorem dL_law_1043 : decode cL_law 1043 = .ok (.iaload, 1) := dk_46 (dk_at dksL_law_38 20 rfl rfl)
theorem dL_law_1044 : decode cL_law 1044 = .ok (.invokevirtual 131, 3) := dk_182 0 131 (dk_at dksL_law_38 21 rfl rfl)
theorem dL_law_1047 : decode cL_law 1047 = .ok (.aload_n 2, 1) := dk_44 (dk_at dksL_law_39 0 rfl rfl)
theorem dL_law_1048 : decode cL_law 1048 = .ok (.aload_n 0, 1) := dk_42 (dk_at dksL_law_39 1 rfl rfl)
theorem dL_law_1049 : decode cL_law 1049 = .ok (.iload_n 3, 1) := dk_29 (dk_at dksL_law_39 2 rfl rfl)
theorem dL_law_1050 : decode cL_law 1050 = .ok (.iconst 1, 1) := dk_4 (dk_at dksL_law_39 3 rfl rfl)
theorem dL_law_1051 : decode cL_law 1051 = .ok (.iadd, 1) := dk_96 (dk_at dksL_law_39 4 rfl rfl)
theorem dL_law_1052 : decode cL_law 1052 = .ok (.iaload, 1) := dk_46 (dk_at dksL_law_39 5 rfl rfl)
theorem dL_law_1053 : decode cL_law 1053 = .ok (.aload_n 0, 1) := dk_42 (dk_at dksL_law_39 6 rfl rfl)
theorem dL_law_1054 : decode cL_law 1054 = .ok (.iload_n 3, 1) := dk_29 (dk_at dksL_law_39 7 rfl rfl)
theorem dL_law_1055 : decode cL_law 1055 = .ok (.iconst 2, 1) := dk_5 (dk_at dksL_law_39 8 rfl rfl)
theorem dL_law_1056 : decode cL_law 1056 = .ok (.iadd, 1) := dk_96 (dk_at dksL_law_39 9 rfl rfl)
theorem dL_law_1057 : decode cL_law 1057 = .ok (.iaload, 1) := dk_46 (dk_at dksL_law_39 10 rfl rfl)
theorem dL_law_1058 : decode cL_law 1058 = .ok (.aload_n 0, 1) := dk_42 (dk_at dksL_law_39 11 rfl rfl)
theorem dL_law_1059 : decode cL_law 1059 = .ok (.iload_n 3, 1) := dk_29 (dk_at dksL_law_39 12 rfl rfl)
theorem dL_law_1060 : decode cL_law 1060 = .ok (.iconst 3, 1) := dk_6 (dk_at dksL_law_39 13 rfl rfl)
theorem dL_law_1061 : decode cL_law 1061 = .ok (.iadd, 1) := dk_96 (dk_at dksL_law_39 14 rfl rfl)
theorem dL_law_1062 : decode cL_law 1062 = .ok (.iaload, 1) := dk_46 (dk_at dksL_law_39 15 rfl rfl)
theorem dL_law_1063 : decode cL_law 1063 = .ok (.invokevirtual 134, 3) := dk_182 0 134 (dk_at dksL_law_39 16 rfl rfl)
theorem dL_law_1066 : decode cL_law 1066 = .ok (.if_icmp .eq 247, 3) := dk_159 0 247 (dk_at dksL_law_39 19 rfl rfl)
theorem dL_law_1069 : decode cL_law 1069 = .ok (.iconst 0, 1) := dk_3 (dk_at dksL_law_39 22 rfl rfl)
theorem dL_law_1070 : decode cL_law 1070 = .ok (.ireturn, 1) := dk_172 (dk_at dksL_law_39 23 rfl rfl)
theorem dL_law_1071 : decode cL_law 1071 = .ok (.aload_n 1, 1) := dk_43 (dk_at dksL_law_40 0 rfl rfl)
theorem dL_law_1072 : decode cL_law 1072 = .ok (.aload_n 0, 1) := dk_42 (dk_at dksL_law_40 1 rfl rfl)
theorem dL_law_1073 : decode cL_law 1073 = .ok (.iload_n 3, 1) := dk_29 (dk_at dksL_law_40 2 rfl rfl)
theorem dL_law_1074 : decode cL_law 1074 = .ok (.iconst 1, 1) := dk_4 (dk_at dksL_law_40 3 rfl rfl)
theorem dL_law_1075 : decode cL_law 1075 = .ok (.iadd, 1) := dk_96 (dk_at dksL_law_40 4 rfl rfl)
theorem dL_law_1076 : decode cL_law 1076 = .ok (.iaload, 1) := dk_46 (dk_at dksL_law_40 5 rfl rfl)
theorem dL_law_1077 : decode cL_law 1077 = .ok (.invokevirtual 135, 3) := dk_182 0 135 (dk_at dksL_law_40 6 rfl rfl)
theorem dL_law_1080 : decode cL_law 1080 = .ok (.aload_n 2, 1) := dk_44 (dk_at dksL_law_40 9 rfl rfl)
theorem dL_law_1081 : decode cL_law 1081 = .ok (.aload_n 0, 1) := dk_42 (dk_at dksL_law_40 10 rfl rfl)
theorem dL_law_1082 : decode cL_law 1082 = .ok (.iload_n 3, 1) := dk_29 (dk_at dksL_law_40 11 rfl rfl)
theorem dL_law_1083 : decode cL_law 1083 = .ok (.iconst 1, 1) := dk_4 (dk_at dksL_law_40 12 rfl rfl)
theorem dL_law_1084 : decode cL_law 1084 = .ok (.iadd, 1) := dk_96 (dk_at dksL_law_40 13 rfl rfl)
theorem dL_law_1085 : decode cL_law 1085 = .ok (.iaload, 1) := dk_46 (dk_at dksL_law_40 14 rfl rfl)
theorem dL_law_1086 : decode cL_law 1086 = .ok (.invokevirtual 138, 3) := dk_182 0 138 (dk_at dksL_law_40 15 rfl rfl)
theorem dL_law_1089 : decode cL_law 1089 = .ok (.if_icmp .eq 224, 3) := dk_159 0 224 (dk_at dksL_law_40 18 rfl rfl)
theorem dL_law_1092 : decode cL_law 1092 = .ok (.iconst 0, 1) := dk_3 (dk_at dksL_law_40 21 rfl rfl)
theorem dL_law_1093 : decode cL_law 1093 = .ok (.ireturn, 1) := dk_172 (dk_at dksL_law_40 22 rfl rfl)
theorem dL_law_1094 : decode cL_law 1094 = .ok (.aload_n 1, 1) := dk_43 (dk_at dksL_law_40 23 rfl rfl)
theorem dL_law_1095 : decode cL_law 1095 = .ok (.aload_n 0, 1) := dk_42 (dk_at dksL_law_41 0 rfl rfl)
theorem dL_law_1096 : decode cL_law 1096 = .ok (.iload_n 3, 1) := dk_29 (dk_at dksL_law_41 1 rfl rfl)
theorem dL_law_1097 : decode cL_law 1097 = .ok (.iconst 1, 1) := dk_4 (dk_at dksL_law_41 2 rfl rfl)
theorem dL_law_1098 : decode cL_law 1098 = .ok (.iadd, 1) := dk_96 (dk_at dksL_law_41 3 rfl rfl)
theorem dL_law_1099 : decode cL_law 1099 = .ok (.iaload, 1) := dk_46 (dk_at dksL_law_41 4 rfl rfl)
theorem dL_law_1100 : decode cL_law 1100 = .ok (.aload_n 0, 1) := dk_42 (dk_at dksL_law_41 5 rfl rfl)
theorem dL_law_1101 : decode cL_law 1101 = .ok (.iload_n 3, 1) := dk_29 (dk_at dksL_law_41 6 rfl rfl)
theorem dL_law_1102 : decode cL_law 1102 = .ok (.iconst 2, 1) := dk_5 (dk_at dksL_law_41 7 rfl rfl)
theorem dL_law_1103 : decode cL_law 1103 = .ok (.iadd, 1) := dk_96 (dk_at dksL_law_41 8 rfl rfl)
theorem dL_law_1104 : decode cL_law 1104 = .ok (.iaload, 1) := dk_46 (dk_at dksL_law_41 9 rfl rfl)
theorem dL_law_1105 : decode cL_law 1105 = .ok (.aload_n 0, 1) := dk_42 (dk_at dksL_law_41 10 rfl rfl)
theorem dL_law_1106 : decode cL_law 1106 = .ok (.iload_n 3, 1) := dk_29 (dk_at dksL_law_41 11 rfl rfl)
theorem dL_law_1107 : decode cL_law 1107 = .ok (.iconst 3, 1) := dk_6 (dk_at dksL_law_41 12 rfl rfl)
theorem dL_law_1108 : decode cL_law 1108 = .ok (.iadd, 1) := dk_96 (dk_at dksL_law_41 13 rfl rfl)
theorem dL_law_1109 : decode cL_law 1109 = .ok (.iaload, 1) := dk_46 (dk_at dksL_law_41 14 rfl rfl)
theorem dL_law_1110 : decode cL_law 1110 = .ok (.aload_n 0, 1) := dk_42 (dk_at dksL_law_41 15 rfl rfl)
theorem dL_law_1111 : decode cL_law 1111 = .ok (.iload_n 3, 1) := dk_29 (dk_at dksL_law_41 16 rfl rfl)
theorem dL_law_1112 : decode cL_law 1112 = .ok (.iconst 4, 1) := dk_7 (dk_at dksL_law_41 17 rfl rfl)
theorem dL_law_1113 : decode cL_law 1113 = .ok (.iadd, 1) := dk_96 (dk_at dksL_law_41 18 rfl rfl)
theorem dL_law_1114 : decode cL_law 1114 = .ok (.iaload, 1) := dk_46 (dk_at dksL_law_41 19 rfl rfl)
theorem dL_law_1115 : decode cL_law 1115 = .ok (.invokevirtual 139, 3) := dk_182 0 139 (dk_at dksL_law_41 20 rfl rfl)
theorem dL_law_1118 : decode cL_law 1118 = .ok (.aload_n 2, 1) := dk_44 (dk_at dksL_law_41 23 rfl rfl)
theorem dL_law_1119 : decode cL_law 1119 = .ok (.aload_n 0, 1) := dk_42 (dk_at dksL_law_42 0 rfl rfl)
theorem dL_law_1120 : decode cL_law 1120 = .ok (.iload_n 3, 1) := dk_29 (dk_at dksL_law_42 1 rfl rfl)
theorem dL_law_1121 : decode cL_law 1121 = .ok (.iconst 1, 1) := dk_4 (dk_at dksL_law_42 2 rfl rfl)
theorem dL_law_1122 : decode cL_law 1122 = .ok (.iadd, 1) := dk_96 (dk_at dksL_law_42 3 rfl rfl)
theorem dL_law_1123 : decode cL_law 1123 = .ok (.iaload, 1) := dk_46 (dk_at dksL_law_42 4 rfl rfl)
theorem dL_law_1124 : decode cL_law 1124 = .ok (.aload_n 0, 1) := dk_42 (dk_at dksL_law_42 5 rfl rfl)
theorem dL_law_1125 : decode cL_law 1125 = .ok (.iload_n 3, 1) := dk_29 (dk_at dksL_law_42 6 rfl rfl)
theorem dL_law_1126 : decode cL_law 1126 = .ok (.iconst 2, 1) := dk_5 (dk_at dksL_law_42 7 rfl rfl)
theorem dL_law_1127 : decode cL_law 1127 = .ok (.iadd, 1) := dk_96 (dk_at dksL_law_42 8 rfl rfl)
theorem dL_law_1128 : decode cL_law 1128 = .ok (.iaload, 1) := dk_46 (dk_at dksL_law_42 9 rfl rfl)
theorem dL_law_1129 : decode cL_law 1129 = .ok (.aload_n 0, 1) := dk_42 (dk_at dksL_law_42 10 rfl rfl)
theorem dL_law_1130 : decode cL_law 1130 = .ok (.iload_n 3, 1) := dk_29 (dk_at dksL_law_42 11 rfl rfl)
theorem dL_law_1131 : decode cL_law 1131 = .ok (.iconst 3, 1) := dk_6 (dk_at dksL_law_42 12 rfl rfl)
theorem dL_law_1132 : decode cL_law 1132 = .ok (.iadd, 1) := dk_96 (dk_at dksL_law_42 13 rfl rfl)
theorem dL_law_1133 : decode cL_law 1133 = .ok (.iaload, 1) := dk_46 (dk_at dksL_law_42 14 rfl rfl)
theorem dL_law_1134 : decode cL_law 1134 = .ok (.aload_n 0, 1) := dk_42 (dk_at dksL_law_42 15 rfl rfl)
theorem dL_law_1135 : decode cL_law 1135 = .ok (.iload_n 3, 1) := dk_29 (dk_at dksL_law_42 16 rfl rfl)
theorem dL_law_1136 : decode cL_law 1136 = .ok (.iconst 4, 1) := dk_7 (dk_at dksL_law_42 17 rfl rfl)
theorem dL_law_1137 : decode cL_law 1137 = .ok (.iadd, 1) := dk_96 (dk_at dksL_law_42 18 rfl rfl)
theorem dL_law_1138 : decode cL_law 1138 = .ok (.iaload, 1) := dk_46 (dk_at dksL_law_42 19 rfl rfl)
theorem dL_law_1139 : decode cL_law 1139 = .ok (.invokevirtual 143, 3) := dk_182 0 143 (dk_at dksL_law_42 20 rfl rfl)
theorem dL_law_1142 : decode cL_law 1142 = .ok (.if_icmp .eq 171, 3) := dk_159 0 171 (dk_at dksL_law_43 0 rfl rfl)
theorem dL_law_1145 : decode cL_law 1145 = .ok (.iconst 0, 1) := dk_3 (dk_at dksL_law_43 3 rfl rfl)
theorem dL_law_1146 : decode cL_law 1146 = .ok (.ireturn, 1) := dk_172 (dk_at dksL_law_43 4 rfl rfl)
theorem dL_law_1147 : decode cL_law 1147 = .ok (.aload_n 1, 1) := dk_43 (dk_at dksL_law_43 5 rfl rfl)
theorem dL_law_1148 : decode cL_law 1148 = .ok (.aload_n 0, 1) := dk_42 (dk_at dksL_law_43 6 rfl rfl)
theorem dL_law_1149 : decode cL_law 1149 = .ok (.iload_n 3, 1) := dk_29 (dk_at dksL_law_43 7 rfl rfl)
theorem dL_law_1150 : decode cL_law 1150 = .ok (.iconst 1, 1) := dk_4 (dk_at dksL_law_43 8 rfl rfl)
theorem dL_law_1151 : decode cL_law 1151 = .ok (.iadd, 1) := dk_96 (dk_at dksL_law_43 9 rfl rfl)
theorem dL_law_1152 : decode cL_law 1152 = .ok (.iaload, 1) := dk_46 (dk_at dksL_law_43 10 rfl rfl)
theorem dL_law_1153 : decode cL_law 1153 = .ok (.aload_n 0, 1) := dk_42 (dk_at dksL_law_43 11 rfl rfl)
theorem dL_law_1154 : decode cL_law 1154 = .ok (.iload_n 3, 1) := dk_29 (dk_at dksL_law_43 12 rfl rfl)
theorem dL_law_1155 : decode cL_law 1155 = .ok (.iconst 2, 1) := dk_5 (dk_at dksL_law_43 13 rfl rfl)
theorem dL_law_1156 : decode cL_law 1156 = .ok (.iadd, 1) := dk_96 (dk_at dksL_law_43 14 rfl rfl)
theorem dL_law_1157 : decode cL_law 1157 = .ok (.iaload, 1) := dk_46 (dk_at dksL_law_43 15 rfl rfl)
theorem dL_law_1158 : decode cL_law 1158 = .ok (.aload_n 0, 1) := dk_42 (dk_at dksL_law_43 16 rfl rfl)
theorem dL_law_1159 : decode cL_law 1159 = .ok (.iload_n 3, 1) := dk_29 (dk_at dksL_law_43 17 rfl rfl)
theorem dL_law_1160 : decode cL_law 1160 = .ok (.iconst 3, 1) := dk_6 (dk_at dksL_law_43 18 rfl rfl)
theorem dL_law_1161 : decode cL_law 1161 = .ok (.iadd, 1) := dk_96 (dk_at dksL_law_43 19 rfl rfl)
theorem dL_law_1162 : decode cL_law 1162 = .ok (.iaload, 1) := dk_46 (dk_at dksL_law_43 20 rfl rfl)
theorem dL_law_1163 : decode cL_law 1163 = .ok (.invokevirtual 144, 3) := dk_182 0 144 (dk_at dksL_law_43 21 rfl rfl)
theorem dL_law_1166 : decode cL_law 1166 = .ok (.aload_n 2, 1) := dk_44 (dk_at dksL_law_44 0 rfl rfl)
theorem dL_law_1167 : decode cL_law 1167 = .ok (.aload_n 0, 1) := dk_42 (dk_at dksL_law_44 1 rfl rfl)
theorem dL_law_1168 : decode cL_law 1168 = .ok (.iload_n 3, 1) := dk_29 (dk_at dksL_law_44 2 rfl rfl)
theorem dL_law_1169 : decode cL_law 1169 = .ok (.iconst 1, 1) := dk_4 (dk_at dksL_law_44 3 rfl rfl)
theorem dL_law_1170 : decode cL_law 1170 = .ok (.iadd, 1) := dk_96 (dk_at dksL_law_44 4 rfl rfl)
theorem dL_law_1171 : decode cL_law 1171 = .ok (.iaload, 1) := dk_46 (dk_at dksL_law_44 5 rfl rfl)
theorem dL_law_1172 : decode cL_law 1172 = .ok (.aload_n 0, 1) := dk_42 (dk_at dksL_law_44 6 rfl rfl)
theorem dL_law_1173 : decode cL_law 1173 = .ok (.iload_n 3, 1) := dk_29 (dk_at dksL_law_44 7 rfl rfl)
theorem dL_law_1174 : decode cL_law 1174 = .ok (.iconst 2, 1) := dk_5 (dk_at dksL_law_44 8 rfl rfl)
theorem dL_law_1175 : decode cL_law 1175 = .ok (.iadd, 1) := dk_96 (dk_at dksL_law_44 9 rfl rfl)
theorem dL_law_1176 : decode cL_law 1176 = .ok (.iaload, 1) := dk_46 (dk_at dksL_law_44 10 rfl rfl)
theorem dL_law_1177 : decode cL_law 1177 = .ok (.aload_n 0, 1) := dk_42 (dk_at dksL_law_44 11 rfl rfl)
theorem dL_law_1178 : decode cL_law 1178 = .ok (.iload_n 3, 1) := dk_29 (dk_at dksL_law_44 12 rfl rfl)
theorem dL_law_1179 : decode cL_law 1179 = .ok (.iconst 3, 1) := dk_6 (dk_at dksL_law_44 13 rfl rfl)
theorem dL_law_1180 : decode cL_law 1180 = .ok (.iadd, 1) := dk_96 (dk_at dksL_law_44 14 rfl rfl)
theorem dL_law_1181 : decode cL_law 1181 = .ok (.iaload, 1) := dk_46 (dk_at dksL_law_44 15 rfl rfl)
theorem dL_law_1182 : decode cL_law 1182 = .ok (.invokevirtual 147, 3) := dk_182 0 147 (dk_at dksL_law_44 16 rfl rfl)
theorem dL_law_1185 : decode cL_law 1185 = .ok (.if_icmp .eq 128, 3) := dk_159 0 128 (dk_at dksL_law_44 19 rfl rfl)
theorem dL_law_1188 : decode cL_law 1188 = .ok (.iconst 0, 1) := dk_3 (dk_at dksL_law_44 22 rfl rfl)
theorem dL_law_1189 : decode cL_law 1189 = .ok (.ireturn, 1) := dk_172 (dk_at dksL_law_44 23 rfl rfl)
theorem dL_law_1190 : decode cL_law 1190 = .ok (.aload_n 1, 1) := dk_43 (dk_at dksL_law_45 0 rfl rfl)
theorem dL_law_1191 : decode cL_law 1191 = .ok (.aload_n 0, 1) := dk_42 (dk_at dksL_law_45 1 rfl rfl)
theorem dL_law_1192 : decode cL_law 1192 = .ok (.iload_n 3, 1) := dk_29 (dk_at dksL_law_45 2 rfl rfl)
theorem dL_law_1193 : decode cL_law 1193 = .ok (.iconst 1, 1) := dk_4 (dk_at dksL_law_45 3 rfl rfl)
theorem dL_law_1194 : decode cL_law 1194 = .ok (.iadd, 1) := dk_96 (dk_at dksL_law_45 4 rfl rfl)
theorem dL_law_1195 : decode cL_law 1195 = .ok (.iaload, 1) := dk_46 (dk_at dksL_law_45 5 rfl rfl)
theorem dL_law_1196 : decode cL_law 1196 = .ok (.aload_n 0, 1) := dk_42 (dk_at dksL_law_45 6 rfl rfl)
theorem dL_law_1197 : decode cL_law 1197 = .ok (.iload_n 3, 1) := dk_29 (dk_at dksL_law_45 7 rfl rfl)
theorem dL_law_1198 : decode cL_law 1198 = .ok (.iconst 2, 1) := dk_5 (dk_at dksL_law_45 8 rfl rfl)
theorem dL_law_1199 : decode cL_law 1199 = .ok (.iadd, 1) := dk_96 (dk_at dksL_law_45 9 rfl rfl)
theorem dL_law_1200 : decode cL_law 1200 = .ok (.iaload, 1) := dk_46 (dk_at dksL_law_45 10 rfl rfl)
theorem dL_law_1201 : decode cL_law 1201 = .ok (.aload_n 0, 1) := dk_42 (dk_at dksL_law_45 11 rfl rfl)
theorem dL_law_1202 : decode cL_law 1202 = .ok (.iload_n 3, 1) := dk_29 (dk_at dksL_law_45 12 rfl rfl)
theorem dL_law_1203 : decode cL_law 1203 = .ok (.iconst 3, 1) := dk_6 (dk_at dksL_law_45 13 rfl rfl)
theorem dL_law_1204 : decode cL_law 1204 = .ok (.iadd, 1) := dk_96 (dk_at dksL_law_45 14 rfl rfl)
theorem dL_law_1205 : decode cL_law 1205 = .ok (.iaload, 1) := dk_46 (dk_at dksL_law_45 15 rfl rfl)
theorem dL_law_1206 : decode cL_law 1206 = .ok (.aload_n 0, 1) := dk_42 (dk_at dksL_law_45 16 rfl rfl)
theorem dL_law_1207 : decode cL_law 1207 = .ok (.iload_n 3, 1) := dk_29 (dk_at dksL_law_45 17 rfl rfl)
theorem dL_law_1208 : decode cL_law 1208 = .ok (.iconst 4, 1) := dk_7 (dk_at dksL_law_45 18 rfl rfl)
theorem dL_law_1209 : decode cL_law 1209 = .ok (.iadd, 1) := dk_96 (dk_at dksL_law_45 19 rfl rfl)
theorem dL_law_1210 : decode cL_law 1210 = .ok (.iaload, 1) := dk_46 (dk_at dksL_law_45 20 rfl rfl)
theorem dL_law_1211 : decode cL_law 1211 = .ok (.aload_n 0, 1) := dk_42 (dk_at dksL_law_45 21 rfl rfl)
theorem dL_law_1212 : decode cL_law 1212 = .ok (.iload_n 3, 1) := dk_29 (dk_at dksL_law_45 22 rfl rfl)
theorem dL_law_1213 : decode cL_law 1213 = .ok (.iconst 5, 1) := dk_8 (dk_at dksL_law_45 23 rfl rfl)
theorem dL_law_1214 : decode cL_law 1214 = .ok (.iadd, 1) := dk_96 (dk_at dksL_law_46 0 rfl rfl)
theorem dL_law_1215 : decode cL_law 1215 = .ok (.iaload, 1) := dk_46 (dk_at dksL_law_46 1 rfl rfl)
theorem dL_law_1216 : decode cL_law 1216 = .ok (.invokevirtual 148, 3) := dk_182 0 148 (dk_at dksL_law_46 2 rfl rfl)
theorem dL_law_1219 : decode cL_law 1219 = .ok (.aload_n 2, 1) := dk_44 (dk_at dksL_law_46 5 rfl rfl)
theorem dL_law_1220 : decode cL_law 1220 = .ok (.aload_n 0, 1) := dk_42 (dk_at dksL_law_46 6 rfl rfl)
theorem dL_law_1221 : decode cL_law 1221 = .ok (.iload_n 3, 1) := dk_29 (dk_at dksL_law_46 7 rfl rfl)
theorem dL_law_1222 : decode cL_law 1222 = .ok (.iconst 1, 1) := dk_4 (dk_at dksL_law_46 8 rfl rfl)
theorem dL_law_1223 : decode cL_law 1223 = .ok (.iadd, 1) := dk_96 (dk_at dksL_law_46 9 rfl rfl)
theorem dL_law_1224 : decode cL_law 1224 = .ok (.iaload, 1) := dk_46 (dk_at dksL_law_46 10 rfl rfl)
theorem dL_law_1225 : decode cL_law 1225 = .ok (.aload_n 0, 1) := dk_42 (dk_at dksL_law_46 11 rfl rfl)
theorem dL_law_1226 : decode cL_law 1226 = .ok (.iload_n 3, 1) := dk_29 (dk_at dksL_law_46 12 rfl rfl)
theorem dL_law_1227 : decode cL_law 1227 = .ok (.iconst 2, 1) := dk_5 (dk_at dksL_law_46 13 rfl rfl)
theorem dL_law_1228 : decode cL_law 1228 = .ok (.iadd, 1) := dk_96 (dk_at dksL_law_46 14 rfl rfl)
theorem dL_law_1229 : decode cL_law 1229 = .ok (.iaload, 1) := dk_46 (dk_at dksL_law_46 15 rfl rfl)
theorem dL_law_1230 : decode cL_law 1230 = .ok (.aload_n 0, 1) := dk_42 (dk_at dksL_law_46 16 rfl rfl)
theorem dL_law_1231 : decode cL_law 1231 = .ok (.iload_n 3, 1) := dk_29 (dk_at dksL_law_46 17 rfl rfl)
theorem dL_law_1232 : decode cL_law 1232 = .ok (.iconst 3, 1) := dk_6 (dk_at dksL_law_46 18 rfl rfl)
theorem dL_law_1233 : decode cL_law 1233 = .ok (.iadd, 1) := dk_96 (dk_at dksL_law_46 19 rfl rfl)
theorem dL_law_1234 : decode cL_law 1234 = .ok (.iaload, 1) := dk_46 (dk_at dksL_law_46 20 rfl rfl)
theorem dL_law_1235 : decode cL_law 1235 = .ok (.aload_n 0, 1) := dk_42 (dk_at dksL_law_46 21 rfl rfl)
theorem dL_law_1236 : decode cL_law 1236 = .ok (.iload_n 3, 1) := dk_29 (dk_at dksL_law_46 22 rfl rfl)
theorem dL_law_1237 : decode cL_law 1237 = .ok (.iconst 4, 1) := dk_7 (dk_at dksL_law_46 23 rfl rfl)
theorem dL_law_1238 : decode cL_law 1238 = .ok (.iadd, 1) := dk_96 (dk_at dksL_law_47 0 rfl rfl)
theorem dL_law_1239 : decode cL_law 1239 = .ok (.iaload, 1) := dk_46 (dk_at dksL_law_47 1 rfl rfl)
theorem dL_law_1240 : decode cL_law 1240 = .ok (.aload_n 0, 1) := dk_42 (dk_at dksL_law_47 2 rfl rfl)
theorem dL_law_1241 : decode cL_law 1241 = .ok (.iload_n 3, 1) := dk_29 (dk_at dksL_law_47 3 rfl rfl)
theorem dL_law_1242 : decode cL_law 1242 = .ok (.iconst 5, 1) := dk_8 (dk_at dksL_law_47 4 rfl rfl)
theorem dL_law_1243 : decode cL_law 1243 = .ok (.iadd, 1) := dk_96 (dk_at dksL_law_47 5 rfl rfl)
theorem dL_law_1244 : decode cL_law 1244 = .ok (.iaload, 1) := dk_46 (dk_at dksL_law_47 6 rfl rfl)
theorem dL_law_1245 : decode cL_law 1245 = .ok (.invokevirtual 152, 3) := dk_182 0 152 (dk_at dksL_law_47 7 rfl rfl)
theorem dL_law_1248 : decode cL_law 1248 = .ok (.if_icmp .eq 65, 3) := dk_159 0 65 (dk_at dksL_law_47 10 rfl rfl)
theorem dL_law_1251 : decode cL_law 1251 = .ok (.iconst 0, 1) := dk_3 (dk_at dksL_law_47 13 rfl rfl)
theorem dL_law_1252 : decode cL_law 1252 = .ok (.ireturn, 1) := dk_172 (dk_at dksL_law_47 14 rfl rfl)
theorem dL_law_1253 : decode cL_law 1253 = .ok (.aload_n 1, 1) := dk_43 (dk_at dksL_law_47 15 rfl rfl)
theorem dL_law_1254 : decode cL_law 1254 = .ok (.aload_n 0, 1) := dk_42 (dk_at dksL_law_47 16 rfl rfl)
theorem dL_law_1255 : decode cL_law 1255 = .ok (.iload_n 3, 1) := dk_29 (dk_at dksL_law_47 17 rfl rfl)
theorem dL_law_1256 : decode cL_law 1256 = .ok (.iconst 1, 1) := dk_4 (dk_at dksL_law_47 18 rfl rfl)
theorem dL_law_1257 : decode cL_law 1257 = .ok (.iadd, 1) := dk_96 (dk_at dksL_law_47 19 rfl rfl)
theorem dL_law_1258 : decode cL_law 1258 = .ok (.iaload, 1) := dk_46 (dk_at dksL_law_47 20 rfl rfl)
theorem dL_law_1259 : decode cL_law 1259 = .ok (.invokevirtual 153, 3) := dk_182 0 153 (dk_at dksL_law_47 21 rfl rfl)
theorem dL_law_1262 : decode cL_law 1262 = .ok (.aload_n 2, 1) := dk_44 (dk_at dksL_law_48 0 rfl rfl)
theorem dL_law_1263 : decode cL_law 1263 = .ok (.aload_n 0, 1) := dk_42 (dk_at dksL_law_48 1 rfl rfl)
theorem dL_law_1264 : decode cL_law 1264 = .ok (.iload_n 3, 1) := dk_29 (dk_at dksL_law_48 2 rfl rfl)
theorem dL_law_1265 : decode cL_law 1265 = .ok (.iconst 1, 1) := dk_4 (dk_at dksL_law_48 3 rfl rfl)
theorem dL_law_1266 : decode cL_law 1266 = .ok (.iadd, 1) := dk_96 (dk_at dksL_law_48 4 rfl rfl)
theorem dL_law_1267 : decode cL_law 1267 = .ok (.iaload, 1) := dk_46 (dk_at dksL_law_48 5 rfl rfl)
theorem dL_law_1268 : decode cL_law 1268 = .ok (.invokevirtual 156, 3) := dk_182 0 156 (dk_at dksL_law_48 6 rfl rfl)
theorem dL_law_1271 : decode cL_law 1271 = .ok (.if_icmp .eq 42, 3) := dk_159 0 42 (dk_at dksL_law_48 9 rfl rfl)
theorem dL_law_1274 : decode cL_law 1274 = .ok (.iconst 0, 1) := dk_3 (dk_at dksL_law_48 12 rfl rfl)
theorem dL_law_1275 : decode cL_law 1275 = .ok (.ireturn, 1) := dk_172 (dk_at dksL_law_48 13 rfl rfl)
theorem dL_law_1276 : decode cL_law 1276 = .ok (.aload_n 1, 1) := dk_43 (dk_at dksL_law_48 14 rfl rfl)
theorem dL_law_1277 : decode cL_law 1277 = .ok (.aload_n 0, 1) := dk_42 (dk_at dksL_law_48 15 rfl rfl)
theorem dL_law_1278 : decode cL_law 1278 = .ok (.iload_n 3, 1) := dk_29 (dk_at dksL_law_48 16 rfl rfl)
theorem dL_law_1279 : decode cL_law 1279 = .ok (.iconst 1, 1) := dk_4 (dk_at dksL_law_48 17 rfl rfl)
theorem dL_law_1280 : decode cL_law 1280 = .ok (.iadd, 1) := dk_96 (dk_at dksL_law_48 18 rfl rfl)
theorem dL_law_1281 : decode cL_law 1281 = .ok (.iaload, 1) := dk_46 (dk_at dksL_law_48 19 rfl rfl)
theorem dL_law_1282 : decode cL_law 1282 = .ok (.invokevirtual 157, 3) := dk_182 0 157 (dk_at dksL_law_48 20 rfl rfl)
theorem dL_law_1285 : decode cL_law 1285 = .ok (.aload_n 2, 1) := dk_44 (dk_at dksL_law_48 23 rfl rfl)
theorem dL_law_1286 : decode cL_law 1286 = .ok (.aload_n 0, 1) := dk_42 (dk_at dksL_law_49 0 rfl rfl)
theorem dL_law_1287 : decode cL_law 1287 = .ok (.iload_n 3, 1) := dk_29 (dk_at dksL_law_49 1 rfl rfl)
theorem dL_law_1288 : decode cL_law 1288 = .ok (.iconst 1, 1) := dk_4 (dk_at dksL_law_49 2 rfl rfl)
theorem dL_law_1289 : decode cL_law 1289 = .ok (.iadd, 1) := dk_96 (dk_at dksL_law_49 3 rfl rfl)
theorem dL_law_1290 : decode cL_law 1290 = .ok (.iaload, 1) := dk_46 (dk_at dksL_law_49 4 rfl rfl)
theorem dL_law_1291 : decode cL_law 1291 = .ok (.invokevirtual 160, 3) := dk_182 0 160 (dk_at dksL_law_49 5 rfl rfl)
theorem dL_law_1294 : decode cL_law 1294 = .ok (.if_icmp .eq 19, 3) := dk_159 0 19 (dk_at dksL_law_49 8 rfl rfl)
theorem dL_law_1297 : decode cL_law 1297 = .ok (.iconst 0, 1) := dk_3 (dk_at dksL_law_49 11 rfl rfl)
theorem dL_law_1298 : decode cL_law 1298 = .ok (.ireturn, 1) := dk_172 (dk_at dksL_law_49 12 rfl rfl)
theorem dL_law_1299 : decode cL_law 1299 = .ok (.aload_n 1, 1) := dk_43 (dk_at dksL_law_49 13 rfl rfl)
theorem dL_law_1300 : decode cL_law 1300 = .ok (.invokevirtual 161, 3) := dk_182 0 161 (dk_at dksL_law_49 14 rfl rfl)
theorem dL_law_1303 : decode cL_law 1303 = .ok (.aload_n 2, 1) := dk_44 (dk_at dksL_law_49 17 rfl rfl)
theorem dL_law_1304 : decode cL_law 1304 = .ok (.invokevirtual 165, 3) := dk_182 0 165 (dk_at dksL_law_49 18 rfl rfl)
theorem dL_law_1307 : decode cL_law 1307 = .ok (.lcmp, 1) := dk_148 (dk_at dksL_law_49 21 rfl rfl)
theorem dL_law_1308 : decode cL_law 1308 = .ok (.ifCond .eq 5, 3) := dk_153 0 5 (dk_at dksL_law_50 0 rfl rfl)
theorem dL_law_1311 : decode cL_law 1311 = .ok (.iconst 0, 1) := dk_3 (dk_at dksL_law_50 3 rfl rfl)
theorem dL_law_1312 : decode cL_law 1312 = .ok (.ireturn, 1) := dk_172 (dk_at dksL_law_50 4 rfl rfl)
theorem dL_law_1313 : decode cL_law 1313 = .ok (.iinc 3 6, 3) := dk_132 3 6 (dk_at dksL_law_50 5 rfl rfl)
theorem dL_law_1316 : decode cL_law 1316 = .ok (.goto (-1298), 3) := dk_167 250 238 (dk_at dksL_law_50 8 rfl rfl)
theorem dL_law_1319 : decode cL_law 1319 = .ok (.iconst 1, 1) := dk_4 (dk_at dksL_law_50 11 rfl rfl)
theorem dL_law_1320 : decode cL_law 1320 = .ok (.ireturn, 1) := dk_172 (dk_at dksL_law_50 12 rfl rfl)
