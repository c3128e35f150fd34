/-! CoastTiles -/
set_option maxRecDepth 100000
def RX0 : String := "CoastTiles"
def TX0 : u_T := fun k => match k with
  | 0 => ("CoastTiles", "catalogue", "LCoastTiles$Catalogue;", true)
  | 1 => ("CoastTiles", "coast", "LCoastTiles$Coast;", false)
  | 2 => ("CoastTiles", "saved", "LCoastTiles$Coast;", false)
  | 3 => ("CoastTiles", "history", "Ljava/util/List;", true)
  | _ => ("CoastTiles", "buffer", "Ljava/lang/StringBuilder;", true)
def tyX0 : Nat → FieldType := fun k => match k with
  | 0 => .object "CoastTiles$Catalogue"
  | 1 => .object "CoastTiles$Coast"
  | 2 => .object "CoastTiles$Coast"
  | 3 => .object "java/util/List"
  | _ => .object "java/lang/StringBuilder"
abbrev wsX00 : List Cond := u_ws RX0 TX0 5
theorem nmX0 : ∀ a, a < 5 → ∀ b, b < 5 → a ≠ b → (TX0 a).2.1 ≠ (TX0 b).2.1 := by decide +kernel
theorem tyX0_ok : ∀ k, k < 5 → parseFieldDescriptor (TX0 k).2.2.1 = some (tyX0 k) := by decide +kernel
abbrev cX0_init : ByteArray := prog_1_method_1_code
def yX0_init : MethodName := ⟨RX0, "<init>", "()V"⟩
def dkwX0_init_2 : List UInt8 := [89, 183, 0, 34, 181, 0, 35, 177]
abbrev dktX0_init_2 : List UInt8 := dkwX0_init_2 ++ []
def dkwX0_init_1 : List UInt8 := [16, 8, 3, 183, 0, 18, 181, 0, 21, 42, 187, 0, 25, 89, 183, 0, 27, 181, 0, 28, 42, 187, 0, 32]
abbrev dktX0_init_1 : List UInt8 := dkwX0_init_1 ++ dktX0_init_2
def dkwX0_init_0 : List UInt8 := [42, 183, 0, 1, 42, 187, 0, 7, 89, 183, 0, 9, 181, 0, 10, 42, 187, 0, 16, 89, 42, 16, 8]
abbrev dktX0_init_0 : List UInt8 := dkwX0_init_0 ++ dktX0_init_1
theorem dksX0_init_0 : cX0_init.data.toList.drop 0 = dktX0_init_0 := by decide +kernel
theorem dksX0_init_1 : cX0_init.data.toList.drop 23 = dktX0_init_1 := dk_seg dksX0_init_0 23 rfl rfl
theorem dksX0_init_2 : cX0_init.data.toList.drop 47 = dktX0_init_2 := dk_seg dksX0_init_1 24 rfl rfl
theorem dX0_init_0 : decode cX0_init 0 = .ok (.aload_n 0, 1) := dk_42 (dk_at dksX0_init_0 0 rfl rfl)
theorem dX0_init_1 : decode cX0_init 1 = .ok (.invokespecial 1, 3) := dk_183 0 1 (dk_at dksX0_init_0 1 rfl rfl)
theorem dX0_init_4 : decode cX0_init 4 = .ok (.aload_n 0, 1) := dk_42 (dk_at dksX0_init_0 4 rfl rfl)
theorem dX0_init_5 : decode cX0_init 5 = .ok (.new 7, 3) := dk_187 0 7 (dk_at dksX0_init_0 5 rfl rfl)
theorem dX0_init_8 : decode cX0_init 8 = .ok (.dup, 1) := dk_89 (dk_at dksX0_init_0 8 rfl rfl)
theorem dX0_init_9 : decode cX0_init 9 = .ok (.invokespecial 9, 3) := dk_183 0 9 (dk_at dksX0_init_0 9 rfl rfl)
theorem dX0_init_12 : decode cX0_init 12 = .ok (.putfield 10, 3) := dk_181 0 10 (dk_at dksX0_init_0 12 rfl rfl)
theorem dX0_init_15 : decode cX0_init 15 = .ok (.aload_n 0, 1) := dk_42 (dk_at dksX0_init_0 15 rfl rfl)
theorem dX0_init_16 : decode cX0_init 16 = .ok (.new 16, 3) := dk_187 0 16 (dk_at dksX0_init_0 16 rfl rfl)
theorem dX0_init_19 : decode cX0_init 19 = .ok (.dup, 1) := dk_89 (dk_at dksX0_init_0 19 rfl rfl)
theorem dX0_init_20 : decode cX0_init 20 = .ok (.aload_n 0, 1) := dk_42 (dk_at dksX0_init_0 20 rfl rfl)
theorem dX0_init_21 : decode cX0_init 21 = .ok (.bipush 8, 2) := dk_16 8 (dk_at dksX0_init_0 21 rfl rfl)
theorem dX0_init_23 : decode cX0_init 23 = .ok (.bipush 8, 2) := dk_16 8 (dk_at dksX0_init_1 0 rfl rfl)
theorem dX0_init_25 : decode cX0_init 25 = .ok (.iconst 0, 1) := dk_3 (dk_at dksX0_init_1 2 rfl rfl)
theorem dX0_init_26 : decode cX0_init 26 = .ok (.invokespecial 18, 3) := dk_183 0 18 (dk_at dksX0_init_1 3 rfl rfl)
theorem dX0_init_29 : decode cX0_init 29 = .ok (.putfield 21, 3) := dk_181 0 21 (dk_at dksX0_init_1 6 rfl rfl)
theorem dX0_init_32 : decode cX0_init 32 = .ok (.aload_n 0, 1) := dk_42 (dk_at dksX0_init_1 9 rfl rfl)
theorem dX0_init_33 : decode cX0_init 33 = .ok (.new 25, 3) := dk_187 0 25 (dk_at dksX0_init_1 10 rfl rfl)
theorem dX0_init_36 : decode cX0_init 36 = .ok (.dup, 1) := dk_89 (dk_at dksX0_init_1 13 rfl rfl)
theorem dX0_init_37 : decode cX0_init 37 = .ok (.invokespecial 27, 3) := dk_183 0 27 (dk_at dksX0_init_1 14 rfl rfl)
theorem dX0_init_40 : decode cX0_init 40 = .ok (.putfield 28, 3) := dk_181 0 28 (dk_at dksX0_init_1 17 rfl rfl)
theorem dX0_init_43 : decode cX0_init 43 = .ok (.aload_n 0, 1) := dk_42 (dk_at dksX0_init_1 20 rfl rfl)
theorem dX0_init_44 : decode cX0_init 44 = .ok (.new 32, 3) := dk_187 0 32 (dk_at dksX0_init_1 21 rfl rfl)
theorem dX0_init_47 : decode cX0_init 47 = .ok (.dup, 1) := dk_89 (dk_at dksX0_init_2 0 rfl rfl)
theorem dX0_init_48 : decode cX0_init 48 = .ok (.invokespecial 34, 3) := dk_183 0 34 (dk_at dksX0_init_2 1 rfl rfl)
theorem dX0_init_51 : decode cX0_init 51 = .ok (.putfield 35, 3) := dk_181 0 35 (dk_at dksX0_init_2 4 rfl rfl)
theorem dX0_init_54 : decode cX0_init 54 = .ok (.return_, 1) := dk_177 (dk_at dksX0_init_2 7 rfl rfl)
abbrev cX0_begin : ByteArray := prog_1_method_7_code
def yX0_begin : MethodName := ⟨RX0, "begin", "(II)I"⟩
def dkwX0_begin_2 : List UInt8 := [183, 0, 18, 181, 0, 21, 27, 28, 104, 172]
abbrev dktX0_begin_2 : List UInt8 := dkwX0_begin_2 ++ []
def dkwX0_begin_1 : List UInt8 := [42, 180, 0, 21, 182, 0, 74, 42, 187, 0, 16, 89, 42, 27, 28, 42, 180, 0, 21, 180, 0, 43]
abbrev dktX0_begin_1 : List UInt8 := dkwX0_begin_1 ++ dktX0_begin_2
def dkwX0_begin_0 : List UInt8 := [27, 4, 16, 12, 184, 0, 39, 153, 0, 13, 28, 4, 16, 12, 184, 0, 39, 154, 0, 6, 16, 254, 172, 42]
abbrev dktX0_begin_0 : List UInt8 := dkwX0_begin_0 ++ dktX0_begin_1
theorem dksX0_begin_0 : cX0_begin.data.toList.drop 0 = dktX0_begin_0 := by decide +kernel
theorem dksX0_begin_1 : cX0_begin.data.toList.drop 24 = dktX0_begin_1 := dk_seg dksX0_begin_0 24 rfl rfl
theorem dksX0_begin_2 : cX0_begin.data.toList.drop 46 = dktX0_begin_2 := dk_seg dksX0_begin_1 22 rfl rfl
theorem dX0_begin_0 : decode cX0_begin 0 = .ok (.iload_n 1, 1) := dk_27 (dk_at dksX0_begin_0 0 rfl rfl)
theorem dX0_begin_1 : decode cX0_begin 1 = .ok (.iconst 1, 1) := dk_4 (dk_at dksX0_begin_0 1 rfl rfl)
theorem dX0_begin_2 : decode cX0_begin 2 = .ok (.bipush 12, 2) := dk_16 12 (dk_at dksX0_begin_0 2 rfl rfl)
theorem dX0_begin_4 : decode cX0_begin 4 = .ok (.invokestatic 39, 3) := dk_184 0 39 (dk_at dksX0_begin_0 4 rfl rfl)
theorem dX0_begin_7 : decode cX0_begin 7 = .ok (.ifCond .eq 13, 3) := dk_153 0 13 (dk_at dksX0_begin_0 7 rfl rfl)
theorem dX0_begin_10 : decode cX0_begin 10 = .ok (.iload_n 2, 1) := dk_28 (dk_at dksX0_begin_0 10 rfl rfl)
theorem dX0_begin_11 : decode cX0_begin 11 = .ok (.iconst 1, 1) := dk_4 (dk_at dksX0_begin_0 11 rfl rfl)
theorem dX0_begin_12 : decode cX0_begin 12 = .ok (.bipush 12, 2) := dk_16 12 (dk_at dksX0_begin_0 12 rfl rfl)
theorem dX0_begin_14 : decode cX0_begin 14 = .ok (.invokestatic 39, 3) := dk_184 0 39 (dk_at dksX0_begin_0 14 rfl rfl)
theorem dX0_begin_17 : decode cX0_begin 17 = .ok (.ifCond .ne 6, 3) := dk_154 0 6 (dk_at dksX0_begin_0 17 rfl rfl)
theorem dX0_begin_20 : decode cX0_begin 20 = .ok (.bipush (-2), 2) := dk_16 254 (dk_at dksX0_begin_0 20 rfl rfl)
theorem dX0_begin_22 : decode cX0_begin 22 = .ok (.ireturn, 1) := dk_172 (dk_at dksX0_begin_0 22 rfl rfl)
theorem dX0_begin_23 : decode cX0_begin 23 = .ok (.aload_n 0, 1) := dk_42 (dk_at dksX0_begin_0 23 rfl rfl)
theorem dX0_begin_24 : decode cX0_begin 24 = .ok (.aload_n 0, 1) := dk_42 (dk_at dksX0_begin_1 0 rfl rfl)
theorem dX0_begin_25 : decode cX0_begin 25 = .ok (.getfield 21, 3) := dk_180 0 21 (dk_at dksX0_begin_1 1 rfl rfl)
theorem dX0_begin_28 : decode cX0_begin 28 = .ok (.invokevirtual 74, 3) := dk_182 0 74 (dk_at dksX0_begin_1 4 rfl rfl)
theorem dX0_begin_31 : decode cX0_begin 31 = .ok (.aload_n 0, 1) := dk_42 (dk_at dksX0_begin_1 7 rfl rfl)
theorem dX0_begin_32 : decode cX0_begin 32 = .ok (.new 16, 3) := dk_187 0 16 (dk_at dksX0_begin_1 8 rfl rfl)
theorem dX0_begin_35 : decode cX0_begin 35 = .ok (.dup, 1) := dk_89 (dk_at dksX0_begin_1 11 rfl rfl)
theorem dX0_begin_36 : decode cX0_begin 36 = .ok (.aload_n 0, 1) := dk_42 (dk_at dksX0_begin_1 12 rfl rfl)
theorem dX0_begin_37 : decode cX0_begin 37 = .ok (.iload_n 1, 1) := dk_27 (dk_at dksX0_begin_1 13 rfl rfl)
theorem dX0_begin_38 : decode cX0_begin 38 = .ok (.iload_n 2, 1) := dk_28 (dk_at dksX0_begin_1 14 rfl rfl)
theorem dX0_begin_39 : decode cX0_begin 39 = .ok (.aload_n 0, 1) := dk_42 (dk_at dksX0_begin_1 15 rfl rfl)
theorem dX0_begin_40 : decode cX0_begin 40 = .ok (.getfield 21, 3) := dk_180 0 21 (dk_at dksX0_begin_1 16 rfl rfl)
theorem dX0_begin_43 : decode cX0_begin 43 = .ok (.getfield 43, 3) := dk_180 0 43 (dk_at dksX0_begin_1 19 rfl rfl)
theorem dX0_begin_46 : decode cX0_begin 46 = .ok (.invokespecial 18, 3) := dk_183 0 18 (dk_at dksX0_begin_2 0 rfl rfl)
theorem dX0_begin_49 : decode cX0_begin 49 = .ok (.putfield 21, 3) := dk_181 0 21 (dk_at dksX0_begin_2 3 rfl rfl)
theorem dX0_begin_52 : decode cX0_begin 52 = .ok (.iload_n 1, 1) := dk_27 (dk_at dksX0_begin_2 6 rfl rfl)
theorem dX0_begin_53 : decode cX0_begin 53 = .ok (.iload_n 2, 1) := dk_28 (dk_at dksX0_begin_2 7 rfl rfl)
theorem dX0_begin_54 : decode cX0_begin 54 = .ok (.imul, 1) := dk_104 (dk_at dksX0_begin_2 8 rfl rfl)
theorem dX0_begin_55 : decode cX0_begin 55 = .ok (.ireturn, 1) := dk_172 (dk_at dksX0_begin_2 9 rfl rfl)
abbrev cX0_isIn : ByteArray := prog_1_method_2_code
def yX0_isIn : MethodName := ⟨RX0, "isIn", "(III)Z"⟩
def dkwX0_isIn_0 : List UInt8 := [26, 27, 161, 0, 12, 26, 28, 163, 0, 7, 4, 167, 0, 4, 3, 172]
abbrev dktX0_isIn_0 : List UInt8 := dkwX0_isIn_0 ++ []
theorem dksX0_isIn_0 : cX0_isIn.data.toList.drop 0 = dktX0_isIn_0 := by decide +kernel
theorem dX0_isIn_0 : decode cX0_isIn 0 = .ok (.iload_n 0, 1) := dk_26 (dk_at dksX0_isIn_0 0 rfl rfl)
theorem dX0_isIn_1 : decode cX0_isIn 1 = .ok (.iload_n 1, 1) := dk_27 (dk_at dksX0_isIn_0 1 rfl rfl)
theorem dX0_isIn_2 : decode cX0_isIn 2 = .ok (.if_icmp .lt 12, 3) := dk_161 0 12 (dk_at dksX0_isIn_0 2 rfl rfl)
theorem dX0_isIn_5 : decode cX0_isIn 5 = .ok (.iload_n 0, 1) := dk_26 (dk_at dksX0_isIn_0 5 rfl rfl)
theorem dX0_isIn_6 : decode cX0_isIn 6 = .ok (.iload_n 2, 1) := dk_28 (dk_at dksX0_isIn_0 6 rfl rfl)
theorem dX0_isIn_7 : decode cX0_isIn 7 = .ok (.if_icmp .gt 7, 3) := dk_163 0 7 (dk_at dksX0_isIn_0 7 rfl rfl)
theorem dX0_isIn_10 : decode cX0_isIn 10 = .ok (.iconst 1, 1) := dk_4 (dk_at dksX0_isIn_0 10 rfl rfl)
theorem dX0_isIn_11 : decode cX0_isIn 11 = .ok (.goto 4, 3) := dk_167 0 4 (dk_at dksX0_isIn_0 11 rfl rfl)
theorem dX0_isIn_14 : decode cX0_isIn 14 = .ok (.iconst 0, 1) := dk_3 (dk_at dksX0_isIn_0 14 rfl rfl)
theorem dX0_isIn_15 : decode cX0_isIn 15 = .ok (.ireturn, 1) := dk_172 (dk_at dksX0_isIn_0 15 rfl rfl)
abbrev cX0_record : ByteArray := prog_1_method_5_code
def yX0_record : MethodName := ⟨RX0, "record", "(LCoastTiles$Coast;)V"⟩
def dkwX0_record_1 : List UInt8 := [42, 180, 0, 28, 43, 185, 0, 61, 2, 0, 87, 177]
abbrev dktX0_record_1 : List UInt8 := dkwX0_record_1 ++ []
def dkwX0_record_0 : List UInt8 := [42, 180, 0, 28, 185, 0, 51, 1, 0, 8, 160, 0, 14, 42, 180, 0, 28, 3, 185, 0, 57, 2, 0, 87]
abbrev dktX0_record_0 : List UInt8 := dkwX0_record_0 ++ dktX0_record_1
theorem dksX0_record_0 : cX0_record.data.toList.drop 0 = dktX0_record_0 := by decide +kernel
theorem dksX0_record_1 : cX0_record.data.toList.drop 24 = dktX0_record_1 := dk_seg dksX0_record_0 24 rfl rfl
theorem dX0_record_0 : decode cX0_record 0 = .ok (.aload_n 0, 1) := dk_42 (dk_at dksX0_record_0 0 rfl rfl)
theorem dX0_record_1 : decode cX0_record 1 = .ok (.getfield 28, 3) := dk_180 0 28 (dk_at dksX0_record_0 1 rfl rfl)
theorem dX0_record_4 : decode cX0_record 4 = .ok (.invokeinterface 51 1, 5) := by decide +kernel
theorem dX0_record_9 : decode cX0_record 9 = .ok (.iconst 5, 1) := dk_8 (dk_at dksX0_record_0 9 rfl rfl)
theorem dX0_record_10 : decode cX0_record 10 = .ok (.if_icmp .ne 14, 3) := dk_160 0 14 (dk_at dksX0_record_0 10 rfl rfl)
theorem dX0_record_13 : decode cX0_record 13 = .ok (.aload_n 0, 1) := dk_42 (dk_at dksX0_record_0 13 rfl rfl)
theorem dX0_record_14 : decode cX0_record 14 = .ok (.getfield 28, 3) := dk_180 0 28 (dk_at dksX0_record_0 14 rfl rfl)
theorem dX0_record_17 : decode cX0_record 17 = .ok (.iconst 0, 1) := dk_3 (dk_at dksX0_record_0 17 rfl rfl)
theorem dX0_record_18 : decode cX0_record 18 = .ok (.invokeinterface 57 2, 5) := by decide +kernel
theorem dX0_record_23 : decode cX0_record 23 = .ok (.pop, 1) := dk_87 (dk_at dksX0_record_0 23 rfl rfl)
theorem dX0_record_24 : decode cX0_record 24 = .ok (.aload_n 0, 1) := dk_42 (dk_at dksX0_record_1 0 rfl rfl)
theorem dX0_record_25 : decode cX0_record 25 = .ok (.getfield 28, 3) := dk_180 0 28 (dk_at dksX0_record_1 1 rfl rfl)
theorem dX0_record_28 : decode cX0_record 28 = .ok (.aload_n 1, 1) := dk_43 (dk_at dksX0_record_1 4 rfl rfl)
theorem dX0_record_29 : decode cX0_record 29 = .ok (.invokeinterface 61 2, 5) := by decide +kernel
theorem dX0_record_34 : decode cX0_record 34 = .ok (.pop, 1) := dk_87 (dk_at dksX0_record_1 10 rfl rfl)
theorem dX0_record_35 : decode cX0_record 35 = .ok (.return_, 1) := dk_177 (dk_at dksX0_record_1 11 rfl rfl)
abbrev cX0_setOutside : ByteArray := prog_1_method_8_code
def yX0_setOutside : MethodName := ⟨RX0, "setOutside", "(Z)I"⟩
def dkwX0_setOutside_1 : List UInt8 := [180, 0, 21, 44, 182, 0, 78, 172]
abbrev dktX0_setOutside_1 : List UInt8 := dkwX0_setOutside_1 ++ []
def dkwX0_setOutside_0 : List UInt8 := [42, 42, 180, 0, 21, 182, 0, 74, 42, 180, 0, 21, 77, 42, 44, 27, 182, 0, 47, 181, 0, 21, 42]
abbrev dktX0_setOutside_0 : List UInt8 := dkwX0_setOutside_0 ++ dktX0_setOutside_1
theorem dksX0_setOutside_0 : cX0_setOutside.data.toList.drop 0 = dktX0_setOutside_0 := by decide +kernel
theorem dksX0_setOutside_1 : cX0_setOutside.data.toList.drop 23 = dktX0_setOutside_1 := dk_seg dksX0_setOutside_0 23 rfl rfl
theorem dX0_setOutside_0 : decode cX0_setOutside 0 = .ok (.aload_n 0, 1) := dk_42 (dk_at dksX0_setOutside_0 0 rfl rfl)
theorem dX0_setOutside_1 : decode cX0_setOutside 1 = .ok (.aload_n 0, 1) := dk_42 (dk_at dksX0_setOutside_0 1 rfl rfl)
theorem dX0_setOutside_2 : decode cX0_setOutside 2 = .ok (.getfield 21, 3) := dk_180 0 21 (dk_at dksX0_setOutside_0 2 rfl rfl)
theorem dX0_setOutside_5 : decode cX0_setOutside 5 = .ok (.invokevirtual 74, 3) := dk_182 0 74 (dk_at dksX0_setOutside_0 5 rfl rfl)
theorem dX0_setOutside_8 : decode cX0_setOutside 8 = .ok (.aload_n 0, 1) := dk_42 (dk_at dksX0_setOutside_0 8 rfl rfl)
theorem dX0_setOutside_9 : decode cX0_setOutside 9 = .ok (.getfield 21, 3) := dk_180 0 21 (dk_at dksX0_setOutside_0 9 rfl rfl)
theorem dX0_setOutside_12 : decode cX0_setOutside 12 = .ok (.astore_n 2, 1) := dk_77 (dk_at dksX0_setOutside_0 12 rfl rfl)
theorem dX0_setOutside_13 : decode cX0_setOutside 13 = .ok (.aload_n 0, 1) := dk_42 (dk_at dksX0_setOutside_0 13 rfl rfl)
theorem dX0_setOutside_14 : decode cX0_setOutside 14 = .ok (.aload_n 2, 1) := dk_44 (dk_at dksX0_setOutside_0 14 rfl rfl)
theorem dX0_setOutside_15 : decode cX0_setOutside 15 = .ok (.iload_n 1, 1) := dk_27 (dk_at dksX0_setOutside_0 15 rfl rfl)
theorem dX0_setOutside_16 : decode cX0_setOutside 16 = .ok (.invokevirtual 47, 3) := dk_182 0 47 (dk_at dksX0_setOutside_0 16 rfl rfl)
theorem dX0_setOutside_19 : decode cX0_setOutside 19 = .ok (.putfield 21, 3) := dk_181 0 21 (dk_at dksX0_setOutside_0 19 rfl rfl)
theorem dX0_setOutside_22 : decode cX0_setOutside 22 = .ok (.aload_n 0, 1) := dk_42 (dk_at dksX0_setOutside_0 22 rfl rfl)
theorem dX0_setOutside_23 : decode cX0_setOutside 23 = .ok (.getfield 21, 3) := dk_180 0 21 (dk_at dksX0_setOutside_1 0 rfl rfl)
theorem dX0_setOutside_26 : decode cX0_setOutside 26 = .ok (.aload_n 2, 1) := dk_44 (dk_at dksX0_setOutside_1 3 rfl rfl)
theorem dX0_setOutside_27 : decode cX0_setOutside 27 = .ok (.invokevirtual 78, 3) := dk_182 0 78 (dk_at dksX0_setOutside_1 4 rfl rfl)
theorem dX0_setOutside_30 : decode cX0_setOutside 30 = .ok (.ireturn, 1) := dk_172 (dk_at dksX0_setOutside_1 7 rfl rfl)
abbrev cX0_set : ByteArray := prog_1_method_9_code
def yX0_set : MethodName := ⟨RX0, "set", "(IIZ)I"⟩
def dkwX0_set_2 : List UInt8 := [182, 0, 78, 172]
abbrev dktX0_set_2 : List UInt8 := dkwX0_set_2 ++ []
def dkwX0_set_1 : List UInt8 := [42, 25, 4, 182, 0, 74, 42, 180, 0, 21, 27, 28, 29, 182, 0, 86, 87, 42, 180, 0, 21, 25, 4]
abbrev dktX0_set_1 : List UInt8 := dkwX0_set_1 ++ dktX0_set_2
def dkwX0_set_0 : List UInt8 := [42, 180, 0, 21, 27, 28, 182, 0, 82, 154, 0, 5, 2, 172, 42, 42, 180, 0, 21, 182, 0, 65, 58, 4]
abbrev dktX0_set_0 : List UInt8 := dkwX0_set_0 ++ dktX0_set_1
theorem dksX0_set_0 : cX0_set.data.toList.drop 0 = dktX0_set_0 := by decide +kernel
theorem dksX0_set_1 : cX0_set.data.toList.drop 24 = dktX0_set_1 := dk_seg dksX0_set_0 24 rfl rfl
theorem dksX0_set_2 : cX0_set.data.toList.drop 47 = dktX0_set_2 := dk_seg dksX0_set_1 23 rfl rfl
theorem dX0_set_0 : decode cX0_set 0 = .ok (.aload_n 0, 1) := dk_42 (dk_at dksX0_set_0 0 rfl rfl)
theorem dX0_set_1 : decode cX0_set 1 = .ok (.getfield 21, 3) := dk_180 0 21 (dk_at dksX0_set_0 1 rfl rfl)
theorem dX0_set_4 : decode cX0_set 4 = .ok (.iload_n 1, 1) := dk_27 (dk_at dksX0_set_0 4 rfl rfl)
theorem dX0_set_5 : decode cX0_set 5 = .ok (.iload_n 2, 1) := dk_28 (dk_at dksX0_set_0 5 rfl rfl)
theorem dX0_set_6 : decode cX0_set 6 = .ok (.invokevirtual 82, 3) := dk_182 0 82 (dk_at dksX0_set_0 6 rfl rfl)
theorem dX0_set_9 : decode cX0_set 9 = .ok (.ifCond .ne 5, 3) := dk_154 0 5 (dk_at dksX0_set_0 9 rfl rfl)
theorem dX0_set_12 : decode cX0_set 12 = .ok (.iconst (-1), 1) := dk_2 (dk_at dksX0_set_0 12 rfl rfl)
theorem dX0_set_13 : decode cX0_set 13 = .ok (.ireturn, 1) := dk_172 (dk_at dksX0_set_0 13 rfl rfl)
theorem dX0_set_14 : decode cX0_set 14 = .ok (.aload_n 0, 1) := dk_42 (dk_at dksX0_set_0 14 rfl rfl)
theorem dX0_set_15 : decode cX0_set 15 = .ok (.aload_n 0, 1) := dk_42 (dk_at dksX0_set_0 15 rfl rfl)
theorem dX0_set_16 : decode cX0_set 16 = .ok (.getfield 21, 3) := dk_180 0 21 (dk_at dksX0_set_0 16 rfl rfl)
theorem dX0_set_19 : decode cX0_set 19 = .ok (.invokevirtual 65, 3) := dk_182 0 65 (dk_at dksX0_set_0 19 rfl rfl)
theorem dX0_set_22 : decode cX0_set 22 = .ok (.astore 4, 2) := dk_58 4 (dk_at dksX0_set_0 22 rfl rfl)
theorem dX0_set_24 : decode cX0_set 24 = .ok (.aload_n 0, 1) := dk_42 (dk_at dksX0_set_1 0 rfl rfl)
theorem dX0_set_25 : decode cX0_set 25 = .ok (.aload 4, 2) := dk_25 4 (dk_at dksX0_set_1 1 rfl rfl)
theorem dX0_set_27 : decode cX0_set 27 = .ok (.invokevirtual 74, 3) := dk_182 0 74 (dk_at dksX0_set_1 3 rfl rfl)
theorem dX0_set_30 : decode cX0_set 30 = .ok (.aload_n 0, 1) := dk_42 (dk_at dksX0_set_1 6 rfl rfl)
theorem dX0_set_31 : decode cX0_set 31 = .ok (.getfield 21, 3) := dk_180 0 21 (dk_at dksX0_set_1 7 rfl rfl)
theorem dX0_set_34 : decode cX0_set 34 = .ok (.iload_n 1, 1) := dk_27 (dk_at dksX0_set_1 10 rfl rfl)
theorem dX0_set_35 : decode cX0_set 35 = .ok (.iload_n 2, 1) := dk_28 (dk_at dksX0_set_1 11 rfl rfl)
theorem dX0_set_36 : decode cX0_set 36 = .ok (.iload_n 3, 1) := dk_29 (dk_at dksX0_set_1 12 rfl rfl)
theorem dX0_set_37 : decode cX0_set 37 = .ok (.invokevirtual 86, 3) := dk_182 0 86 (dk_at dksX0_set_1 13 rfl rfl)
theorem dX0_set_40 : decode cX0_set 40 = .ok (.pop, 1) := dk_87 (dk_at dksX0_set_1 16 rfl rfl)
theorem dX0_set_41 : decode cX0_set 41 = .ok (.aload_n 0, 1) := dk_42 (dk_at dksX0_set_1 17 rfl rfl)
theorem dX0_set_42 : decode cX0_set 42 = .ok (.getfield 21, 3) := dk_180 0 21 (dk_at dksX0_set_1 18 rfl rfl)
theorem dX0_set_45 : decode cX0_set 45 = .ok (.aload 4, 2) := dk_25 4 (dk_at dksX0_set_1 21 rfl rfl)
theorem dX0_set_47 : decode cX0_set 47 = .ok (.invokevirtual 78, 3) := dk_182 0 78 (dk_at dksX0_set_2 0 rfl rfl)
theorem dX0_set_50 : decode cX0_set 50 = .ok (.ireturn, 1) := dk_172 (dk_at dksX0_set_2 3 rfl rfl)
abbrev cX0_same : ByteArray := prog_1_method_4_code
def yX0_same : MethodName := ⟨RX0, "same", "(LCoastTiles$Coast;)LCoastTiles$Coast;"⟩
def dkwX0_same_0 : List UInt8 := [43, 43, 180, 0, 43, 182, 0, 47, 176]
abbrev dktX0_same_0 : List UInt8 := dkwX0_same_0 ++ []
theorem dksX0_same_0 : cX0_same.data.toList.drop 0 = dktX0_same_0 := by decide +kernel
theorem dX0_same_0 : decode cX0_same 0 = .ok (.aload_n 1, 1) := dk_43 (dk_at dksX0_same_0 0 rfl rfl)
theorem dX0_same_1 : decode cX0_same 1 = .ok (.aload_n 1, 1) := dk_43 (dk_at dksX0_same_0 1 rfl rfl)
theorem dX0_same_2 : decode cX0_same 2 = .ok (.getfield 43, 3) := dk_180 0 43 (dk_at dksX0_same_0 2 rfl rfl)
theorem dX0_same_5 : decode cX0_same 5 = .ok (.invokevirtual 47, 3) := dk_182 0 47 (dk_at dksX0_same_0 5 rfl rfl)
theorem dX0_same_8 : decode cX0_same 8 = .ok (.areturn, 1) := dk_176 (dk_at dksX0_same_0 8 rfl rfl)
abbrev cX0_fill : ByteArray := prog_1_method_10_code
def yX0_fill : MethodName := ⟨RX0, "fill", "(IIZ)I"⟩
def dkwX0_fill_1 : List UInt8 := [182, 0, 93, 172]
abbrev dktX0_fill_1 : List UInt8 := dkwX0_fill_1 ++ []
def dkwX0_fill_0 : List UInt8 := [42, 180, 0, 21, 27, 28, 182, 0, 82, 154, 0, 5, 2, 172, 42, 42, 27, 28, 29, 186, 0, 90, 0, 0]
abbrev dktX0_fill_0 : List UInt8 := dkwX0_fill_0 ++ dktX0_fill_1
theorem dksX0_fill_0 : cX0_fill.data.toList.drop 0 = dktX0_fill_0 := by decide +kernel
theorem dksX0_fill_1 : cX0_fill.data.toList.drop 24 = dktX0_fill_1 := dk_seg dksX0_fill_0 24 rfl rfl
theorem dX0_fill_0 : decode cX0_fill 0 = .ok (.aload_n 0, 1) := dk_42 (dk_at dksX0_fill_0 0 rfl rfl)
theorem dX0_fill_1 : decode cX0_fill 1 = .ok (.getfield 21, 3) := dk_180 0 21 (dk_at dksX0_fill_0 1 rfl rfl)
theorem dX0_fill_4 : decode cX0_fill 4 = .ok (.iload_n 1, 1) := dk_27 (dk_at dksX0_fill_0 4 rfl rfl)
theorem dX0_fill_5 : decode cX0_fill 5 = .ok (.iload_n 2, 1) := dk_28 (dk_at dksX0_fill_0 5 rfl rfl)
theorem dX0_fill_6 : decode cX0_fill 6 = .ok (.invokevirtual 82, 3) := dk_182 0 82 (dk_at dksX0_fill_0 6 rfl rfl)
theorem dX0_fill_9 : decode cX0_fill 9 = .ok (.ifCond .ne 5, 3) := dk_154 0 5 (dk_at dksX0_fill_0 9 rfl rfl)
theorem dX0_fill_12 : decode cX0_fill 12 = .ok (.iconst (-1), 1) := dk_2 (dk_at dksX0_fill_0 12 rfl rfl)
theorem dX0_fill_13 : decode cX0_fill 13 = .ok (.ireturn, 1) := dk_172 (dk_at dksX0_fill_0 13 rfl rfl)
theorem dX0_fill_14 : decode cX0_fill 14 = .ok (.aload_n 0, 1) := dk_42 (dk_at dksX0_fill_0 14 rfl rfl)
theorem dX0_fill_15 : decode cX0_fill 15 = .ok (.aload_n 0, 1) := dk_42 (dk_at dksX0_fill_0 15 rfl rfl)
theorem dX0_fill_16 : decode cX0_fill 16 = .ok (.iload_n 1, 1) := dk_27 (dk_at dksX0_fill_0 16 rfl rfl)
theorem dX0_fill_17 : decode cX0_fill 17 = .ok (.iload_n 2, 1) := dk_28 (dk_at dksX0_fill_0 17 rfl rfl)
theorem dX0_fill_18 : decode cX0_fill 18 = .ok (.iload_n 3, 1) := dk_29 (dk_at dksX0_fill_0 18 rfl rfl)
theorem dX0_fill_19 : decode cX0_fill 19 = .ok (.invokedynamic 90, 5) := by decide +kernel
theorem dX0_fill_24 : decode cX0_fill 24 = .ok (.invokevirtual 93, 3) := dk_182 0 93 (dk_at dksX0_fill_1 0 rfl rfl)
theorem dX0_fill_27 : decode cX0_fill 27 = .ok (.ireturn, 1) := dk_172 (dk_at dksX0_fill_1 3 rfl rfl)
abbrev cX0_lambda_fill_1 : ByteArray := prog_1_method_54_code
def yX0_lambda_fill_1 : MethodName := ⟨RX0, "lambda$fill$1", "(IIZ)I"⟩
def dkwX0_lambda_fill_1_3 : List UInt8 := [182, 0, 239, 54, 6, 167, 255, 209, 21, 5, 172]
abbrev dktX0_lambda_fill_1_3 : List UInt8 := dkwX0_lambda_fill_1_3 ++ []
def dkwX0_lambda_fill_1_2 : List UInt8 := [16, 12, 112, 29, 182, 0, 86, 153, 0, 7, 4, 167, 0, 4, 3, 96, 54, 5, 25, 4, 21, 6, 4, 96]
abbrev dktX0_lambda_fill_1_2 : List UInt8 := dkwX0_lambda_fill_1_2 ++ dktX0_lambda_fill_1_3
def dkwX0_lambda_fill_1_1 : List UInt8 := [182, 0, 239, 54, 6, 21, 6, 155, 0, 48, 21, 5, 42, 180, 0, 21, 21, 6, 16, 12, 108, 21, 6]
abbrev dktX0_lambda_fill_1_1 : List UInt8 := dkwX0_lambda_fill_1_1 ++ dktX0_lambda_fill_1_2
def dkwX0_lambda_fill_1_0 : List UInt8 := [42, 180, 0, 21, 27, 28, 3, 186, 1, 53, 0, 0, 182, 0, 223, 58, 4, 3, 54, 5, 25, 4, 3]
abbrev dktX0_lambda_fill_1_0 : List UInt8 := dkwX0_lambda_fill_1_0 ++ dktX0_lambda_fill_1_1
theorem dksX0_lambda_fill_1_0 : cX0_lambda_fill_1.data.toList.drop 0 = dktX0_lambda_fill_1_0 := by decide +kernel
theorem dksX0_lambda_fill_1_1 : cX0_lambda_fill_1.data.toList.drop 23 = dktX0_lambda_fill_1_1 := dk_seg dksX0_lambda_fill_1_0 23 rfl rfl
theorem dksX0_lambda_fill_1_2 : cX0_lambda_fill_1.data.toList.drop 46 = dktX0_lambda_fill_1_2 := dk_seg dksX0_lambda_fill_1_1 23 rfl rfl
theorem dksX0_lambda_fill_1_3 : cX0_lambda_fill_1.data.toList.drop 70 = dktX0_lambda_fill_1_3 := dk_seg dksX0_lambda_fill_1_2 24 rfl rfl
theorem dX0_lambda_fill_1_0 : decode cX0_lambda_fill_1 0 = .ok (.aload_n 0, 1) := dk_42 (dk_at dksX0_lambda_fill_1_0 0 rfl rfl)
theorem dX0_lambda_fill_1_1 : decode cX0_lambda_fill_1 1 = .ok (.getfield 21, 3) := dk_180 0 21 (dk_at dksX0_lambda_fill_1_0 1 rfl rfl)
theorem dX0_lambda_fill_1_4 : decode cX0_lambda_fill_1 4 = .ok (.iload_n 1, 1) := dk_27 (dk_at dksX0_lambda_fill_1_0 4 rfl rfl)
theorem dX0_lambda_fill_1_5 : decode cX0_lambda_fill_1 5 = .ok (.iload_n 2, 1) := dk_28 (dk_at dksX0_lambda_fill_1_0 5 rfl rfl)
theorem dX0_lambda_fill_1_6 : decode cX0_lambda_fill_1 6 = .ok (.iconst 0, 1) := dk_3 (dk_at dksX0_lambda_fill_1_0 6 rfl rfl)
theorem dX0_lambda_fill_1_7 : decode cX0_lambda_fill_1 7 = .ok (.invokedynamic 309, 5) := by decide +kernel
theorem dX0_lambda_fill_1_12 : decode cX0_lambda_fill_1 12 = .ok (.invokevirtual 223, 3) := dk_182 0 223 (dk_at dksX0_lambda_fill_1_0 12 rfl rfl)
theorem dX0_lambda_fill_1_15 : decode cX0_lambda_fill_1 15 = .ok (.astore 4, 2) := dk_58 4 (dk_at dksX0_lambda_fill_1_0 15 rfl rfl)
theorem dX0_lambda_fill_1_17 : decode cX0_lambda_fill_1 17 = .ok (.iconst 0, 1) := dk_3 (dk_at dksX0_lambda_fill_1_0 17 rfl rfl)
theorem dX0_lambda_fill_1_18 : decode cX0_lambda_fill_1 18 = .ok (.istore 5, 2) := dk_54 5 (dk_at dksX0_lambda_fill_1_0 18 rfl rfl)
theorem dX0_lambda_fill_1_20 : decode cX0_lambda_fill_1 20 = .ok (.aload 4, 2) := dk_25 4 (dk_at dksX0_lambda_fill_1_0 20 rfl rfl)
theorem dX0_lambda_fill_1_22 : decode cX0_lambda_fill_1 22 = .ok (.iconst 0, 1) := dk_3 (dk_at dksX0_lambda_fill_1_0 22 rfl rfl)
theorem dX0_lambda_fill_1_23 : decode cX0_lambda_fill_1 23 = .ok (.invokevirtual 239, 3) := dk_182 0 239 (dk_at dksX0_lambda_fill_1_1 0 rfl rfl)
theorem dX0_lambda_fill_1_26 : decode cX0_lambda_fill_1 26 = .ok (.istore 6, 2) := dk_54 6 (dk_at dksX0_lambda_fill_1_1 3 rfl rfl)
theorem dX0_lambda_fill_1_28 : decode cX0_lambda_fill_1 28 = .ok (.iload 6, 2) := dk_21 6 (dk_at dksX0_lambda_fill_1_1 5 rfl rfl)
theorem dX0_lambda_fill_1_30 : decode cX0_lambda_fill_1 30 = .ok (.ifCond .lt 48, 3) := dk_155 0 48 (dk_at dksX0_lambda_fill_1_1 7 rfl rfl)
theorem dX0_lambda_fill_1_33 : decode cX0_lambda_fill_1 33 = .ok (.iload 5, 2) := dk_21 5 (dk_at dksX0_lambda_fill_1_1 10 rfl rfl)
theorem dX0_lambda_fill_1_35 : decode cX0_lambda_fill_1 35 = .ok (.aload_n 0, 1) := dk_42 (dk_at dksX0_lambda_fill_1_1 12 rfl rfl)
theorem dX0_lambda_fill_1_36 : decode cX0_lambda_fill_1 36 = .ok (.getfield 21, 3) := dk_180 0 21 (dk_at dksX0_lambda_fill_1_1 13 rfl rfl)
theorem dX0_lambda_fill_1_39 : decode cX0_lambda_fill_1 39 = .ok (.iload 6, 2) := dk_21 6 (dk_at dksX0_lambda_fill_1_1 16 rfl rfl)
theorem dX0_lambda_fill_1_41 : decode cX0_lambda_fill_1 41 = .ok (.bipush 12, 2) := dk_16 12 (dk_at dksX0_lambda_fill_1_1 18 rfl rfl)
theorem dX0_lambda_fill_1_43 : decode cX0_lambda_fill_1 43 = .ok (.idiv, 1) := dk_108 (dk_at dksX0_lambda_fill_1_1 20 rfl rfl)
theorem dX0_lambda_fill_1_44 : decode cX0_lambda_fill_1 44 = .ok (.iload 6, 2) := dk_21 6 (dk_at dksX0_lambda_fill_1_1 21 rfl rfl)
theorem dX0_lambda_fill_1_46 : decode cX0_lambda_fill_1 46 = .ok (.bipush 12, 2) := dk_16 12 (dk_at dksX0_lambda_fill_1_2 0 rfl rfl)
theorem dX0_lambda_fill_1_48 : decode cX0_lambda_fill_1 48 = .ok (.irem, 1) := dk_112 (dk_at dksX0_lambda_fill_1_2 2 rfl rfl)
theorem dX0_lambda_fill_1_49 : decode cX0_lambda_fill_1 49 = .ok (.iload_n 3, 1) := dk_29 (dk_at dksX0_lambda_fill_1_2 3 rfl rfl)
theorem dX0_lambda_fill_1_50 : decode cX0_lambda_fill_1 50 = .ok (.invokevirtual 86, 3) := dk_182 0 86 (dk_at dksX0_lambda_fill_1_2 4 rfl rfl)
theorem dX0_lambda_fill_1_53 : decode cX0_lambda_fill_1 53 = .ok (.ifCond .eq 7, 3) := dk_153 0 7 (dk_at dksX0_lambda_fill_1_2 7 rfl rfl)
theorem dX0_lambda_fill_1_56 : decode cX0_lambda_fill_1 56 = .ok (.iconst 1, 1) := dk_4 (dk_at dksX0_lambda_fill_1_2 10 rfl rfl)
theorem dX0_lambda_fill_1_57 : decode cX0_lambda_fill_1 57 = .ok (.goto 4, 3) := dk_167 0 4 (dk_at dksX0_lambda_fill_1_2 11 rfl rfl)
theorem dX0_lambda_fill_1_60 : decode cX0_lambda_fill_1 60 = .ok (.iconst 0, 1) := dk_3 (dk_at dksX0_lambda_fill_1_2 14 rfl rfl)
theorem dX0_lambda_fill_1_61 : decode cX0_lambda_fill_1 61 = .ok (.iadd, 1) := dk_96 (dk_at dksX0_lambda_fill_1_2 15 rfl rfl)
theorem dX0_lambda_fill_1_62 : decode cX0_lambda_fill_1 62 = .ok (.istore 5, 2) := dk_54 5 (dk_at dksX0_lambda_fill_1_2 16 rfl rfl)
theorem dX0_lambda_fill_1_64 : decode cX0_lambda_fill_1 64 = .ok (.aload 4, 2) := dk_25 4 (dk_at dksX0_lambda_fill_1_2 18 rfl rfl)
theorem dX0_lambda_fill_1_66 : decode cX0_lambda_fill_1 66 = .ok (.iload 6, 2) := dk_21 6 (dk_at dksX0_lambda_fill_1_2 20 rfl rfl)
theorem dX0_lambda_fill_1_68 : decode cX0_lambda_fill_1 68 = .ok (.iconst 1, 1) := dk_4 (dk_at dksX0_lambda_fill_1_2 22 rfl rfl)
theorem dX0_lambda_fill_1_69 : decode cX0_lambda_fill_1 69 = .ok (.iadd, 1) := dk_96 (dk_at dksX0_lambda_fill_1_2 23 rfl rfl)
theorem dX0_lambda_fill_1_70 : decode cX0_lambda_fill_1 70 = .ok (.invokevirtual 239, 3) := dk_182 0 239 (dk_at dksX0_lambda_fill_1_3 0 rfl rfl)
theorem dX0_lambda_fill_1_73 : decode cX0_lambda_fill_1 73 = .ok (.istore 6, 2) := dk_54 6 (dk_at dksX0_lambda_fill_1_3 3 rfl rfl)
theorem dX0_lambda_fill_1_75 : decode cX0_lambda_fill_1 75 = .ok (.goto (-47), 3) := dk_167 255 209 (dk_at dksX0_lambda_fill_1_3 5 rfl rfl)
theorem dX0_lambda_fill_1_78 : decode cX0_lambda_fill_1 78 = .ok (.iload 5, 2) := dk_21 5 (dk_at dksX0_lambda_fill_1_3 8 rfl rfl)
theorem dX0_lambda_fill_1_80 : decode cX0_lambda_fill_1 80 = .ok (.ireturn, 1) := dk_172 (dk_at dksX0_lambda_fill_1_3 10 rfl rfl)
abbrev cX0_lambda_fill_0 : ByteArray := prog_1_method_55_code
def yX0_lambda_fill_0 : MethodName := ⟨RX0, "lambda$fill$0", "(LCoastTiles$Step;)V"⟩
theorem dX0_lambda_fill_0_0 : decode cX0_lambda_fill_0 0 = .ok (.return_, 1) := by decide +kernel
abbrev cX0_change : ByteArray := prog_1_method_6_code
def yX0_change : MethodName := ⟨RX0, "change", "(LCoastTiles$Edit;)I"⟩
def dkwX0_change_1 : List UInt8 := [182, 0, 74, 29, 172]
abbrev dktX0_change_1 : List UInt8 := dkwX0_change_1 ++ []
def dkwX0_change_0 : List UInt8 := [42, 42, 180, 0, 21, 182, 0, 65, 77, 43, 185, 0, 69, 1, 0, 62, 29, 155, 0, 8, 42, 44]
abbrev dktX0_change_0 : List UInt8 := dkwX0_change_0 ++ dktX0_change_1
theorem dksX0_change_0 : cX0_change.data.toList.drop 0 = dktX0_change_0 := by decide +kernel
theorem dksX0_change_1 : cX0_change.data.toList.drop 22 = dktX0_change_1 := dk_seg dksX0_change_0 22 rfl rfl
theorem dX0_change_0 : decode cX0_change 0 = .ok (.aload_n 0, 1) := dk_42 (dk_at dksX0_change_0 0 rfl rfl)
theorem dX0_change_1 : decode cX0_change 1 = .ok (.aload_n 0, 1) := dk_42 (dk_at dksX0_change_0 1 rfl rfl)
theorem dX0_change_2 : decode cX0_change 2 = .ok (.getfield 21, 3) := dk_180 0 21 (dk_at dksX0_change_0 2 rfl rfl)
theorem dX0_change_5 : decode cX0_change 5 = .ok (.invokevirtual 65, 3) := dk_182 0 65 (dk_at dksX0_change_0 5 rfl rfl)
theorem dX0_change_8 : decode cX0_change 8 = .ok (.astore_n 2, 1) := dk_77 (dk_at dksX0_change_0 8 rfl rfl)
theorem dX0_change_9 : decode cX0_change 9 = .ok (.aload_n 1, 1) := dk_43 (dk_at dksX0_change_0 9 rfl rfl)
theorem dX0_change_10 : decode cX0_change 10 = .ok (.invokeinterface 69 1, 5) := by decide +kernel
theorem dX0_change_15 : decode cX0_change 15 = .ok (.istore_n 3, 1) := dk_62 (dk_at dksX0_change_0 15 rfl rfl)
theorem dX0_change_16 : decode cX0_change 16 = .ok (.iload_n 3, 1) := dk_29 (dk_at dksX0_change_0 16 rfl rfl)
theorem dX0_change_17 : decode cX0_change 17 = .ok (.ifCond .lt 8, 3) := dk_155 0 8 (dk_at dksX0_change_0 17 rfl rfl)
theorem dX0_change_20 : decode cX0_change 20 = .ok (.aload_n 0, 1) := dk_42 (dk_at dksX0_change_0 20 rfl rfl)
theorem dX0_change_21 : decode cX0_change 21 = .ok (.aload_n 2, 1) := dk_44 (dk_at dksX0_change_0 21 rfl rfl)
theorem dX0_change_22 : decode cX0_change 22 = .ok (.invokevirtual 74, 3) := dk_182 0 74 (dk_at dksX0_change_1 0 rfl rfl)
theorem dX0_change_25 : decode cX0_change 25 = .ok (.iload_n 3, 1) := dk_29 (dk_at dksX0_change_1 3 rfl rfl)
theorem dX0_change_26 : decode cX0_change 26 = .ok (.ireturn, 1) := dk_172 (dk_at dksX0_change_1 4 rfl rfl)
abbrev cX0_brush : ByteArray := prog_1_method_11_code
def yX0_brush : MethodName := ⟨RX0, "brush", "(IIIZ)I"⟩
def dkwX0_brush_1 : List UInt8 := [16, 254, 172, 42, 42, 27, 28, 29, 21, 4, 186, 0, 97, 0, 0, 182, 0, 93, 172]
abbrev dktX0_brush_1 : List UInt8 := dkwX0_brush_1 ++ []
def dkwX0_brush_0 : List UInt8 := [42, 180, 0, 21, 27, 28, 182, 0, 82, 154, 0, 5, 2, 172, 29, 3, 8, 184, 0, 39, 154, 0, 6]
abbrev dktX0_brush_0 : List UInt8 := dkwX0_brush_0 ++ dktX0_brush_1
theorem dksX0_brush_0 : cX0_brush.data.toList.drop 0 = dktX0_brush_0 := by decide +kernel
theorem dksX0_brush_1 : cX0_brush.data.toList.drop 23 = dktX0_brush_1 := dk_seg dksX0_brush_0 23 rfl rfl
theorem dX0_brush_0 : decode cX0_brush 0 = .ok (.aload_n 0, 1) := dk_42 (dk_at dksX0_brush_0 0 rfl rfl)
theorem dX0_brush_1 : decode cX0_brush 1 = .ok (.getfield 21, 3) := dk_180 0 21 (dk_at dksX0_brush_0 1 rfl rfl)
theorem dX0_brush_4 : decode cX0_brush 4 = .ok (.iload_n 1, 1) := dk_27 (dk_at dksX0_brush_0 4 rfl rfl)
theorem dX0_brush_5 : decode cX0_brush 5 = .ok (.iload_n 2, 1) := dk_28 (dk_at dksX0_brush_0 5 rfl rfl)
theorem dX0_brush_6 : decode cX0_brush 6 = .ok (.invokevirtual 82, 3) := dk_182 0 82 (dk_at dksX0_brush_0 6 rfl rfl)
theorem dX0_brush_9 : decode cX0_brush 9 = .ok (.ifCond .ne 5, 3) := dk_154 0 5 (dk_at dksX0_brush_0 9 rfl rfl)
theorem dX0_brush_12 : decode cX0_brush 12 = .ok (.iconst (-1), 1) := dk_2 (dk_at dksX0_brush_0 12 rfl rfl)
theorem dX0_brush_13 : decode cX0_brush 13 = .ok (.ireturn, 1) := dk_172 (dk_at dksX0_brush_0 13 rfl rfl)
theorem dX0_brush_14 : decode cX0_brush 14 = .ok (.iload_n 3, 1) := dk_29 (dk_at dksX0_brush_0 14 rfl rfl)
theorem dX0_brush_15 : decode cX0_brush 15 = .ok (.iconst 0, 1) := dk_3 (dk_at dksX0_brush_0 15 rfl rfl)
theorem dX0_brush_16 : decode cX0_brush 16 = .ok (.iconst 5, 1) := dk_8 (dk_at dksX0_brush_0 16 rfl rfl)
theorem dX0_brush_17 : decode cX0_brush 17 = .ok (.invokestatic 39, 3) := dk_184 0 39 (dk_at dksX0_brush_0 17 rfl rfl)
theorem dX0_brush_20 : decode cX0_brush 20 = .ok (.ifCond .ne 6, 3) := dk_154 0 6 (dk_at dksX0_brush_0 20 rfl rfl)
theorem dX0_brush_23 : decode cX0_brush 23 = .ok (.bipush (-2), 2) := dk_16 254 (dk_at dksX0_brush_1 0 rfl rfl)
theorem dX0_brush_25 : decode cX0_brush 25 = .ok (.ireturn, 1) := dk_172 (dk_at dksX0_brush_1 2 rfl rfl)
theorem dX0_brush_26 : decode cX0_brush 26 = .ok (.aload_n 0, 1) := dk_42 (dk_at dksX0_brush_1 3 rfl rfl)
theorem dX0_brush_27 : decode cX0_brush 27 = .ok (.aload_n 0, 1) := dk_42 (dk_at dksX0_brush_1 4 rfl rfl)
theorem dX0_brush_28 : decode cX0_brush 28 = .ok (.iload_n 1, 1) := dk_27 (dk_at dksX0_brush_1 5 rfl rfl)
theorem dX0_brush_29 : decode cX0_brush 29 = .ok (.iload_n 2, 1) := dk_28 (dk_at dksX0_brush_1 6 rfl rfl)
theorem dX0_brush_30 : decode cX0_brush 30 = .ok (.iload_n 3, 1) := dk_29 (dk_at dksX0_brush_1 7 rfl rfl)
theorem dX0_brush_31 : decode cX0_brush 31 = .ok (.iload 4, 2) := dk_21 4 (dk_at dksX0_brush_1 8 rfl rfl)
theorem dX0_brush_33 : decode cX0_brush 33 = .ok (.invokedynamic 97, 5) := by decide +kernel
theorem dX0_brush_38 : decode cX0_brush 38 = .ok (.invokevirtual 93, 3) := dk_182 0 93 (dk_at dksX0_brush_1 15 rfl rfl)
theorem dX0_brush_41 : decode cX0_brush 41 = .ok (.ireturn, 1) := dk_172 (dk_at dksX0_brush_1 18 rfl rfl)
abbrev cX0_lambda_brush_2 : ByteArray := prog_1_method_53_code
def yX0_lambda_brush_2 : MethodName := ⟨RX0, "lambda$brush$2", "(IIIZ)I"⟩
def dkwX0_lambda_brush_2_4 : List UInt8 := [132, 7, 1, 167, 255, 178, 132, 6, 1, 167, 255, 157, 21, 5, 172]
abbrev dktX0_lambda_brush_2_4 : List UInt8 := dkwX0_lambda_brush_2_4 ++ []
def dkwX0_lambda_brush_2_3 : List UInt8 := [42, 180, 0, 21, 21, 6, 21, 7, 21, 4, 182, 0, 86, 153, 0, 7, 4, 167, 0, 4, 3, 96, 54, 5]
abbrev dktX0_lambda_brush_2_3 : List UInt8 := dkwX0_lambda_brush_2_3 ++ dktX0_lambda_brush_2_4
def dkwX0_lambda_brush_2_2 : List UInt8 := [28, 100, 104, 96, 29, 29, 104, 163, 0, 7, 4, 167, 0, 4, 3, 54, 8, 21, 5, 21, 8, 153, 0, 23]
abbrev dktX0_lambda_brush_2_2 : List UInt8 := dkwX0_lambda_brush_2_2 ++ dktX0_lambda_brush_2_3
def dkwX0_lambda_brush_2_1 : List UInt8 := [180, 0, 21, 180, 0, 111, 162, 0, 72, 21, 6, 27, 100, 21, 6, 27, 100, 104, 21, 7, 28, 100, 21, 7]
abbrev dktX0_lambda_brush_2_1 : List UInt8 := dkwX0_lambda_brush_2_1 ++ dktX0_lambda_brush_2_2
def dkwX0_lambda_brush_2_0 : List UInt8 := [3, 54, 5, 3, 54, 6, 21, 6, 42, 180, 0, 21, 180, 0, 107, 162, 0, 93, 3, 54, 7, 21, 7, 42]
abbrev dktX0_lambda_brush_2_0 : List UInt8 := dkwX0_lambda_brush_2_0 ++ dktX0_lambda_brush_2_1
theorem dksX0_lambda_brush_2_0 : cX0_lambda_brush_2.data.toList.drop 0 = dktX0_lambda_brush_2_0 := by decide +kernel
theorem dksX0_lambda_brush_2_1 : cX0_lambda_brush_2.data.toList.drop 24 = dktX0_lambda_brush_2_1 := dk_seg dksX0_lambda_brush_2_0 24 rfl rfl
theorem dksX0_lambda_brush_2_2 : cX0_lambda_brush_2.data.toList.drop 48 = dktX0_lambda_brush_2_2 := dk_seg dksX0_lambda_brush_2_1 24 rfl rfl
theorem dksX0_lambda_brush_2_3 : cX0_lambda_brush_2.data.toList.drop 72 = dktX0_lambda_brush_2_3 := dk_seg dksX0_lambda_brush_2_2 24 rfl rfl
theorem dksX0_lambda_brush_2_4 : cX0_lambda_brush_2.data.toList.drop 96 = dktX0_lambda_brush_2_4 := dk_seg dksX0_lambda_brush_2_3 24 rfl rfl
theorem dX0_lambda_brush_2_0 : decode cX0_lambda_brush_2 0 = .ok (.iconst 0, 1) := dk_3 (dk_at dksX0_lambda_brush_2_0 0 rfl rfl)
theorem dX0_lambda_brush_2_1 : decode cX0_lambda_brush_2 1 = .ok (.istore 5, 2) := dk_54 5 (dk_at dksX0_lambda_brush_2_0 1 rfl rfl)
theorem dX0_lambda_brush_2_3 : decode cX0_lambda_brush_2 3 = .ok (.iconst 0, 1) := dk_3 (dk_at dksX0_lambda_brush_2_0 3 rfl rfl)
theorem dX0_lambda_brush_2_4 : decode cX0_lambda_brush_2 4 = .ok (.istore 6, 2) := dk_54 6 (dk_at dksX0_lambda_brush_2_0 4 rfl rfl)
theorem dX0_lambda_brush_2_6 : decode cX0_lambda_brush_2 6 = .ok (.iload 6, 2) := dk_21 6 (dk_at dksX0_lambda_brush_2_0 6 rfl rfl)
theorem dX0_lambda_brush_2_8 : decode cX0_lambda_brush_2 8 = .ok (.aload_n 0, 1) := dk_42 (dk_at dksX0_lambda_brush_2_0 8 rfl rfl)
theorem dX0_lambda_brush_2_9 : decode cX0_lambda_brush_2 9 = .ok (.getfield 21, 3) := dk_180 0 21 (dk_at dksX0_lambda_brush_2_0 9 rfl rfl)
theorem dX0_lambda_brush_2_12 : decode cX0_lambda_brush_2 12 = .ok (.getfield 107, 3) := dk_180 0 107 (dk_at dksX0_lambda_brush_2_0 12 rfl rfl)
theorem dX0_lambda_brush_2_15 : decode cX0_lambda_brush_2 15 = .ok (.if_icmp .ge 93, 3) := dk_162 0 93 (dk_at dksX0_lambda_brush_2_0 15 rfl rfl)
theorem dX0_lambda_brush_2_18 : decode cX0_lambda_brush_2 18 = .ok (.iconst 0, 1) := dk_3 (dk_at dksX0_lambda_brush_2_0 18 rfl rfl)
theorem dX0_lambda_brush_2_19 : decode cX0_lambda_brush_2 19 = .ok (.istore 7, 2) := dk_54 7 (dk_at dksX0_lambda_brush_2_0 19 rfl rfl)
theorem dX0_lambda_brush_2_21 : decode cX0_lambda_brush_2 21 = .ok (.iload 7, 2) := dk_21 7 (dk_at dksX0_lambda_brush_2_0 21 rfl rfl)
theorem dX0_lambda_brush_2_23 : decode cX0_lambda_brush_2 23 = .ok (.aload_n 0, 1) := dk_42 (dk_at dksX0_lambda_brush_2_0 23 rfl rfl)
theorem dX0_lambda_brush_2_24 : decode cX0_lambda_brush_2 24 = .ok (.getfield 21, 3) := dk_180 0 21 (dk_at dksX0_lambda_brush_2_1 0 rfl rfl)
theorem dX0_lambda_brush_2_27 : decode cX0_lambda_brush_2 27 = .ok (.getfield 111, 3) := dk_180 0 111 (dk_at dksX0_lambda_brush_2_1 3 rfl rfl)
theorem dX0_lambda_brush_2_30 : decode cX0_lambda_brush_2 30 = .ok (.if_icmp .ge 72, 3) := dk_162 0 72 (dk_at dksX0_lambda_brush_2_1 6 rfl rfl)
theorem dX0_lambda_brush_2_33 : decode cX0_lambda_brush_2 33 = .ok (.iload 6, 2) := dk_21 6 (dk_at dksX0_lambda_brush_2_1 9 rfl rfl)
theorem dX0_lambda_brush_2_35 : decode cX0_lambda_brush_2 35 = .ok (.iload_n 1, 1) := dk_27 (dk_at dksX0_lambda_brush_2_1 11 rfl rfl)
theorem dX0_lambda_brush_2_36 : decode cX0_lambda_brush_2 36 = .ok (.isub, 1) := dk_100 (dk_at dksX0_lambda_brush_2_1 12 rfl rfl)
theorem dX0_lambda_brush_2_37 : decode cX0_lambda_brush_2 37 = .ok (.iload 6, 2) := dk_21 6 (dk_at dksX0_lambda_brush_2_1 13 rfl rfl)
theorem dX0_lambda_brush_2_39 : decode cX0_lambda_brush_2 39 = .ok (.iload_n 1, 1) := dk_27 (dk_at dksX0_lambda_brush_2_1 15 rfl rfl)
theorem dX0_lambda_brush_2_40 : decode cX0_lambda_brush_2 40 = .ok (.isub, 1) := dk_100 (dk_at dksX0_lambda_brush_2_1 16 rfl rfl)
theorem dX0_lambda_brush_2_41 : decode cX0_lambda_brush_2 41 = .ok (.imul, 1) := dk_104 (dk_at dksX0_lambda_brush_2_1 17 rfl rfl)
theorem dX0_lambda_brush_2_42 : decode cX0_lambda_brush_2 42 = .ok (.iload 7, 2) := dk_21 7 (dk_at dksX0_lambda_brush_2_1 18 rfl rfl)
theorem dX0_lambda_brush_2_44 : decode cX0_lambda_brush_2 44 = .ok (.iload_n 2, 1) := dk_28 (dk_at dksX0_lambda_brush_2_1 20 rfl rfl)
theorem dX0_lambda_brush_2_45 : decode cX0_lambda_brush_2 45 = .ok (.isub, 1) := dk_100 (dk_at dksX0_lambda_brush_2_1 21 rfl rfl)
theorem dX0_lambda_brush_2_46 : decode cX0_lambda_brush_2 46 = .ok (.iload 7, 2) := dk_21 7 (dk_at dksX0_lambda_brush_2_1 22 rfl rfl)
theorem dX0_lambda_brush_2_48 : decode cX0_lambda_brush_2 48 = .ok (.iload_n 2, 1) := dk_28 (dk_at dksX0_lambda_brush_2_2 0 rfl rfl)
theorem dX0_lambda_brush_2_49 : decode cX0_lambda_brush_2 49 = .ok (.isub, 1) := dk_100 (dk_at dksX0_lambda_brush_2_2 1 rfl rfl)
theorem dX0_lambda_brush_2_50 : decode cX0_lambda_brush_2 50 = .ok (.imul, 1) := dk_104 (dk_at dksX0_lambda_brush_2_2 2 rfl rfl)
theorem dX0_lambda_brush_2_51 : decode cX0_lambda_brush_2 51 = .ok (.iadd, 1) := dk_96 (dk_at dksX0_lambda_brush_2_2 3 rfl rfl)
theorem dX0_lambda_brush_2_52 : decode cX0_lambda_brush_2 52 = .ok (.iload_n 3, 1) := dk_29 (dk_at dksX0_lambda_brush_2_2 4 rfl rfl)
theorem dX0_lambda_brush_2_53 : decode cX0_lambda_brush_2 53 = .ok (.iload_n 3, 1) := dk_29 (dk_at dksX0_lambda_brush_2_2 5 rfl rfl)
theorem dX0_lambda_brush_2_54 : decode cX0_lambda_brush_2 54 = .ok (.imul, 1) := dk_104 (dk_at dksX0_lambda_brush_2_2 6 rfl rfl)
theorem dX0_lambda_brush_2_55 : decode cX0_lambda_brush_2 55 = .ok (.if_icmp .gt 7, 3) := dk_163 0 7 (dk_at dksX0_lambda_brush_2_2 7 rfl rfl)
theorem dX0_lambda_brush_2_58 : decode cX0_lambda_brush_2 58 = .ok (.iconst 1, 1) := dk_4 (dk_at dksX0_lambda_brush_2_2 10 rfl rfl)
theorem dX0_lambda_brush_2_59 : decode cX0_lambda_brush_2 59 = .ok (.goto 4, 3) := dk_167 0 4 (dk_at dksX0_lambda_brush_2_2 11 rfl rfl)
theorem dX0_lambda_brush_2_62 : decode cX0_lambda_brush_2 62 = .ok (.iconst 0, 1) := dk_3 (dk_at dksX0_lambda_brush_2_2 14 rfl rfl)
theorem dX0_lambda_brush_2_63 : decode cX0_lambda_brush_2 63 = .ok (.istore 8, 2) := dk_54 8 (dk_at dksX0_lambda_brush_2_2 15 rfl rfl)
theorem dX0_lambda_brush_2_65 : decode cX0_lambda_brush_2 65 = .ok (.iload 5, 2) := dk_21 5 (dk_at dksX0_lambda_brush_2_2 17 rfl rfl)
theorem dX0_lambda_brush_2_67 : decode cX0_lambda_brush_2 67 = .ok (.iload 8, 2) := dk_21 8 (dk_at dksX0_lambda_brush_2_2 19 rfl rfl)
theorem dX0_lambda_brush_2_69 : decode cX0_lambda_brush_2 69 = .ok (.ifCond .eq 23, 3) := dk_153 0 23 (dk_at dksX0_lambda_brush_2_2 21 rfl rfl)
theorem dX0_lambda_brush_2_72 : decode cX0_lambda_brush_2 72 = .ok (.aload_n 0, 1) := dk_42 (dk_at dksX0_lambda_brush_2_3 0 rfl rfl)
theorem dX0_lambda_brush_2_73 : decode cX0_lambda_brush_2 73 = .ok (.getfield 21, 3) := dk_180 0 21 (dk_at dksX0_lambda_brush_2_3 1 rfl rfl)
theorem dX0_lambda_brush_2_76 : decode cX0_lambda_brush_2 76 = .ok (.iload 6, 2) := dk_21 6 (dk_at dksX0_lambda_brush_2_3 4 rfl rfl)
theorem dX0_lambda_brush_2_78 : decode cX0_lambda_brush_2 78 = .ok (.iload 7, 2) := dk_21 7 (dk_at dksX0_lambda_brush_2_3 6 rfl rfl)
theorem dX0_lambda_brush_2_80 : decode cX0_lambda_brush_2 80 = .ok (.iload 4, 2) := dk_21 4 (dk_at dksX0_lambda_brush_2_3 8 rfl rfl)
theorem dX0_lambda_brush_2_82 : decode cX0_lambda_brush_2 82 = .ok (.invokevirtual 86, 3) := dk_182 0 86 (dk_at dksX0_lambda_brush_2_3 10 rfl rfl)
theorem dX0_lambda_brush_2_85 : decode cX0_lambda_brush_2 85 = .ok (.ifCond .eq 7, 3) := dk_153 0 7 (dk_at dksX0_lambda_brush_2_3 13 rfl rfl)
theorem dX0_lambda_brush_2_88 : decode cX0_lambda_brush_2 88 = .ok (.iconst 1, 1) := dk_4 (dk_at dksX0_lambda_brush_2_3 16 rfl rfl)
theorem dX0_lambda_brush_2_89 : decode cX0_lambda_brush_2 89 = .ok (.goto 4, 3) := dk_167 0 4 (dk_at dksX0_lambda_brush_2_3 17 rfl rfl)
theorem dX0_lambda_brush_2_92 : decode cX0_lambda_brush_2 92 = .ok (.iconst 0, 1) := dk_3 (dk_at dksX0_lambda_brush_2_3 20 rfl rfl)
theorem dX0_lambda_brush_2_93 : decode cX0_lambda_brush_2 93 = .ok (.iadd, 1) := dk_96 (dk_at dksX0_lambda_brush_2_3 21 rfl rfl)
theorem dX0_lambda_brush_2_94 : decode cX0_lambda_brush_2 94 = .ok (.istore 5, 2) := dk_54 5 (dk_at dksX0_lambda_brush_2_3 22 rfl rfl)
theorem dX0_lambda_brush_2_96 : decode cX0_lambda_brush_2 96 = .ok (.iinc 7 1, 3) := dk_132 7 1 (dk_at dksX0_lambda_brush_2_4 0 rfl rfl)
theorem dX0_lambda_brush_2_99 : decode cX0_lambda_brush_2 99 = .ok (.goto (-78), 3) := dk_167 255 178 (dk_at dksX0_lambda_brush_2_4 3 rfl rfl)
theorem dX0_lambda_brush_2_102 : decode cX0_lambda_brush_2 102 = .ok (.iinc 6 1, 3) := dk_132 6 1 (dk_at dksX0_lambda_brush_2_4 6 rfl rfl)
theorem dX0_lambda_brush_2_105 : decode cX0_lambda_brush_2 105 = .ok (.goto (-99), 3) := dk_167 255 157 (dk_at dksX0_lambda_brush_2_4 9 rfl rfl)
theorem dX0_lambda_brush_2_108 : decode cX0_lambda_brush_2 108 = .ok (.iload 5, 2) := dk_21 5 (dk_at dksX0_lambda_brush_2_4 12 rfl rfl)
theorem dX0_lambda_brush_2_110 : decode cX0_lambda_brush_2 110 = .ok (.ireturn, 1) := dk_172 (dk_at dksX0_lambda_brush_2_4 14 rfl rfl)
abbrev cX0_smooth : ByteArray := prog_1_method_12_code
def yX0_smooth : MethodName := ⟨RX0, "smooth", "(I)I"⟩
def dkwX0_smooth_1 : List UInt8 := [172]
abbrev dktX0_smooth_1 : List UInt8 := dkwX0_smooth_1 ++ []
def dkwX0_smooth_0 : List UInt8 := [27, 4, 16, 9, 184, 0, 39, 154, 0, 6, 16, 254, 172, 42, 42, 27, 186, 0, 100, 0, 0, 182, 0, 93]
abbrev dktX0_smooth_0 : List UInt8 := dkwX0_smooth_0 ++ dktX0_smooth_1
theorem dksX0_smooth_0 : cX0_smooth.data.toList.drop 0 = dktX0_smooth_0 := by decide +kernel
theorem dksX0_smooth_1 : cX0_smooth.data.toList.drop 24 = dktX0_smooth_1 := dk_seg dksX0_smooth_0 24 rfl rfl
theorem dX0_smooth_0 : decode cX0_smooth 0 = .ok (.iload_n 1, 1) := dk_27 (dk_at dksX0_smooth_0 0 rfl rfl)
theorem dX0_smooth_1 : decode cX0_smooth 1 = .ok (.iconst 1, 1) := dk_4 (dk_at dksX0_smooth_0 1 rfl rfl)
theorem dX0_smooth_2 : decode cX0_smooth 2 = .ok (.bipush 9, 2) := dk_16 9 (dk_at dksX0_smooth_0 2 rfl rfl)
theorem dX0_smooth_4 : decode cX0_smooth 4 = .ok (.invokestatic 39, 3) := dk_184 0 39 (dk_at dksX0_smooth_0 4 rfl rfl)
theorem dX0_smooth_7 : decode cX0_smooth 7 = .ok (.ifCond .ne 6, 3) := dk_154 0 6 (dk_at dksX0_smooth_0 7 rfl rfl)
theorem dX0_smooth_10 : decode cX0_smooth 10 = .ok (.bipush (-2), 2) := dk_16 254 (dk_at dksX0_smooth_0 10 rfl rfl)
theorem dX0_smooth_12 : decode cX0_smooth 12 = .ok (.ireturn, 1) := dk_172 (dk_at dksX0_smooth_0 12 rfl rfl)
theorem dX0_smooth_13 : decode cX0_smooth 13 = .ok (.aload_n 0, 1) := dk_42 (dk_at dksX0_smooth_0 13 rfl rfl)
theorem dX0_smooth_14 : decode cX0_smooth 14 = .ok (.aload_n 0, 1) := dk_42 (dk_at dksX0_smooth_0 14 rfl rfl)
theorem dX0_smooth_15 : decode cX0_smooth 15 = .ok (.iload_n 1, 1) := dk_27 (dk_at dksX0_smooth_0 15 rfl rfl)
theorem dX0_smooth_16 : decode cX0_smooth 16 = .ok (.invokedynamic 100, 5) := by decide +kernel
theorem dX0_smooth_21 : decode cX0_smooth 21 = .ok (.invokevirtual 93, 3) := dk_182 0 93 (dk_at dksX0_smooth_0 21 rfl rfl)
theorem dX0_smooth_24 : decode cX0_smooth 24 = .ok (.ireturn, 1) := dk_172 (dk_at dksX0_smooth_1 0 rfl rfl)
abbrev cX0_lambda_smooth_3 : ByteArray := prog_1_method_52_code
def yX0_lambda_smooth_3 : MethodName := ⟨RX0, "lambda$smooth$3", "(I)I"⟩
def dkwX0_lambda_smooth_3_5 : List UInt8 := [132, 4, 1, 167, 255, 152, 29, 172]
abbrev dktX0_lambda_smooth_3_5 : List UInt8 := dkwX0_lambda_smooth_3_5 ++ []
def dkwX0_lambda_smooth_3_4 : List UInt8 := [167, 0, 4, 3, 182, 0, 86, 153, 0, 7, 4, 167, 0, 4, 3, 96, 62, 132, 5, 1, 167, 255, 173]
abbrev dktX0_lambda_smooth_3_4 : List UInt8 := dkwX0_lambda_smooth_3_4 ++ dktX0_lambda_smooth_3_5
def dkwX0_lambda_smooth_3_3 : List UInt8 := [167, 0, 4, 3, 96, 54, 6, 29, 42, 180, 0, 21, 21, 4, 21, 5, 21, 6, 27, 161, 0, 7, 4]
abbrev dktX0_lambda_smooth_3_3 : List UInt8 := dkwX0_lambda_smooth_3_3 ++ dktX0_lambda_smooth_3_4
def dkwX0_lambda_smooth_3_2 : List UInt8 := [182, 0, 118, 180, 0, 122, 184, 1, 48, 44, 180, 0, 114, 21, 4, 50, 21, 5, 51, 153, 0, 7, 4]
abbrev dktX0_lambda_smooth_3_2 : List UInt8 := dkwX0_lambda_smooth_3_2 ++ dktX0_lambda_smooth_3_3
def dkwX0_lambda_smooth_3_1 : List UInt8 := [162, 0, 98, 3, 54, 5, 21, 5, 42, 180, 0, 21, 180, 0, 111, 162, 0, 77, 44, 21, 4, 21, 5]
abbrev dktX0_lambda_smooth_3_1 : List UInt8 := dkwX0_lambda_smooth_3_1 ++ dktX0_lambda_smooth_3_2
def dkwX0_lambda_smooth_3_0 : List UInt8 := [42, 42, 180, 0, 21, 182, 0, 65, 77, 3, 62, 3, 54, 4, 21, 4, 42, 180, 0, 21, 180, 0, 107]
abbrev dktX0_lambda_smooth_3_0 : List UInt8 := dkwX0_lambda_smooth_3_0 ++ dktX0_lambda_smooth_3_1
theorem dksX0_lambda_smooth_3_0 : cX0_lambda_smooth_3.data.toList.drop 0 = dktX0_lambda_smooth_3_0 := by decide +kernel
theorem dksX0_lambda_smooth_3_1 : cX0_lambda_smooth_3.data.toList.drop 23 = dktX0_lambda_smooth_3_1 := dk_seg dksX0_lambda_smooth_3_0 23 rfl rfl
theorem dksX0_lambda_smooth_3_2 : cX0_lambda_smooth_3.data.toList.drop 46 = dktX0_lambda_smooth_3_2 := dk_seg dksX0_lambda_smooth_3_1 23 rfl rfl
theorem dksX0_lambda_smooth_3_3 : cX0_lambda_smooth_3.data.toList.drop 69 = dktX0_lambda_smooth_3_3 := dk_seg dksX0_lambda_smooth_3_2 23 rfl rfl
theorem dksX0_lambda_smooth_3_4 : cX0_lambda_smooth_3.data.toList.drop 92 = dktX0_lambda_smooth_3_4 := dk_seg dksX0_lambda_smooth_3_3 23 rfl rfl
theorem dksX0_lambda_smooth_3_5 : cX0_lambda_smooth_3.data.toList.drop 115 = dktX0_lambda_smooth_3_5 := dk_seg dksX0_lambda_smooth_3_4 23 rfl rfl
theorem dX0_lambda_smooth_3_0 : decode cX0_lambda_smooth_3 0 = .ok (.aload_n 0, 1) := dk_42 (dk_at dksX0_lambda_smooth_3_0 0 rfl rfl)
theorem dX0_lambda_smooth_3_1 : decode cX0_lambda_smooth_3 1 = .ok (.aload_n 0, 1) := dk_42 (dk_at dksX0_lambda_smooth_3_0 1 rfl rfl)
theorem dX0_lambda_smooth_3_2 : decode cX0_lambda_smooth_3 2 = .ok (.getfield 21, 3) := dk_180 0 21 (dk_at dksX0_lambda_smooth_3_0 2 rfl rfl)
theorem dX0_lambda_smooth_3_5 : decode cX0_lambda_smooth_3 5 = .ok (.invokevirtual 65, 3) := dk_182 0 65 (dk_at dksX0_lambda_smooth_3_0 5 rfl rfl)
theorem dX0_lambda_smooth_3_8 : decode cX0_lambda_smooth_3 8 = .ok (.astore_n 2, 1) := dk_77 (dk_at dksX0_lambda_smooth_3_0 8 rfl rfl)
theorem dX0_lambda_smooth_3_9 : decode cX0_lambda_smooth_3 9 = .ok (.iconst 0, 1) := dk_3 (dk_at dksX0_lambda_smooth_3_0 9 rfl rfl)
theorem dX0_lambda_smooth_3_10 : decode cX0_lambda_smooth_3 10 = .ok (.istore_n 3, 1) := dk_62 (dk_at dksX0_lambda_smooth_3_0 10 rfl rfl)
theorem dX0_lambda_smooth_3_11 : decode cX0_lambda_smooth_3 11 = .ok (.iconst 0, 1) := dk_3 (dk_at dksX0_lambda_smooth_3_0 11 rfl rfl)
theorem dX0_lambda_smooth_3_12 : decode cX0_lambda_smooth_3 12 = .ok (.istore 4, 2) := dk_54 4 (dk_at dksX0_lambda_smooth_3_0 12 rfl rfl)
theorem dX0_lambda_smooth_3_14 : decode cX0_lambda_smooth_3 14 = .ok (.iload 4, 2) := dk_21 4 (dk_at dksX0_lambda_smooth_3_0 14 rfl rfl)
theorem dX0_lambda_smooth_3_16 : decode cX0_lambda_smooth_3 16 = .ok (.aload_n 0, 1) := dk_42 (dk_at dksX0_lambda_smooth_3_0 16 rfl rfl)
theorem dX0_lambda_smooth_3_17 : decode cX0_lambda_smooth_3 17 = .ok (.getfield 21, 3) := dk_180 0 21 (dk_at dksX0_lambda_smooth_3_0 17 rfl rfl)
theorem dX0_lambda_smooth_3_20 : decode cX0_lambda_smooth_3 20 = .ok (.getfield 107, 3) := dk_180 0 107 (dk_at dksX0_lambda_smooth_3_0 20 rfl rfl)
theorem dX0_lambda_smooth_3_23 : decode cX0_lambda_smooth_3 23 = .ok (.if_icmp .ge 98, 3) := dk_162 0 98 (dk_at dksX0_lambda_smooth_3_1 0 rfl rfl)
theorem dX0_lambda_smooth_3_26 : decode cX0_lambda_smooth_3 26 = .ok (.iconst 0, 1) := dk_3 (dk_at dksX0_lambda_smooth_3_1 3 rfl rfl)
theorem dX0_lambda_smooth_3_27 : decode cX0_lambda_smooth_3 27 = .ok (.istore 5, 2) := dk_54 5 (dk_at dksX0_lambda_smooth_3_1 4 rfl rfl)
theorem dX0_lambda_smooth_3_29 : decode cX0_lambda_smooth_3 29 = .ok (.iload 5, 2) := dk_21 5 (dk_at dksX0_lambda_smooth_3_1 6 rfl rfl)
theorem dX0_lambda_smooth_3_31 : decode cX0_lambda_smooth_3 31 = .ok (.aload_n 0, 1) := dk_42 (dk_at dksX0_lambda_smooth_3_1 8 rfl rfl)
theorem dX0_lambda_smooth_3_32 : decode cX0_lambda_smooth_3 32 = .ok (.getfield 21, 3) := dk_180 0 21 (dk_at dksX0_lambda_smooth_3_1 9 rfl rfl)
theorem dX0_lambda_smooth_3_35 : decode cX0_lambda_smooth_3 35 = .ok (.getfield 111, 3) := dk_180 0 111 (dk_at dksX0_lambda_smooth_3_1 12 rfl rfl)
theorem dX0_lambda_smooth_3_38 : decode cX0_lambda_smooth_3 38 = .ok (.if_icmp .ge 77, 3) := dk_162 0 77 (dk_at dksX0_lambda_smooth_3_1 15 rfl rfl)
theorem dX0_lambda_smooth_3_41 : decode cX0_lambda_smooth_3 41 = .ok (.aload_n 2, 1) := dk_44 (dk_at dksX0_lambda_smooth_3_1 18 rfl rfl)
theorem dX0_lambda_smooth_3_42 : decode cX0_lambda_smooth_3 42 = .ok (.iload 4, 2) := dk_21 4 (dk_at dksX0_lambda_smooth_3_1 19 rfl rfl)
theorem dX0_lambda_smooth_3_44 : decode cX0_lambda_smooth_3 44 = .ok (.iload 5, 2) := dk_21 5 (dk_at dksX0_lambda_smooth_3_1 21 rfl rfl)
theorem dX0_lambda_smooth_3_46 : decode cX0_lambda_smooth_3 46 = .ok (.invokevirtual 118, 3) := dk_182 0 118 (dk_at dksX0_lambda_smooth_3_2 0 rfl rfl)
theorem dX0_lambda_smooth_3_49 : decode cX0_lambda_smooth_3 49 = .ok (.getfield 122, 3) := dk_180 0 122 (dk_at dksX0_lambda_smooth_3_2 3 rfl rfl)
theorem dX0_lambda_smooth_3_52 : decode cX0_lambda_smooth_3 52 = .ok (.invokestatic 304, 3) := dk_184 1 48 (dk_at dksX0_lambda_smooth_3_2 6 rfl rfl)
theorem dX0_lambda_smooth_3_55 : decode cX0_lambda_smooth_3 55 = .ok (.aload_n 2, 1) := dk_44 (dk_at dksX0_lambda_smooth_3_2 9 rfl rfl)
theorem dX0_lambda_smooth_3_56 : decode cX0_lambda_smooth_3 56 = .ok (.getfield 114, 3) := dk_180 0 114 (dk_at dksX0_lambda_smooth_3_2 10 rfl rfl)
theorem dX0_lambda_smooth_3_59 : decode cX0_lambda_smooth_3 59 = .ok (.iload 4, 2) := dk_21 4 (dk_at dksX0_lambda_smooth_3_2 13 rfl rfl)
theorem dX0_lambda_smooth_3_61 : decode cX0_lambda_smooth_3 61 = .ok (.aaload, 1) := dk_50 (dk_at dksX0_lambda_smooth_3_2 15 rfl rfl)
theorem dX0_lambda_smooth_3_62 : decode cX0_lambda_smooth_3 62 = .ok (.iload 5, 2) := dk_21 5 (dk_at dksX0_lambda_smooth_3_2 16 rfl rfl)
theorem dX0_lambda_smooth_3_64 : decode cX0_lambda_smooth_3 64 = .ok (.baload, 1) := dk_51 (dk_at dksX0_lambda_smooth_3_2 18 rfl rfl)
theorem dX0_lambda_smooth_3_65 : decode cX0_lambda_smooth_3 65 = .ok (.ifCond .eq 7, 3) := dk_153 0 7 (dk_at dksX0_lambda_smooth_3_2 19 rfl rfl)
theorem dX0_lambda_smooth_3_68 : decode cX0_lambda_smooth_3 68 = .ok (.iconst 1, 1) := dk_4 (dk_at dksX0_lambda_smooth_3_2 22 rfl rfl)
theorem dX0_lambda_smooth_3_69 : decode cX0_lambda_smooth_3 69 = .ok (.goto 4, 3) := dk_167 0 4 (dk_at dksX0_lambda_smooth_3_3 0 rfl rfl)
theorem dX0_lambda_smooth_3_72 : decode cX0_lambda_smooth_3 72 = .ok (.iconst 0, 1) := dk_3 (dk_at dksX0_lambda_smooth_3_3 3 rfl rfl)
theorem dX0_lambda_smooth_3_73 : decode cX0_lambda_smooth_3 73 = .ok (.iadd, 1) := dk_96 (dk_at dksX0_lambda_smooth_3_3 4 rfl rfl)
theorem dX0_lambda_smooth_3_74 : decode cX0_lambda_smooth_3 74 = .ok (.istore 6, 2) := dk_54 6 (dk_at dksX0_lambda_smooth_3_3 5 rfl rfl)
theorem dX0_lambda_smooth_3_76 : decode cX0_lambda_smooth_3 76 = .ok (.iload_n 3, 1) := dk_29 (dk_at dksX0_lambda_smooth_3_3 7 rfl rfl)
theorem dX0_lambda_smooth_3_77 : decode cX0_lambda_smooth_3 77 = .ok (.aload_n 0, 1) := dk_42 (dk_at dksX0_lambda_smooth_3_3 8 rfl rfl)
theorem dX0_lambda_smooth_3_78 : decode cX0_lambda_smooth_3 78 = .ok (.getfield 21, 3) := dk_180 0 21 (dk_at dksX0_lambda_smooth_3_3 9 rfl rfl)
theorem dX0_lambda_smooth_3_81 : decode cX0_lambda_smooth_3 81 = .ok (.iload 4, 2) := dk_21 4 (dk_at dksX0_lambda_smooth_3_3 12 rfl rfl)
theorem dX0_lambda_smooth_3_83 : decode cX0_lambda_smooth_3 83 = .ok (.iload 5, 2) := dk_21 5 (dk_at dksX0_lambda_smooth_3_3 14 rfl rfl)
theorem dX0_lambda_smooth_3_85 : decode cX0_lambda_smooth_3 85 = .ok (.iload 6, 2) := dk_21 6 (dk_at dksX0_lambda_smooth_3_3 16 rfl rfl)
theorem dX0_lambda_smooth_3_87 : decode cX0_lambda_smooth_3 87 = .ok (.iload_n 1, 1) := dk_27 (dk_at dksX0_lambda_smooth_3_3 18 rfl rfl)
theorem dX0_lambda_smooth_3_88 : decode cX0_lambda_smooth_3 88 = .ok (.if_icmp .lt 7, 3) := dk_161 0 7 (dk_at dksX0_lambda_smooth_3_3 19 rfl rfl)
theorem dX0_lambda_smooth_3_91 : decode cX0_lambda_smooth_3 91 = .ok (.iconst 1, 1) := dk_4 (dk_at dksX0_lambda_smooth_3_3 22 rfl rfl)
theorem dX0_lambda_smooth_3_92 : decode cX0_lambda_smooth_3 92 = .ok (.goto 4, 3) := dk_167 0 4 (dk_at dksX0_lambda_smooth_3_4 0 rfl rfl)
theorem dX0_lambda_smooth_3_95 : decode cX0_lambda_smooth_3 95 = .ok (.iconst 0, 1) := dk_3 (dk_at dksX0_lambda_smooth_3_4 3 rfl rfl)
theorem dX0_lambda_smooth_3_96 : decode cX0_lambda_smooth_3 96 = .ok (.invokevirtual 86, 3) := dk_182 0 86 (dk_at dksX0_lambda_smooth_3_4 4 rfl rfl)
theorem dX0_lambda_smooth_3_99 : decode cX0_lambda_smooth_3 99 = .ok (.ifCond .eq 7, 3) := dk_153 0 7 (dk_at dksX0_lambda_smooth_3_4 7 rfl rfl)
theorem dX0_lambda_smooth_3_102 : decode cX0_lambda_smooth_3 102 = .ok (.iconst 1, 1) := dk_4 (dk_at dksX0_lambda_smooth_3_4 10 rfl rfl)
theorem dX0_lambda_smooth_3_103 : decode cX0_lambda_smooth_3 103 = .ok (.goto 4, 3) := dk_167 0 4 (dk_at dksX0_lambda_smooth_3_4 11 rfl rfl)
theorem dX0_lambda_smooth_3_106 : decode cX0_lambda_smooth_3 106 = .ok (.iconst 0, 1) := dk_3 (dk_at dksX0_lambda_smooth_3_4 14 rfl rfl)
theorem dX0_lambda_smooth_3_107 : decode cX0_lambda_smooth_3 107 = .ok (.iadd, 1) := dk_96 (dk_at dksX0_lambda_smooth_3_4 15 rfl rfl)
theorem dX0_lambda_smooth_3_108 : decode cX0_lambda_smooth_3 108 = .ok (.istore_n 3, 1) := dk_62 (dk_at dksX0_lambda_smooth_3_4 16 rfl rfl)
theorem dX0_lambda_smooth_3_109 : decode cX0_lambda_smooth_3 109 = .ok (.iinc 5 1, 3) := dk_132 5 1 (dk_at dksX0_lambda_smooth_3_4 17 rfl rfl)
theorem dX0_lambda_smooth_3_112 : decode cX0_lambda_smooth_3 112 = .ok (.goto (-83), 3) := dk_167 255 173 (dk_at dksX0_lambda_smooth_3_4 20 rfl rfl)
theorem dX0_lambda_smooth_3_115 : decode cX0_lambda_smooth_3 115 = .ok (.iinc 4 1, 3) := dk_132 4 1 (dk_at dksX0_lambda_smooth_3_5 0 rfl rfl)
theorem dX0_lambda_smooth_3_118 : decode cX0_lambda_smooth_3 118 = .ok (.goto (-104), 3) := dk_167 255 152 (dk_at dksX0_lambda_smooth_3_5 3 rfl rfl)
theorem dX0_lambda_smooth_3_121 : decode cX0_lambda_smooth_3 121 = .ok (.iload_n 3, 1) := dk_29 (dk_at dksX0_lambda_smooth_3_5 6 rfl rfl)
theorem dX0_lambda_smooth_3_122 : decode cX0_lambda_smooth_3 122 = .ok (.ireturn, 1) := dk_172 (dk_at dksX0_lambda_smooth_3_5 7 rfl rfl)
abbrev cX0_turn : ByteArray := prog_1_method_13_code
def yX0_turn : MethodName := ⟨RX0, "turn", "(I)I"⟩
def dkwX0_turn_2 : List UInt8 := [180, 0, 107, 172]
abbrev dktX0_turn_2 : List UInt8 := dkwX0_turn_2 ++ []
def dkwX0_turn_1 : List UInt8 := [162, 0, 20, 42, 42, 180, 0, 21, 182, 0, 103, 181, 0, 21, 132, 2, 1, 167, 255, 237, 42, 180, 0, 21]
abbrev dktX0_turn_1 : List UInt8 := dkwX0_turn_1 ++ dktX0_turn_2
def dkwX0_turn_0 : List UInt8 := [27, 4, 6, 184, 0, 39, 154, 0, 6, 16, 254, 172, 42, 42, 180, 0, 21, 182, 0, 74, 3, 61, 28, 27]
abbrev dktX0_turn_0 : List UInt8 := dkwX0_turn_0 ++ dktX0_turn_1
theorem dksX0_turn_0 : cX0_turn.data.toList.drop 0 = dktX0_turn_0 := by decide +kernel
theorem dksX0_turn_1 : cX0_turn.data.toList.drop 24 = dktX0_turn_1 := dk_seg dksX0_turn_0 24 rfl rfl
theorem dksX0_turn_2 : cX0_turn.data.toList.drop 48 = dktX0_turn_2 := dk_seg dksX0_turn_1 24 rfl rfl
theorem dX0_turn_0 : decode cX0_turn 0 = .ok (.iload_n 1, 1) := dk_27 (dk_at dksX0_turn_0 0 rfl rfl)
theorem dX0_turn_1 : decode cX0_turn 1 = .ok (.iconst 1, 1) := dk_4 (dk_at dksX0_turn_0 1 rfl rfl)
theorem dX0_turn_2 : decode cX0_turn 2 = .ok (.iconst 3, 1) := dk_6 (dk_at dksX0_turn_0 2 rfl rfl)
theorem dX0_turn_3 : decode cX0_turn 3 = .ok (.invokestatic 39, 3) := dk_184 0 39 (dk_at dksX0_turn_0 3 rfl rfl)
theorem dX0_turn_6 : decode cX0_turn 6 = .ok (.ifCond .ne 6, 3) := dk_154 0 6 (dk_at dksX0_turn_0 6 rfl rfl)
theorem dX0_turn_9 : decode cX0_turn 9 = .ok (.bipush (-2), 2) := dk_16 254 (dk_at dksX0_turn_0 9 rfl rfl)
theorem dX0_turn_11 : decode cX0_turn 11 = .ok (.ireturn, 1) := dk_172 (dk_at dksX0_turn_0 11 rfl rfl)
theorem dX0_turn_12 : decode cX0_turn 12 = .ok (.aload_n 0, 1) := dk_42 (dk_at dksX0_turn_0 12 rfl rfl)
theorem dX0_turn_13 : decode cX0_turn 13 = .ok (.aload_n 0, 1) := dk_42 (dk_at dksX0_turn_0 13 rfl rfl)
theorem dX0_turn_14 : decode cX0_turn 14 = .ok (.getfield 21, 3) := dk_180 0 21 (dk_at dksX0_turn_0 14 rfl rfl)
theorem dX0_turn_17 : decode cX0_turn 17 = .ok (.invokevirtual 74, 3) := dk_182 0 74 (dk_at dksX0_turn_0 17 rfl rfl)
theorem dX0_turn_20 : decode cX0_turn 20 = .ok (.iconst 0, 1) := dk_3 (dk_at dksX0_turn_0 20 rfl rfl)
theorem dX0_turn_21 : decode cX0_turn 21 = .ok (.istore_n 2, 1) := dk_61 (dk_at dksX0_turn_0 21 rfl rfl)
theorem dX0_turn_22 : decode cX0_turn 22 = .ok (.iload_n 2, 1) := dk_28 (dk_at dksX0_turn_0 22 rfl rfl)
theorem dX0_turn_23 : decode cX0_turn 23 = .ok (.iload_n 1, 1) := dk_27 (dk_at dksX0_turn_0 23 rfl rfl)
theorem dX0_turn_24 : decode cX0_turn 24 = .ok (.if_icmp .ge 20, 3) := dk_162 0 20 (dk_at dksX0_turn_1 0 rfl rfl)
theorem dX0_turn_27 : decode cX0_turn 27 = .ok (.aload_n 0, 1) := dk_42 (dk_at dksX0_turn_1 3 rfl rfl)
theorem dX0_turn_28 : decode cX0_turn 28 = .ok (.aload_n 0, 1) := dk_42 (dk_at dksX0_turn_1 4 rfl rfl)
theorem dX0_turn_29 : decode cX0_turn 29 = .ok (.getfield 21, 3) := dk_180 0 21 (dk_at dksX0_turn_1 5 rfl rfl)
theorem dX0_turn_32 : decode cX0_turn 32 = .ok (.invokevirtual 103, 3) := dk_182 0 103 (dk_at dksX0_turn_1 8 rfl rfl)
theorem dX0_turn_35 : decode cX0_turn 35 = .ok (.putfield 21, 3) := dk_181 0 21 (dk_at dksX0_turn_1 11 rfl rfl)
theorem dX0_turn_38 : decode cX0_turn 38 = .ok (.iinc 2 1, 3) := dk_132 2 1 (dk_at dksX0_turn_1 14 rfl rfl)
theorem dX0_turn_41 : decode cX0_turn 41 = .ok (.goto (-19), 3) := dk_167 255 237 (dk_at dksX0_turn_1 17 rfl rfl)
theorem dX0_turn_44 : decode cX0_turn 44 = .ok (.aload_n 0, 1) := dk_42 (dk_at dksX0_turn_1 20 rfl rfl)
theorem dX0_turn_45 : decode cX0_turn 45 = .ok (.getfield 21, 3) := dk_180 0 21 (dk_at dksX0_turn_1 21 rfl rfl)
theorem dX0_turn_48 : decode cX0_turn 48 = .ok (.getfield 107, 3) := dk_180 0 107 (dk_at dksX0_turn_2 0 rfl rfl)
theorem dX0_turn_51 : decode cX0_turn 51 = .ok (.ireturn, 1) := dk_172 (dk_at dksX0_turn_2 3 rfl rfl)
abbrev cX0_rows : ByteArray := prog_1_method_14_code
def yX0_rows : MethodName := ⟨RX0, "rows", "()I"⟩
def dkwX0_rows_0 : List UInt8 := [42, 180, 0, 21, 180, 0, 107, 172]
abbrev dktX0_rows_0 : List UInt8 := dkwX0_rows_0 ++ []
theorem dksX0_rows_0 : cX0_rows.data.toList.drop 0 = dktX0_rows_0 := by decide +kernel
theorem dX0_rows_0 : decode cX0_rows 0 = .ok (.aload_n 0, 1) := dk_42 (dk_at dksX0_rows_0 0 rfl rfl)
theorem dX0_rows_1 : decode cX0_rows 1 = .ok (.getfield 21, 3) := dk_180 0 21 (dk_at dksX0_rows_0 1 rfl rfl)
theorem dX0_rows_4 : decode cX0_rows 4 = .ok (.getfield 107, 3) := dk_180 0 107 (dk_at dksX0_rows_0 4 rfl rfl)
theorem dX0_rows_7 : decode cX0_rows 7 = .ok (.ireturn, 1) := dk_172 (dk_at dksX0_rows_0 7 rfl rfl)
abbrev cX0_columns : ByteArray := prog_1_method_15_code
def yX0_columns : MethodName := ⟨RX0, "columns", "()I"⟩
def dkwX0_columns_0 : List UInt8 := [42, 180, 0, 21, 180, 0, 111, 172]
abbrev dktX0_columns_0 : List UInt8 := dkwX0_columns_0 ++ []
theorem dksX0_columns_0 : cX0_columns.data.toList.drop 0 = dktX0_columns_0 := by decide +kernel
theorem dX0_columns_0 : decode cX0_columns 0 = .ok (.aload_n 0, 1) := dk_42 (dk_at dksX0_columns_0 0 rfl rfl)
theorem dX0_columns_1 : decode cX0_columns 1 = .ok (.getfield 21, 3) := dk_180 0 21 (dk_at dksX0_columns_0 1 rfl rfl)
theorem dX0_columns_4 : decode cX0_columns 4 = .ok (.getfield 111, 3) := dk_180 0 111 (dk_at dksX0_columns_0 4 rfl rfl)
theorem dX0_columns_7 : decode cX0_columns 7 = .ok (.ireturn, 1) := dk_172 (dk_at dksX0_columns_0 7 rfl rfl)
abbrev cX0_tile : ByteArray := prog_1_method_16_code
def yX0_tile : MethodName := ⟨RX0, "tile", "(III)I"⟩
def dkwX0_tile_6 : List UInt8 := [167, 0, 5, 16, 254, 172]
abbrev dktX0_tile_6 : List UInt8 := dkwX0_tile_6 ++ []
def dkwX0_tile_5 : List UInt8 := [28, 46, 16, 250, 160, 0, 7, 3, 167, 0, 21, 4, 167, 0, 17, 42, 180, 0, 21, 27, 28, 182, 0, 138]
abbrev dktX0_tile_5 : List UInt8 := dkwX0_tile_5 ++ dktX0_tile_6
def dkwX0_tile_4 : List UInt8 := [167, 0, 53, 42, 180, 0, 21, 27, 28, 182, 0, 131, 167, 0, 41, 42, 180, 0, 21, 180, 0, 134, 27, 50]
abbrev dktX0_tile_4 : List UInt8 := dkwX0_tile_4 ++ dktX0_tile_5
def dkwX0_tile_3 : List UInt8 := [180, 0, 21, 27, 28, 182, 0, 118, 180, 0, 122, 167, 0, 65, 42, 180, 0, 21, 27, 28, 182, 0, 127]
abbrev dktX0_tile_3 : List UInt8 := dkwX0_tile_3 ++ dktX0_tile_4
def dkwX0_tile_2 : List UInt8 := [42, 180, 0, 21, 180, 0, 114, 27, 50, 28, 51, 153, 0, 7, 4, 167, 0, 84, 3, 167, 0, 80, 42]
abbrev dktX0_tile_2 : List UInt8 := dkwX0_tile_2 ++ dktX0_tile_3
def dkwX0_tile_1 : List UInt8 := [170, 0, 0, 0, 134, 0, 0, 0, 0, 0, 0, 0, 5, 0, 0, 0, 37, 0, 0, 0, 59, 0, 0, 0, 74, 0, 0, 0, 86, 0, 0, 0, 98, 0, 0, 0, 122]
abbrev dktX0_tile_1 : List UInt8 := dkwX0_tile_1 ++ dktX0_tile_2
def dkwX0_tile_0 : List UInt8 := [42, 180, 0, 21, 27, 28, 182, 0, 82, 154, 0, 5, 2, 172, 29]
abbrev dktX0_tile_0 : List UInt8 := dkwX0_tile_0 ++ dktX0_tile_1
theorem dksX0_tile_0 : cX0_tile.data.toList.drop 0 = dktX0_tile_0 := by decide +kernel
theorem dksX0_tile_1 : cX0_tile.data.toList.drop 15 = dktX0_tile_1 := dk_seg dksX0_tile_0 15 rfl rfl
theorem dksX0_tile_2 : cX0_tile.data.toList.drop 52 = dktX0_tile_2 := dk_seg dksX0_tile_1 37 rfl rfl
theorem dksX0_tile_3 : cX0_tile.data.toList.drop 75 = dktX0_tile_3 := dk_seg dksX0_tile_2 23 rfl rfl
theorem dksX0_tile_4 : cX0_tile.data.toList.drop 98 = dktX0_tile_4 := dk_seg dksX0_tile_3 23 rfl rfl
theorem dksX0_tile_5 : cX0_tile.data.toList.drop 122 = dktX0_tile_5 := dk_seg dksX0_tile_4 24 rfl rfl
theorem dksX0_tile_6 : cX0_tile.data.toList.drop 146 = dktX0_tile_6 := dk_seg dksX0_tile_5 24 rfl rfl
theorem dX0_tile_0 : decode cX0_tile 0 = .ok (.aload_n 0, 1) := dk_42 (dk_at dksX0_tile_0 0 rfl rfl)
theorem dX0_tile_1 : decode cX0_tile 1 = .ok (.getfield 21, 3) := dk_180 0 21 (dk_at dksX0_tile_0 1 rfl rfl)
theorem dX0_tile_4 : decode cX0_tile 4 = .ok (.iload_n 1, 1) := dk_27 (dk_at dksX0_tile_0 4 rfl rfl)
theorem dX0_tile_5 : decode cX0_tile 5 = .ok (.iload_n 2, 1) := dk_28 (dk_at dksX0_tile_0 5 rfl rfl)
theorem dX0_tile_6 : decode cX0_tile 6 = .ok (.invokevirtual 82, 3) := dk_182 0 82 (dk_at dksX0_tile_0 6 rfl rfl)
theorem dX0_tile_9 : decode cX0_tile 9 = .ok (.ifCond .ne 5, 3) := dk_154 0 5 (dk_at dksX0_tile_0 9 rfl rfl)
theorem dX0_tile_12 : decode cX0_tile 12 = .ok (.iconst (-1), 1) := dk_2 (dk_at dksX0_tile_0 12 rfl rfl)
theorem dX0_tile_13 : decode cX0_tile 13 = .ok (.ireturn, 1) := dk_172 (dk_at dksX0_tile_0 13 rfl rfl)
theorem dX0_tile_14 : decode cX0_tile 14 = .ok (.iload_n 3, 1) := dk_29 (dk_at dksX0_tile_0 14 rfl rfl)
theorem dX0_tile_15 : decode cX0_tile 15 = .ok (.tableswitch 134 0 5 #[37, 59, 74, 86, 98, 122], 37) := by decide +kernel
theorem dX0_tile_52 : decode cX0_tile 52 = .ok (.aload_n 0, 1) := dk_42 (dk_at dksX0_tile_2 0 rfl rfl)
theorem dX0_tile_53 : decode cX0_tile 53 = .ok (.getfield 21, 3) := dk_180 0 21 (dk_at dksX0_tile_2 1 rfl rfl)
theorem dX0_tile_56 : decode cX0_tile 56 = .ok (.getfield 114, 3) := dk_180 0 114 (dk_at dksX0_tile_2 4 rfl rfl)
theorem dX0_tile_59 : decode cX0_tile 59 = .ok (.iload_n 1, 1) := dk_27 (dk_at dksX0_tile_2 7 rfl rfl)
theorem dX0_tile_60 : decode cX0_tile 60 = .ok (.aaload, 1) := dk_50 (dk_at dksX0_tile_2 8 rfl rfl)
theorem dX0_tile_61 : decode cX0_tile 61 = .ok (.iload_n 2, 1) := dk_28 (dk_at dksX0_tile_2 9 rfl rfl)
theorem dX0_tile_62 : decode cX0_tile 62 = .ok (.baload, 1) := dk_51 (dk_at dksX0_tile_2 10 rfl rfl)
theorem dX0_tile_63 : decode cX0_tile 63 = .ok (.ifCond .eq 7, 3) := dk_153 0 7 (dk_at dksX0_tile_2 11 rfl rfl)
theorem dX0_tile_66 : decode cX0_tile 66 = .ok (.iconst 1, 1) := dk_4 (dk_at dksX0_tile_2 14 rfl rfl)
theorem dX0_tile_67 : decode cX0_tile 67 = .ok (.goto 84, 3) := dk_167 0 84 (dk_at dksX0_tile_2 15 rfl rfl)
theorem dX0_tile_70 : decode cX0_tile 70 = .ok (.iconst 0, 1) := dk_3 (dk_at dksX0_tile_2 18 rfl rfl)
theorem dX0_tile_71 : decode cX0_tile 71 = .ok (.goto 80, 3) := dk_167 0 80 (dk_at dksX0_tile_2 19 rfl rfl)
theorem dX0_tile_74 : decode cX0_tile 74 = .ok (.aload_n 0, 1) := dk_42 (dk_at dksX0_tile_2 22 rfl rfl)
theorem dX0_tile_75 : decode cX0_tile 75 = .ok (.getfield 21, 3) := dk_180 0 21 (dk_at dksX0_tile_3 0 rfl rfl)
theorem dX0_tile_78 : decode cX0_tile 78 = .ok (.iload_n 1, 1) := dk_27 (dk_at dksX0_tile_3 3 rfl rfl)
theorem dX0_tile_79 : decode cX0_tile 79 = .ok (.iload_n 2, 1) := dk_28 (dk_at dksX0_tile_3 4 rfl rfl)
theorem dX0_tile_80 : decode cX0_tile 80 = .ok (.invokevirtual 118, 3) := dk_182 0 118 (dk_at dksX0_tile_3 5 rfl rfl)
theorem dX0_tile_83 : decode cX0_tile 83 = .ok (.getfield 122, 3) := dk_180 0 122 (dk_at dksX0_tile_3 8 rfl rfl)
theorem dX0_tile_86 : decode cX0_tile 86 = .ok (.goto 65, 3) := dk_167 0 65 (dk_at dksX0_tile_3 11 rfl rfl)
theorem dX0_tile_89 : decode cX0_tile 89 = .ok (.aload_n 0, 1) := dk_42 (dk_at dksX0_tile_3 14 rfl rfl)
theorem dX0_tile_90 : decode cX0_tile 90 = .ok (.getfield 21, 3) := dk_180 0 21 (dk_at dksX0_tile_3 15 rfl rfl)
theorem dX0_tile_93 : decode cX0_tile 93 = .ok (.iload_n 1, 1) := dk_27 (dk_at dksX0_tile_3 18 rfl rfl)
theorem dX0_tile_94 : decode cX0_tile 94 = .ok (.iload_n 2, 1) := dk_28 (dk_at dksX0_tile_3 19 rfl rfl)
theorem dX0_tile_95 : decode cX0_tile 95 = .ok (.invokevirtual 127, 3) := dk_182 0 127 (dk_at dksX0_tile_3 20 rfl rfl)
theorem dX0_tile_98 : decode cX0_tile 98 = .ok (.goto 53, 3) := dk_167 0 53 (dk_at dksX0_tile_4 0 rfl rfl)
theorem dX0_tile_101 : decode cX0_tile 101 = .ok (.aload_n 0, 1) := dk_42 (dk_at dksX0_tile_4 3 rfl rfl)
theorem dX0_tile_102 : decode cX0_tile 102 = .ok (.getfield 21, 3) := dk_180 0 21 (dk_at dksX0_tile_4 4 rfl rfl)
theorem dX0_tile_105 : decode cX0_tile 105 = .ok (.iload_n 1, 1) := dk_27 (dk_at dksX0_tile_4 7 rfl rfl)
theorem dX0_tile_106 : decode cX0_tile 106 = .ok (.iload_n 2, 1) := dk_28 (dk_at dksX0_tile_4 8 rfl rfl)
theorem dX0_tile_107 : decode cX0_tile 107 = .ok (.invokevirtual 131, 3) := dk_182 0 131 (dk_at dksX0_tile_4 9 rfl rfl)
theorem dX0_tile_110 : decode cX0_tile 110 = .ok (.goto 41, 3) := dk_167 0 41 (dk_at dksX0_tile_4 12 rfl rfl)
theorem dX0_tile_113 : decode cX0_tile 113 = .ok (.aload_n 0, 1) := dk_42 (dk_at dksX0_tile_4 15 rfl rfl)
theorem dX0_tile_114 : decode cX0_tile 114 = .ok (.getfield 21, 3) := dk_180 0 21 (dk_at dksX0_tile_4 16 rfl rfl)
theorem dX0_tile_117 : decode cX0_tile 117 = .ok (.getfield 134, 3) := dk_180 0 134 (dk_at dksX0_tile_4 19 rfl rfl)
theorem dX0_tile_120 : decode cX0_tile 120 = .ok (.iload_n 1, 1) := dk_27 (dk_at dksX0_tile_4 22 rfl rfl)
theorem dX0_tile_121 : decode cX0_tile 121 = .ok (.aaload, 1) := dk_50 (dk_at dksX0_tile_4 23 rfl rfl)
theorem dX0_tile_122 : decode cX0_tile 122 = .ok (.iload_n 2, 1) := dk_28 (dk_at dksX0_tile_5 0 rfl rfl)
theorem dX0_tile_123 : decode cX0_tile 123 = .ok (.iaload, 1) := dk_46 (dk_at dksX0_tile_5 1 rfl rfl)
theorem dX0_tile_124 : decode cX0_tile 124 = .ok (.bipush (-6), 2) := dk_16 250 (dk_at dksX0_tile_5 2 rfl rfl)
theorem dX0_tile_126 : decode cX0_tile 126 = .ok (.if_icmp .ne 7, 3) := dk_160 0 7 (dk_at dksX0_tile_5 4 rfl rfl)
theorem dX0_tile_129 : decode cX0_tile 129 = .ok (.iconst 0, 1) := dk_3 (dk_at dksX0_tile_5 7 rfl rfl)
theorem dX0_tile_130 : decode cX0_tile 130 = .ok (.goto 21, 3) := dk_167 0 21 (dk_at dksX0_tile_5 8 rfl rfl)
theorem dX0_tile_133 : decode cX0_tile 133 = .ok (.iconst 1, 1) := dk_4 (dk_at dksX0_tile_5 11 rfl rfl)
theorem dX0_tile_134 : decode cX0_tile 134 = .ok (.goto 17, 3) := dk_167 0 17 (dk_at dksX0_tile_5 12 rfl rfl)
theorem dX0_tile_137 : decode cX0_tile 137 = .ok (.aload_n 0, 1) := dk_42 (dk_at dksX0_tile_5 15 rfl rfl)
theorem dX0_tile_138 : decode cX0_tile 138 = .ok (.getfield 21, 3) := dk_180 0 21 (dk_at dksX0_tile_5 16 rfl rfl)
theorem dX0_tile_141 : decode cX0_tile 141 = .ok (.iload_n 1, 1) := dk_27 (dk_at dksX0_tile_5 19 rfl rfl)
theorem dX0_tile_142 : decode cX0_tile 142 = .ok (.iload_n 2, 1) := dk_28 (dk_at dksX0_tile_5 20 rfl rfl)
theorem dX0_tile_143 : decode cX0_tile 143 = .ok (.invokevirtual 138, 3) := dk_182 0 138 (dk_at dksX0_tile_5 21 rfl rfl)
theorem dX0_tile_146 : decode cX0_tile 146 = .ok (.goto 5, 3) := dk_167 0 5 (dk_at dksX0_tile_6 0 rfl rfl)
theorem dX0_tile_149 : decode cX0_tile 149 = .ok (.bipush (-2), 2) := dk_16 254 (dk_at dksX0_tile_6 3 rfl rfl)
theorem dX0_tile_151 : decode cX0_tile 151 = .ok (.ireturn, 1) := dk_172 (dk_at dksX0_tile_6 5 rfl rfl)
abbrev cX0_pin : ByteArray := prog_1_method_17_code
def yX0_pin : MethodName := ⟨RX0, "pin", "(III)I"⟩
def dkwX0_pin_2 : List UInt8 := [186, 0, 145, 0, 0, 182, 0, 93, 172]
abbrev dktX0_pin_2 : List UInt8 := dkwX0_pin_2 ++ []
def dkwX0_pin_1 : List UInt8 := [180, 0, 21, 180, 0, 114, 27, 50, 28, 51, 154, 0, 6, 16, 253, 172, 42, 42, 27, 28, 29]
abbrev dktX0_pin_1 : List UInt8 := dkwX0_pin_1 ++ dktX0_pin_2
def dkwX0_pin_0 : List UInt8 := [42, 180, 0, 21, 27, 28, 182, 0, 82, 153, 0, 10, 29, 184, 0, 141, 154, 0, 5, 2, 172, 42]
abbrev dktX0_pin_0 : List UInt8 := dkwX0_pin_0 ++ dktX0_pin_1
theorem dksX0_pin_0 : cX0_pin.data.toList.drop 0 = dktX0_pin_0 := by decide +kernel
theorem dksX0_pin_1 : cX0_pin.data.toList.drop 22 = dktX0_pin_1 := dk_seg dksX0_pin_0 22 rfl rfl
theorem dksX0_pin_2 : cX0_pin.data.toList.drop 43 = dktX0_pin_2 := dk_seg dksX0_pin_1 21 rfl rfl
theorem dX0_pin_0 : decode cX0_pin 0 = .ok (.aload_n 0, 1) := dk_42 (dk_at dksX0_pin_0 0 rfl rfl)
theorem dX0_pin_1 : decode cX0_pin 1 = .ok (.getfield 21, 3) := dk_180 0 21 (dk_at dksX0_pin_0 1 rfl rfl)
theorem dX0_pin_4 : decode cX0_pin 4 = .ok (.iload_n 1, 1) := dk_27 (dk_at dksX0_pin_0 4 rfl rfl)
theorem dX0_pin_5 : decode cX0_pin 5 = .ok (.iload_n 2, 1) := dk_28 (dk_at dksX0_pin_0 5 rfl rfl)
theorem dX0_pin_6 : decode cX0_pin 6 = .ok (.invokevirtual 82, 3) := dk_182 0 82 (dk_at dksX0_pin_0 6 rfl rfl)
theorem dX0_pin_9 : decode cX0_pin 9 = .ok (.ifCond .eq 10, 3) := dk_153 0 10 (dk_at dksX0_pin_0 9 rfl rfl)
theorem dX0_pin_12 : decode cX0_pin 12 = .ok (.iload_n 3, 1) := dk_29 (dk_at dksX0_pin_0 12 rfl rfl)
theorem dX0_pin_13 : decode cX0_pin 13 = .ok (.invokestatic 141, 3) := dk_184 0 141 (dk_at dksX0_pin_0 13 rfl rfl)
theorem dX0_pin_16 : decode cX0_pin 16 = .ok (.ifCond .ne 5, 3) := dk_154 0 5 (dk_at dksX0_pin_0 16 rfl rfl)
theorem dX0_pin_19 : decode cX0_pin 19 = .ok (.iconst (-1), 1) := dk_2 (dk_at dksX0_pin_0 19 rfl rfl)
theorem dX0_pin_20 : decode cX0_pin 20 = .ok (.ireturn, 1) := dk_172 (dk_at dksX0_pin_0 20 rfl rfl)
theorem dX0_pin_21 : decode cX0_pin 21 = .ok (.aload_n 0, 1) := dk_42 (dk_at dksX0_pin_0 21 rfl rfl)
theorem dX0_pin_22 : decode cX0_pin 22 = .ok (.getfield 21, 3) := dk_180 0 21 (dk_at dksX0_pin_1 0 rfl rfl)
theorem dX0_pin_25 : decode cX0_pin 25 = .ok (.getfield 114, 3) := dk_180 0 114 (dk_at dksX0_pin_1 3 rfl rfl)
theorem dX0_pin_28 : decode cX0_pin 28 = .ok (.iload_n 1, 1) := dk_27 (dk_at dksX0_pin_1 6 rfl rfl)
theorem dX0_pin_29 : decode cX0_pin 29 = .ok (.aaload, 1) := dk_50 (dk_at dksX0_pin_1 7 rfl rfl)
theorem dX0_pin_30 : decode cX0_pin 30 = .ok (.iload_n 2, 1) := dk_28 (dk_at dksX0_pin_1 8 rfl rfl)
theorem dX0_pin_31 : decode cX0_pin 31 = .ok (.baload, 1) := dk_51 (dk_at dksX0_pin_1 9 rfl rfl)
theorem dX0_pin_32 : decode cX0_pin 32 = .ok (.ifCond .ne 6, 3) := dk_154 0 6 (dk_at dksX0_pin_1 10 rfl rfl)
theorem dX0_pin_35 : decode cX0_pin 35 = .ok (.bipush (-3), 2) := dk_16 253 (dk_at dksX0_pin_1 13 rfl rfl)
theorem dX0_pin_37 : decode cX0_pin 37 = .ok (.ireturn, 1) := dk_172 (dk_at dksX0_pin_1 15 rfl rfl)
theorem dX0_pin_38 : decode cX0_pin 38 = .ok (.aload_n 0, 1) := dk_42 (dk_at dksX0_pin_1 16 rfl rfl)
theorem dX0_pin_39 : decode cX0_pin 39 = .ok (.aload_n 0, 1) := dk_42 (dk_at dksX0_pin_1 17 rfl rfl)
theorem dX0_pin_40 : decode cX0_pin 40 = .ok (.iload_n 1, 1) := dk_27 (dk_at dksX0_pin_1 18 rfl rfl)
theorem dX0_pin_41 : decode cX0_pin 41 = .ok (.iload_n 2, 1) := dk_28 (dk_at dksX0_pin_1 19 rfl rfl)
theorem dX0_pin_42 : decode cX0_pin 42 = .ok (.iload_n 3, 1) := dk_29 (dk_at dksX0_pin_1 20 rfl rfl)
theorem dX0_pin_43 : decode cX0_pin 43 = .ok (.invokedynamic 145, 5) := by decide +kernel
theorem dX0_pin_48 : decode cX0_pin 48 = .ok (.invokevirtual 93, 3) := dk_182 0 93 (dk_at dksX0_pin_2 5 rfl rfl)
theorem dX0_pin_51 : decode cX0_pin 51 = .ok (.ireturn, 1) := dk_172 (dk_at dksX0_pin_2 8 rfl rfl)
abbrev cX0_isShape : ByteArray := prog_1_method_3_code
def yX0_isShape : MethodName := ⟨RX0, "isShape", "(I)Z"⟩
def dkwX0_isShape_0 : List UInt8 := [26, 3, 16, 46, 184, 0, 39, 172]
abbrev dktX0_isShape_0 : List UInt8 := dkwX0_isShape_0 ++ []
theorem dksX0_isShape_0 : cX0_isShape.data.toList.drop 0 = dktX0_isShape_0 := by decide +kernel
theorem dX0_isShape_0 : decode cX0_isShape 0 = .ok (.iload_n 0, 1) := dk_26 (dk_at dksX0_isShape_0 0 rfl rfl)
theorem dX0_isShape_1 : decode cX0_isShape 1 = .ok (.iconst 0, 1) := dk_3 (dk_at dksX0_isShape_0 1 rfl rfl)
theorem dX0_isShape_2 : decode cX0_isShape 2 = .ok (.bipush 46, 2) := dk_16 46 (dk_at dksX0_isShape_0 2 rfl rfl)
theorem dX0_isShape_4 : decode cX0_isShape 4 = .ok (.invokestatic 39, 3) := dk_184 0 39 (dk_at dksX0_isShape_0 4 rfl rfl)
theorem dX0_isShape_7 : decode cX0_isShape 7 = .ok (.ireturn, 1) := dk_172 (dk_at dksX0_isShape_0 7 rfl rfl)
abbrev cX0_lambda_pin_4 : ByteArray := prog_1_method_51_code
def yX0_lambda_pin_4 : MethodName := ⟨RX0, "lambda$pin$4", "(III)I"⟩
def dkwX0_lambda_pin_4_0 : List UInt8 := [42, 180, 0, 21, 180, 0, 134, 27, 50, 28, 29, 79, 42, 180, 0, 21, 27, 28, 182, 0, 138, 172]
abbrev dktX0_lambda_pin_4_0 : List UInt8 := dkwX0_lambda_pin_4_0 ++ []
theorem dksX0_lambda_pin_4_0 : cX0_lambda_pin_4.data.toList.drop 0 = dktX0_lambda_pin_4_0 := by decide +kernel
theorem dX0_lambda_pin_4_0 : decode cX0_lambda_pin_4 0 = .ok (.aload_n 0, 1) := dk_42 (dk_at dksX0_lambda_pin_4_0 0 rfl rfl)
theorem dX0_lambda_pin_4_1 : decode cX0_lambda_pin_4 1 = .ok (.getfield 21, 3) := dk_180 0 21 (dk_at dksX0_lambda_pin_4_0 1 rfl rfl)
theorem dX0_lambda_pin_4_4 : decode cX0_lambda_pin_4 4 = .ok (.getfield 134, 3) := dk_180 0 134 (dk_at dksX0_lambda_pin_4_0 4 rfl rfl)
theorem dX0_lambda_pin_4_7 : decode cX0_lambda_pin_4 7 = .ok (.iload_n 1, 1) := dk_27 (dk_at dksX0_lambda_pin_4_0 7 rfl rfl)
theorem dX0_lambda_pin_4_8 : decode cX0_lambda_pin_4 8 = .ok (.aaload, 1) := dk_50 (dk_at dksX0_lambda_pin_4_0 8 rfl rfl)
theorem dX0_lambda_pin_4_9 : decode cX0_lambda_pin_4 9 = .ok (.iload_n 2, 1) := dk_28 (dk_at dksX0_lambda_pin_4_0 9 rfl rfl)
theorem dX0_lambda_pin_4_10 : decode cX0_lambda_pin_4 10 = .ok (.iload_n 3, 1) := dk_29 (dk_at dksX0_lambda_pin_4_0 10 rfl rfl)
theorem dX0_lambda_pin_4_11 : decode cX0_lambda_pin_4 11 = .ok (.iastore, 1) := dk_79 (dk_at dksX0_lambda_pin_4_0 11 rfl rfl)
theorem dX0_lambda_pin_4_12 : decode cX0_lambda_pin_4 12 = .ok (.aload_n 0, 1) := dk_42 (dk_at dksX0_lambda_pin_4_0 12 rfl rfl)
theorem dX0_lambda_pin_4_13 : decode cX0_lambda_pin_4 13 = .ok (.getfield 21, 3) := dk_180 0 21 (dk_at dksX0_lambda_pin_4_0 13 rfl rfl)
theorem dX0_lambda_pin_4_16 : decode cX0_lambda_pin_4 16 = .ok (.iload_n 1, 1) := dk_27 (dk_at dksX0_lambda_pin_4_0 16 rfl rfl)
theorem dX0_lambda_pin_4_17 : decode cX0_lambda_pin_4 17 = .ok (.iload_n 2, 1) := dk_28 (dk_at dksX0_lambda_pin_4_0 17 rfl rfl)
theorem dX0_lambda_pin_4_18 : decode cX0_lambda_pin_4 18 = .ok (.invokevirtual 138, 3) := dk_182 0 138 (dk_at dksX0_lambda_pin_4_0 18 rfl rfl)
theorem dX0_lambda_pin_4_21 : decode cX0_lambda_pin_4 21 = .ok (.ireturn, 1) := dk_172 (dk_at dksX0_lambda_pin_4_0 21 rfl rfl)
abbrev cX0_unpin : ByteArray := prog_1_method_18_code
def yX0_unpin : MethodName := ⟨RX0, "unpin", "(II)I"⟩
def dkwX0_unpin_2 : List UInt8 := [172]
abbrev dktX0_unpin_2 : List UInt8 := dkwX0_unpin_2 ++ []
def dkwX0_unpin_1 : List UInt8 := [46, 62, 29, 16, 250, 160, 0, 6, 16, 253, 172, 42, 42, 27, 28, 29, 186, 0, 148, 0, 0, 182, 0, 93]
abbrev dktX0_unpin_1 : List UInt8 := dkwX0_unpin_1 ++ dktX0_unpin_2
def dkwX0_unpin_0 : List UInt8 := [42, 180, 0, 21, 27, 28, 182, 0, 82, 154, 0, 5, 2, 172, 42, 180, 0, 21, 180, 0, 134, 27, 50, 28]
abbrev dktX0_unpin_0 : List UInt8 := dkwX0_unpin_0 ++ dktX0_unpin_1
theorem dksX0_unpin_0 : cX0_unpin.data.toList.drop 0 = dktX0_unpin_0 := by decide +kernel
theorem dksX0_unpin_1 : cX0_unpin.data.toList.drop 24 = dktX0_unpin_1 := dk_seg dksX0_unpin_0 24 rfl rfl
theorem dksX0_unpin_2 : cX0_unpin.data.toList.drop 48 = dktX0_unpin_2 := dk_seg dksX0_unpin_1 24 rfl rfl
theorem dX0_unpin_0 : decode cX0_unpin 0 = .ok (.aload_n 0, 1) := dk_42 (dk_at dksX0_unpin_0 0 rfl rfl)
theorem dX0_unpin_1 : decode cX0_unpin 1 = .ok (.getfield 21, 3) := dk_180 0 21 (dk_at dksX0_unpin_0 1 rfl rfl)
theorem dX0_unpin_4 : decode cX0_unpin 4 = .ok (.iload_n 1, 1) := dk_27 (dk_at dksX0_unpin_0 4 rfl rfl)
theorem dX0_unpin_5 : decode cX0_unpin 5 = .ok (.iload_n 2, 1) := dk_28 (dk_at dksX0_unpin_0 5 rfl rfl)
theorem dX0_unpin_6 : decode cX0_unpin 6 = .ok (.invokevirtual 82, 3) := dk_182 0 82 (dk_at dksX0_unpin_0 6 rfl rfl)
theorem dX0_unpin_9 : decode cX0_unpin 9 = .ok (.ifCond .ne 5, 3) := dk_154 0 5 (dk_at dksX0_unpin_0 9 rfl rfl)
theorem dX0_unpin_12 : decode cX0_unpin 12 = .ok (.iconst (-1), 1) := dk_2 (dk_at dksX0_unpin_0 12 rfl rfl)
theorem dX0_unpin_13 : decode cX0_unpin 13 = .ok (.ireturn, 1) := dk_172 (dk_at dksX0_unpin_0 13 rfl rfl)
theorem dX0_unpin_14 : decode cX0_unpin 14 = .ok (.aload_n 0, 1) := dk_42 (dk_at dksX0_unpin_0 14 rfl rfl)
theorem dX0_unpin_15 : decode cX0_unpin 15 = .ok (.getfield 21, 3) := dk_180 0 21 (dk_at dksX0_unpin_0 15 rfl rfl)
theorem dX0_unpin_18 : decode cX0_unpin 18 = .ok (.getfield 134, 3) := dk_180 0 134 (dk_at dksX0_unpin_0 18 rfl rfl)
theorem dX0_unpin_21 : decode cX0_unpin 21 = .ok (.iload_n 1, 1) := dk_27 (dk_at dksX0_unpin_0 21 rfl rfl)
theorem dX0_unpin_22 : decode cX0_unpin 22 = .ok (.aaload, 1) := dk_50 (dk_at dksX0_unpin_0 22 rfl rfl)
theorem dX0_unpin_23 : decode cX0_unpin 23 = .ok (.iload_n 2, 1) := dk_28 (dk_at dksX0_unpin_0 23 rfl rfl)
theorem dX0_unpin_24 : decode cX0_unpin 24 = .ok (.iaload, 1) := dk_46 (dk_at dksX0_unpin_1 0 rfl rfl)
theorem dX0_unpin_25 : decode cX0_unpin 25 = .ok (.istore_n 3, 1) := dk_62 (dk_at dksX0_unpin_1 1 rfl rfl)
theorem dX0_unpin_26 : decode cX0_unpin 26 = .ok (.iload_n 3, 1) := dk_29 (dk_at dksX0_unpin_1 2 rfl rfl)
theorem dX0_unpin_27 : decode cX0_unpin 27 = .ok (.bipush (-6), 2) := dk_16 250 (dk_at dksX0_unpin_1 3 rfl rfl)
theorem dX0_unpin_29 : decode cX0_unpin 29 = .ok (.if_icmp .ne 6, 3) := dk_160 0 6 (dk_at dksX0_unpin_1 5 rfl rfl)
theorem dX0_unpin_32 : decode cX0_unpin 32 = .ok (.bipush (-3), 2) := dk_16 253 (dk_at dksX0_unpin_1 8 rfl rfl)
theorem dX0_unpin_34 : decode cX0_unpin 34 = .ok (.ireturn, 1) := dk_172 (dk_at dksX0_unpin_1 10 rfl rfl)
theorem dX0_unpin_35 : decode cX0_unpin 35 = .ok (.aload_n 0, 1) := dk_42 (dk_at dksX0_unpin_1 11 rfl rfl)
theorem dX0_unpin_36 : decode cX0_unpin 36 = .ok (.aload_n 0, 1) := dk_42 (dk_at dksX0_unpin_1 12 rfl rfl)
theorem dX0_unpin_37 : decode cX0_unpin 37 = .ok (.iload_n 1, 1) := dk_27 (dk_at dksX0_unpin_1 13 rfl rfl)
theorem dX0_unpin_38 : decode cX0_unpin 38 = .ok (.iload_n 2, 1) := dk_28 (dk_at dksX0_unpin_1 14 rfl rfl)
theorem dX0_unpin_39 : decode cX0_unpin 39 = .ok (.iload_n 3, 1) := dk_29 (dk_at dksX0_unpin_1 15 rfl rfl)
theorem dX0_unpin_40 : decode cX0_unpin 40 = .ok (.invokedynamic 148, 5) := by decide +kernel
theorem dX0_unpin_45 : decode cX0_unpin 45 = .ok (.invokevirtual 93, 3) := dk_182 0 93 (dk_at dksX0_unpin_1 21 rfl rfl)
theorem dX0_unpin_48 : decode cX0_unpin 48 = .ok (.ireturn, 1) := dk_172 (dk_at dksX0_unpin_2 0 rfl rfl)
abbrev cX0_lambda_unpin_5 : ByteArray := prog_1_method_50_code
def yX0_lambda_unpin_5 : MethodName := ⟨RX0, "lambda$unpin$5", "(III)I"⟩
def dkwX0_lambda_unpin_5_0 : List UInt8 := [42, 180, 0, 21, 180, 0, 134, 27, 50, 28, 16, 250, 79, 29, 172]
abbrev dktX0_lambda_unpin_5_0 : List UInt8 := dkwX0_lambda_unpin_5_0 ++ []
theorem dksX0_lambda_unpin_5_0 : cX0_lambda_unpin_5.data.toList.drop 0 = dktX0_lambda_unpin_5_0 := by decide +kernel
theorem dX0_lambda_unpin_5_0 : decode cX0_lambda_unpin_5 0 = .ok (.aload_n 0, 1) := dk_42 (dk_at dksX0_lambda_unpin_5_0 0 rfl rfl)
theorem dX0_lambda_unpin_5_1 : decode cX0_lambda_unpin_5 1 = .ok (.getfield 21, 3) := dk_180 0 21 (dk_at dksX0_lambda_unpin_5_0 1 rfl rfl)
theorem dX0_lambda_unpin_5_4 : decode cX0_lambda_unpin_5 4 = .ok (.getfield 134, 3) := dk_180 0 134 (dk_at dksX0_lambda_unpin_5_0 4 rfl rfl)
theorem dX0_lambda_unpin_5_7 : decode cX0_lambda_unpin_5 7 = .ok (.iload_n 1, 1) := dk_27 (dk_at dksX0_lambda_unpin_5_0 7 rfl rfl)
theorem dX0_lambda_unpin_5_8 : decode cX0_lambda_unpin_5 8 = .ok (.aaload, 1) := dk_50 (dk_at dksX0_lambda_unpin_5_0 8 rfl rfl)
theorem dX0_lambda_unpin_5_9 : decode cX0_lambda_unpin_5 9 = .ok (.iload_n 2, 1) := dk_28 (dk_at dksX0_lambda_unpin_5_0 9 rfl rfl)
theorem dX0_lambda_unpin_5_10 : decode cX0_lambda_unpin_5 10 = .ok (.bipush (-6), 2) := dk_16 250 (dk_at dksX0_lambda_unpin_5_0 10 rfl rfl)
theorem dX0_lambda_unpin_5_12 : decode cX0_lambda_unpin_5 12 = .ok (.iastore, 1) := dk_79 (dk_at dksX0_lambda_unpin_5_0 12 rfl rfl)
theorem dX0_lambda_unpin_5_13 : decode cX0_lambda_unpin_5 13 = .ok (.iload_n 3, 1) := dk_29 (dk_at dksX0_lambda_unpin_5_0 13 rfl rfl)
theorem dX0_lambda_unpin_5_14 : decode cX0_lambda_unpin_5 14 = .ok (.ireturn, 1) := dk_172 (dk_at dksX0_lambda_unpin_5_0 14 rfl rfl)
abbrev cX0_faults : ByteArray := prog_1_method_20_code
def yX0_faults : MethodName := ⟨RX0, "faults", "()I"⟩
def dkwX0_faults_0 : List UInt8 := [42, 42, 186, 0, 154, 0, 0, 182, 0, 157, 172]
abbrev dktX0_faults_0 : List UInt8 := dkwX0_faults_0 ++ []
theorem dksX0_faults_0 : cX0_faults.data.toList.drop 0 = dktX0_faults_0 := by decide +kernel
theorem dX0_faults_0 : decode cX0_faults 0 = .ok (.aload_n 0, 1) := dk_42 (dk_at dksX0_faults_0 0 rfl rfl)
theorem dX0_faults_1 : decode cX0_faults 1 = .ok (.aload_n 0, 1) := dk_42 (dk_at dksX0_faults_0 1 rfl rfl)
theorem dX0_faults_2 : decode cX0_faults 2 = .ok (.invokedynamic 154, 5) := by decide +kernel
theorem dX0_faults_7 : decode cX0_faults 7 = .ok (.invokevirtual 157, 3) := dk_182 0 157 (dk_at dksX0_faults_0 7 rfl rfl)
theorem dX0_faults_10 : decode cX0_faults 10 = .ok (.ireturn, 1) := dk_172 (dk_at dksX0_faults_0 10 rfl rfl)
abbrev cX0_lambda_faults_6 : ByteArray := prog_1_method_49_code
def yX0_lambda_faults_6 : MethodName := ⟨RX0, "lambda$faults$6", "(II)I"⟩
def dkwX0_lambda_faults_6_0 : List UInt8 := [42, 180, 0, 21, 27, 28, 182, 0, 138, 172]
abbrev dktX0_lambda_faults_6_0 : List UInt8 := dkwX0_lambda_faults_6_0 ++ []
theorem dksX0_lambda_faults_6_0 : cX0_lambda_faults_6.data.toList.drop 0 = dktX0_lambda_faults_6_0 := by decide +kernel
theorem dX0_lambda_faults_6_0 : decode cX0_lambda_faults_6 0 = .ok (.aload_n 0, 1) := dk_42 (dk_at dksX0_lambda_faults_6_0 0 rfl rfl)
theorem dX0_lambda_faults_6_1 : decode cX0_lambda_faults_6 1 = .ok (.getfield 21, 3) := dk_180 0 21 (dk_at dksX0_lambda_faults_6_0 1 rfl rfl)
theorem dX0_lambda_faults_6_4 : decode cX0_lambda_faults_6 4 = .ok (.iload_n 1, 1) := dk_27 (dk_at dksX0_lambda_faults_6_0 4 rfl rfl)
theorem dX0_lambda_faults_6_5 : decode cX0_lambda_faults_6 5 = .ok (.iload_n 2, 1) := dk_28 (dk_at dksX0_lambda_faults_6_0 5 rfl rfl)
theorem dX0_lambda_faults_6_6 : decode cX0_lambda_faults_6 6 = .ok (.invokevirtual 138, 3) := dk_182 0 138 (dk_at dksX0_lambda_faults_6_0 6 rfl rfl)
theorem dX0_lambda_faults_6_9 : decode cX0_lambda_faults_6 9 = .ok (.ireturn, 1) := dk_172 (dk_at dksX0_lambda_faults_6_0 9 rfl rfl)
abbrev cX0_sum : ByteArray := prog_1_method_19_code
def yX0_sum : MethodName := ⟨RX0, "sum", "(LCoastTiles$Question;)I"⟩
def dkwX0_sum_3 : List UInt8 := [167, 255, 190, 28, 172]
abbrev dktX0_sum_3 : List UInt8 := dkwX0_sum_3 ++ []
def dkwX0_sum_2 : List UInt8 := [21, 4, 185, 0, 149, 3, 0, 167, 0, 4, 3, 96, 61, 132, 4, 1, 167, 255, 210, 132, 3, 1]
abbrev dktX0_sum_2 : List UInt8 := dkwX0_sum_2 ++ dktX0_sum_3
def dkwX0_sum_1 : List UInt8 := [180, 0, 111, 162, 0, 40, 28, 42, 180, 0, 21, 180, 0, 114, 29, 50, 21, 4, 51, 153, 0, 15, 43, 29]
abbrev dktX0_sum_1 : List UInt8 := dkwX0_sum_1 ++ dktX0_sum_2
def dkwX0_sum_0 : List UInt8 := [3, 61, 3, 62, 29, 42, 180, 0, 21, 180, 0, 107, 162, 0, 61, 3, 54, 4, 21, 4, 42, 180, 0, 21]
abbrev dktX0_sum_0 : List UInt8 := dkwX0_sum_0 ++ dktX0_sum_1
theorem dksX0_sum_0 : cX0_sum.data.toList.drop 0 = dktX0_sum_0 := by decide +kernel
theorem dksX0_sum_1 : cX0_sum.data.toList.drop 24 = dktX0_sum_1 := dk_seg dksX0_sum_0 24 rfl rfl
theorem dksX0_sum_2 : cX0_sum.data.toList.drop 48 = dktX0_sum_2 := dk_seg dksX0_sum_1 24 rfl rfl
theorem dksX0_sum_3 : cX0_sum.data.toList.drop 70 = dktX0_sum_3 := dk_seg dksX0_sum_2 22 rfl rfl
theorem dX0_sum_0 : decode cX0_sum 0 = .ok (.iconst 0, 1) := dk_3 (dk_at dksX0_sum_0 0 rfl rfl)
theorem dX0_sum_1 : decode cX0_sum 1 = .ok (.istore_n 2, 1) := dk_61 (dk_at dksX0_sum_0 1 rfl rfl)
theorem dX0_sum_2 : decode cX0_sum 2 = .ok (.iconst 0, 1) := dk_3 (dk_at dksX0_sum_0 2 rfl rfl)
theorem dX0_sum_3 : decode cX0_sum 3 = .ok (.istore_n 3, 1) := dk_62 (dk_at dksX0_sum_0 3 rfl rfl)
theorem dX0_sum_4 : decode cX0_sum 4 = .ok (.iload_n 3, 1) := dk_29 (dk_at dksX0_sum_0 4 rfl rfl)
theorem dX0_sum_5 : decode cX0_sum 5 = .ok (.aload_n 0, 1) := dk_42 (dk_at dksX0_sum_0 5 rfl rfl)
theorem dX0_sum_6 : decode cX0_sum 6 = .ok (.getfield 21, 3) := dk_180 0 21 (dk_at dksX0_sum_0 6 rfl rfl)
theorem dX0_sum_9 : decode cX0_sum 9 = .ok (.getfield 107, 3) := dk_180 0 107 (dk_at dksX0_sum_0 9 rfl rfl)
theorem dX0_sum_12 : decode cX0_sum 12 = .ok (.if_icmp .ge 61, 3) := dk_162 0 61 (dk_at dksX0_sum_0 12 rfl rfl)
theorem dX0_sum_15 : decode cX0_sum 15 = .ok (.iconst 0, 1) := dk_3 (dk_at dksX0_sum_0 15 rfl rfl)
theorem dX0_sum_16 : decode cX0_sum 16 = .ok (.istore 4, 2) := dk_54 4 (dk_at dksX0_sum_0 16 rfl rfl)
theorem dX0_sum_18 : decode cX0_sum 18 = .ok (.iload 4, 2) := dk_21 4 (dk_at dksX0_sum_0 18 rfl rfl)
theorem dX0_sum_20 : decode cX0_sum 20 = .ok (.aload_n 0, 1) := dk_42 (dk_at dksX0_sum_0 20 rfl rfl)
theorem dX0_sum_21 : decode cX0_sum 21 = .ok (.getfield 21, 3) := dk_180 0 21 (dk_at dksX0_sum_0 21 rfl rfl)
theorem dX0_sum_24 : decode cX0_sum 24 = .ok (.getfield 111, 3) := dk_180 0 111 (dk_at dksX0_sum_1 0 rfl rfl)
theorem dX0_sum_27 : decode cX0_sum 27 = .ok (.if_icmp .ge 40, 3) := dk_162 0 40 (dk_at dksX0_sum_1 3 rfl rfl)
theorem dX0_sum_30 : decode cX0_sum 30 = .ok (.iload_n 2, 1) := dk_28 (dk_at dksX0_sum_1 6 rfl rfl)
theorem dX0_sum_31 : decode cX0_sum 31 = .ok (.aload_n 0, 1) := dk_42 (dk_at dksX0_sum_1 7 rfl rfl)
theorem dX0_sum_32 : decode cX0_sum 32 = .ok (.getfield 21, 3) := dk_180 0 21 (dk_at dksX0_sum_1 8 rfl rfl)
theorem dX0_sum_35 : decode cX0_sum 35 = .ok (.getfield 114, 3) := dk_180 0 114 (dk_at dksX0_sum_1 11 rfl rfl)
theorem dX0_sum_38 : decode cX0_sum 38 = .ok (.iload_n 3, 1) := dk_29 (dk_at dksX0_sum_1 14 rfl rfl)
theorem dX0_sum_39 : decode cX0_sum 39 = .ok (.aaload, 1) := dk_50 (dk_at dksX0_sum_1 15 rfl rfl)
theorem dX0_sum_40 : decode cX0_sum 40 = .ok (.iload 4, 2) := dk_21 4 (dk_at dksX0_sum_1 16 rfl rfl)
theorem dX0_sum_42 : decode cX0_sum 42 = .ok (.baload, 1) := dk_51 (dk_at dksX0_sum_1 18 rfl rfl)
theorem dX0_sum_43 : decode cX0_sum 43 = .ok (.ifCond .eq 15, 3) := dk_153 0 15 (dk_at dksX0_sum_1 19 rfl rfl)
theorem dX0_sum_46 : decode cX0_sum 46 = .ok (.aload_n 1, 1) := dk_43 (dk_at dksX0_sum_1 22 rfl rfl)
theorem dX0_sum_47 : decode cX0_sum 47 = .ok (.iload_n 3, 1) := dk_29 (dk_at dksX0_sum_1 23 rfl rfl)
theorem dX0_sum_48 : decode cX0_sum 48 = .ok (.iload 4, 2) := dk_21 4 (dk_at dksX0_sum_2 0 rfl rfl)
theorem dX0_sum_50 : decode cX0_sum 50 = .ok (.invokeinterface 149 3, 5) := by decide +kernel
theorem dX0_sum_55 : decode cX0_sum 55 = .ok (.goto 4, 3) := dk_167 0 4 (dk_at dksX0_sum_2 7 rfl rfl)
theorem dX0_sum_58 : decode cX0_sum 58 = .ok (.iconst 0, 1) := dk_3 (dk_at dksX0_sum_2 10 rfl rfl)
theorem dX0_sum_59 : decode cX0_sum 59 = .ok (.iadd, 1) := dk_96 (dk_at dksX0_sum_2 11 rfl rfl)
theorem dX0_sum_60 : decode cX0_sum 60 = .ok (.istore_n 2, 1) := dk_61 (dk_at dksX0_sum_2 12 rfl rfl)
theorem dX0_sum_61 : decode cX0_sum 61 = .ok (.iinc 4 1, 3) := dk_132 4 1 (dk_at dksX0_sum_2 13 rfl rfl)
theorem dX0_sum_64 : decode cX0_sum 64 = .ok (.goto (-46), 3) := dk_167 255 210 (dk_at dksX0_sum_2 16 rfl rfl)
theorem dX0_sum_67 : decode cX0_sum 67 = .ok (.iinc 3 1, 3) := dk_132 3 1 (dk_at dksX0_sum_2 19 rfl rfl)
theorem dX0_sum_70 : decode cX0_sum 70 = .ok (.goto (-66), 3) := dk_167 255 190 (dk_at dksX0_sum_3 0 rfl rfl)
theorem dX0_sum_73 : decode cX0_sum 73 = .ok (.iload_n 2, 1) := dk_28 (dk_at dksX0_sum_3 3 rfl rfl)
theorem dX0_sum_74 : decode cX0_sum 74 = .ok (.ireturn, 1) := dk_172 (dk_at dksX0_sum_3 4 rfl rfl)
abbrev cX0_firstFault : ByteArray := prog_1_method_21_code
def yX0_firstFault : MethodName := ⟨RX0, "firstFault", "()I"⟩
def dkwX0_firstFault_2 : List UInt8 := [132, 2, 1, 167, 255, 223, 132, 1, 1, 167, 255, 204, 16, 250, 172]
abbrev dktX0_firstFault_2 : List UInt8 := dkwX0_firstFault_2 ++ []
def dkwX0_firstFault_1 : List UInt8 := [162, 0, 28, 42, 180, 0, 21, 27, 28, 182, 0, 138, 158, 0, 10, 16, 100, 27, 104, 28, 96, 172]
abbrev dktX0_firstFault_1 : List UInt8 := dkwX0_firstFault_1 ++ dktX0_firstFault_2
def dkwX0_firstFault_0 : List UInt8 := [3, 60, 27, 42, 180, 0, 21, 180, 0, 107, 162, 0, 47, 3, 61, 28, 42, 180, 0, 21, 180, 0, 111]
abbrev dktX0_firstFault_0 : List UInt8 := dkwX0_firstFault_0 ++ dktX0_firstFault_1
theorem dksX0_firstFault_0 : cX0_firstFault.data.toList.drop 0 = dktX0_firstFault_0 := by decide +kernel
theorem dksX0_firstFault_1 : cX0_firstFault.data.toList.drop 23 = dktX0_firstFault_1 := dk_seg dksX0_firstFault_0 23 rfl rfl
theorem dksX0_firstFault_2 : cX0_firstFault.data.toList.drop 45 = dktX0_firstFault_2 := dk_seg dksX0_firstFault_1 22 rfl rfl
theorem dX0_firstFault_0 : decode cX0_firstFault 0 = .ok (.iconst 0, 1) := dk_3 (dk_at dksX0_firstFault_0 0 rfl rfl)
theorem dX0_firstFault_1 : decode cX0_firstFault 1 = .ok (.istore_n 1, 1) := dk_60 (dk_at dksX0_firstFault_0 1 rfl rfl)
theorem dX0_firstFault_2 : decode cX0_firstFault 2 = .ok (.iload_n 1, 1) := dk_27 (dk_at dksX0_firstFault_0 2 rfl rfl)
theorem dX0_firstFault_3 : decode cX0_firstFault 3 = .ok (.aload_n 0, 1) := dk_42 (dk_at dksX0_firstFault_0 3 rfl rfl)
theorem dX0_firstFault_4 : decode cX0_firstFault 4 = .ok (.getfield 21, 3) := dk_180 0 21 (dk_at dksX0_firstFault_0 4 rfl rfl)
theorem dX0_firstFault_7 : decode cX0_firstFault 7 = .ok (.getfield 107, 3) := dk_180 0 107 (dk_at dksX0_firstFault_0 7 rfl rfl)
theorem dX0_firstFault_10 : decode cX0_firstFault 10 = .ok (.if_icmp .ge 47, 3) := dk_162 0 47 (dk_at dksX0_firstFault_0 10 rfl rfl)
theorem dX0_firstFault_13 : decode cX0_firstFault 13 = .ok (.iconst 0, 1) := dk_3 (dk_at dksX0_firstFault_0 13 rfl rfl)
theorem dX0_firstFault_14 : decode cX0_firstFault 14 = .ok (.istore_n 2, 1) := dk_61 (dk_at dksX0_firstFault_0 14 rfl rfl)
theorem dX0_firstFault_15 : decode cX0_firstFault 15 = .ok (.iload_n 2, 1) := dk_28 (dk_at dksX0_firstFault_0 15 rfl rfl)
theorem dX0_firstFault_16 : decode cX0_firstFault 16 = .ok (.aload_n 0, 1) := dk_42 (dk_at dksX0_firstFault_0 16 rfl rfl)
theorem dX0_firstFault_17 : decode cX0_firstFault 17 = .ok (.getfield 21, 3) := dk_180 0 21 (dk_at dksX0_firstFault_0 17 rfl rfl)
theorem dX0_firstFault_20 : decode cX0_firstFault 20 = .ok (.getfield 111, 3) := dk_180 0 111 (dk_at dksX0_firstFault_0 20 rfl rfl)
theorem dX0_firstFault_23 : decode cX0_firstFault 23 = .ok (.if_icmp .ge 28, 3) := dk_162 0 28 (dk_at dksX0_firstFault_1 0 rfl rfl)
theorem dX0_firstFault_26 : decode cX0_firstFault 26 = .ok (.aload_n 0, 1) := dk_42 (dk_at dksX0_firstFault_1 3 rfl rfl)
theorem dX0_firstFault_27 : decode cX0_firstFault 27 = .ok (.getfield 21, 3) := dk_180 0 21 (dk_at dksX0_firstFault_1 4 rfl rfl)
theorem dX0_firstFault_30 : decode cX0_firstFault 30 = .ok (.iload_n 1, 1) := dk_27 (dk_at dksX0_firstFault_1 7 rfl rfl)
theorem dX0_firstFault_31 : decode cX0_firstFault 31 = .ok (.iload_n 2, 1) := dk_28 (dk_at dksX0_firstFault_1 8 rfl rfl)
theorem dX0_firstFault_32 : decode cX0_firstFault 32 = .ok (.invokevirtual 138, 3) := dk_182 0 138 (dk_at dksX0_firstFault_1 9 rfl rfl)
theorem dX0_firstFault_35 : decode cX0_firstFault 35 = .ok (.ifCond .le 10, 3) := dk_158 0 10 (dk_at dksX0_firstFault_1 12 rfl rfl)
theorem dX0_firstFault_38 : decode cX0_firstFault 38 = .ok (.bipush 100, 2) := dk_16 100 (dk_at dksX0_firstFault_1 15 rfl rfl)
theorem dX0_firstFault_40 : decode cX0_firstFault 40 = .ok (.iload_n 1, 1) := dk_27 (dk_at dksX0_firstFault_1 17 rfl rfl)
theorem dX0_firstFault_41 : decode cX0_firstFault 41 = .ok (.imul, 1) := dk_104 (dk_at dksX0_firstFault_1 18 rfl rfl)
theorem dX0_firstFault_42 : decode cX0_firstFault 42 = .ok (.iload_n 2, 1) := dk_28 (dk_at dksX0_firstFault_1 19 rfl rfl)
theorem dX0_firstFault_43 : decode cX0_firstFault 43 = .ok (.iadd, 1) := dk_96 (dk_at dksX0_firstFault_1 20 rfl rfl)
theorem dX0_firstFault_44 : decode cX0_firstFault 44 = .ok (.ireturn, 1) := dk_172 (dk_at dksX0_firstFault_1 21 rfl rfl)
theorem dX0_firstFault_45 : decode cX0_firstFault 45 = .ok (.iinc 2 1, 3) := dk_132 2 1 (dk_at dksX0_firstFault_2 0 rfl rfl)
theorem dX0_firstFault_48 : decode cX0_firstFault 48 = .ok (.goto (-33), 3) := dk_167 255 223 (dk_at dksX0_firstFault_2 3 rfl rfl)
theorem dX0_firstFault_51 : decode cX0_firstFault 51 = .ok (.iinc 1 1, 3) := dk_132 1 1 (dk_at dksX0_firstFault_2 6 rfl rfl)
theorem dX0_firstFault_54 : decode cX0_firstFault 54 = .ok (.goto (-52), 3) := dk_167 255 204 (dk_at dksX0_firstFault_2 9 rfl rfl)
theorem dX0_firstFault_57 : decode cX0_firstFault 57 = .ok (.bipush (-6), 2) := dk_16 250 (dk_at dksX0_firstFault_2 12 rfl rfl)
theorem dX0_firstFault_59 : decode cX0_firstFault 59 = .ok (.ireturn, 1) := dk_172 (dk_at dksX0_firstFault_2 14 rfl rfl)
abbrev cX0_maskOf : ByteArray := prog_1_method_22_code
def yX0_maskOf : MethodName := ⟨RX0, "maskOf", "(I)I"⟩
def dkwX0_maskOf_0 : List UInt8 := [27, 184, 0, 141, 153, 0, 17, 42, 180, 0, 10, 27, 182, 0, 161, 180, 0, 122, 167, 0, 4, 2, 172]
abbrev dktX0_maskOf_0 : List UInt8 := dkwX0_maskOf_0 ++ []
theorem dksX0_maskOf_0 : cX0_maskOf.data.toList.drop 0 = dktX0_maskOf_0 := by decide +kernel
theorem dX0_maskOf_0 : decode cX0_maskOf 0 = .ok (.iload_n 1, 1) := dk_27 (dk_at dksX0_maskOf_0 0 rfl rfl)
theorem dX0_maskOf_1 : decode cX0_maskOf 1 = .ok (.invokestatic 141, 3) := dk_184 0 141 (dk_at dksX0_maskOf_0 1 rfl rfl)
theorem dX0_maskOf_4 : decode cX0_maskOf 4 = .ok (.ifCond .eq 17, 3) := dk_153 0 17 (dk_at dksX0_maskOf_0 4 rfl rfl)
theorem dX0_maskOf_7 : decode cX0_maskOf 7 = .ok (.aload_n 0, 1) := dk_42 (dk_at dksX0_maskOf_0 7 rfl rfl)
theorem dX0_maskOf_8 : decode cX0_maskOf 8 = .ok (.getfield 10, 3) := dk_180 0 10 (dk_at dksX0_maskOf_0 8 rfl rfl)
theorem dX0_maskOf_11 : decode cX0_maskOf 11 = .ok (.iload_n 1, 1) := dk_27 (dk_at dksX0_maskOf_0 11 rfl rfl)
theorem dX0_maskOf_12 : decode cX0_maskOf 12 = .ok (.invokevirtual 161, 3) := dk_182 0 161 (dk_at dksX0_maskOf_0 12 rfl rfl)
theorem dX0_maskOf_15 : decode cX0_maskOf 15 = .ok (.getfield 122, 3) := dk_180 0 122 (dk_at dksX0_maskOf_0 15 rfl rfl)
theorem dX0_maskOf_18 : decode cX0_maskOf 18 = .ok (.goto 4, 3) := dk_167 0 4 (dk_at dksX0_maskOf_0 18 rfl rfl)
theorem dX0_maskOf_21 : decode cX0_maskOf 21 = .ok (.iconst (-1), 1) := dk_2 (dk_at dksX0_maskOf_0 21 rfl rfl)
theorem dX0_maskOf_22 : decode cX0_maskOf 22 = .ok (.ireturn, 1) := dk_172 (dk_at dksX0_maskOf_0 22 rfl rfl)
abbrev cX0_shapeOf : ByteArray := prog_1_method_23_code
def yX0_shapeOf : MethodName := ⟨RX0, "shapeOf", "(I)I"⟩
def dkwX0_shapeOf_1 : List UInt8 := [182, 0, 168, 167, 0, 5, 16, 254, 172]
abbrev dktX0_shapeOf_1 : List UInt8 := dkwX0_shapeOf_1 ++ []
def dkwX0_shapeOf_0 : List UInt8 := [27, 3, 17, 0, 255, 184, 0, 39, 153, 0, 21, 42, 180, 0, 10, 187, 0, 123, 89, 27, 183, 0, 165]
abbrev dktX0_shapeOf_0 : List UInt8 := dkwX0_shapeOf_0 ++ dktX0_shapeOf_1
theorem dksX0_shapeOf_0 : cX0_shapeOf.data.toList.drop 0 = dktX0_shapeOf_0 := by decide +kernel
theorem dksX0_shapeOf_1 : cX0_shapeOf.data.toList.drop 23 = dktX0_shapeOf_1 := dk_seg dksX0_shapeOf_0 23 rfl rfl
theorem dX0_shapeOf_0 : decode cX0_shapeOf 0 = .ok (.iload_n 1, 1) := dk_27 (dk_at dksX0_shapeOf_0 0 rfl rfl)
theorem dX0_shapeOf_1 : decode cX0_shapeOf 1 = .ok (.iconst 0, 1) := dk_3 (dk_at dksX0_shapeOf_0 1 rfl rfl)
theorem dX0_shapeOf_2 : decode cX0_shapeOf 2 = .ok (.sipush 255, 3) := dk_17 0 255 (dk_at dksX0_shapeOf_0 2 rfl rfl)
theorem dX0_shapeOf_5 : decode cX0_shapeOf 5 = .ok (.invokestatic 39, 3) := dk_184 0 39 (dk_at dksX0_shapeOf_0 5 rfl rfl)
theorem dX0_shapeOf_8 : decode cX0_shapeOf 8 = .ok (.ifCond .eq 21, 3) := dk_153 0 21 (dk_at dksX0_shapeOf_0 8 rfl rfl)
theorem dX0_shapeOf_11 : decode cX0_shapeOf 11 = .ok (.aload_n 0, 1) := dk_42 (dk_at dksX0_shapeOf_0 11 rfl rfl)
theorem dX0_shapeOf_12 : decode cX0_shapeOf 12 = .ok (.getfield 10, 3) := dk_180 0 10 (dk_at dksX0_shapeOf_0 12 rfl rfl)
theorem dX0_shapeOf_15 : decode cX0_shapeOf 15 = .ok (.new 123, 3) := dk_187 0 123 (dk_at dksX0_shapeOf_0 15 rfl rfl)
theorem dX0_shapeOf_18 : decode cX0_shapeOf 18 = .ok (.dup, 1) := dk_89 (dk_at dksX0_shapeOf_0 18 rfl rfl)
theorem dX0_shapeOf_19 : decode cX0_shapeOf 19 = .ok (.iload_n 1, 1) := dk_27 (dk_at dksX0_shapeOf_0 19 rfl rfl)
theorem dX0_shapeOf_20 : decode cX0_shapeOf 20 = .ok (.invokespecial 165, 3) := dk_183 0 165 (dk_at dksX0_shapeOf_0 20 rfl rfl)
theorem dX0_shapeOf_23 : decode cX0_shapeOf 23 = .ok (.invokevirtual 168, 3) := dk_182 0 168 (dk_at dksX0_shapeOf_1 0 rfl rfl)
theorem dX0_shapeOf_26 : decode cX0_shapeOf 26 = .ok (.goto 5, 3) := dk_167 0 5 (dk_at dksX0_shapeOf_1 3 rfl rfl)
theorem dX0_shapeOf_29 : decode cX0_shapeOf 29 = .ok (.bipush (-2), 2) := dk_16 254 (dk_at dksX0_shapeOf_1 6 rfl rfl)
theorem dX0_shapeOf_31 : decode cX0_shapeOf 31 = .ok (.ireturn, 1) := dk_172 (dk_at dksX0_shapeOf_1 8 rfl rfl)
abbrev cX0_turned : ByteArray := prog_1_method_24_code
def yX0_turned : MethodName := ⟨RX0, "turned", "(II)I"⟩
def dkwX0_turned_1 : List UInt8 := [180, 0, 10, 27, 182, 0, 161, 28, 182, 0, 171, 182, 0, 168, 167, 0, 5, 16, 254, 172]
abbrev dktX0_turned_1 : List UInt8 := dkwX0_turned_1 ++ []
def dkwX0_turned_0 : List UInt8 := [27, 184, 0, 141, 154, 0, 5, 2, 172, 28, 3, 6, 184, 0, 39, 153, 0, 25, 42, 180, 0, 10, 42]
abbrev dktX0_turned_0 : List UInt8 := dkwX0_turned_0 ++ dktX0_turned_1
theorem dksX0_turned_0 : cX0_turned.data.toList.drop 0 = dktX0_turned_0 := by decide +kernel
theorem dksX0_turned_1 : cX0_turned.data.toList.drop 23 = dktX0_turned_1 := dk_seg dksX0_turned_0 23 rfl rfl
theorem dX0_turned_0 : decode cX0_turned 0 = .ok (.iload_n 1, 1) := dk_27 (dk_at dksX0_turned_0 0 rfl rfl)
theorem dX0_turned_1 : decode cX0_turned 1 = .ok (.invokestatic 141, 3) := dk_184 0 141 (dk_at dksX0_turned_0 1 rfl rfl)
theorem dX0_turned_4 : decode cX0_turned 4 = .ok (.ifCond .ne 5, 3) := dk_154 0 5 (dk_at dksX0_turned_0 4 rfl rfl)
theorem dX0_turned_7 : decode cX0_turned 7 = .ok (.iconst (-1), 1) := dk_2 (dk_at dksX0_turned_0 7 rfl rfl)
theorem dX0_turned_8 : decode cX0_turned 8 = .ok (.ireturn, 1) := dk_172 (dk_at dksX0_turned_0 8 rfl rfl)
theorem dX0_turned_9 : decode cX0_turned 9 = .ok (.iload_n 2, 1) := dk_28 (dk_at dksX0_turned_0 9 rfl rfl)
theorem dX0_turned_10 : decode cX0_turned 10 = .ok (.iconst 0, 1) := dk_3 (dk_at dksX0_turned_0 10 rfl rfl)
theorem dX0_turned_11 : decode cX0_turned 11 = .ok (.iconst 3, 1) := dk_6 (dk_at dksX0_turned_0 11 rfl rfl)
theorem dX0_turned_12 : decode cX0_turned 12 = .ok (.invokestatic 39, 3) := dk_184 0 39 (dk_at dksX0_turned_0 12 rfl rfl)
theorem dX0_turned_15 : decode cX0_turned 15 = .ok (.ifCond .eq 25, 3) := dk_153 0 25 (dk_at dksX0_turned_0 15 rfl rfl)
theorem dX0_turned_18 : decode cX0_turned 18 = .ok (.aload_n 0, 1) := dk_42 (dk_at dksX0_turned_0 18 rfl rfl)
theorem dX0_turned_19 : decode cX0_turned 19 = .ok (.getfield 10, 3) := dk_180 0 10 (dk_at dksX0_turned_0 19 rfl rfl)
theorem dX0_turned_22 : decode cX0_turned 22 = .ok (.aload_n 0, 1) := dk_42 (dk_at dksX0_turned_0 22 rfl rfl)
theorem dX0_turned_23 : decode cX0_turned 23 = .ok (.getfield 10, 3) := dk_180 0 10 (dk_at dksX0_turned_1 0 rfl rfl)
theorem dX0_turned_26 : decode cX0_turned 26 = .ok (.iload_n 1, 1) := dk_27 (dk_at dksX0_turned_1 3 rfl rfl)
theorem dX0_turned_27 : decode cX0_turned 27 = .ok (.invokevirtual 161, 3) := dk_182 0 161 (dk_at dksX0_turned_1 4 rfl rfl)
theorem dX0_turned_30 : decode cX0_turned 30 = .ok (.iload_n 2, 1) := dk_28 (dk_at dksX0_turned_1 7 rfl rfl)
theorem dX0_turned_31 : decode cX0_turned 31 = .ok (.invokevirtual 171, 3) := dk_182 0 171 (dk_at dksX0_turned_1 8 rfl rfl)
theorem dX0_turned_34 : decode cX0_turned 34 = .ok (.invokevirtual 168, 3) := dk_182 0 168 (dk_at dksX0_turned_1 11 rfl rfl)
theorem dX0_turned_37 : decode cX0_turned 37 = .ok (.goto 5, 3) := dk_167 0 5 (dk_at dksX0_turned_1 14 rfl rfl)
theorem dX0_turned_40 : decode cX0_turned 40 = .ok (.bipush (-2), 2) := dk_16 254 (dk_at dksX0_turned_1 17 rfl rfl)
theorem dX0_turned_42 : decode cX0_turned 42 = .ok (.ireturn, 1) := dk_172 (dk_at dksX0_turned_1 19 rfl rfl)
abbrev cX0_mirrored : ByteArray := prog_1_method_25_code
def yX0_mirrored : MethodName := ⟨RX0, "mirrored", "(I)I"⟩
def dkwX0_mirrored_1 : List UInt8 := [182, 0, 168, 167, 0, 4, 2, 172]
abbrev dktX0_mirrored_1 : List UInt8 := dkwX0_mirrored_1 ++ []
def dkwX0_mirrored_0 : List UInt8 := [27, 184, 0, 141, 153, 0, 24, 42, 180, 0, 10, 42, 180, 0, 10, 27, 182, 0, 161, 182, 0, 173]
abbrev dktX0_mirrored_0 : List UInt8 := dkwX0_mirrored_0 ++ dktX0_mirrored_1
theorem dksX0_mirrored_0 : cX0_mirrored.data.toList.drop 0 = dktX0_mirrored_0 := by decide +kernel
theorem dksX0_mirrored_1 : cX0_mirrored.data.toList.drop 22 = dktX0_mirrored_1 := dk_seg dksX0_mirrored_0 22 rfl rfl
theorem dX0_mirrored_0 : decode cX0_mirrored 0 = .ok (.iload_n 1, 1) := dk_27 (dk_at dksX0_mirrored_0 0 rfl rfl)
theorem dX0_mirrored_1 : decode cX0_mirrored 1 = .ok (.invokestatic 141, 3) := dk_184 0 141 (dk_at dksX0_mirrored_0 1 rfl rfl)
theorem dX0_mirrored_4 : decode cX0_mirrored 4 = .ok (.ifCond .eq 24, 3) := dk_153 0 24 (dk_at dksX0_mirrored_0 4 rfl rfl)
theorem dX0_mirrored_7 : decode cX0_mirrored 7 = .ok (.aload_n 0, 1) := dk_42 (dk_at dksX0_mirrored_0 7 rfl rfl)
theorem dX0_mirrored_8 : decode cX0_mirrored 8 = .ok (.getfield 10, 3) := dk_180 0 10 (dk_at dksX0_mirrored_0 8 rfl rfl)
theorem dX0_mirrored_11 : decode cX0_mirrored 11 = .ok (.aload_n 0, 1) := dk_42 (dk_at dksX0_mirrored_0 11 rfl rfl)
theorem dX0_mirrored_12 : decode cX0_mirrored 12 = .ok (.getfield 10, 3) := dk_180 0 10 (dk_at dksX0_mirrored_0 12 rfl rfl)
theorem dX0_mirrored_15 : decode cX0_mirrored 15 = .ok (.iload_n 1, 1) := dk_27 (dk_at dksX0_mirrored_0 15 rfl rfl)
theorem dX0_mirrored_16 : decode cX0_mirrored 16 = .ok (.invokevirtual 161, 3) := dk_182 0 161 (dk_at dksX0_mirrored_0 16 rfl rfl)
theorem dX0_mirrored_19 : decode cX0_mirrored 19 = .ok (.invokevirtual 173, 3) := dk_182 0 173 (dk_at dksX0_mirrored_0 19 rfl rfl)
theorem dX0_mirrored_22 : decode cX0_mirrored 22 = .ok (.invokevirtual 168, 3) := dk_182 0 168 (dk_at dksX0_mirrored_1 0 rfl rfl)
theorem dX0_mirrored_25 : decode cX0_mirrored 25 = .ok (.goto 4, 3) := dk_167 0 4 (dk_at dksX0_mirrored_1 3 rfl rfl)
theorem dX0_mirrored_28 : decode cX0_mirrored 28 = .ok (.iconst (-1), 1) := dk_2 (dk_at dksX0_mirrored_1 6 rfl rfl)
theorem dX0_mirrored_29 : decode cX0_mirrored 29 = .ok (.ireturn, 1) := dk_172 (dk_at dksX0_mirrored_1 7 rfl rfl)
abbrev cX0_count : ByteArray := prog_1_method_26_code
def yX0_count : MethodName := ⟨RX0, "count", "(I)I"⟩
def dkwX0_count_0 : List UInt8 := [27, 184, 0, 141, 153, 0, 17, 42, 42, 27, 186, 0, 177, 0, 0, 182, 0, 157, 167, 0, 4, 2, 172]
abbrev dktX0_count_0 : List UInt8 := dkwX0_count_0 ++ []
theorem dksX0_count_0 : cX0_count.data.toList.drop 0 = dktX0_count_0 := by decide +kernel
theorem dX0_count_0 : decode cX0_count 0 = .ok (.iload_n 1, 1) := dk_27 (dk_at dksX0_count_0 0 rfl rfl)
theorem dX0_count_1 : decode cX0_count 1 = .ok (.invokestatic 141, 3) := dk_184 0 141 (dk_at dksX0_count_0 1 rfl rfl)
theorem dX0_count_4 : decode cX0_count 4 = .ok (.ifCond .eq 17, 3) := dk_153 0 17 (dk_at dksX0_count_0 4 rfl rfl)
theorem dX0_count_7 : decode cX0_count 7 = .ok (.aload_n 0, 1) := dk_42 (dk_at dksX0_count_0 7 rfl rfl)
theorem dX0_count_8 : decode cX0_count 8 = .ok (.aload_n 0, 1) := dk_42 (dk_at dksX0_count_0 8 rfl rfl)
theorem dX0_count_9 : decode cX0_count 9 = .ok (.iload_n 1, 1) := dk_27 (dk_at dksX0_count_0 9 rfl rfl)
theorem dX0_count_10 : decode cX0_count 10 = .ok (.invokedynamic 177, 5) := by decide +kernel
theorem dX0_count_15 : decode cX0_count 15 = .ok (.invokevirtual 157, 3) := dk_182 0 157 (dk_at dksX0_count_0 15 rfl rfl)
theorem dX0_count_18 : decode cX0_count 18 = .ok (.goto 4, 3) := dk_167 0 4 (dk_at dksX0_count_0 18 rfl rfl)
theorem dX0_count_21 : decode cX0_count 21 = .ok (.iconst (-1), 1) := dk_2 (dk_at dksX0_count_0 21 rfl rfl)
theorem dX0_count_22 : decode cX0_count 22 = .ok (.ireturn, 1) := dk_172 (dk_at dksX0_count_0 22 rfl rfl)
abbrev cX0_lambda_count_7 : ByteArray := prog_1_method_48_code
def yX0_lambda_count_7 : MethodName := ⟨RX0, "lambda$count$7", "(III)I"⟩
def dkwX0_lambda_count_7_0 : List UInt8 := [42, 180, 0, 21, 28, 29, 182, 0, 131, 27, 160, 0, 7, 4, 167, 0, 4, 3, 172]
abbrev dktX0_lambda_count_7_0 : List UInt8 := dkwX0_lambda_count_7_0 ++ []
theorem dksX0_lambda_count_7_0 : cX0_lambda_count_7.data.toList.drop 0 = dktX0_lambda_count_7_0 := by decide +kernel
theorem dX0_lambda_count_7_0 : decode cX0_lambda_count_7 0 = .ok (.aload_n 0, 1) := dk_42 (dk_at dksX0_lambda_count_7_0 0 rfl rfl)
theorem dX0_lambda_count_7_1 : decode cX0_lambda_count_7 1 = .ok (.getfield 21, 3) := dk_180 0 21 (dk_at dksX0_lambda_count_7_0 1 rfl rfl)
theorem dX0_lambda_count_7_4 : decode cX0_lambda_count_7 4 = .ok (.iload_n 2, 1) := dk_28 (dk_at dksX0_lambda_count_7_0 4 rfl rfl)
theorem dX0_lambda_count_7_5 : decode cX0_lambda_count_7 5 = .ok (.iload_n 3, 1) := dk_29 (dk_at dksX0_lambda_count_7_0 5 rfl rfl)
theorem dX0_lambda_count_7_6 : decode cX0_lambda_count_7 6 = .ok (.invokevirtual 131, 3) := dk_182 0 131 (dk_at dksX0_lambda_count_7_0 6 rfl rfl)
theorem dX0_lambda_count_7_9 : decode cX0_lambda_count_7 9 = .ok (.iload_n 1, 1) := dk_27 (dk_at dksX0_lambda_count_7_0 9 rfl rfl)
theorem dX0_lambda_count_7_10 : decode cX0_lambda_count_7 10 = .ok (.if_icmp .ne 7, 3) := dk_160 0 7 (dk_at dksX0_lambda_count_7_0 10 rfl rfl)
theorem dX0_lambda_count_7_13 : decode cX0_lambda_count_7 13 = .ok (.iconst 1, 1) := dk_4 (dk_at dksX0_lambda_count_7_0 13 rfl rfl)
theorem dX0_lambda_count_7_14 : decode cX0_lambda_count_7 14 = .ok (.goto 4, 3) := dk_167 0 4 (dk_at dksX0_lambda_count_7_0 14 rfl rfl)
theorem dX0_lambda_count_7_17 : decode cX0_lambda_count_7 17 = .ok (.iconst 0, 1) := dk_3 (dk_at dksX0_lambda_count_7_0 17 rfl rfl)
theorem dX0_lambda_count_7_18 : decode cX0_lambda_count_7 18 = .ok (.ireturn, 1) := dk_172 (dk_at dksX0_lambda_count_7_0 18 rfl rfl)
abbrev cX0_shapes : ByteArray := prog_1_method_27_code
def yX0_shapes : MethodName := ⟨RX0, "shapes", "()I"⟩
def dkwX0_shapes_1 : List UInt8 := [172]
abbrev dktX0_shapes_1 : List UInt8 := dkwX0_shapes_1 ++ []
def dkwX0_shapes_0 : List UInt8 := [187, 0, 180, 89, 183, 0, 182, 76, 42, 42, 43, 186, 0, 183, 0, 0, 182, 0, 157, 87, 43, 182, 0, 186]
abbrev dktX0_shapes_0 : List UInt8 := dkwX0_shapes_0 ++ dktX0_shapes_1
theorem dksX0_shapes_0 : cX0_shapes.data.toList.drop 0 = dktX0_shapes_0 := by decide +kernel
theorem dksX0_shapes_1 : cX0_shapes.data.toList.drop 24 = dktX0_shapes_1 := dk_seg dksX0_shapes_0 24 rfl rfl
theorem dX0_shapes_0 : decode cX0_shapes 0 = .ok (.new 180, 3) := dk_187 0 180 (dk_at dksX0_shapes_0 0 rfl rfl)
theorem dX0_shapes_3 : decode cX0_shapes 3 = .ok (.dup, 1) := dk_89 (dk_at dksX0_shapes_0 3 rfl rfl)
theorem dX0_shapes_4 : decode cX0_shapes 4 = .ok (.invokespecial 182, 3) := dk_183 0 182 (dk_at dksX0_shapes_0 4 rfl rfl)
theorem dX0_shapes_7 : decode cX0_shapes 7 = .ok (.astore_n 1, 1) := dk_76 (dk_at dksX0_shapes_0 7 rfl rfl)
theorem dX0_shapes_8 : decode cX0_shapes 8 = .ok (.aload_n 0, 1) := dk_42 (dk_at dksX0_shapes_0 8 rfl rfl)
theorem dX0_shapes_9 : decode cX0_shapes 9 = .ok (.aload_n 0, 1) := dk_42 (dk_at dksX0_shapes_0 9 rfl rfl)
theorem dX0_shapes_10 : decode cX0_shapes 10 = .ok (.aload_n 1, 1) := dk_43 (dk_at dksX0_shapes_0 10 rfl rfl)
theorem dX0_shapes_11 : decode cX0_shapes 11 = .ok (.invokedynamic 183, 5) := by decide +kernel
theorem dX0_shapes_16 : decode cX0_shapes 16 = .ok (.invokevirtual 157, 3) := dk_182 0 157 (dk_at dksX0_shapes_0 16 rfl rfl)
theorem dX0_shapes_19 : decode cX0_shapes 19 = .ok (.pop, 1) := dk_87 (dk_at dksX0_shapes_0 19 rfl rfl)
theorem dX0_shapes_20 : decode cX0_shapes 20 = .ok (.aload_n 1, 1) := dk_43 (dk_at dksX0_shapes_0 20 rfl rfl)
theorem dX0_shapes_21 : decode cX0_shapes 21 = .ok (.invokevirtual 186, 3) := dk_182 0 186 (dk_at dksX0_shapes_0 21 rfl rfl)
theorem dX0_shapes_24 : decode cX0_shapes 24 = .ok (.ireturn, 1) := dk_172 (dk_at dksX0_shapes_1 0 rfl rfl)
abbrev cX0_lambda_shapes_8 : ByteArray := prog_1_method_47_code
def yX0_lambda_shapes_8 : MethodName := ⟨RX0, "lambda$shapes$8", "(Ljava/util/BitSet;II)I"⟩
def dkwX0_lambda_shapes_8_0 : List UInt8 := [43, 42, 180, 0, 21, 28, 29, 182, 0, 131, 182, 1, 45, 3, 172]
abbrev dktX0_lambda_shapes_8_0 : List UInt8 := dkwX0_lambda_shapes_8_0 ++ []
theorem dksX0_lambda_shapes_8_0 : cX0_lambda_shapes_8.data.toList.drop 0 = dktX0_lambda_shapes_8_0 := by decide +kernel
theorem dX0_lambda_shapes_8_0 : decode cX0_lambda_shapes_8 0 = .ok (.aload_n 1, 1) := dk_43 (dk_at dksX0_lambda_shapes_8_0 0 rfl rfl)
theorem dX0_lambda_shapes_8_1 : decode cX0_lambda_shapes_8 1 = .ok (.aload_n 0, 1) := dk_42 (dk_at dksX0_lambda_shapes_8_0 1 rfl rfl)
theorem dX0_lambda_shapes_8_2 : decode cX0_lambda_shapes_8 2 = .ok (.getfield 21, 3) := dk_180 0 21 (dk_at dksX0_lambda_shapes_8_0 2 rfl rfl)
theorem dX0_lambda_shapes_8_5 : decode cX0_lambda_shapes_8 5 = .ok (.iload_n 2, 1) := dk_28 (dk_at dksX0_lambda_shapes_8_0 5 rfl rfl)
theorem dX0_lambda_shapes_8_6 : decode cX0_lambda_shapes_8 6 = .ok (.iload_n 3, 1) := dk_29 (dk_at dksX0_lambda_shapes_8_0 6 rfl rfl)
theorem dX0_lambda_shapes_8_7 : decode cX0_lambda_shapes_8 7 = .ok (.invokevirtual 131, 3) := dk_182 0 131 (dk_at dksX0_lambda_shapes_8_0 7 rfl rfl)
theorem dX0_lambda_shapes_8_10 : decode cX0_lambda_shapes_8 10 = .ok (.invokevirtual 301, 3) := dk_182 1 45 (dk_at dksX0_lambda_shapes_8_0 10 rfl rfl)
theorem dX0_lambda_shapes_8_13 : decode cX0_lambda_shapes_8 13 = .ok (.iconst 0, 1) := dk_3 (dk_at dksX0_lambda_shapes_8_0 13 rfl rfl)
theorem dX0_lambda_shapes_8_14 : decode cX0_lambda_shapes_8 14 = .ok (.ireturn, 1) := dk_172 (dk_at dksX0_lambda_shapes_8_0 14 rfl rfl)
abbrev cX0_land : ByteArray := prog_1_method_28_code
def yX0_land : MethodName := ⟨RX0, "land", "()I"⟩
def dkwX0_land_0 : List UInt8 := [42, 180, 0, 21, 182, 0, 189, 172]
abbrev dktX0_land_0 : List UInt8 := dkwX0_land_0 ++ []
theorem dksX0_land_0 : cX0_land.data.toList.drop 0 = dktX0_land_0 := by decide +kernel
theorem dX0_land_0 : decode cX0_land 0 = .ok (.aload_n 0, 1) := dk_42 (dk_at dksX0_land_0 0 rfl rfl)
theorem dX0_land_1 : decode cX0_land 1 = .ok (.getfield 21, 3) := dk_180 0 21 (dk_at dksX0_land_0 1 rfl rfl)
theorem dX0_land_4 : decode cX0_land 4 = .ok (.invokevirtual 189, 3) := dk_182 0 189 (dk_at dksX0_land_0 4 rfl rfl)
theorem dX0_land_7 : decode cX0_land 7 = .ok (.ireturn, 1) := dk_172 (dk_at dksX0_land_0 7 rfl rfl)
abbrev cX0_landShare : ByteArray := prog_1_method_29_code
def yX0_landShare : MethodName := ⟨RX0, "landShare", "()I"⟩
def dkwX0_landShare_1 : List UInt8 := [110, 184, 0, 192, 172]
abbrev dktX0_landShare_1 : List UInt8 := dkwX0_landShare_1 ++ []
def dkwX0_landShare_0 : List UInt8 := [42, 180, 0, 21, 182, 0, 189, 134, 42, 180, 0, 21, 180, 0, 107, 42, 180, 0, 21, 180, 0, 111, 104, 134]
abbrev dktX0_landShare_0 : List UInt8 := dkwX0_landShare_0 ++ dktX0_landShare_1
theorem dksX0_landShare_0 : cX0_landShare.data.toList.drop 0 = dktX0_landShare_0 := by decide +kernel
theorem dksX0_landShare_1 : cX0_landShare.data.toList.drop 24 = dktX0_landShare_1 := dk_seg dksX0_landShare_0 24 rfl rfl
theorem dX0_landShare_0 : decode cX0_landShare 0 = .ok (.aload_n 0, 1) := dk_42 (dk_at dksX0_landShare_0 0 rfl rfl)
theorem dX0_landShare_1 : decode cX0_landShare 1 = .ok (.getfield 21, 3) := dk_180 0 21 (dk_at dksX0_landShare_0 1 rfl rfl)
theorem dX0_landShare_4 : decode cX0_landShare 4 = .ok (.invokevirtual 189, 3) := dk_182 0 189 (dk_at dksX0_landShare_0 4 rfl rfl)
theorem dX0_landShare_7 : decode cX0_landShare 7 = .ok (.i2f, 1) := dk_134 (dk_at dksX0_landShare_0 7 rfl rfl)
theorem dX0_landShare_8 : decode cX0_landShare 8 = .ok (.aload_n 0, 1) := dk_42 (dk_at dksX0_landShare_0 8 rfl rfl)
theorem dX0_landShare_9 : decode cX0_landShare 9 = .ok (.getfield 21, 3) := dk_180 0 21 (dk_at dksX0_landShare_0 9 rfl rfl)
theorem dX0_landShare_12 : decode cX0_landShare 12 = .ok (.getfield 107, 3) := dk_180 0 107 (dk_at dksX0_landShare_0 12 rfl rfl)
theorem dX0_landShare_15 : decode cX0_landShare 15 = .ok (.aload_n 0, 1) := dk_42 (dk_at dksX0_landShare_0 15 rfl rfl)
theorem dX0_landShare_16 : decode cX0_landShare 16 = .ok (.getfield 21, 3) := dk_180 0 21 (dk_at dksX0_landShare_0 16 rfl rfl)
theorem dX0_landShare_19 : decode cX0_landShare 19 = .ok (.getfield 111, 3) := dk_180 0 111 (dk_at dksX0_landShare_0 19 rfl rfl)
theorem dX0_landShare_22 : decode cX0_landShare 22 = .ok (.imul, 1) := dk_104 (dk_at dksX0_landShare_0 22 rfl rfl)
theorem dX0_landShare_23 : decode cX0_landShare 23 = .ok (.i2f, 1) := dk_134 (dk_at dksX0_landShare_0 23 rfl rfl)
theorem dX0_landShare_24 : decode cX0_landShare 24 = .ok (.fdiv, 1) := dk_110 (dk_at dksX0_landShare_1 0 rfl rfl)
theorem dX0_landShare_25 : decode cX0_landShare 25 = .ok (.invokestatic 192, 3) := dk_184 0 192 (dk_at dksX0_landShare_1 1 rfl rfl)
theorem dX0_landShare_28 : decode cX0_landShare 28 = .ok (.ireturn, 1) := dk_172 (dk_at dksX0_landShare_1 4 rfl rfl)
abbrev cX0_coast : ByteArray := prog_1_method_30_code
def yX0_coast : MethodName := ⟨RX0, "coast", "()I"⟩
def dkwX0_coast_0 : List UInt8 := [42, 180, 0, 21, 182, 0, 198, 172]
abbrev dktX0_coast_0 : List UInt8 := dkwX0_coast_0 ++ []
theorem dksX0_coast_0 : cX0_coast.data.toList.drop 0 = dktX0_coast_0 := by decide +kernel
theorem dX0_coast_0 : decode cX0_coast 0 = .ok (.aload_n 0, 1) := dk_42 (dk_at dksX0_coast_0 0 rfl rfl)
theorem dX0_coast_1 : decode cX0_coast 1 = .ok (.getfield 21, 3) := dk_180 0 21 (dk_at dksX0_coast_0 1 rfl rfl)
theorem dX0_coast_4 : decode cX0_coast 4 = .ok (.invokevirtual 198, 3) := dk_182 0 198 (dk_at dksX0_coast_0 4 rfl rfl)
theorem dX0_coast_7 : decode cX0_coast 7 = .ok (.ireturn, 1) := dk_172 (dk_at dksX0_coast_0 7 rfl rfl)
abbrev cX0_islands : ByteArray := prog_1_method_31_code
def yX0_islands : MethodName := ⟨RX0, "islands", "()I"⟩
def dkwX0_islands_0 : List UInt8 := [42, 180, 0, 21, 4, 4, 182, 0, 200, 182, 0, 204, 172]
abbrev dktX0_islands_0 : List UInt8 := dkwX0_islands_0 ++ []
theorem dksX0_islands_0 : cX0_islands.data.toList.drop 0 = dktX0_islands_0 := by decide +kernel
theorem dX0_islands_0 : decode cX0_islands 0 = .ok (.aload_n 0, 1) := dk_42 (dk_at dksX0_islands_0 0 rfl rfl)
theorem dX0_islands_1 : decode cX0_islands 1 = .ok (.getfield 21, 3) := dk_180 0 21 (dk_at dksX0_islands_0 1 rfl rfl)
theorem dX0_islands_4 : decode cX0_islands 4 = .ok (.iconst 1, 1) := dk_4 (dk_at dksX0_islands_0 4 rfl rfl)
theorem dX0_islands_5 : decode cX0_islands 5 = .ok (.iconst 1, 1) := dk_4 (dk_at dksX0_islands_0 5 rfl rfl)
theorem dX0_islands_6 : decode cX0_islands 6 = .ok (.invokevirtual 200, 3) := dk_182 0 200 (dk_at dksX0_islands_0 6 rfl rfl)
theorem dX0_islands_9 : decode cX0_islands 9 = .ok (.invokevirtual 204, 3) := dk_182 0 204 (dk_at dksX0_islands_0 9 rfl rfl)
theorem dX0_islands_12 : decode cX0_islands 12 = .ok (.ireturn, 1) := dk_172 (dk_at dksX0_islands_0 12 rfl rfl)
abbrev cX0_lakes : ByteArray := prog_1_method_32_code
def yX0_lakes : MethodName := ⟨RX0, "lakes", "()I"⟩
def dkwX0_lakes_2 : List UInt8 := [172]
abbrev dktX0_lakes_2 : List UInt8 := dkwX0_lakes_2 ++ []
def dkwX0_lakes_1 : List UInt8 := [43, 182, 0, 211, 192, 0, 180, 182, 0, 215, 153, 0, 7, 4, 167, 0, 4, 3, 96, 61, 167, 255, 224, 28]
abbrev dktX0_lakes_1 : List UInt8 := dkwX0_lakes_1 ++ dktX0_lakes_2
def dkwX0_lakes_0 : List UInt8 := [42, 180, 0, 21, 3, 3, 182, 0, 200, 76, 3, 61, 43, 182, 0, 207, 154, 0, 31, 28, 42, 180, 0, 21]
abbrev dktX0_lakes_0 : List UInt8 := dkwX0_lakes_0 ++ dktX0_lakes_1
theorem dksX0_lakes_0 : cX0_lakes.data.toList.drop 0 = dktX0_lakes_0 := by decide +kernel
theorem dksX0_lakes_1 : cX0_lakes.data.toList.drop 24 = dktX0_lakes_1 := dk_seg dksX0_lakes_0 24 rfl rfl
theorem dksX0_lakes_2 : cX0_lakes.data.toList.drop 48 = dktX0_lakes_2 := dk_seg dksX0_lakes_1 24 rfl rfl
theorem dX0_lakes_0 : decode cX0_lakes 0 = .ok (.aload_n 0, 1) := dk_42 (dk_at dksX0_lakes_0 0 rfl rfl)
theorem dX0_lakes_1 : decode cX0_lakes 1 = .ok (.getfield 21, 3) := dk_180 0 21 (dk_at dksX0_lakes_0 1 rfl rfl)
theorem dX0_lakes_4 : decode cX0_lakes 4 = .ok (.iconst 0, 1) := dk_3 (dk_at dksX0_lakes_0 4 rfl rfl)
theorem dX0_lakes_5 : decode cX0_lakes 5 = .ok (.iconst 0, 1) := dk_3 (dk_at dksX0_lakes_0 5 rfl rfl)
theorem dX0_lakes_6 : decode cX0_lakes 6 = .ok (.invokevirtual 200, 3) := dk_182 0 200 (dk_at dksX0_lakes_0 6 rfl rfl)
theorem dX0_lakes_9 : decode cX0_lakes 9 = .ok (.astore_n 1, 1) := dk_76 (dk_at dksX0_lakes_0 9 rfl rfl)
theorem dX0_lakes_10 : decode cX0_lakes 10 = .ok (.iconst 0, 1) := dk_3 (dk_at dksX0_lakes_0 10 rfl rfl)
theorem dX0_lakes_11 : decode cX0_lakes 11 = .ok (.istore_n 2, 1) := dk_61 (dk_at dksX0_lakes_0 11 rfl rfl)
theorem dX0_lakes_12 : decode cX0_lakes 12 = .ok (.aload_n 1, 1) := dk_43 (dk_at dksX0_lakes_0 12 rfl rfl)
theorem dX0_lakes_13 : decode cX0_lakes 13 = .ok (.invokevirtual 207, 3) := dk_182 0 207 (dk_at dksX0_lakes_0 13 rfl rfl)
theorem dX0_lakes_16 : decode cX0_lakes 16 = .ok (.ifCond .ne 31, 3) := dk_154 0 31 (dk_at dksX0_lakes_0 16 rfl rfl)
theorem dX0_lakes_19 : decode cX0_lakes 19 = .ok (.iload_n 2, 1) := dk_28 (dk_at dksX0_lakes_0 19 rfl rfl)
theorem dX0_lakes_20 : decode cX0_lakes 20 = .ok (.aload_n 0, 1) := dk_42 (dk_at dksX0_lakes_0 20 rfl rfl)
theorem dX0_lakes_21 : decode cX0_lakes 21 = .ok (.getfield 21, 3) := dk_180 0 21 (dk_at dksX0_lakes_0 21 rfl rfl)
theorem dX0_lakes_24 : decode cX0_lakes 24 = .ok (.aload_n 1, 1) := dk_43 (dk_at dksX0_lakes_1 0 rfl rfl)
theorem dX0_lakes_25 : decode cX0_lakes 25 = .ok (.invokevirtual 211, 3) := dk_182 0 211 (dk_at dksX0_lakes_1 1 rfl rfl)
theorem dX0_lakes_28 : decode cX0_lakes 28 = .ok (.checkcast 180, 3) := dk_192 0 180 (dk_at dksX0_lakes_1 4 rfl rfl)
theorem dX0_lakes_31 : decode cX0_lakes 31 = .ok (.invokevirtual 215, 3) := dk_182 0 215 (dk_at dksX0_lakes_1 7 rfl rfl)
theorem dX0_lakes_34 : decode cX0_lakes 34 = .ok (.ifCond .eq 7, 3) := dk_153 0 7 (dk_at dksX0_lakes_1 10 rfl rfl)
theorem dX0_lakes_37 : decode cX0_lakes 37 = .ok (.iconst 1, 1) := dk_4 (dk_at dksX0_lakes_1 13 rfl rfl)
theorem dX0_lakes_38 : decode cX0_lakes 38 = .ok (.goto 4, 3) := dk_167 0 4 (dk_at dksX0_lakes_1 14 rfl rfl)
theorem dX0_lakes_41 : decode cX0_lakes 41 = .ok (.iconst 0, 1) := dk_3 (dk_at dksX0_lakes_1 17 rfl rfl)
theorem dX0_lakes_42 : decode cX0_lakes 42 = .ok (.iadd, 1) := dk_96 (dk_at dksX0_lakes_1 18 rfl rfl)
theorem dX0_lakes_43 : decode cX0_lakes 43 = .ok (.istore_n 2, 1) := dk_61 (dk_at dksX0_lakes_1 19 rfl rfl)
theorem dX0_lakes_44 : decode cX0_lakes 44 = .ok (.goto (-32), 3) := dk_167 255 224 (dk_at dksX0_lakes_1 20 rfl rfl)
theorem dX0_lakes_47 : decode cX0_lakes 47 = .ok (.iload_n 2, 1) := dk_28 (dk_at dksX0_lakes_1 23 rfl rfl)
theorem dX0_lakes_48 : decode cX0_lakes 48 = .ok (.ireturn, 1) := dk_172 (dk_at dksX0_lakes_2 0 rfl rfl)
abbrev cX0_region : ByteArray := prog_1_method_33_code
def yX0_region : MethodName := ⟨RX0, "region", "(IIZ)I"⟩
def dkwX0_region_1 : List UInt8 := [182, 0, 223, 182, 0, 186, 167, 0, 4, 2, 172]
abbrev dktX0_region_1 : List UInt8 := dkwX0_region_1 ++ []
def dkwX0_region_0 : List UInt8 := [42, 180, 0, 21, 27, 28, 182, 0, 82, 153, 0, 24, 42, 180, 0, 21, 27, 28, 29, 186, 0, 219, 0, 0]
abbrev dktX0_region_0 : List UInt8 := dkwX0_region_0 ++ dktX0_region_1
theorem dksX0_region_0 : cX0_region.data.toList.drop 0 = dktX0_region_0 := by decide +kernel
theorem dksX0_region_1 : cX0_region.data.toList.drop 24 = dktX0_region_1 := dk_seg dksX0_region_0 24 rfl rfl
theorem dX0_region_0 : decode cX0_region 0 = .ok (.aload_n 0, 1) := dk_42 (dk_at dksX0_region_0 0 rfl rfl)
theorem dX0_region_1 : decode cX0_region 1 = .ok (.getfield 21, 3) := dk_180 0 21 (dk_at dksX0_region_0 1 rfl rfl)
theorem dX0_region_4 : decode cX0_region 4 = .ok (.iload_n 1, 1) := dk_27 (dk_at dksX0_region_0 4 rfl rfl)
theorem dX0_region_5 : decode cX0_region 5 = .ok (.iload_n 2, 1) := dk_28 (dk_at dksX0_region_0 5 rfl rfl)
theorem dX0_region_6 : decode cX0_region 6 = .ok (.invokevirtual 82, 3) := dk_182 0 82 (dk_at dksX0_region_0 6 rfl rfl)
theorem dX0_region_9 : decode cX0_region 9 = .ok (.ifCond .eq 24, 3) := dk_153 0 24 (dk_at dksX0_region_0 9 rfl rfl)
theorem dX0_region_12 : decode cX0_region 12 = .ok (.aload_n 0, 1) := dk_42 (dk_at dksX0_region_0 12 rfl rfl)
theorem dX0_region_13 : decode cX0_region 13 = .ok (.getfield 21, 3) := dk_180 0 21 (dk_at dksX0_region_0 13 rfl rfl)
theorem dX0_region_16 : decode cX0_region 16 = .ok (.iload_n 1, 1) := dk_27 (dk_at dksX0_region_0 16 rfl rfl)
theorem dX0_region_17 : decode cX0_region 17 = .ok (.iload_n 2, 1) := dk_28 (dk_at dksX0_region_0 17 rfl rfl)
theorem dX0_region_18 : decode cX0_region 18 = .ok (.iload_n 3, 1) := dk_29 (dk_at dksX0_region_0 18 rfl rfl)
theorem dX0_region_19 : decode cX0_region 19 = .ok (.invokedynamic 219, 5) := by decide +kernel
theorem dX0_region_24 : decode cX0_region 24 = .ok (.invokevirtual 223, 3) := dk_182 0 223 (dk_at dksX0_region_1 0 rfl rfl)
theorem dX0_region_27 : decode cX0_region 27 = .ok (.invokevirtual 186, 3) := dk_182 0 186 (dk_at dksX0_region_1 3 rfl rfl)
theorem dX0_region_30 : decode cX0_region 30 = .ok (.goto 4, 3) := dk_167 0 4 (dk_at dksX0_region_1 6 rfl rfl)
theorem dX0_region_33 : decode cX0_region 33 = .ok (.iconst (-1), 1) := dk_2 (dk_at dksX0_region_1 9 rfl rfl)
theorem dX0_region_34 : decode cX0_region 34 = .ok (.ireturn, 1) := dk_172 (dk_at dksX0_region_1 10 rfl rfl)
abbrev cX0_lambda_region_9 : ByteArray := prog_1_method_46_code
def yX0_lambda_region_9 : MethodName := ⟨RX0, "lambda$region$9", "(LCoastTiles$Step;)V"⟩
theorem dX0_lambda_region_9_0 : decode cX0_lambda_region_9 0 = .ok (.return_, 1) := by decide +kernel
abbrev cX0_largestIsland : ByteArray := prog_1_method_34_code
def yX0_largestIsland : MethodName := ⟨RX0, "largestIsland", "()I"⟩
def dkwX0_largestIsland_3 : List UInt8 := [156, 0, 8, 16, 250, 167, 0, 15, 16, 100, 28, 16, 12, 108, 104, 28, 16, 12, 112, 96, 172]
abbrev dktX0_largestIsland_3 : List UInt8 := dkwX0_largestIsland_3 ++ []
def dkwX0_largestIsland_2 : List UInt8 := [182, 0, 186, 164, 0, 7, 45, 167, 0, 4, 43, 76, 167, 255, 220, 43, 3, 182, 0, 239, 61, 28]
abbrev dktX0_largestIsland_2 : List UInt8 := dkwX0_largestIsland_2 ++ dktX0_largestIsland_3
def dkwX0_largestIsland_1 : List UInt8 := [185, 0, 231, 1, 0, 153, 0, 33, 44, 185, 0, 236, 1, 0, 192, 0, 180, 78, 45, 182, 0, 186, 43]
abbrev dktX0_largestIsland_1 : List UInt8 := dkwX0_largestIsland_1 ++ dktX0_largestIsland_2
def dkwX0_largestIsland_0 : List UInt8 := [187, 0, 180, 89, 183, 0, 182, 76, 42, 180, 0, 21, 4, 4, 182, 0, 200, 182, 0, 227, 77, 44]
abbrev dktX0_largestIsland_0 : List UInt8 := dkwX0_largestIsland_0 ++ dktX0_largestIsland_1
theorem dksX0_largestIsland_0 : cX0_largestIsland.data.toList.drop 0 = dktX0_largestIsland_0 := by decide +kernel
theorem dksX0_largestIsland_1 : cX0_largestIsland.data.toList.drop 22 = dktX0_largestIsland_1 := dk_seg dksX0_largestIsland_0 22 rfl rfl
theorem dksX0_largestIsland_2 : cX0_largestIsland.data.toList.drop 45 = dktX0_largestIsland_2 := dk_seg dksX0_largestIsland_1 23 rfl rfl
theorem dksX0_largestIsland_3 : cX0_largestIsland.data.toList.drop 67 = dktX0_largestIsland_3 := dk_seg dksX0_largestIsland_2 22 rfl rfl
theorem dX0_largestIsland_0 : decode cX0_largestIsland 0 = .ok (.new 180, 3) := dk_187 0 180 (dk_at dksX0_largestIsland_0 0 rfl rfl)
theorem dX0_largestIsland_3 : decode cX0_largestIsland 3 = .ok (.dup, 1) := dk_89 (dk_at dksX0_largestIsland_0 3 rfl rfl)
theorem dX0_largestIsland_4 : decode cX0_largestIsland 4 = .ok (.invokespecial 182, 3) := dk_183 0 182 (dk_at dksX0_largestIsland_0 4 rfl rfl)
theorem dX0_largestIsland_7 : decode cX0_largestIsland 7 = .ok (.astore_n 1, 1) := dk_76 (dk_at dksX0_largestIsland_0 7 rfl rfl)
theorem dX0_largestIsland_8 : decode cX0_largestIsland 8 = .ok (.aload_n 0, 1) := dk_42 (dk_at dksX0_largestIsland_0 8 rfl rfl)
theorem dX0_largestIsland_9 : decode cX0_largestIsland 9 = .ok (.getfield 21, 3) := dk_180 0 21 (dk_at dksX0_largestIsland_0 9 rfl rfl)
theorem dX0_largestIsland_12 : decode cX0_largestIsland 12 = .ok (.iconst 1, 1) := dk_4 (dk_at dksX0_largestIsland_0 12 rfl rfl)
theorem dX0_largestIsland_13 : decode cX0_largestIsland 13 = .ok (.iconst 1, 1) := dk_4 (dk_at dksX0_largestIsland_0 13 rfl rfl)
theorem dX0_largestIsland_14 : decode cX0_largestIsland 14 = .ok (.invokevirtual 200, 3) := dk_182 0 200 (dk_at dksX0_largestIsland_0 14 rfl rfl)
theorem dX0_largestIsland_17 : decode cX0_largestIsland 17 = .ok (.invokevirtual 227, 3) := dk_182 0 227 (dk_at dksX0_largestIsland_0 17 rfl rfl)
theorem dX0_largestIsland_20 : decode cX0_largestIsland 20 = .ok (.astore_n 2, 1) := dk_77 (dk_at dksX0_largestIsland_0 20 rfl rfl)
theorem dX0_largestIsland_21 : decode cX0_largestIsland 21 = .ok (.aload_n 2, 1) := dk_44 (dk_at dksX0_largestIsland_0 21 rfl rfl)
theorem dX0_largestIsland_22 : decode cX0_largestIsland 22 = .ok (.invokeinterface 231 1, 5) := by decide +kernel
theorem dX0_largestIsland_27 : decode cX0_largestIsland 27 = .ok (.ifCond .eq 33, 3) := dk_153 0 33 (dk_at dksX0_largestIsland_1 5 rfl rfl)
theorem dX0_largestIsland_30 : decode cX0_largestIsland 30 = .ok (.aload_n 2, 1) := dk_44 (dk_at dksX0_largestIsland_1 8 rfl rfl)
theorem dX0_largestIsland_31 : decode cX0_largestIsland 31 = .ok (.invokeinterface 236 1, 5) := by decide +kernel
theorem dX0_largestIsland_36 : decode cX0_largestIsland 36 = .ok (.checkcast 180, 3) := dk_192 0 180 (dk_at dksX0_largestIsland_1 14 rfl rfl)
theorem dX0_largestIsland_39 : decode cX0_largestIsland 39 = .ok (.astore_n 3, 1) := dk_78 (dk_at dksX0_largestIsland_1 17 rfl rfl)
theorem dX0_largestIsland_40 : decode cX0_largestIsland 40 = .ok (.aload_n 3, 1) := dk_45 (dk_at dksX0_largestIsland_1 18 rfl rfl)
theorem dX0_largestIsland_41 : decode cX0_largestIsland 41 = .ok (.invokevirtual 186, 3) := dk_182 0 186 (dk_at dksX0_largestIsland_1 19 rfl rfl)
theorem dX0_largestIsland_44 : decode cX0_largestIsland 44 = .ok (.aload_n 1, 1) := dk_43 (dk_at dksX0_largestIsland_1 22 rfl rfl)
theorem dX0_largestIsland_45 : decode cX0_largestIsland 45 = .ok (.invokevirtual 186, 3) := dk_182 0 186 (dk_at dksX0_largestIsland_2 0 rfl rfl)
theorem dX0_largestIsland_48 : decode cX0_largestIsland 48 = .ok (.if_icmp .le 7, 3) := dk_164 0 7 (dk_at dksX0_largestIsland_2 3 rfl rfl)
theorem dX0_largestIsland_51 : decode cX0_largestIsland 51 = .ok (.aload_n 3, 1) := dk_45 (dk_at dksX0_largestIsland_2 6 rfl rfl)
theorem dX0_largestIsland_52 : decode cX0_largestIsland 52 = .ok (.goto 4, 3) := dk_167 0 4 (dk_at dksX0_largestIsland_2 7 rfl rfl)
theorem dX0_largestIsland_55 : decode cX0_largestIsland 55 = .ok (.aload_n 1, 1) := dk_43 (dk_at dksX0_largestIsland_2 10 rfl rfl)
theorem dX0_largestIsland_56 : decode cX0_largestIsland 56 = .ok (.astore_n 1, 1) := dk_76 (dk_at dksX0_largestIsland_2 11 rfl rfl)
theorem dX0_largestIsland_57 : decode cX0_largestIsland 57 = .ok (.goto (-36), 3) := dk_167 255 220 (dk_at dksX0_largestIsland_2 12 rfl rfl)
theorem dX0_largestIsland_60 : decode cX0_largestIsland 60 = .ok (.aload_n 1, 1) := dk_43 (dk_at dksX0_largestIsland_2 15 rfl rfl)
theorem dX0_largestIsland_61 : decode cX0_largestIsland 61 = .ok (.iconst 0, 1) := dk_3 (dk_at dksX0_largestIsland_2 16 rfl rfl)
theorem dX0_largestIsland_62 : decode cX0_largestIsland 62 = .ok (.invokevirtual 239, 3) := dk_182 0 239 (dk_at dksX0_largestIsland_2 17 rfl rfl)
theorem dX0_largestIsland_65 : decode cX0_largestIsland 65 = .ok (.istore_n 2, 1) := dk_61 (dk_at dksX0_largestIsland_2 20 rfl rfl)
theorem dX0_largestIsland_66 : decode cX0_largestIsland 66 = .ok (.iload_n 2, 1) := dk_28 (dk_at dksX0_largestIsland_2 21 rfl rfl)
theorem dX0_largestIsland_67 : decode cX0_largestIsland 67 = .ok (.ifCond .ge 8, 3) := dk_156 0 8 (dk_at dksX0_largestIsland_3 0 rfl rfl)
theorem dX0_largestIsland_70 : decode cX0_largestIsland 70 = .ok (.bipush (-6), 2) := dk_16 250 (dk_at dksX0_largestIsland_3 3 rfl rfl)
theorem dX0_largestIsland_72 : decode cX0_largestIsland 72 = .ok (.goto 15, 3) := dk_167 0 15 (dk_at dksX0_largestIsland_3 5 rfl rfl)
theorem dX0_largestIsland_75 : decode cX0_largestIsland 75 = .ok (.bipush 100, 2) := dk_16 100 (dk_at dksX0_largestIsland_3 8 rfl rfl)
theorem dX0_largestIsland_77 : decode cX0_largestIsland 77 = .ok (.iload_n 2, 1) := dk_28 (dk_at dksX0_largestIsland_3 10 rfl rfl)
theorem dX0_largestIsland_78 : decode cX0_largestIsland 78 = .ok (.bipush 12, 2) := dk_16 12 (dk_at dksX0_largestIsland_3 11 rfl rfl)
theorem dX0_largestIsland_80 : decode cX0_largestIsland 80 = .ok (.idiv, 1) := dk_108 (dk_at dksX0_largestIsland_3 13 rfl rfl)
theorem dX0_largestIsland_81 : decode cX0_largestIsland 81 = .ok (.imul, 1) := dk_104 (dk_at dksX0_largestIsland_3 14 rfl rfl)
theorem dX0_largestIsland_82 : decode cX0_largestIsland 82 = .ok (.iload_n 2, 1) := dk_28 (dk_at dksX0_largestIsland_3 15 rfl rfl)
theorem dX0_largestIsland_83 : decode cX0_largestIsland 83 = .ok (.bipush 12, 2) := dk_16 12 (dk_at dksX0_largestIsland_3 16 rfl rfl)
theorem dX0_largestIsland_85 : decode cX0_largestIsland 85 = .ok (.irem, 1) := dk_112 (dk_at dksX0_largestIsland_3 18 rfl rfl)
theorem dX0_largestIsland_86 : decode cX0_largestIsland 86 = .ok (.iadd, 1) := dk_96 (dk_at dksX0_largestIsland_3 19 rfl rfl)
theorem dX0_largestIsland_87 : decode cX0_largestIsland 87 = .ok (.ireturn, 1) := dk_172 (dk_at dksX0_largestIsland_3 20 rfl rfl)
abbrev cX0_way : ByteArray := prog_1_method_35_code
def yX0_way : MethodName := ⟨RX0, "way", "(IIII)I"⟩
def dkwX0_way_2 : List UInt8 := [25, 5, 182, 0, 223, 87, 25, 5, 180, 0, 248, 172]
abbrev dktX0_way_2 : List UInt8 := dkwX0_way_2 ++ []
def dkwX0_way_1 : List UInt8 := [154, 0, 5, 2, 172, 187, 0, 243, 89, 29, 21, 4, 183, 0, 245, 58, 5, 42, 180, 0, 21, 27, 28, 3]
abbrev dktX0_way_1 : List UInt8 := dkwX0_way_1 ++ dktX0_way_2
def dkwX0_way_0 : List UInt8 := [42, 180, 0, 21, 27, 28, 182, 0, 82, 153, 0, 16, 42, 180, 0, 21, 29, 21, 4, 182, 0, 82]
abbrev dktX0_way_0 : List UInt8 := dkwX0_way_0 ++ dktX0_way_1
theorem dksX0_way_0 : cX0_way.data.toList.drop 0 = dktX0_way_0 := by decide +kernel
theorem dksX0_way_1 : cX0_way.data.toList.drop 22 = dktX0_way_1 := dk_seg dksX0_way_0 22 rfl rfl
theorem dksX0_way_2 : cX0_way.data.toList.drop 46 = dktX0_way_2 := dk_seg dksX0_way_1 24 rfl rfl
theorem dX0_way_0 : decode cX0_way 0 = .ok (.aload_n 0, 1) := dk_42 (dk_at dksX0_way_0 0 rfl rfl)
theorem dX0_way_1 : decode cX0_way 1 = .ok (.getfield 21, 3) := dk_180 0 21 (dk_at dksX0_way_0 1 rfl rfl)
theorem dX0_way_4 : decode cX0_way 4 = .ok (.iload_n 1, 1) := dk_27 (dk_at dksX0_way_0 4 rfl rfl)
theorem dX0_way_5 : decode cX0_way 5 = .ok (.iload_n 2, 1) := dk_28 (dk_at dksX0_way_0 5 rfl rfl)
theorem dX0_way_6 : decode cX0_way 6 = .ok (.invokevirtual 82, 3) := dk_182 0 82 (dk_at dksX0_way_0 6 rfl rfl)
theorem dX0_way_9 : decode cX0_way 9 = .ok (.ifCond .eq 16, 3) := dk_153 0 16 (dk_at dksX0_way_0 9 rfl rfl)
theorem dX0_way_12 : decode cX0_way 12 = .ok (.aload_n 0, 1) := dk_42 (dk_at dksX0_way_0 12 rfl rfl)
theorem dX0_way_13 : decode cX0_way 13 = .ok (.getfield 21, 3) := dk_180 0 21 (dk_at dksX0_way_0 13 rfl rfl)
theorem dX0_way_16 : decode cX0_way 16 = .ok (.iload_n 3, 1) := dk_29 (dk_at dksX0_way_0 16 rfl rfl)
theorem dX0_way_17 : decode cX0_way 17 = .ok (.iload 4, 2) := dk_21 4 (dk_at dksX0_way_0 17 rfl rfl)
theorem dX0_way_19 : decode cX0_way 19 = .ok (.invokevirtual 82, 3) := dk_182 0 82 (dk_at dksX0_way_0 19 rfl rfl)
theorem dX0_way_22 : decode cX0_way 22 = .ok (.ifCond .ne 5, 3) := dk_154 0 5 (dk_at dksX0_way_1 0 rfl rfl)
theorem dX0_way_25 : decode cX0_way 25 = .ok (.iconst (-1), 1) := dk_2 (dk_at dksX0_way_1 3 rfl rfl)
theorem dX0_way_26 : decode cX0_way 26 = .ok (.ireturn, 1) := dk_172 (dk_at dksX0_way_1 4 rfl rfl)
theorem dX0_way_27 : decode cX0_way 27 = .ok (.new 243, 3) := dk_187 0 243 (dk_at dksX0_way_1 5 rfl rfl)
theorem dX0_way_30 : decode cX0_way 30 = .ok (.dup, 1) := dk_89 (dk_at dksX0_way_1 8 rfl rfl)
theorem dX0_way_31 : decode cX0_way 31 = .ok (.iload_n 3, 1) := dk_29 (dk_at dksX0_way_1 9 rfl rfl)
theorem dX0_way_32 : decode cX0_way 32 = .ok (.iload 4, 2) := dk_21 4 (dk_at dksX0_way_1 10 rfl rfl)
theorem dX0_way_34 : decode cX0_way 34 = .ok (.invokespecial 245, 3) := dk_183 0 245 (dk_at dksX0_way_1 12 rfl rfl)
theorem dX0_way_37 : decode cX0_way 37 = .ok (.astore 5, 2) := dk_58 5 (dk_at dksX0_way_1 15 rfl rfl)
theorem dX0_way_39 : decode cX0_way 39 = .ok (.aload_n 0, 1) := dk_42 (dk_at dksX0_way_1 17 rfl rfl)
theorem dX0_way_40 : decode cX0_way 40 = .ok (.getfield 21, 3) := dk_180 0 21 (dk_at dksX0_way_1 18 rfl rfl)
theorem dX0_way_43 : decode cX0_way 43 = .ok (.iload_n 1, 1) := dk_27 (dk_at dksX0_way_1 21 rfl rfl)
theorem dX0_way_44 : decode cX0_way 44 = .ok (.iload_n 2, 1) := dk_28 (dk_at dksX0_way_1 22 rfl rfl)
theorem dX0_way_45 : decode cX0_way 45 = .ok (.iconst 0, 1) := dk_3 (dk_at dksX0_way_1 23 rfl rfl)
theorem dX0_way_46 : decode cX0_way 46 = .ok (.aload 5, 2) := dk_25 5 (dk_at dksX0_way_2 0 rfl rfl)
theorem dX0_way_48 : decode cX0_way 48 = .ok (.invokevirtual 223, 3) := dk_182 0 223 (dk_at dksX0_way_2 2 rfl rfl)
theorem dX0_way_51 : decode cX0_way 51 = .ok (.pop, 1) := dk_87 (dk_at dksX0_way_2 5 rfl rfl)
theorem dX0_way_52 : decode cX0_way 52 = .ok (.aload 5, 2) := dk_25 5 (dk_at dksX0_way_2 6 rfl rfl)
theorem dX0_way_54 : decode cX0_way 54 = .ok (.getfield 248, 3) := dk_180 0 248 (dk_at dksX0_way_2 8 rfl rfl)
theorem dX0_way_57 : decode cX0_way 57 = .ok (.ireturn, 1) := dk_172 (dk_at dksX0_way_2 11 rfl rfl)
abbrev cX0_coastIfChanged : ByteArray := prog_1_method_36_code
def yX0_coastIfChanged : MethodName := ⟨RX0, "coastIfChanged", "(II)I"⟩
def dkwX0_coastIfChanged_2 : List UInt8 := [182, 0, 198, 42, 180, 0, 21, 182, 0, 198, 100, 16, 100, 96, 172]
abbrev dktX0_coastIfChanged_2 : List UInt8 := dkwX0_coastIfChanged_2 ++ []
def dkwX0_coastIfChanged_1 : List UInt8 := [27, 28, 45, 180, 0, 114, 27, 50, 28, 51, 154, 0, 7, 4, 167, 0, 4, 3, 182, 0, 86, 87, 45]
abbrev dktX0_coastIfChanged_1 : List UInt8 := dkwX0_coastIfChanged_1 ++ dktX0_coastIfChanged_2
def dkwX0_coastIfChanged_0 : List UInt8 := [42, 180, 0, 21, 27, 28, 182, 0, 82, 154, 0, 5, 2, 172, 42, 42, 180, 0, 21, 182, 0, 65, 78, 45]
abbrev dktX0_coastIfChanged_0 : List UInt8 := dkwX0_coastIfChanged_0 ++ dktX0_coastIfChanged_1
theorem dksX0_coastIfChanged_0 : cX0_coastIfChanged.data.toList.drop 0 = dktX0_coastIfChanged_0 := by decide +kernel
theorem dksX0_coastIfChanged_1 : cX0_coastIfChanged.data.toList.drop 24 = dktX0_coastIfChanged_1 := dk_seg dksX0_coastIfChanged_0 24 rfl rfl
theorem dksX0_coastIfChanged_2 : cX0_coastIfChanged.data.toList.drop 47 = dktX0_coastIfChanged_2 := dk_seg dksX0_coastIfChanged_1 23 rfl rfl
theorem dX0_coastIfChanged_0 : decode cX0_coastIfChanged 0 = .ok (.aload_n 0, 1) := dk_42 (dk_at dksX0_coastIfChanged_0 0 rfl rfl)
theorem dX0_coastIfChanged_1 : decode cX0_coastIfChanged 1 = .ok (.getfield 21, 3) := dk_180 0 21 (dk_at dksX0_coastIfChanged_0 1 rfl rfl)
theorem dX0_coastIfChanged_4 : decode cX0_coastIfChanged 4 = .ok (.iload_n 1, 1) := dk_27 (dk_at dksX0_coastIfChanged_0 4 rfl rfl)
theorem dX0_coastIfChanged_5 : decode cX0_coastIfChanged 5 = .ok (.iload_n 2, 1) := dk_28 (dk_at dksX0_coastIfChanged_0 5 rfl rfl)
theorem dX0_coastIfChanged_6 : decode cX0_coastIfChanged 6 = .ok (.invokevirtual 82, 3) := dk_182 0 82 (dk_at dksX0_coastIfChanged_0 6 rfl rfl)
theorem dX0_coastIfChanged_9 : decode cX0_coastIfChanged 9 = .ok (.ifCond .ne 5, 3) := dk_154 0 5 (dk_at dksX0_coastIfChanged_0 9 rfl rfl)
theorem dX0_coastIfChanged_12 : decode cX0_coastIfChanged 12 = .ok (.iconst (-1), 1) := dk_2 (dk_at dksX0_coastIfChanged_0 12 rfl rfl)
theorem dX0_coastIfChanged_13 : decode cX0_coastIfChanged 13 = .ok (.ireturn, 1) := dk_172 (dk_at dksX0_coastIfChanged_0 13 rfl rfl)
theorem dX0_coastIfChanged_14 : decode cX0_coastIfChanged 14 = .ok (.aload_n 0, 1) := dk_42 (dk_at dksX0_coastIfChanged_0 14 rfl rfl)
theorem dX0_coastIfChanged_15 : decode cX0_coastIfChanged 15 = .ok (.aload_n 0, 1) := dk_42 (dk_at dksX0_coastIfChanged_0 15 rfl rfl)
theorem dX0_coastIfChanged_16 : decode cX0_coastIfChanged 16 = .ok (.getfield 21, 3) := dk_180 0 21 (dk_at dksX0_coastIfChanged_0 16 rfl rfl)
theorem dX0_coastIfChanged_19 : decode cX0_coastIfChanged 19 = .ok (.invokevirtual 65, 3) := dk_182 0 65 (dk_at dksX0_coastIfChanged_0 19 rfl rfl)
theorem dX0_coastIfChanged_22 : decode cX0_coastIfChanged 22 = .ok (.astore_n 3, 1) := dk_78 (dk_at dksX0_coastIfChanged_0 22 rfl rfl)
theorem dX0_coastIfChanged_23 : decode cX0_coastIfChanged 23 = .ok (.aload_n 3, 1) := dk_45 (dk_at dksX0_coastIfChanged_0 23 rfl rfl)
theorem dX0_coastIfChanged_24 : decode cX0_coastIfChanged 24 = .ok (.iload_n 1, 1) := dk_27 (dk_at dksX0_coastIfChanged_1 0 rfl rfl)
theorem dX0_coastIfChanged_25 : decode cX0_coastIfChanged 25 = .ok (.iload_n 2, 1) := dk_28 (dk_at dksX0_coastIfChanged_1 1 rfl rfl)
theorem dX0_coastIfChanged_26 : decode cX0_coastIfChanged 26 = .ok (.aload_n 3, 1) := dk_45 (dk_at dksX0_coastIfChanged_1 2 rfl rfl)
theorem dX0_coastIfChanged_27 : decode cX0_coastIfChanged 27 = .ok (.getfield 114, 3) := dk_180 0 114 (dk_at dksX0_coastIfChanged_1 3 rfl rfl)
theorem dX0_coastIfChanged_30 : decode cX0_coastIfChanged 30 = .ok (.iload_n 1, 1) := dk_27 (dk_at dksX0_coastIfChanged_1 6 rfl rfl)
theorem dX0_coastIfChanged_31 : decode cX0_coastIfChanged 31 = .ok (.aaload, 1) := dk_50 (dk_at dksX0_coastIfChanged_1 7 rfl rfl)
theorem dX0_coastIfChanged_32 : decode cX0_coastIfChanged 32 = .ok (.iload_n 2, 1) := dk_28 (dk_at dksX0_coastIfChanged_1 8 rfl rfl)
theorem dX0_coastIfChanged_33 : decode cX0_coastIfChanged 33 = .ok (.baload, 1) := dk_51 (dk_at dksX0_coastIfChanged_1 9 rfl rfl)
theorem dX0_coastIfChanged_34 : decode cX0_coastIfChanged 34 = .ok (.ifCond .ne 7, 3) := dk_154 0 7 (dk_at dksX0_coastIfChanged_1 10 rfl rfl)
theorem dX0_coastIfChanged_37 : decode cX0_coastIfChanged 37 = .ok (.iconst 1, 1) := dk_4 (dk_at dksX0_coastIfChanged_1 13 rfl rfl)
theorem dX0_coastIfChanged_38 : decode cX0_coastIfChanged 38 = .ok (.goto 4, 3) := dk_167 0 4 (dk_at dksX0_coastIfChanged_1 14 rfl rfl)
theorem dX0_coastIfChanged_41 : decode cX0_coastIfChanged 41 = .ok (.iconst 0, 1) := dk_3 (dk_at dksX0_coastIfChanged_1 17 rfl rfl)
theorem dX0_coastIfChanged_42 : decode cX0_coastIfChanged 42 = .ok (.invokevirtual 86, 3) := dk_182 0 86 (dk_at dksX0_coastIfChanged_1 18 rfl rfl)
theorem dX0_coastIfChanged_45 : decode cX0_coastIfChanged 45 = .ok (.pop, 1) := dk_87 (dk_at dksX0_coastIfChanged_1 21 rfl rfl)
theorem dX0_coastIfChanged_46 : decode cX0_coastIfChanged 46 = .ok (.aload_n 3, 1) := dk_45 (dk_at dksX0_coastIfChanged_1 22 rfl rfl)
theorem dX0_coastIfChanged_47 : decode cX0_coastIfChanged 47 = .ok (.invokevirtual 198, 3) := dk_182 0 198 (dk_at dksX0_coastIfChanged_2 0 rfl rfl)
theorem dX0_coastIfChanged_50 : decode cX0_coastIfChanged 50 = .ok (.aload_n 0, 1) := dk_42 (dk_at dksX0_coastIfChanged_2 3 rfl rfl)
theorem dX0_coastIfChanged_51 : decode cX0_coastIfChanged 51 = .ok (.getfield 21, 3) := dk_180 0 21 (dk_at dksX0_coastIfChanged_2 4 rfl rfl)
theorem dX0_coastIfChanged_54 : decode cX0_coastIfChanged 54 = .ok (.invokevirtual 198, 3) := dk_182 0 198 (dk_at dksX0_coastIfChanged_2 7 rfl rfl)
theorem dX0_coastIfChanged_57 : decode cX0_coastIfChanged 57 = .ok (.isub, 1) := dk_100 (dk_at dksX0_coastIfChanged_2 10 rfl rfl)
theorem dX0_coastIfChanged_58 : decode cX0_coastIfChanged 58 = .ok (.bipush 100, 2) := dk_16 100 (dk_at dksX0_coastIfChanged_2 11 rfl rfl)
theorem dX0_coastIfChanged_60 : decode cX0_coastIfChanged 60 = .ok (.iadd, 1) := dk_96 (dk_at dksX0_coastIfChanged_2 13 rfl rfl)
theorem dX0_coastIfChanged_61 : decode cX0_coastIfChanged 61 = .ok (.ireturn, 1) := dk_172 (dk_at dksX0_coastIfChanged_2 14 rfl rfl)
abbrev cX0_needs : ByteArray := prog_1_method_38_code
def yX0_needs : MethodName := ⟨RX0, "needs", "(III)I"⟩
def dkwX0_needs_5 : List UInt8 := [162, 0, 8, 21, 9, 167, 0, 5, 21, 6, 54, 6, 132, 7, 1, 167, 255, 174, 21, 6, 172]
abbrev dktX0_needs_5 : List UInt8 := dkwX0_needs_5 ++ []
def dkwX0_needs_4 : List UInt8 := [16, 250, 54, 9, 21, 9, 16, 250, 159, 0, 22, 21, 6, 16, 250, 159, 0, 10, 21, 9, 21, 6]
abbrev dktX0_needs_4 : List UInt8 := dkwX0_needs_4 ++ dktX0_needs_5
def dkwX0_needs_3 : List UInt8 := [182, 1, 8, 25, 4, 182, 1, 11, 153, 0, 16, 42, 27, 28, 25, 5, 25, 8, 182, 1, 14, 167, 0, 5]
abbrev dktX0_needs_3 : List UInt8 := dkwX0_needs_3 ++ dktX0_needs_4
def dkwX0_needs_2 : List UInt8 := [3, 54, 7, 21, 7, 17, 1, 0, 162, 0, 80, 187, 0, 123, 89, 21, 7, 183, 0, 165, 58, 8, 25, 8]
abbrev dktX0_needs_2 : List UInt8 := dkwX0_needs_2 ++ dktX0_needs_3
def dkwX0_needs_1 : List UInt8 := [180, 0, 10, 29, 182, 0, 161, 58, 4, 42, 180, 0, 21, 27, 28, 182, 0, 118, 58, 5, 16, 250, 54, 6]
abbrev dktX0_needs_1 : List UInt8 := dkwX0_needs_1 ++ dktX0_needs_2
def dkwX0_needs_0 : List UInt8 := [42, 180, 0, 21, 27, 28, 182, 0, 82, 153, 0, 10, 29, 184, 0, 141, 154, 0, 5, 2, 172, 42]
abbrev dktX0_needs_0 : List UInt8 := dkwX0_needs_0 ++ dktX0_needs_1
theorem dksX0_needs_0 : cX0_needs.data.toList.drop 0 = dktX0_needs_0 := by decide +kernel
theorem dksX0_needs_1 : cX0_needs.data.toList.drop 22 = dktX0_needs_1 := dk_seg dksX0_needs_0 22 rfl rfl
theorem dksX0_needs_2 : cX0_needs.data.toList.drop 46 = dktX0_needs_2 := dk_seg dksX0_needs_1 24 rfl rfl
theorem dksX0_needs_3 : cX0_needs.data.toList.drop 70 = dktX0_needs_3 := dk_seg dksX0_needs_2 24 rfl rfl
theorem dksX0_needs_4 : cX0_needs.data.toList.drop 94 = dktX0_needs_4 := dk_seg dksX0_needs_3 24 rfl rfl
theorem dksX0_needs_5 : cX0_needs.data.toList.drop 116 = dktX0_needs_5 := dk_seg dksX0_needs_4 22 rfl rfl
theorem dX0_needs_0 : decode cX0_needs 0 = .ok (.aload_n 0, 1) := dk_42 (dk_at dksX0_needs_0 0 rfl rfl)
theorem dX0_needs_1 : decode cX0_needs 1 = .ok (.getfield 21, 3) := dk_180 0 21 (dk_at dksX0_needs_0 1 rfl rfl)
theorem dX0_needs_4 : decode cX0_needs 4 = .ok (.iload_n 1, 1) := dk_27 (dk_at dksX0_needs_0 4 rfl rfl)
theorem dX0_needs_5 : decode cX0_needs 5 = .ok (.iload_n 2, 1) := dk_28 (dk_at dksX0_needs_0 5 rfl rfl)
theorem dX0_needs_6 : decode cX0_needs 6 = .ok (.invokevirtual 82, 3) := dk_182 0 82 (dk_at dksX0_needs_0 6 rfl rfl)
theorem dX0_needs_9 : decode cX0_needs 9 = .ok (.ifCond .eq 10, 3) := dk_153 0 10 (dk_at dksX0_needs_0 9 rfl rfl)
theorem dX0_needs_12 : decode cX0_needs 12 = .ok (.iload_n 3, 1) := dk_29 (dk_at dksX0_needs_0 12 rfl rfl)
theorem dX0_needs_13 : decode cX0_needs 13 = .ok (.invokestatic 141, 3) := dk_184 0 141 (dk_at dksX0_needs_0 13 rfl rfl)
theorem dX0_needs_16 : decode cX0_needs 16 = .ok (.ifCond .ne 5, 3) := dk_154 0 5 (dk_at dksX0_needs_0 16 rfl rfl)
theorem dX0_needs_19 : decode cX0_needs 19 = .ok (.iconst (-1), 1) := dk_2 (dk_at dksX0_needs_0 19 rfl rfl)
theorem dX0_needs_20 : decode cX0_needs 20 = .ok (.ireturn, 1) := dk_172 (dk_at dksX0_needs_0 20 rfl rfl)
theorem dX0_needs_21 : decode cX0_needs 21 = .ok (.aload_n 0, 1) := dk_42 (dk_at dksX0_needs_0 21 rfl rfl)
theorem dX0_needs_22 : decode cX0_needs 22 = .ok (.getfield 10, 3) := dk_180 0 10 (dk_at dksX0_needs_1 0 rfl rfl)
theorem dX0_needs_25 : decode cX0_needs 25 = .ok (.iload_n 3, 1) := dk_29 (dk_at dksX0_needs_1 3 rfl rfl)
theorem dX0_needs_26 : decode cX0_needs 26 = .ok (.invokevirtual 161, 3) := dk_182 0 161 (dk_at dksX0_needs_1 4 rfl rfl)
theorem dX0_needs_29 : decode cX0_needs 29 = .ok (.astore 4, 2) := dk_58 4 (dk_at dksX0_needs_1 7 rfl rfl)
theorem dX0_needs_31 : decode cX0_needs 31 = .ok (.aload_n 0, 1) := dk_42 (dk_at dksX0_needs_1 9 rfl rfl)
theorem dX0_needs_32 : decode cX0_needs 32 = .ok (.getfield 21, 3) := dk_180 0 21 (dk_at dksX0_needs_1 10 rfl rfl)
theorem dX0_needs_35 : decode cX0_needs 35 = .ok (.iload_n 1, 1) := dk_27 (dk_at dksX0_needs_1 13 rfl rfl)
theorem dX0_needs_36 : decode cX0_needs 36 = .ok (.iload_n 2, 1) := dk_28 (dk_at dksX0_needs_1 14 rfl rfl)
theorem dX0_needs_37 : decode cX0_needs 37 = .ok (.invokevirtual 118, 3) := dk_182 0 118 (dk_at dksX0_needs_1 15 rfl rfl)
theorem dX0_needs_40 : decode cX0_needs 40 = .ok (.astore 5, 2) := dk_58 5 (dk_at dksX0_needs_1 18 rfl rfl)
theorem dX0_needs_42 : decode cX0_needs 42 = .ok (.bipush (-6), 2) := dk_16 250 (dk_at dksX0_needs_1 20 rfl rfl)
theorem dX0_needs_44 : decode cX0_needs 44 = .ok (.istore 6, 2) := dk_54 6 (dk_at dksX0_needs_1 22 rfl rfl)
theorem dX0_needs_46 : decode cX0_needs 46 = .ok (.iconst 0, 1) := dk_3 (dk_at dksX0_needs_2 0 rfl rfl)
theorem dX0_needs_47 : decode cX0_needs 47 = .ok (.istore 7, 2) := dk_54 7 (dk_at dksX0_needs_2 1 rfl rfl)
theorem dX0_needs_49 : decode cX0_needs 49 = .ok (.iload 7, 2) := dk_21 7 (dk_at dksX0_needs_2 3 rfl rfl)
theorem dX0_needs_51 : decode cX0_needs 51 = .ok (.sipush 256, 3) := dk_17 1 0 (dk_at dksX0_needs_2 5 rfl rfl)
theorem dX0_needs_54 : decode cX0_needs 54 = .ok (.if_icmp .ge 80, 3) := dk_162 0 80 (dk_at dksX0_needs_2 8 rfl rfl)
theorem dX0_needs_57 : decode cX0_needs 57 = .ok (.new 123, 3) := dk_187 0 123 (dk_at dksX0_needs_2 11 rfl rfl)
theorem dX0_needs_60 : decode cX0_needs 60 = .ok (.dup, 1) := dk_89 (dk_at dksX0_needs_2 14 rfl rfl)
theorem dX0_needs_61 : decode cX0_needs 61 = .ok (.iload 7, 2) := dk_21 7 (dk_at dksX0_needs_2 15 rfl rfl)
theorem dX0_needs_63 : decode cX0_needs 63 = .ok (.invokespecial 165, 3) := dk_183 0 165 (dk_at dksX0_needs_2 17 rfl rfl)
theorem dX0_needs_66 : decode cX0_needs 66 = .ok (.astore 8, 2) := dk_58 8 (dk_at dksX0_needs_2 20 rfl rfl)
theorem dX0_needs_68 : decode cX0_needs 68 = .ok (.aload 8, 2) := dk_25 8 (dk_at dksX0_needs_2 22 rfl rfl)
theorem dX0_needs_70 : decode cX0_needs 70 = .ok (.invokevirtual 264, 3) := dk_182 1 8 (dk_at dksX0_needs_3 0 rfl rfl)
theorem dX0_needs_73 : decode cX0_needs 73 = .ok (.aload 4, 2) := dk_25 4 (dk_at dksX0_needs_3 3 rfl rfl)
theorem dX0_needs_75 : decode cX0_needs 75 = .ok (.invokevirtual 267, 3) := dk_182 1 11 (dk_at dksX0_needs_3 5 rfl rfl)
theorem dX0_needs_78 : decode cX0_needs 78 = .ok (.ifCond .eq 16, 3) := dk_153 0 16 (dk_at dksX0_needs_3 8 rfl rfl)
theorem dX0_needs_81 : decode cX0_needs 81 = .ok (.aload_n 0, 1) := dk_42 (dk_at dksX0_needs_3 11 rfl rfl)
theorem dX0_needs_82 : decode cX0_needs 82 = .ok (.iload_n 1, 1) := dk_27 (dk_at dksX0_needs_3 12 rfl rfl)
theorem dX0_needs_83 : decode cX0_needs 83 = .ok (.iload_n 2, 1) := dk_28 (dk_at dksX0_needs_3 13 rfl rfl)
theorem dX0_needs_84 : decode cX0_needs 84 = .ok (.aload 5, 2) := dk_25 5 (dk_at dksX0_needs_3 14 rfl rfl)
theorem dX0_needs_86 : decode cX0_needs 86 = .ok (.aload 8, 2) := dk_25 8 (dk_at dksX0_needs_3 16 rfl rfl)
theorem dX0_needs_88 : decode cX0_needs 88 = .ok (.invokevirtual 270, 3) := dk_182 1 14 (dk_at dksX0_needs_3 18 rfl rfl)
theorem dX0_needs_91 : decode cX0_needs 91 = .ok (.goto 5, 3) := dk_167 0 5 (dk_at dksX0_needs_3 21 rfl rfl)
theorem dX0_needs_94 : decode cX0_needs 94 = .ok (.bipush (-6), 2) := dk_16 250 (dk_at dksX0_needs_4 0 rfl rfl)
theorem dX0_needs_96 : decode cX0_needs 96 = .ok (.istore 9, 2) := dk_54 9 (dk_at dksX0_needs_4 2 rfl rfl)
theorem dX0_needs_98 : decode cX0_needs 98 = .ok (.iload 9, 2) := dk_21 9 (dk_at dksX0_needs_4 4 rfl rfl)
theorem dX0_needs_100 : decode cX0_needs 100 = .ok (.bipush (-6), 2) := dk_16 250 (dk_at dksX0_needs_4 6 rfl rfl)
theorem dX0_needs_102 : decode cX0_needs 102 = .ok (.if_icmp .eq 22, 3) := dk_159 0 22 (dk_at dksX0_needs_4 8 rfl rfl)
theorem dX0_needs_105 : decode cX0_needs 105 = .ok (.iload 6, 2) := dk_21 6 (dk_at dksX0_needs_4 11 rfl rfl)
theorem dX0_needs_107 : decode cX0_needs 107 = .ok (.bipush (-6), 2) := dk_16 250 (dk_at dksX0_needs_4 13 rfl rfl)
theorem dX0_needs_109 : decode cX0_needs 109 = .ok (.if_icmp .eq 10, 3) := dk_159 0 10 (dk_at dksX0_needs_4 15 rfl rfl)
theorem dX0_needs_112 : decode cX0_needs 112 = .ok (.iload 9, 2) := dk_21 9 (dk_at dksX0_needs_4 18 rfl rfl)
theorem dX0_needs_114 : decode cX0_needs 114 = .ok (.iload 6, 2) := dk_21 6 (dk_at dksX0_needs_4 20 rfl rfl)
theorem dX0_needs_116 : decode cX0_needs 116 = .ok (.if_icmp .ge 8, 3) := dk_162 0 8 (dk_at dksX0_needs_5 0 rfl rfl)
theorem dX0_needs_119 : decode cX0_needs 119 = .ok (.iload 9, 2) := dk_21 9 (dk_at dksX0_needs_5 3 rfl rfl)
theorem dX0_needs_121 : decode cX0_needs 121 = .ok (.goto 5, 3) := dk_167 0 5 (dk_at dksX0_needs_5 5 rfl rfl)
theorem dX0_needs_124 : decode cX0_needs 124 = .ok (.iload 6, 2) := dk_21 6 (dk_at dksX0_needs_5 8 rfl rfl)
theorem dX0_needs_126 : decode cX0_needs 126 = .ok (.istore 6, 2) := dk_54 6 (dk_at dksX0_needs_5 10 rfl rfl)
theorem dX0_needs_128 : decode cX0_needs 128 = .ok (.iinc 7 1, 3) := dk_132 7 1 (dk_at dksX0_needs_5 12 rfl rfl)
theorem dX0_needs_131 : decode cX0_needs 131 = .ok (.goto (-82), 3) := dk_167 255 174 (dk_at dksX0_needs_5 15 rfl rfl)
theorem dX0_needs_134 : decode cX0_needs 134 = .ok (.iload 6, 2) := dk_21 6 (dk_at dksX0_needs_5 18 rfl rfl)
theorem dX0_needs_136 : decode cX0_needs 136 = .ok (.ireturn, 1) := dk_172 (dk_at dksX0_needs_5 20 rfl rfl)
abbrev cX0_changes : ByteArray := prog_1_method_37_code
def yX0_changes : MethodName := ⟨RX0, "changes", "(IILCoastTiles$Mask;LCoastTiles$Mask;)I"⟩
def dkwX0_changes_3 : List UInt8 := [132, 5, 1, 167, 255, 189, 45, 25, 4, 182, 1, 5, 172]
abbrev dktX0_changes_3 : List UInt8 := dkwX0_changes_3 ++ []
def dkwX0_changes_2 : List UInt8 := [153, 0, 22, 45, 21, 5, 182, 1, 2, 25, 4, 21, 5, 182, 1, 2, 159, 0, 6, 16, 250, 172]
abbrev dktX0_changes_2 : List UInt8 := dkwX0_changes_2 ++ dktX0_changes_3
def dkwX0_changes_1 : List UInt8 := [178, 0, 255, 21, 5, 46, 96, 182, 0, 82, 154, 0, 7, 4, 167, 0, 4, 3, 54, 6, 21, 6]
abbrev dktX0_changes_1 : List UInt8 := dkwX0_changes_1 ++ dktX0_changes_2
def dkwX0_changes_0 : List UInt8 := [3, 54, 5, 21, 5, 16, 8, 162, 0, 66, 42, 180, 0, 21, 27, 178, 0, 251, 21, 5, 46, 96, 28]
abbrev dktX0_changes_0 : List UInt8 := dkwX0_changes_0 ++ dktX0_changes_1
theorem dksX0_changes_0 : cX0_changes.data.toList.drop 0 = dktX0_changes_0 := by decide +kernel
theorem dksX0_changes_1 : cX0_changes.data.toList.drop 23 = dktX0_changes_1 := dk_seg dksX0_changes_0 23 rfl rfl
theorem dksX0_changes_2 : cX0_changes.data.toList.drop 45 = dktX0_changes_2 := dk_seg dksX0_changes_1 22 rfl rfl
theorem dksX0_changes_3 : cX0_changes.data.toList.drop 67 = dktX0_changes_3 := dk_seg dksX0_changes_2 22 rfl rfl
theorem dX0_changes_0 : decode cX0_changes 0 = .ok (.iconst 0, 1) := dk_3 (dk_at dksX0_changes_0 0 rfl rfl)
theorem dX0_changes_1 : decode cX0_changes 1 = .ok (.istore 5, 2) := dk_54 5 (dk_at dksX0_changes_0 1 rfl rfl)
theorem dX0_changes_3 : decode cX0_changes 3 = .ok (.iload 5, 2) := dk_21 5 (dk_at dksX0_changes_0 3 rfl rfl)
theorem dX0_changes_5 : decode cX0_changes 5 = .ok (.bipush 8, 2) := dk_16 8 (dk_at dksX0_changes_0 5 rfl rfl)
theorem dX0_changes_7 : decode cX0_changes 7 = .ok (.if_icmp .ge 66, 3) := dk_162 0 66 (dk_at dksX0_changes_0 7 rfl rfl)
theorem dX0_changes_10 : decode cX0_changes 10 = .ok (.aload_n 0, 1) := dk_42 (dk_at dksX0_changes_0 10 rfl rfl)
theorem dX0_changes_11 : decode cX0_changes 11 = .ok (.getfield 21, 3) := dk_180 0 21 (dk_at dksX0_changes_0 11 rfl rfl)
theorem dX0_changes_14 : decode cX0_changes 14 = .ok (.iload_n 1, 1) := dk_27 (dk_at dksX0_changes_0 14 rfl rfl)
theorem dX0_changes_15 : decode cX0_changes 15 = .ok (.getstatic 251, 3) := dk_178 0 251 (dk_at dksX0_changes_0 15 rfl rfl)
theorem dX0_changes_18 : decode cX0_changes 18 = .ok (.iload 5, 2) := dk_21 5 (dk_at dksX0_changes_0 18 rfl rfl)
theorem dX0_changes_20 : decode cX0_changes 20 = .ok (.iaload, 1) := dk_46 (dk_at dksX0_changes_0 20 rfl rfl)
theorem dX0_changes_21 : decode cX0_changes 21 = .ok (.iadd, 1) := dk_96 (dk_at dksX0_changes_0 21 rfl rfl)
theorem dX0_changes_22 : decode cX0_changes 22 = .ok (.iload_n 2, 1) := dk_28 (dk_at dksX0_changes_0 22 rfl rfl)
theorem dX0_changes_23 : decode cX0_changes 23 = .ok (.getstatic 255, 3) := dk_178 0 255 (dk_at dksX0_changes_1 0 rfl rfl)
theorem dX0_changes_26 : decode cX0_changes 26 = .ok (.iload 5, 2) := dk_21 5 (dk_at dksX0_changes_1 3 rfl rfl)
theorem dX0_changes_28 : decode cX0_changes 28 = .ok (.iaload, 1) := dk_46 (dk_at dksX0_changes_1 5 rfl rfl)
theorem dX0_changes_29 : decode cX0_changes 29 = .ok (.iadd, 1) := dk_96 (dk_at dksX0_changes_1 6 rfl rfl)
theorem dX0_changes_30 : decode cX0_changes 30 = .ok (.invokevirtual 82, 3) := dk_182 0 82 (dk_at dksX0_changes_1 7 rfl rfl)
theorem dX0_changes_33 : decode cX0_changes 33 = .ok (.ifCond .ne 7, 3) := dk_154 0 7 (dk_at dksX0_changes_1 10 rfl rfl)
theorem dX0_changes_36 : decode cX0_changes 36 = .ok (.iconst 1, 1) := dk_4 (dk_at dksX0_changes_1 13 rfl rfl)
theorem dX0_changes_37 : decode cX0_changes 37 = .ok (.goto 4, 3) := dk_167 0 4 (dk_at dksX0_changes_1 14 rfl rfl)
theorem dX0_changes_40 : decode cX0_changes 40 = .ok (.iconst 0, 1) := dk_3 (dk_at dksX0_changes_1 17 rfl rfl)
theorem dX0_changes_41 : decode cX0_changes 41 = .ok (.istore 6, 2) := dk_54 6 (dk_at dksX0_changes_1 18 rfl rfl)
theorem dX0_changes_43 : decode cX0_changes 43 = .ok (.iload 6, 2) := dk_21 6 (dk_at dksX0_changes_1 20 rfl rfl)
theorem dX0_changes_45 : decode cX0_changes 45 = .ok (.ifCond .eq 22, 3) := dk_153 0 22 (dk_at dksX0_changes_2 0 rfl rfl)
theorem dX0_changes_48 : decode cX0_changes 48 = .ok (.aload_n 3, 1) := dk_45 (dk_at dksX0_changes_2 3 rfl rfl)
theorem dX0_changes_49 : decode cX0_changes 49 = .ok (.iload 5, 2) := dk_21 5 (dk_at dksX0_changes_2 4 rfl rfl)
theorem dX0_changes_51 : decode cX0_changes 51 = .ok (.invokevirtual 258, 3) := dk_182 1 2 (dk_at dksX0_changes_2 6 rfl rfl)
theorem dX0_changes_54 : decode cX0_changes 54 = .ok (.aload 4, 2) := dk_25 4 (dk_at dksX0_changes_2 9 rfl rfl)
theorem dX0_changes_56 : decode cX0_changes 56 = .ok (.iload 5, 2) := dk_21 5 (dk_at dksX0_changes_2 11 rfl rfl)
theorem dX0_changes_58 : decode cX0_changes 58 = .ok (.invokevirtual 258, 3) := dk_182 1 2 (dk_at dksX0_changes_2 13 rfl rfl)
theorem dX0_changes_61 : decode cX0_changes 61 = .ok (.if_icmp .eq 6, 3) := dk_159 0 6 (dk_at dksX0_changes_2 16 rfl rfl)
theorem dX0_changes_64 : decode cX0_changes 64 = .ok (.bipush (-6), 2) := dk_16 250 (dk_at dksX0_changes_2 19 rfl rfl)
theorem dX0_changes_66 : decode cX0_changes 66 = .ok (.ireturn, 1) := dk_172 (dk_at dksX0_changes_2 21 rfl rfl)
theorem dX0_changes_67 : decode cX0_changes 67 = .ok (.iinc 5 1, 3) := dk_132 5 1 (dk_at dksX0_changes_3 0 rfl rfl)
theorem dX0_changes_70 : decode cX0_changes 70 = .ok (.goto (-67), 3) := dk_167 255 189 (dk_at dksX0_changes_3 3 rfl rfl)
theorem dX0_changes_73 : decode cX0_changes 73 = .ok (.aload_n 3, 1) := dk_45 (dk_at dksX0_changes_3 6 rfl rfl)
theorem dX0_changes_74 : decode cX0_changes 74 = .ok (.aload 4, 2) := dk_25 4 (dk_at dksX0_changes_3 7 rfl rfl)
theorem dX0_changes_76 : decode cX0_changes 76 = .ok (.invokevirtual 261, 3) := dk_182 1 5 (dk_at dksX0_changes_3 9 rfl rfl)
theorem dX0_changes_79 : decode cX0_changes 79 = .ok (.ireturn, 1) := dk_172 (dk_at dksX0_changes_3 12 rfl rfl)
abbrev cX0_append : ByteArray := prog_1_method_39_code
def yX0_append : MethodName := ⟨RX0, "append", "(I)I"⟩
def dkwX0_append_1 : List UInt8 := [160, 0, 6, 16, 252, 172, 42, 180, 0, 35, 27, 146, 182, 1, 21, 87, 42, 180, 0, 35, 182, 1, 18, 172]
abbrev dktX0_append_1 : List UInt8 := dkwX0_append_1 ++ []
def dkwX0_append_0 : List UInt8 := [27, 16, 33, 16, 126, 184, 0, 39, 154, 0, 6, 16, 254, 172, 42, 180, 0, 35, 182, 1, 18, 16, 80]
abbrev dktX0_append_0 : List UInt8 := dkwX0_append_0 ++ dktX0_append_1
theorem dksX0_append_0 : cX0_append.data.toList.drop 0 = dktX0_append_0 := by decide +kernel
theorem dksX0_append_1 : cX0_append.data.toList.drop 23 = dktX0_append_1 := dk_seg dksX0_append_0 23 rfl rfl
theorem dX0_append_0 : decode cX0_append 0 = .ok (.iload_n 1, 1) := dk_27 (dk_at dksX0_append_0 0 rfl rfl)
theorem dX0_append_1 : decode cX0_append 1 = .ok (.bipush 33, 2) := dk_16 33 (dk_at dksX0_append_0 1 rfl rfl)
theorem dX0_append_3 : decode cX0_append 3 = .ok (.bipush 126, 2) := dk_16 126 (dk_at dksX0_append_0 3 rfl rfl)
theorem dX0_append_5 : decode cX0_append 5 = .ok (.invokestatic 39, 3) := dk_184 0 39 (dk_at dksX0_append_0 5 rfl rfl)
theorem dX0_append_8 : decode cX0_append 8 = .ok (.ifCond .ne 6, 3) := dk_154 0 6 (dk_at dksX0_append_0 8 rfl rfl)
theorem dX0_append_11 : decode cX0_append 11 = .ok (.bipush (-2), 2) := dk_16 254 (dk_at dksX0_append_0 11 rfl rfl)
theorem dX0_append_13 : decode cX0_append 13 = .ok (.ireturn, 1) := dk_172 (dk_at dksX0_append_0 13 rfl rfl)
theorem dX0_append_14 : decode cX0_append 14 = .ok (.aload_n 0, 1) := dk_42 (dk_at dksX0_append_0 14 rfl rfl)
theorem dX0_append_15 : decode cX0_append 15 = .ok (.getfield 35, 3) := dk_180 0 35 (dk_at dksX0_append_0 15 rfl rfl)
theorem dX0_append_18 : decode cX0_append 18 = .ok (.invokevirtual 274, 3) := dk_182 1 18 (dk_at dksX0_append_0 18 rfl rfl)
theorem dX0_append_21 : decode cX0_append 21 = .ok (.bipush 80, 2) := dk_16 80 (dk_at dksX0_append_0 21 rfl rfl)
theorem dX0_append_23 : decode cX0_append 23 = .ok (.if_icmp .ne 6, 3) := dk_160 0 6 (dk_at dksX0_append_1 0 rfl rfl)
theorem dX0_append_26 : decode cX0_append 26 = .ok (.bipush (-4), 2) := dk_16 252 (dk_at dksX0_append_1 3 rfl rfl)
theorem dX0_append_28 : decode cX0_append 28 = .ok (.ireturn, 1) := dk_172 (dk_at dksX0_append_1 5 rfl rfl)
theorem dX0_append_29 : decode cX0_append 29 = .ok (.aload_n 0, 1) := dk_42 (dk_at dksX0_append_1 6 rfl rfl)
theorem dX0_append_30 : decode cX0_append 30 = .ok (.getfield 35, 3) := dk_180 0 35 (dk_at dksX0_append_1 7 rfl rfl)
theorem dX0_append_33 : decode cX0_append 33 = .ok (.iload_n 1, 1) := dk_27 (dk_at dksX0_append_1 10 rfl rfl)
theorem dX0_append_34 : decode cX0_append 34 = .ok (.i2c, 1) := dk_146 (dk_at dksX0_append_1 11 rfl rfl)
theorem dX0_append_35 : decode cX0_append 35 = .ok (.invokevirtual 277, 3) := dk_182 1 21 (dk_at dksX0_append_1 12 rfl rfl)
theorem dX0_append_38 : decode cX0_append 38 = .ok (.pop, 1) := dk_87 (dk_at dksX0_append_1 15 rfl rfl)
theorem dX0_append_39 : decode cX0_append 39 = .ok (.aload_n 0, 1) := dk_42 (dk_at dksX0_append_1 16 rfl rfl)
theorem dX0_append_40 : decode cX0_append 40 = .ok (.getfield 35, 3) := dk_180 0 35 (dk_at dksX0_append_1 17 rfl rfl)
theorem dX0_append_43 : decode cX0_append 43 = .ok (.invokevirtual 274, 3) := dk_182 1 18 (dk_at dksX0_append_1 20 rfl rfl)
theorem dX0_append_46 : decode cX0_append 46 = .ok (.ireturn, 1) := dk_172 (dk_at dksX0_append_1 23 rfl rfl)
abbrev cX0_clearText : ByteArray := prog_1_method_40_code
def yX0_clearText : MethodName := ⟨RX0, "clearText", "()I"⟩
def dkwX0_clearText_0 : List UInt8 := [42, 180, 0, 35, 182, 1, 18, 60, 42, 180, 0, 35, 3, 182, 1, 25, 27, 172]
abbrev dktX0_clearText_0 : List UInt8 := dkwX0_clearText_0 ++ []
theorem dksX0_clearText_0 : cX0_clearText.data.toList.drop 0 = dktX0_clearText_0 := by decide +kernel
theorem dX0_clearText_0 : decode cX0_clearText 0 = .ok (.aload_n 0, 1) := dk_42 (dk_at dksX0_clearText_0 0 rfl rfl)
theorem dX0_clearText_1 : decode cX0_clearText 1 = .ok (.getfield 35, 3) := dk_180 0 35 (dk_at dksX0_clearText_0 1 rfl rfl)
theorem dX0_clearText_4 : decode cX0_clearText 4 = .ok (.invokevirtual 274, 3) := dk_182 1 18 (dk_at dksX0_clearText_0 4 rfl rfl)
theorem dX0_clearText_7 : decode cX0_clearText 7 = .ok (.istore_n 1, 1) := dk_60 (dk_at dksX0_clearText_0 7 rfl rfl)
theorem dX0_clearText_8 : decode cX0_clearText 8 = .ok (.aload_n 0, 1) := dk_42 (dk_at dksX0_clearText_0 8 rfl rfl)
theorem dX0_clearText_9 : decode cX0_clearText 9 = .ok (.getfield 35, 3) := dk_180 0 35 (dk_at dksX0_clearText_0 9 rfl rfl)
theorem dX0_clearText_12 : decode cX0_clearText 12 = .ok (.iconst 0, 1) := dk_3 (dk_at dksX0_clearText_0 12 rfl rfl)
theorem dX0_clearText_13 : decode cX0_clearText 13 = .ok (.invokevirtual 281, 3) := dk_182 1 25 (dk_at dksX0_clearText_0 13 rfl rfl)
theorem dX0_clearText_16 : decode cX0_clearText 16 = .ok (.iload_n 1, 1) := dk_27 (dk_at dksX0_clearText_0 16 rfl rfl)
theorem dX0_clearText_17 : decode cX0_clearText 17 = .ok (.ireturn, 1) := dk_172 (dk_at dksX0_clearText_0 17 rfl rfl)
abbrev cX0_errorPosition : ByteArray := prog_1_method_41_code
def yX0_errorPosition : MethodName := ⟨RX0, "errorPosition", "()I"⟩
def dkwX0_errorPosition_0 : List UInt8 := [187, 1, 28, 89, 42, 183, 1, 30, 182, 1, 33, 172]
abbrev dktX0_errorPosition_0 : List UInt8 := dkwX0_errorPosition_0 ++ []
theorem dksX0_errorPosition_0 : cX0_errorPosition.data.toList.drop 0 = dktX0_errorPosition_0 := by decide +kernel
theorem dX0_errorPosition_0 : decode cX0_errorPosition 0 = .ok (.new 284, 3) := dk_187 1 28 (dk_at dksX0_errorPosition_0 0 rfl rfl)
theorem dX0_errorPosition_3 : decode cX0_errorPosition 3 = .ok (.dup, 1) := dk_89 (dk_at dksX0_errorPosition_0 3 rfl rfl)
theorem dX0_errorPosition_4 : decode cX0_errorPosition 4 = .ok (.aload_n 0, 1) := dk_42 (dk_at dksX0_errorPosition_0 4 rfl rfl)
theorem dX0_errorPosition_5 : decode cX0_errorPosition 5 = .ok (.invokespecial 286, 3) := dk_183 1 30 (dk_at dksX0_errorPosition_0 5 rfl rfl)
theorem dX0_errorPosition_8 : decode cX0_errorPosition 8 = .ok (.invokevirtual 289, 3) := dk_182 1 33 (dk_at dksX0_errorPosition_0 8 rfl rfl)
theorem dX0_errorPosition_11 : decode cX0_errorPosition 11 = .ok (.ireturn, 1) := dk_172 (dk_at dksX0_errorPosition_0 11 rfl rfl)
abbrev cX0_read : ByteArray := prog_1_method_42_code
def yX0_read : MethodName := ⟨RX0, "read", "()I"⟩
def dkwX0_read_4 : List UInt8 := [182, 0, 239, 61, 167, 255, 224, 42, 180, 0, 35, 3, 182, 1, 25, 42, 180, 0, 21, 182, 0, 189, 172]
abbrev dktX0_read_4 : List UInt8 := dkwX0_read_4 ++ []
def dkwX0_read_3 : List UInt8 := [180, 0, 21, 28, 16, 12, 108, 28, 16, 12, 112, 4, 182, 0, 86, 87, 43, 180, 1, 38, 28, 4, 96]
abbrev dktX0_read_3 : List UInt8 := dkwX0_read_3 ++ dktX0_read_4
def dkwX0_read_2 : List UInt8 := [180, 0, 43, 183, 0, 18, 181, 0, 21, 43, 180, 1, 38, 3, 182, 0, 239, 61, 28, 155, 0, 34, 42]
abbrev dktX0_read_2 : List UInt8 := dkwX0_read_2 ++ dktX0_read_3
def dkwX0_read_1 : List UInt8 := [180, 0, 21, 182, 0, 74, 42, 187, 0, 16, 89, 42, 43, 180, 1, 36, 43, 180, 1, 37, 42, 180, 0, 21]
abbrev dktX0_read_1 : List UInt8 := dkwX0_read_1 ++ dktX0_read_2
def dkwX0_read_0 : List UInt8 := [187, 1, 28, 89, 42, 183, 1, 30, 76, 43, 182, 1, 33, 16, 250, 159, 0, 6, 16, 251, 172, 42, 42]
abbrev dktX0_read_0 : List UInt8 := dkwX0_read_0 ++ dktX0_read_1
theorem dksX0_read_0 : cX0_read.data.toList.drop 0 = dktX0_read_0 := by decide +kernel
theorem dksX0_read_1 : cX0_read.data.toList.drop 23 = dktX0_read_1 := dk_seg dksX0_read_0 23 rfl rfl
theorem dksX0_read_2 : cX0_read.data.toList.drop 47 = dktX0_read_2 := dk_seg dksX0_read_1 24 rfl rfl
theorem dksX0_read_3 : cX0_read.data.toList.drop 70 = dktX0_read_3 := dk_seg dksX0_read_2 23 rfl rfl
theorem dksX0_read_4 : cX0_read.data.toList.drop 93 = dktX0_read_4 := dk_seg dksX0_read_3 23 rfl rfl
theorem dX0_read_0 : decode cX0_read 0 = .ok (.new 284, 3) := dk_187 1 28 (dk_at dksX0_read_0 0 rfl rfl)
theorem dX0_read_3 : decode cX0_read 3 = .ok (.dup, 1) := dk_89 (dk_at dksX0_read_0 3 rfl rfl)
theorem dX0_read_4 : decode cX0_read 4 = .ok (.aload_n 0, 1) := dk_42 (dk_at dksX0_read_0 4 rfl rfl)
theorem dX0_read_5 : decode cX0_read 5 = .ok (.invokespecial 286, 3) := dk_183 1 30 (dk_at dksX0_read_0 5 rfl rfl)
theorem dX0_read_8 : decode cX0_read 8 = .ok (.astore_n 1, 1) := dk_76 (dk_at dksX0_read_0 8 rfl rfl)
theorem dX0_read_9 : decode cX0_read 9 = .ok (.aload_n 1, 1) := dk_43 (dk_at dksX0_read_0 9 rfl rfl)
theorem dX0_read_10 : decode cX0_read 10 = .ok (.invokevirtual 289, 3) := dk_182 1 33 (dk_at dksX0_read_0 10 rfl rfl)
theorem dX0_read_13 : decode cX0_read 13 = .ok (.bipush (-6), 2) := dk_16 250 (dk_at dksX0_read_0 13 rfl rfl)
theorem dX0_read_15 : decode cX0_read 15 = .ok (.if_icmp .eq 6, 3) := dk_159 0 6 (dk_at dksX0_read_0 15 rfl rfl)
theorem dX0_read_18 : decode cX0_read 18 = .ok (.bipush (-5), 2) := dk_16 251 (dk_at dksX0_read_0 18 rfl rfl)
theorem dX0_read_20 : decode cX0_read 20 = .ok (.ireturn, 1) := dk_172 (dk_at dksX0_read_0 20 rfl rfl)
theorem dX0_read_21 : decode cX0_read 21 = .ok (.aload_n 0, 1) := dk_42 (dk_at dksX0_read_0 21 rfl rfl)
theorem dX0_read_22 : decode cX0_read 22 = .ok (.aload_n 0, 1) := dk_42 (dk_at dksX0_read_0 22 rfl rfl)
theorem dX0_read_23 : decode cX0_read 23 = .ok (.getfield 21, 3) := dk_180 0 21 (dk_at dksX0_read_1 0 rfl rfl)
theorem dX0_read_26 : decode cX0_read 26 = .ok (.invokevirtual 74, 3) := dk_182 0 74 (dk_at dksX0_read_1 3 rfl rfl)
theorem dX0_read_29 : decode cX0_read 29 = .ok (.aload_n 0, 1) := dk_42 (dk_at dksX0_read_1 6 rfl rfl)
theorem dX0_read_30 : decode cX0_read 30 = .ok (.new 16, 3) := dk_187 0 16 (dk_at dksX0_read_1 7 rfl rfl)
theorem dX0_read_33 : decode cX0_read 33 = .ok (.dup, 1) := dk_89 (dk_at dksX0_read_1 10 rfl rfl)
theorem dX0_read_34 : decode cX0_read 34 = .ok (.aload_n 0, 1) := dk_42 (dk_at dksX0_read_1 11 rfl rfl)
theorem dX0_read_35 : decode cX0_read 35 = .ok (.aload_n 1, 1) := dk_43 (dk_at dksX0_read_1 12 rfl rfl)
theorem dX0_read_36 : decode cX0_read 36 = .ok (.getfield 292, 3) := dk_180 1 36 (dk_at dksX0_read_1 13 rfl rfl)
theorem dX0_read_39 : decode cX0_read 39 = .ok (.aload_n 1, 1) := dk_43 (dk_at dksX0_read_1 16 rfl rfl)
theorem dX0_read_40 : decode cX0_read 40 = .ok (.getfield 293, 3) := dk_180 1 37 (dk_at dksX0_read_1 17 rfl rfl)
theorem dX0_read_43 : decode cX0_read 43 = .ok (.aload_n 0, 1) := dk_42 (dk_at dksX0_read_1 20 rfl rfl)
theorem dX0_read_44 : decode cX0_read 44 = .ok (.getfield 21, 3) := dk_180 0 21 (dk_at dksX0_read_1 21 rfl rfl)
theorem dX0_read_47 : decode cX0_read 47 = .ok (.getfield 43, 3) := dk_180 0 43 (dk_at dksX0_read_2 0 rfl rfl)
theorem dX0_read_50 : decode cX0_read 50 = .ok (.invokespecial 18, 3) := dk_183 0 18 (dk_at dksX0_read_2 3 rfl rfl)
theorem dX0_read_53 : decode cX0_read 53 = .ok (.putfield 21, 3) := dk_181 0 21 (dk_at dksX0_read_2 6 rfl rfl)
theorem dX0_read_56 : decode cX0_read 56 = .ok (.aload_n 1, 1) := dk_43 (dk_at dksX0_read_2 9 rfl rfl)
theorem dX0_read_57 : decode cX0_read 57 = .ok (.getfield 294, 3) := dk_180 1 38 (dk_at dksX0_read_2 10 rfl rfl)
theorem dX0_read_60 : decode cX0_read 60 = .ok (.iconst 0, 1) := dk_3 (dk_at dksX0_read_2 13 rfl rfl)
theorem dX0_read_61 : decode cX0_read 61 = .ok (.invokevirtual 239, 3) := dk_182 0 239 (dk_at dksX0_read_2 14 rfl rfl)
theorem dX0_read_64 : decode cX0_read 64 = .ok (.istore_n 2, 1) := dk_61 (dk_at dksX0_read_2 17 rfl rfl)
theorem dX0_read_65 : decode cX0_read 65 = .ok (.iload_n 2, 1) := dk_28 (dk_at dksX0_read_2 18 rfl rfl)
theorem dX0_read_66 : decode cX0_read 66 = .ok (.ifCond .lt 34, 3) := dk_155 0 34 (dk_at dksX0_read_2 19 rfl rfl)
theorem dX0_read_69 : decode cX0_read 69 = .ok (.aload_n 0, 1) := dk_42 (dk_at dksX0_read_2 22 rfl rfl)
theorem dX0_read_70 : decode cX0_read 70 = .ok (.getfield 21, 3) := dk_180 0 21 (dk_at dksX0_read_3 0 rfl rfl)
theorem dX0_read_73 : decode cX0_read 73 = .ok (.iload_n 2, 1) := dk_28 (dk_at dksX0_read_3 3 rfl rfl)
theorem dX0_read_74 : decode cX0_read 74 = .ok (.bipush 12, 2) := dk_16 12 (dk_at dksX0_read_3 4 rfl rfl)
theorem dX0_read_76 : decode cX0_read 76 = .ok (.idiv, 1) := dk_108 (dk_at dksX0_read_3 6 rfl rfl)
theorem dX0_read_77 : decode cX0_read 77 = .ok (.iload_n 2, 1) := dk_28 (dk_at dksX0_read_3 7 rfl rfl)
theorem dX0_read_78 : decode cX0_read 78 = .ok (.bipush 12, 2) := dk_16 12 (dk_at dksX0_read_3 8 rfl rfl)
theorem dX0_read_80 : decode cX0_read 80 = .ok (.irem, 1) := dk_112 (dk_at dksX0_read_3 10 rfl rfl)
theorem dX0_read_81 : decode cX0_read 81 = .ok (.iconst 1, 1) := dk_4 (dk_at dksX0_read_3 11 rfl rfl)
theorem dX0_read_82 : decode cX0_read 82 = .ok (.invokevirtual 86, 3) := dk_182 0 86 (dk_at dksX0_read_3 12 rfl rfl)
theorem dX0_read_85 : decode cX0_read 85 = .ok (.pop, 1) := dk_87 (dk_at dksX0_read_3 15 rfl rfl)
theorem dX0_read_86 : decode cX0_read 86 = .ok (.aload_n 1, 1) := dk_43 (dk_at dksX0_read_3 16 rfl rfl)
theorem dX0_read_87 : decode cX0_read 87 = .ok (.getfield 294, 3) := dk_180 1 38 (dk_at dksX0_read_3 17 rfl rfl)
theorem dX0_read_90 : decode cX0_read 90 = .ok (.iload_n 2, 1) := dk_28 (dk_at dksX0_read_3 20 rfl rfl)
theorem dX0_read_91 : decode cX0_read 91 = .ok (.iconst 1, 1) := dk_4 (dk_at dksX0_read_3 21 rfl rfl)
theorem dX0_read_92 : decode cX0_read 92 = .ok (.iadd, 1) := dk_96 (dk_at dksX0_read_3 22 rfl rfl)
theorem dX0_read_93 : decode cX0_read 93 = .ok (.invokevirtual 239, 3) := dk_182 0 239 (dk_at dksX0_read_4 0 rfl rfl)
theorem dX0_read_96 : decode cX0_read 96 = .ok (.istore_n 2, 1) := dk_61 (dk_at dksX0_read_4 3 rfl rfl)
theorem dX0_read_97 : decode cX0_read 97 = .ok (.goto (-32), 3) := dk_167 255 224 (dk_at dksX0_read_4 4 rfl rfl)
theorem dX0_read_100 : decode cX0_read 100 = .ok (.aload_n 0, 1) := dk_42 (dk_at dksX0_read_4 7 rfl rfl)
theorem dX0_read_101 : decode cX0_read 101 = .ok (.getfield 35, 3) := dk_180 0 35 (dk_at dksX0_read_4 8 rfl rfl)
theorem dX0_read_104 : decode cX0_read 104 = .ok (.iconst 0, 1) := dk_3 (dk_at dksX0_read_4 11 rfl rfl)
theorem dX0_read_105 : decode cX0_read 105 = .ok (.invokevirtual 281, 3) := dk_182 1 25 (dk_at dksX0_read_4 12 rfl rfl)
theorem dX0_read_108 : decode cX0_read 108 = .ok (.aload_n 0, 1) := dk_42 (dk_at dksX0_read_4 15 rfl rfl)
theorem dX0_read_109 : decode cX0_read 109 = .ok (.getfield 21, 3) := dk_180 0 21 (dk_at dksX0_read_4 16 rfl rfl)
theorem dX0_read_112 : decode cX0_read 112 = .ok (.invokevirtual 189, 3) := dk_182 0 189 (dk_at dksX0_read_4 19 rfl rfl)
theorem dX0_read_115 : decode cX0_read 115 = .ok (.ireturn, 1) := dk_172 (dk_at dksX0_read_4 22 rfl rfl)
abbrev cX0_undo : ByteArray := prog_1_method_43_code
def yX0_undo : MethodName := ⟨RX0, "undo", "()I"⟩
def dkwX0_undo_2 : List UInt8 := [185, 0, 51, 1, 0, 172]
abbrev dktX0_undo_2 : List UInt8 := dkwX0_undo_2 ++ []
def dkwX0_undo_1 : List UInt8 := [185, 0, 51, 1, 0, 4, 100, 185, 0, 57, 2, 0, 192, 0, 16, 181, 0, 21, 42, 180, 0, 28]
abbrev dktX0_undo_1 : List UInt8 := dkwX0_undo_1 ++ dktX0_undo_2
def dkwX0_undo_0 : List UInt8 := [42, 180, 0, 28, 185, 1, 41, 1, 0, 153, 0, 6, 16, 253, 172, 42, 42, 180, 0, 28, 42, 180, 0, 28]
abbrev dktX0_undo_0 : List UInt8 := dkwX0_undo_0 ++ dktX0_undo_1
theorem dksX0_undo_0 : cX0_undo.data.toList.drop 0 = dktX0_undo_0 := by decide +kernel
theorem dksX0_undo_1 : cX0_undo.data.toList.drop 24 = dktX0_undo_1 := dk_seg dksX0_undo_0 24 rfl rfl
theorem dksX0_undo_2 : cX0_undo.data.toList.drop 46 = dktX0_undo_2 := dk_seg dksX0_undo_1 22 rfl rfl
theorem dX0_undo_0 : decode cX0_undo 0 = .ok (.aload_n 0, 1) := dk_42 (dk_at dksX0_undo_0 0 rfl rfl)
theorem dX0_undo_1 : decode cX0_undo 1 = .ok (.getfield 28, 3) := dk_180 0 28 (dk_at dksX0_undo_0 1 rfl rfl)
theorem dX0_undo_4 : decode cX0_undo 4 = .ok (.invokeinterface 297 1, 5) := by decide +kernel
theorem dX0_undo_9 : decode cX0_undo 9 = .ok (.ifCond .eq 6, 3) := dk_153 0 6 (dk_at dksX0_undo_0 9 rfl rfl)
theorem dX0_undo_12 : decode cX0_undo 12 = .ok (.bipush (-3), 2) := dk_16 253 (dk_at dksX0_undo_0 12 rfl rfl)
theorem dX0_undo_14 : decode cX0_undo 14 = .ok (.ireturn, 1) := dk_172 (dk_at dksX0_undo_0 14 rfl rfl)
theorem dX0_undo_15 : decode cX0_undo 15 = .ok (.aload_n 0, 1) := dk_42 (dk_at dksX0_undo_0 15 rfl rfl)
theorem dX0_undo_16 : decode cX0_undo 16 = .ok (.aload_n 0, 1) := dk_42 (dk_at dksX0_undo_0 16 rfl rfl)
theorem dX0_undo_17 : decode cX0_undo 17 = .ok (.getfield 28, 3) := dk_180 0 28 (dk_at dksX0_undo_0 17 rfl rfl)
theorem dX0_undo_20 : decode cX0_undo 20 = .ok (.aload_n 0, 1) := dk_42 (dk_at dksX0_undo_0 20 rfl rfl)
theorem dX0_undo_21 : decode cX0_undo 21 = .ok (.getfield 28, 3) := dk_180 0 28 (dk_at dksX0_undo_0 21 rfl rfl)
theorem dX0_undo_24 : decode cX0_undo 24 = .ok (.invokeinterface 51 1, 5) := by decide +kernel
theorem dX0_undo_29 : decode cX0_undo 29 = .ok (.iconst 1, 1) := dk_4 (dk_at dksX0_undo_1 5 rfl rfl)
theorem dX0_undo_30 : decode cX0_undo 30 = .ok (.isub, 1) := dk_100 (dk_at dksX0_undo_1 6 rfl rfl)
theorem dX0_undo_31 : decode cX0_undo 31 = .ok (.invokeinterface 57 2, 5) := by decide +kernel
theorem dX0_undo_36 : decode cX0_undo 36 = .ok (.checkcast 16, 3) := dk_192 0 16 (dk_at dksX0_undo_1 12 rfl rfl)
theorem dX0_undo_39 : decode cX0_undo 39 = .ok (.putfield 21, 3) := dk_181 0 21 (dk_at dksX0_undo_1 15 rfl rfl)
theorem dX0_undo_42 : decode cX0_undo 42 = .ok (.aload_n 0, 1) := dk_42 (dk_at dksX0_undo_1 18 rfl rfl)
theorem dX0_undo_43 : decode cX0_undo 43 = .ok (.getfield 28, 3) := dk_180 0 28 (dk_at dksX0_undo_1 19 rfl rfl)
theorem dX0_undo_46 : decode cX0_undo 46 = .ok (.invokeinterface 51 1, 5) := by decide +kernel
theorem dX0_undo_51 : decode cX0_undo 51 = .ok (.ireturn, 1) := dk_172 (dk_at dksX0_undo_2 5 rfl rfl)
abbrev cX0_save : ByteArray := prog_1_method_44_code
def yX0_save : MethodName := ⟨RX0, "save", "()I"⟩
def dkwX0_save_0 : List UInt8 := [42, 42, 42, 180, 0, 21, 182, 0, 65, 181, 1, 42, 42, 180, 0, 21, 182, 0, 189, 172]
abbrev dktX0_save_0 : List UInt8 := dkwX0_save_0 ++ []
theorem dksX0_save_0 : cX0_save.data.toList.drop 0 = dktX0_save_0 := by decide +kernel
theorem dX0_save_0 : decode cX0_save 0 = .ok (.aload_n 0, 1) := dk_42 (dk_at dksX0_save_0 0 rfl rfl)
theorem dX0_save_1 : decode cX0_save 1 = .ok (.aload_n 0, 1) := dk_42 (dk_at dksX0_save_0 1 rfl rfl)
theorem dX0_save_2 : decode cX0_save 2 = .ok (.aload_n 0, 1) := dk_42 (dk_at dksX0_save_0 2 rfl rfl)
theorem dX0_save_3 : decode cX0_save 3 = .ok (.getfield 21, 3) := dk_180 0 21 (dk_at dksX0_save_0 3 rfl rfl)
theorem dX0_save_6 : decode cX0_save 6 = .ok (.invokevirtual 65, 3) := dk_182 0 65 (dk_at dksX0_save_0 6 rfl rfl)
theorem dX0_save_9 : decode cX0_save 9 = .ok (.putfield 298, 3) := dk_181 1 42 (dk_at dksX0_save_0 9 rfl rfl)
theorem dX0_save_12 : decode cX0_save 12 = .ok (.aload_n 0, 1) := dk_42 (dk_at dksX0_save_0 12 rfl rfl)
theorem dX0_save_13 : decode cX0_save 13 = .ok (.getfield 21, 3) := dk_180 0 21 (dk_at dksX0_save_0 13 rfl rfl)
theorem dX0_save_16 : decode cX0_save 16 = .ok (.invokevirtual 189, 3) := dk_182 0 189 (dk_at dksX0_save_0 16 rfl rfl)
theorem dX0_save_19 : decode cX0_save 19 = .ok (.ireturn, 1) := dk_172 (dk_at dksX0_save_0 19 rfl rfl)
abbrev cX0_restore : ByteArray := prog_1_method_45_code
def yX0_restore : MethodName := ⟨RX0, "restore", "()I"⟩
def dkwX0_restore_1 : List UInt8 := [182, 0, 65, 181, 0, 21, 42, 180, 0, 21, 182, 0, 189, 172]
abbrev dktX0_restore_1 : List UInt8 := dkwX0_restore_1 ++ []
def dkwX0_restore_0 : List UInt8 := [42, 180, 1, 42, 199, 0, 6, 16, 253, 172, 42, 42, 180, 0, 21, 182, 0, 74, 42, 42, 42, 180, 1, 42]
abbrev dktX0_restore_0 : List UInt8 := dkwX0_restore_0 ++ dktX0_restore_1
theorem dksX0_restore_0 : cX0_restore.data.toList.drop 0 = dktX0_restore_0 := by decide +kernel
theorem dksX0_restore_1 : cX0_restore.data.toList.drop 24 = dktX0_restore_1 := dk_seg dksX0_restore_0 24 rfl rfl
theorem dX0_restore_0 : decode cX0_restore 0 = .ok (.aload_n 0, 1) := dk_42 (dk_at dksX0_restore_0 0 rfl rfl)
theorem dX0_restore_1 : decode cX0_restore 1 = .ok (.getfield 298, 3) := dk_180 1 42 (dk_at dksX0_restore_0 1 rfl rfl)
theorem dX0_restore_4 : decode cX0_restore 4 = .ok (.ifnonnull 6, 3) := dk_199 0 6 (dk_at dksX0_restore_0 4 rfl rfl)
theorem dX0_restore_7 : decode cX0_restore 7 = .ok (.bipush (-3), 2) := dk_16 253 (dk_at dksX0_restore_0 7 rfl rfl)
theorem dX0_restore_9 : decode cX0_restore 9 = .ok (.ireturn, 1) := dk_172 (dk_at dksX0_restore_0 9 rfl rfl)
theorem dX0_restore_10 : decode cX0_restore 10 = .ok (.aload_n 0, 1) := dk_42 (dk_at dksX0_restore_0 10 rfl rfl)
theorem dX0_restore_11 : decode cX0_restore 11 = .ok (.aload_n 0, 1) := dk_42 (dk_at dksX0_restore_0 11 rfl rfl)
theorem dX0_restore_12 : decode cX0_restore 12 = .ok (.getfield 21, 3) := dk_180 0 21 (dk_at dksX0_restore_0 12 rfl rfl)
theorem dX0_restore_15 : decode cX0_restore 15 = .ok (.invokevirtual 74, 3) := dk_182 0 74 (dk_at dksX0_restore_0 15 rfl rfl)
theorem dX0_restore_18 : decode cX0_restore 18 = .ok (.aload_n 0, 1) := dk_42 (dk_at dksX0_restore_0 18 rfl rfl)
theorem dX0_restore_19 : decode cX0_restore 19 = .ok (.aload_n 0, 1) := dk_42 (dk_at dksX0_restore_0 19 rfl rfl)
theorem dX0_restore_20 : decode cX0_restore 20 = .ok (.aload_n 0, 1) := dk_42 (dk_at dksX0_restore_0 20 rfl rfl)
theorem dX0_restore_21 : decode cX0_restore 21 = .ok (.getfield 298, 3) := dk_180 1 42 (dk_at dksX0_restore_0 21 rfl rfl)
theorem dX0_restore_24 : decode cX0_restore 24 = .ok (.invokevirtual 65, 3) := dk_182 0 65 (dk_at dksX0_restore_1 0 rfl rfl)
theorem dX0_restore_27 : decode cX0_restore 27 = .ok (.putfield 21, 3) := dk_181 0 21 (dk_at dksX0_restore_1 3 rfl rfl)
theorem dX0_restore_30 : decode cX0_restore 30 = .ok (.aload_n 0, 1) := dk_42 (dk_at dksX0_restore_1 6 rfl rfl)
theorem dX0_restore_31 : decode cX0_restore 31 = .ok (.getfield 21, 3) := dk_180 0 21 (dk_at dksX0_restore_1 7 rfl rfl)
theorem dX0_restore_34 : decode cX0_restore 34 = .ok (.invokevirtual 189, 3) := dk_182 0 189 (dk_at dksX0_restore_1 10 rfl rfl)
theorem dX0_restore_37 : decode cX0_restore 37 = .ok (.ireturn, 1) := dk_172 (dk_at dksX0_restore_1 13 rfl rfl)
theorem q64 : (Jvm.Cond.initialized "CoastTiles") ∈ lw_all := lw_g (lw_at lw_m1 1 rfl) rfl
theorem q113 : (Jvm.Cond.instantiable "CoastTiles" (5 : Nat)) ∈ lw_all := lw_g (lw_at lw_m1 50 rfl) rfl
theorem q115 : (Jvm.Cond.instanceMethod ({ cls := "CoastTiles", name := "<init>", desc := "()V" } : Jvm.MethodName)) ∈ lw_all := lw_g (lw_at lw_m1 52 rfl) rfl
theorem q116 : (Jvm.Cond.code ({ cls := "CoastTiles", name := "<init>", desc := "()V" } : Jvm.MethodName) prog_1_method_1_code (1 : Nat) (Option.none : Option Jvm.ClassFile.FieldType)) ∈ lw_all := lw_g (lw_at lw_m1 53 rfl) rfl
theorem q117 : (Jvm.Cond.methodLink "CoastTiles" (1 : Nat) ({ cls := "java/lang/Object", name := "<init>", desc := "()V" } : Jvm.MethodName)) ∈ lw_all := lw_g (lw_at lw_m1 54 rfl) rfl
theorem q120 : (Jvm.Cond.classLink "CoastTiles" (7 : Nat) "CoastTiles$Catalogue") ∈ lw_all := lw_g (lw_at lw_m1 57 rfl) rfl
theorem q122 : (Jvm.Cond.methodLink "CoastTiles" (9 : Nat) ({ cls := "CoastTiles$Catalogue", name := "<init>", desc := "()V" } : Jvm.MethodName)) ∈ lw_all := lw_g (lw_at lw_m1 59 rfl) rfl
theorem q198 : (Jvm.Cond.fieldLinkNest "CoastTiles" (122 : Nat) "CoastTiles$Mask" "bits" "I" "CoastTiles") ∈ lw_tbl := lw_at lw_m1 135 rfl
theorem q267 : (Jvm.Cond.selects "CoastTiles" ({ cls := "java/lang/Object", name := "hashCode", desc := "()I" } : Jvm.MethodName) ({ cls := "java/lang/Object", name := "hashCode", desc := "()I" } : Jvm.MethodName)) ∈ lw_all := lw_g (lw_at lw_m1 204 rfl) rfl
theorem q421 : (Jvm.Cond.selects "CoastTiles" ({ cls := "java/lang/Object", name := "getClass", desc := "()Ljava/lang/Class;" } : Jvm.MethodName) ({ cls := "java/lang/Object", name := "getClass", desc := "()Ljava/lang/Class;" } : Jvm.MethodName)) ∈ lw_all := lw_g (lw_at lw_m2 118 rfl) rfl
theorem q687 : (Jvm.Cond.selects "CoastTiles" ({ cls := "java/lang/Object", name := "equals", desc := "(Ljava/lang/Object;)Z" } : Jvm.MethodName) ({ cls := "java/lang/Object", name := "equals", desc := "(Ljava/lang/Object;)Z" } : Jvm.MethodName)) ∈ lw_all := lw_g (lw_at lw_m3 144 rfl) rfl
theorem q863 : (Jvm.Cond.classLink "CoastTiles" (16 : Nat) "CoastTiles$Coast") ∈ lw_all := lw_g (lw_at lw_m4 80 rfl) rfl
theorem q865 : (Jvm.Cond.methodLink "CoastTiles" (18 : Nat) ({ cls := "CoastTiles$Coast", name := "<init>", desc := "(LCoastTiles;IIZ)V" } : Jvm.MethodName)) ∈ lw_all := lw_g (lw_at lw_m4 82 rfl) rfl
theorem q874 : (Jvm.Cond.fieldLinkNest "CoastTiles" (107 : Nat) "CoastTiles$Coast" "rows" "I" "CoastTiles") ∈ lw_tbl := lw_at lw_m4 91 rfl
theorem q876 : (Jvm.Cond.fieldLinkNest "CoastTiles" (111 : Nat) "CoastTiles$Coast" "columns" "I" "CoastTiles") ∈ lw_tbl := lw_at lw_m4 93 rfl
theorem q878 : (Jvm.Cond.fieldLinkNest "CoastTiles" (43 : Nat) "CoastTiles$Coast" "isLandOutside" "Z" "CoastTiles") ∈ lw_tbl := lw_at lw_m4 95 rfl
theorem q880 : (Jvm.Cond.fieldLinkNest "CoastTiles" (114 : Nat) "CoastTiles$Coast" "isLand" "[[Z" "CoastTiles") ∈ lw_tbl := lw_at lw_m4 97 rfl
theorem q882 : (Jvm.Cond.fieldLinkNest "CoastTiles" (134 : Nat) "CoastTiles$Coast" "pins" "[[I" "CoastTiles") ∈ lw_tbl := lw_at lw_m4 99 rfl
theorem q899 : (Jvm.Cond.classLink "CoastTiles" (25 : Nat) "java/util/ArrayList") ∈ lw_all := lw_g (lw_at lw_m4 116 rfl) rfl
theorem q900 : (Jvm.Cond.methodLink "CoastTiles" (27 : Nat) ({ cls := "java/util/ArrayList", name := "<init>", desc := "()V" } : Jvm.MethodName)) ∈ lw_all := lw_g (lw_at lw_m4 117 rfl) rfl
theorem q901 : (Jvm.Cond.classLink "CoastTiles" (32 : Nat) "java/lang/StringBuilder") ∈ lw_all := lw_g (lw_at lw_m4 118 rfl) rfl
theorem q903 : (Jvm.Cond.methodLink "CoastTiles" (34 : Nat) ({ cls := "java/lang/StringBuilder", name := "<init>", desc := "()V" } : Jvm.MethodName)) ∈ lw_all := lw_g (lw_at lw_m4 120 rfl) rfl
theorem q931 : (Jvm.Cond.fieldLink "CoastTiles" (10 : Nat) "CoastTiles" "catalogue" "LCoastTiles$Catalogue;") ∈ lw_all := lw_g (lw_at lw_m4 148 rfl) rfl
theorem q933 : (Jvm.Cond.fieldLink "CoastTiles" (21 : Nat) "CoastTiles" "coast" "LCoastTiles$Coast;") ∈ lw_all := lw_g (lw_at lw_m4 150 rfl) rfl
theorem q934 : (Jvm.Cond.fieldLink "CoastTiles" (298 : Nat) "CoastTiles" "saved" "LCoastTiles$Coast;") ∈ lw_all := lw_g (lw_at lw_m4 151 rfl) rfl
theorem q935 : (Jvm.Cond.fieldLink "CoastTiles" (28 : Nat) "CoastTiles" "history" "Ljava/util/List;") ∈ lw_all := lw_g (lw_at lw_m4 152 rfl) rfl
theorem q936 : (Jvm.Cond.fieldLink "CoastTiles" (35 : Nat) "CoastTiles" "buffer" "Ljava/lang/StringBuilder;") ∈ lw_all := lw_g (lw_at lw_m4 153 rfl) rfl
theorem q938 : (Jvm.Cond.laysFinal "CoastTiles" "CoastTiles" "catalogue" "LCoastTiles$Catalogue;") ∈ lw_all := lw_g (lw_at lw_m4 155 rfl) rfl
theorem q939 : (Jvm.Cond.soleField "CoastTiles" "catalogue") ∈ lw_all := lw_g (lw_at lw_m4 156 rfl) rfl
theorem q940 : (Jvm.Cond.lays "CoastTiles" "CoastTiles" "coast" "LCoastTiles$Coast;") ∈ lw_all := lw_g (lw_at lw_m4 157 rfl) rfl
theorem q941 : (Jvm.Cond.soleField "CoastTiles" "coast") ∈ lw_all := lw_g (lw_at lw_m4 158 rfl) rfl
theorem q942 : (Jvm.Cond.lays "CoastTiles" "CoastTiles" "saved" "LCoastTiles$Coast;") ∈ lw_all := lw_g (lw_at lw_m4 159 rfl) rfl
theorem q943 : (Jvm.Cond.soleField "CoastTiles" "saved") ∈ lw_all := lw_g (lw_at lw_m4 160 rfl) rfl
theorem q944 : (Jvm.Cond.laysFinal "CoastTiles" "CoastTiles" "history" "Ljava/util/List;") ∈ lw_all := lw_g (lw_at lw_m4 161 rfl) rfl
theorem q945 : (Jvm.Cond.soleField "CoastTiles" "history") ∈ lw_all := lw_g (lw_at lw_m4 162 rfl) rfl
theorem q946 : (Jvm.Cond.laysFinal "CoastTiles" "CoastTiles" "buffer" "Ljava/lang/StringBuilder;") ∈ lw_all := lw_g (lw_at lw_m4 163 rfl) rfl
theorem q947 : (Jvm.Cond.soleField "CoastTiles" "buffer") ∈ lw_all := lw_g (lw_at lw_m4 164 rfl) rfl
theorem q948 : (Jvm.Cond.superclass "CoastTiles" "java/lang/Object") ∈ lw_all := lw_g (lw_at lw_m4 165 rfl) rfl
theorem q950 : (Jvm.Cond.instanceMethod ({ cls := "CoastTiles", name := "begin", desc := "(II)I" } : Jvm.MethodName)) ∈ lw_all := lw_g (lw_at lw_m4 167 rfl) rfl
theorem q951 : (Jvm.Cond.selects "CoastTiles" ({ cls := "CoastTiles", name := "begin", desc := "(II)I" } : Jvm.MethodName) ({ cls := "CoastTiles", name := "begin", desc := "(II)I" } : Jvm.MethodName)) ∈ lw_all := lw_g (lw_at lw_m4 168 rfl) rfl
theorem q952 : (Jvm.Cond.code ({ cls := "CoastTiles", name := "begin", desc := "(II)I" } : Jvm.MethodName) prog_1_method_7_code (3 : Nat) (Option.some Jvm.ClassFile.FieldType.int)) ∈ lw_all := lw_g (lw_at lw_m4 169 rfl) rfl
theorem q953 : (Jvm.Cond.methodLink "CoastTiles" (39 : Nat) ({ cls := "CoastTiles", name := "isIn", desc := "(III)Z" } : Jvm.MethodName)) ∈ lw_all := lw_g (lw_at lw_m4 170 rfl) rfl
theorem q954 : (Jvm.Cond.static ({ cls := "CoastTiles", name := "isIn", desc := "(III)Z" } : Jvm.MethodName)) ∈ lw_all := lw_g (lw_at lw_m4 171 rfl) rfl
theorem q955 : (Jvm.Cond.code ({ cls := "CoastTiles", name := "isIn", desc := "(III)Z" } : Jvm.MethodName) prog_1_method_2_code (3 : Nat) (Option.some Jvm.ClassFile.FieldType.boolean)) ∈ lw_all := lw_g (lw_at lw_m4 172 rfl) rfl
theorem q956 : (Jvm.Cond.methodLink "CoastTiles" (74 : Nat) ({ cls := "CoastTiles", name := "record", desc := "(LCoastTiles$Coast;)V" } : Jvm.MethodName)) ∈ lw_all := lw_g (lw_at lw_m4 173 rfl) rfl
theorem q957 : (Jvm.Cond.privateMethod ({ cls := "CoastTiles", name := "record", desc := "(LCoastTiles$Coast;)V" } : Jvm.MethodName)) ∈ lw_tbl := lw_at lw_m4 174 rfl
theorem q958 : (Jvm.Cond.instanceMethod ({ cls := "CoastTiles", name := "record", desc := "(LCoastTiles$Coast;)V" } : Jvm.MethodName)) ∈ lw_all := lw_g (lw_at lw_m4 175 rfl) rfl
theorem q959 : (Jvm.Cond.code ({ cls := "CoastTiles", name := "record", desc := "(LCoastTiles$Coast;)V" } : Jvm.MethodName) prog_1_method_5_code (2 : Nat) (Option.none : Option Jvm.ClassFile.FieldType)) ∈ lw_all := lw_g (lw_at lw_m4 176 rfl) rfl
theorem q960 : (Jvm.Cond.interfaceEntry "CoastTiles" (51 : Nat)) ∈ lw_tbl := lw_at lw_m4 177 rfl
theorem q961 : (Jvm.Cond.methodLink "CoastTiles" (51 : Nat) ({ cls := "java/util/List", name := "size", desc := "()I" } : Jvm.MethodName)) ∈ lw_all := lw_g (lw_at lw_m4 178 rfl) rfl
theorem q962 : (Jvm.Cond.interfaceEntry "CoastTiles" (57 : Nat)) ∈ lw_tbl := lw_at lw_m4 179 rfl
theorem q963 : (Jvm.Cond.methodLink "CoastTiles" (57 : Nat) ({ cls := "java/util/List", name := "remove", desc := "(I)Ljava/lang/Object;" } : Jvm.MethodName)) ∈ lw_all := lw_g (lw_at lw_m4 180 rfl) rfl
theorem q1004 : (Jvm.Cond.interfaceEntry "CoastTiles" (61 : Nat)) ∈ lw_tbl := lw_at lw_m4 221 rfl
theorem q1005 : (Jvm.Cond.methodLink "CoastTiles" (61 : Nat) ({ cls := "java/util/List", name := "add", desc := "(Ljava/lang/Object;)Z" } : Jvm.MethodName)) ∈ lw_all := lw_g (lw_at lw_m4 222 rfl) rfl
theorem q1007 : (Jvm.Cond.instanceMethod ({ cls := "CoastTiles", name := "setOutside", desc := "(Z)I" } : Jvm.MethodName)) ∈ lw_all := lw_g (lw_at lw_m4 224 rfl) rfl
theorem q1008 : (Jvm.Cond.selects "CoastTiles" ({ cls := "CoastTiles", name := "setOutside", desc := "(Z)I" } : Jvm.MethodName) ({ cls := "CoastTiles", name := "setOutside", desc := "(Z)I" } : Jvm.MethodName)) ∈ lw_all := lw_g (lw_at lw_m4 225 rfl) rfl
theorem q1009 : (Jvm.Cond.code ({ cls := "CoastTiles", name := "setOutside", desc := "(Z)I" } : Jvm.MethodName) prog_1_method_8_code (3 : Nat) (Option.some Jvm.ClassFile.FieldType.int)) ∈ lw_all := lw_g (lw_at lw_m4 226 rfl) rfl
theorem q1010 : (Jvm.Cond.methodLink "CoastTiles" (47 : Nat) ({ cls := "CoastTiles$Coast", name := "copy", desc := "(Z)LCoastTiles$Coast;" } : Jvm.MethodName)) ∈ lw_all := lw_g (lw_at lw_m4 227 rfl) rfl
theorem q1028 : (Jvm.Cond.methodLink "CoastTiles" (78 : Nat) ({ cls := "CoastTiles$Coast", name := "differences", desc := "(LCoastTiles$Coast;)I" } : Jvm.MethodName)) ∈ lw_all := lw_g (lw_at lw_m5 5 rfl) rfl
theorem q1049 : (Jvm.Cond.laysStatic "CoastTiles" "ROW_STEPS" "[I") ∈ lw_tbl := lw_at lw_m5 26 rfl
theorem q1051 : (Jvm.Cond.laysStatic "CoastTiles" "COLUMN_STEPS" "[I") ∈ lw_tbl := lw_at lw_m5 28 rfl
theorem q1082 : (Jvm.Cond.instanceMethod ({ cls := "CoastTiles", name := "set", desc := "(IIZ)I" } : Jvm.MethodName)) ∈ lw_all := lw_g (lw_at lw_m5 59 rfl) rfl
theorem q1083 : (Jvm.Cond.selects "CoastTiles" ({ cls := "CoastTiles", name := "set", desc := "(IIZ)I" } : Jvm.MethodName) ({ cls := "CoastTiles", name := "set", desc := "(IIZ)I" } : Jvm.MethodName)) ∈ lw_all := lw_g (lw_at lw_m5 60 rfl) rfl
theorem q1084 : (Jvm.Cond.code ({ cls := "CoastTiles", name := "set", desc := "(IIZ)I" } : Jvm.MethodName) prog_1_method_9_code (5 : Nat) (Option.some Jvm.ClassFile.FieldType.int)) ∈ lw_all := lw_g (lw_at lw_m5 61 rfl) rfl
theorem q1085 : (Jvm.Cond.methodLink "CoastTiles" (82 : Nat) ({ cls := "CoastTiles$Coast", name := "isTile", desc := "(II)Z" } : Jvm.MethodName)) ∈ lw_all := lw_g (lw_at lw_m5 62 rfl) rfl
theorem q1086 : (Jvm.Cond.methodLink "CoastTiles" (65 : Nat) ({ cls := "CoastTiles", name := "same", desc := "(LCoastTiles$Coast;)LCoastTiles$Coast;" } : Jvm.MethodName)) ∈ lw_all := lw_g (lw_at lw_m5 63 rfl) rfl
theorem q1087 : (Jvm.Cond.privateMethod ({ cls := "CoastTiles", name := "same", desc := "(LCoastTiles$Coast;)LCoastTiles$Coast;" } : Jvm.MethodName)) ∈ lw_tbl := lw_at lw_m5 64 rfl
theorem q1088 : (Jvm.Cond.instanceMethod ({ cls := "CoastTiles", name := "same", desc := "(LCoastTiles$Coast;)LCoastTiles$Coast;" } : Jvm.MethodName)) ∈ lw_all := lw_g (lw_at lw_m5 65 rfl) rfl
theorem q1089 : (Jvm.Cond.code ({ cls := "CoastTiles", name := "same", desc := "(LCoastTiles$Coast;)LCoastTiles$Coast;" } : Jvm.MethodName) prog_1_method_4_code (2 : Nat) (Option.some (Jvm.ClassFile.FieldType.object "CoastTiles$Coast"))) ∈ lw_all := lw_g (lw_at lw_m5 66 rfl) rfl
theorem q1090 : (Jvm.Cond.methodLink "CoastTiles" (86 : Nat) ({ cls := "CoastTiles$Coast", name := "put", desc := "(IIZ)Z" } : Jvm.MethodName)) ∈ lw_all := lw_g (lw_at lw_m5 67 rfl) rfl
theorem q1095 : (Jvm.Cond.instanceMethod ({ cls := "CoastTiles", name := "fill", desc := "(IIZ)I" } : Jvm.MethodName)) ∈ lw_all := lw_g (lw_at lw_m5 72 rfl) rfl
theorem q1096 : (Jvm.Cond.selects "CoastTiles" ({ cls := "CoastTiles", name := "fill", desc := "(IIZ)I" } : Jvm.MethodName) ({ cls := "CoastTiles", name := "fill", desc := "(IIZ)I" } : Jvm.MethodName)) ∈ lw_all := lw_g (lw_at lw_m5 73 rfl) rfl
theorem q1097 : (Jvm.Cond.code ({ cls := "CoastTiles", name := "fill", desc := "(IIZ)I" } : Jvm.MethodName) prog_1_method_10_code (4 : Nat) (Option.some Jvm.ClassFile.FieldType.int)) ∈ lw_all := lw_g (lw_at lw_m5 74 rfl) rfl
theorem q1098 : (Jvm.Cond.privateMethod ({ cls := "CoastTiles", name := "lambda$fill$1", desc := "(IIZ)I" } : Jvm.MethodName)) ∈ lw_tbl := lw_at lw_m5 75 rfl
theorem q1099 : (Jvm.Cond.instanceMethod ({ cls := "CoastTiles", name := "lambda$fill$1", desc := "(IIZ)I" } : Jvm.MethodName)) ∈ lw_all := lw_g (lw_at lw_m5 76 rfl) rfl
theorem q1100 : (Jvm.Cond.code ({ cls := "CoastTiles", name := "lambda$fill$1", desc := "(IIZ)I" } : Jvm.MethodName) prog_1_method_54_code (7 : Nat) (Option.some Jvm.ClassFile.FieldType.int)) ∈ lw_all := lw_g (lw_at lw_m5 77 rfl) rfl
theorem q1101 : (Jvm.Cond.static ({ cls := "CoastTiles", name := "lambda$fill$0", desc := "(LCoastTiles$Step;)V" } : Jvm.MethodName)) ∈ lw_all := lw_g (lw_at lw_m5 78 rfl) rfl
theorem q1102 : (Jvm.Cond.code ({ cls := "CoastTiles", name := "lambda$fill$0", desc := "(LCoastTiles$Step;)V" } : Jvm.MethodName) prog_1_method_55_code (1 : Nat) (Option.none : Option Jvm.ClassFile.FieldType)) ∈ lw_all := lw_g (lw_at lw_m5 79 rfl) rfl
theorem q1103 : (Jvm.Cond.methodLink "CoastTiles" (223 : Nat) ({ cls := "CoastTiles$Coast", name := "search", desc := "(IIZLCoastTiles$Visitor;)Ljava/util/BitSet;" } : Jvm.MethodName)) ∈ lw_all := lw_g (lw_at lw_m5 80 rfl) rfl
theorem q1253 : (Jvm.Cond.methodLink "CoastTiles" (239 : Nat) ({ cls := "java/util/BitSet", name := "nextSetBit", desc := "(I)I" } : Jvm.MethodName)) ∈ lw_all := lw_g (lw_at lw_m5 230 rfl) rfl
theorem q1259 : (Jvm.Cond.methodLink "CoastTiles" (93 : Nat) ({ cls := "CoastTiles", name := "change", desc := "(LCoastTiles$Edit;)I" } : Jvm.MethodName)) ∈ lw_all := lw_g (lw_at lw_m5 236 rfl) rfl
theorem q1260 : (Jvm.Cond.privateMethod ({ cls := "CoastTiles", name := "change", desc := "(LCoastTiles$Edit;)I" } : Jvm.MethodName)) ∈ lw_tbl := lw_at lw_m5 237 rfl
theorem q1261 : (Jvm.Cond.instanceMethod ({ cls := "CoastTiles", name := "change", desc := "(LCoastTiles$Edit;)I" } : Jvm.MethodName)) ∈ lw_all := lw_g (lw_at lw_m5 238 rfl) rfl
theorem q1262 : (Jvm.Cond.code ({ cls := "CoastTiles", name := "change", desc := "(LCoastTiles$Edit;)I" } : Jvm.MethodName) prog_1_method_6_code (4 : Nat) (Option.some Jvm.ClassFile.FieldType.int)) ∈ lw_all := lw_g (lw_at lw_m5 239 rfl) rfl
theorem q1263 : (Jvm.Cond.interfaceEntry "CoastTiles" (69 : Nat)) ∈ lw_tbl := lw_at lw_m6 0 rfl
theorem q1264 : (Jvm.Cond.methodLink "CoastTiles" (69 : Nat) ({ cls := "CoastTiles$Edit", name := "run", desc := "()I" } : Jvm.MethodName)) ∈ lw_all := lw_g (lw_at lw_m6 1 rfl) rfl
theorem q1268 : (Jvm.Cond.instanceMethod ({ cls := "CoastTiles", name := "brush", desc := "(IIIZ)I" } : Jvm.MethodName)) ∈ lw_all := lw_g (lw_at lw_m6 5 rfl) rfl
theorem q1269 : (Jvm.Cond.selects "CoastTiles" ({ cls := "CoastTiles", name := "brush", desc := "(IIIZ)I" } : Jvm.MethodName) ({ cls := "CoastTiles", name := "brush", desc := "(IIIZ)I" } : Jvm.MethodName)) ∈ lw_all := lw_g (lw_at lw_m6 6 rfl) rfl
theorem q1270 : (Jvm.Cond.code ({ cls := "CoastTiles", name := "brush", desc := "(IIIZ)I" } : Jvm.MethodName) prog_1_method_11_code (5 : Nat) (Option.some Jvm.ClassFile.FieldType.int)) ∈ lw_all := lw_g (lw_at lw_m6 7 rfl) rfl
theorem q1271 : (Jvm.Cond.privateMethod ({ cls := "CoastTiles", name := "lambda$brush$2", desc := "(IIIZ)I" } : Jvm.MethodName)) ∈ lw_tbl := lw_at lw_m6 8 rfl
theorem q1272 : (Jvm.Cond.instanceMethod ({ cls := "CoastTiles", name := "lambda$brush$2", desc := "(IIIZ)I" } : Jvm.MethodName)) ∈ lw_all := lw_g (lw_at lw_m6 9 rfl) rfl
theorem q1273 : (Jvm.Cond.code ({ cls := "CoastTiles", name := "lambda$brush$2", desc := "(IIIZ)I" } : Jvm.MethodName) prog_1_method_53_code (9 : Nat) (Option.some Jvm.ClassFile.FieldType.int)) ∈ lw_all := lw_g (lw_at lw_m6 10 rfl) rfl
theorem q1275 : (Jvm.Cond.instanceMethod ({ cls := "CoastTiles", name := "smooth", desc := "(I)I" } : Jvm.MethodName)) ∈ lw_all := lw_g (lw_at lw_m6 12 rfl) rfl
theorem q1276 : (Jvm.Cond.selects "CoastTiles" ({ cls := "CoastTiles", name := "smooth", desc := "(I)I" } : Jvm.MethodName) ({ cls := "CoastTiles", name := "smooth", desc := "(I)I" } : Jvm.MethodName)) ∈ lw_all := lw_g (lw_at lw_m6 13 rfl) rfl
theorem q1277 : (Jvm.Cond.code ({ cls := "CoastTiles", name := "smooth", desc := "(I)I" } : Jvm.MethodName) prog_1_method_12_code (2 : Nat) (Option.some Jvm.ClassFile.FieldType.int)) ∈ lw_all := lw_g (lw_at lw_m6 14 rfl) rfl
theorem q1278 : (Jvm.Cond.privateMethod ({ cls := "CoastTiles", name := "lambda$smooth$3", desc := "(I)I" } : Jvm.MethodName)) ∈ lw_tbl := lw_at lw_m6 15 rfl
theorem q1279 : (Jvm.Cond.instanceMethod ({ cls := "CoastTiles", name := "lambda$smooth$3", desc := "(I)I" } : Jvm.MethodName)) ∈ lw_all := lw_g (lw_at lw_m6 16 rfl) rfl
theorem q1280 : (Jvm.Cond.code ({ cls := "CoastTiles", name := "lambda$smooth$3", desc := "(I)I" } : Jvm.MethodName) prog_1_method_52_code (7 : Nat) (Option.some Jvm.ClassFile.FieldType.int)) ∈ lw_all := lw_g (lw_at lw_m6 17 rfl) rfl
theorem q1281 : (Jvm.Cond.methodLink "CoastTiles" (118 : Nat) ({ cls := "CoastTiles$Coast", name := "surroundings", desc := "(II)LCoastTiles$Mask;" } : Jvm.MethodName)) ∈ lw_all := lw_g (lw_at lw_m6 18 rfl) rfl
theorem q1282 : (Jvm.Cond.methodLink "CoastTiles" (304 : Nat) ({ cls := "java/lang/Integer", name := "bitCount", desc := "(I)I" } : Jvm.MethodName)) ∈ lw_all := lw_g (lw_at lw_m6 19 rfl) rfl
theorem q1289 : (Jvm.Cond.instanceMethod ({ cls := "CoastTiles", name := "turn", desc := "(I)I" } : Jvm.MethodName)) ∈ lw_all := lw_g (lw_at lw_m6 26 rfl) rfl
theorem q1290 : (Jvm.Cond.selects "CoastTiles" ({ cls := "CoastTiles", name := "turn", desc := "(I)I" } : Jvm.MethodName) ({ cls := "CoastTiles", name := "turn", desc := "(I)I" } : Jvm.MethodName)) ∈ lw_all := lw_g (lw_at lw_m6 27 rfl) rfl
theorem q1291 : (Jvm.Cond.code ({ cls := "CoastTiles", name := "turn", desc := "(I)I" } : Jvm.MethodName) prog_1_method_13_code (3 : Nat) (Option.some Jvm.ClassFile.FieldType.int)) ∈ lw_all := lw_g (lw_at lw_m6 28 rfl) rfl
theorem q1292 : (Jvm.Cond.methodLink "CoastTiles" (103 : Nat) ({ cls := "CoastTiles$Coast", name := "turned", desc := "()LCoastTiles$Coast;" } : Jvm.MethodName)) ∈ lw_all := lw_g (lw_at lw_m6 29 rfl) rfl
theorem q1323 : (Jvm.Cond.instanceMethod ({ cls := "CoastTiles", name := "rows", desc := "()I" } : Jvm.MethodName)) ∈ lw_all := lw_g (lw_at lw_m6 60 rfl) rfl
theorem q1324 : (Jvm.Cond.selects "CoastTiles" ({ cls := "CoastTiles", name := "rows", desc := "()I" } : Jvm.MethodName) ({ cls := "CoastTiles", name := "rows", desc := "()I" } : Jvm.MethodName)) ∈ lw_all := lw_g (lw_at lw_m6 61 rfl) rfl
theorem q1325 : (Jvm.Cond.code ({ cls := "CoastTiles", name := "rows", desc := "()I" } : Jvm.MethodName) prog_1_method_14_code (1 : Nat) (Option.some Jvm.ClassFile.FieldType.int)) ∈ lw_all := lw_g (lw_at lw_m6 62 rfl) rfl
theorem q1327 : (Jvm.Cond.instanceMethod ({ cls := "CoastTiles", name := "columns", desc := "()I" } : Jvm.MethodName)) ∈ lw_all := lw_g (lw_at lw_m6 64 rfl) rfl
theorem q1328 : (Jvm.Cond.selects "CoastTiles" ({ cls := "CoastTiles", name := "columns", desc := "()I" } : Jvm.MethodName) ({ cls := "CoastTiles", name := "columns", desc := "()I" } : Jvm.MethodName)) ∈ lw_all := lw_g (lw_at lw_m6 65 rfl) rfl
theorem q1329 : (Jvm.Cond.code ({ cls := "CoastTiles", name := "columns", desc := "()I" } : Jvm.MethodName) prog_1_method_15_code (1 : Nat) (Option.some Jvm.ClassFile.FieldType.int)) ∈ lw_all := lw_g (lw_at lw_m6 66 rfl) rfl
theorem q1331 : (Jvm.Cond.instanceMethod ({ cls := "CoastTiles", name := "tile", desc := "(III)I" } : Jvm.MethodName)) ∈ lw_all := lw_g (lw_at lw_m6 68 rfl) rfl
theorem q1332 : (Jvm.Cond.selects "CoastTiles" ({ cls := "CoastTiles", name := "tile", desc := "(III)I" } : Jvm.MethodName) ({ cls := "CoastTiles", name := "tile", desc := "(III)I" } : Jvm.MethodName)) ∈ lw_all := lw_g (lw_at lw_m6 69 rfl) rfl
theorem q1333 : (Jvm.Cond.code ({ cls := "CoastTiles", name := "tile", desc := "(III)I" } : Jvm.MethodName) prog_1_method_16_code (4 : Nat) (Option.some Jvm.ClassFile.FieldType.int)) ∈ lw_all := lw_g (lw_at lw_m6 70 rfl) rfl
theorem q1334 : (Jvm.Cond.methodLink "CoastTiles" (127 : Nat) ({ cls := "CoastTiles$Coast", name := "rightShape", desc := "(II)I" } : Jvm.MethodName)) ∈ lw_all := lw_g (lw_at lw_m6 71 rfl) rfl
theorem q1335 : (Jvm.Cond.methodLink "CoastTiles" (131 : Nat) ({ cls := "CoastTiles$Coast", name := "shape", desc := "(II)I" } : Jvm.MethodName)) ∈ lw_all := lw_g (lw_at lw_m6 72 rfl) rfl
theorem q1336 : (Jvm.Cond.methodLink "CoastTiles" (138 : Nat) ({ cls := "CoastTiles$Coast", name := "faults", desc := "(II)I" } : Jvm.MethodName)) ∈ lw_all := lw_g (lw_at lw_m6 73 rfl) rfl
theorem q1346 : (Jvm.Cond.instanceMethod ({ cls := "CoastTiles", name := "pin", desc := "(III)I" } : Jvm.MethodName)) ∈ lw_all := lw_g (lw_at lw_m6 83 rfl) rfl
theorem q1347 : (Jvm.Cond.selects "CoastTiles" ({ cls := "CoastTiles", name := "pin", desc := "(III)I" } : Jvm.MethodName) ({ cls := "CoastTiles", name := "pin", desc := "(III)I" } : Jvm.MethodName)) ∈ lw_all := lw_g (lw_at lw_m6 84 rfl) rfl
theorem q1348 : (Jvm.Cond.code ({ cls := "CoastTiles", name := "pin", desc := "(III)I" } : Jvm.MethodName) prog_1_method_17_code (4 : Nat) (Option.some Jvm.ClassFile.FieldType.int)) ∈ lw_all := lw_g (lw_at lw_m6 85 rfl) rfl
theorem q1349 : (Jvm.Cond.methodLink "CoastTiles" (141 : Nat) ({ cls := "CoastTiles", name := "isShape", desc := "(I)Z" } : Jvm.MethodName)) ∈ lw_all := lw_g (lw_at lw_m6 86 rfl) rfl
theorem q1350 : (Jvm.Cond.static ({ cls := "CoastTiles", name := "isShape", desc := "(I)Z" } : Jvm.MethodName)) ∈ lw_all := lw_g (lw_at lw_m6 87 rfl) rfl
theorem q1351 : (Jvm.Cond.code ({ cls := "CoastTiles", name := "isShape", desc := "(I)Z" } : Jvm.MethodName) prog_1_method_3_code (1 : Nat) (Option.some Jvm.ClassFile.FieldType.boolean)) ∈ lw_all := lw_g (lw_at lw_m6 88 rfl) rfl
theorem q1352 : (Jvm.Cond.privateMethod ({ cls := "CoastTiles", name := "lambda$pin$4", desc := "(III)I" } : Jvm.MethodName)) ∈ lw_tbl := lw_at lw_m6 89 rfl
theorem q1353 : (Jvm.Cond.instanceMethod ({ cls := "CoastTiles", name := "lambda$pin$4", desc := "(III)I" } : Jvm.MethodName)) ∈ lw_all := lw_g (lw_at lw_m6 90 rfl) rfl
theorem q1354 : (Jvm.Cond.code ({ cls := "CoastTiles", name := "lambda$pin$4", desc := "(III)I" } : Jvm.MethodName) prog_1_method_51_code (4 : Nat) (Option.some Jvm.ClassFile.FieldType.int)) ∈ lw_all := lw_g (lw_at lw_m6 91 rfl) rfl
theorem q1356 : (Jvm.Cond.instanceMethod ({ cls := "CoastTiles", name := "unpin", desc := "(II)I" } : Jvm.MethodName)) ∈ lw_all := lw_g (lw_at lw_m6 93 rfl) rfl
theorem q1357 : (Jvm.Cond.selects "CoastTiles" ({ cls := "CoastTiles", name := "unpin", desc := "(II)I" } : Jvm.MethodName) ({ cls := "CoastTiles", name := "unpin", desc := "(II)I" } : Jvm.MethodName)) ∈ lw_all := lw_g (lw_at lw_m6 94 rfl) rfl
theorem q1358 : (Jvm.Cond.code ({ cls := "CoastTiles", name := "unpin", desc := "(II)I" } : Jvm.MethodName) prog_1_method_18_code (4 : Nat) (Option.some Jvm.ClassFile.FieldType.int)) ∈ lw_all := lw_g (lw_at lw_m6 95 rfl) rfl
theorem q1359 : (Jvm.Cond.privateMethod ({ cls := "CoastTiles", name := "lambda$unpin$5", desc := "(III)I" } : Jvm.MethodName)) ∈ lw_tbl := lw_at lw_m6 96 rfl
theorem q1360 : (Jvm.Cond.instanceMethod ({ cls := "CoastTiles", name := "lambda$unpin$5", desc := "(III)I" } : Jvm.MethodName)) ∈ lw_all := lw_g (lw_at lw_m6 97 rfl) rfl
theorem q1361 : (Jvm.Cond.code ({ cls := "CoastTiles", name := "lambda$unpin$5", desc := "(III)I" } : Jvm.MethodName) prog_1_method_50_code (4 : Nat) (Option.some Jvm.ClassFile.FieldType.int)) ∈ lw_all := lw_g (lw_at lw_m6 98 rfl) rfl
theorem q1363 : (Jvm.Cond.instanceMethod ({ cls := "CoastTiles", name := "faults", desc := "()I" } : Jvm.MethodName)) ∈ lw_all := lw_g (lw_at lw_m6 100 rfl) rfl
theorem q1364 : (Jvm.Cond.selects "CoastTiles" ({ cls := "CoastTiles", name := "faults", desc := "()I" } : Jvm.MethodName) ({ cls := "CoastTiles", name := "faults", desc := "()I" } : Jvm.MethodName)) ∈ lw_all := lw_g (lw_at lw_m6 101 rfl) rfl
theorem q1365 : (Jvm.Cond.code ({ cls := "CoastTiles", name := "faults", desc := "()I" } : Jvm.MethodName) prog_1_method_20_code (1 : Nat) (Option.some Jvm.ClassFile.FieldType.int)) ∈ lw_all := lw_g (lw_at lw_m6 102 rfl) rfl
theorem q1366 : (Jvm.Cond.privateMethod ({ cls := "CoastTiles", name := "lambda$faults$6", desc := "(II)I" } : Jvm.MethodName)) ∈ lw_tbl := lw_at lw_m6 103 rfl
theorem q1367 : (Jvm.Cond.instanceMethod ({ cls := "CoastTiles", name := "lambda$faults$6", desc := "(II)I" } : Jvm.MethodName)) ∈ lw_all := lw_g (lw_at lw_m6 104 rfl) rfl
theorem q1368 : (Jvm.Cond.code ({ cls := "CoastTiles", name := "lambda$faults$6", desc := "(II)I" } : Jvm.MethodName) prog_1_method_49_code (3 : Nat) (Option.some Jvm.ClassFile.FieldType.int)) ∈ lw_all := lw_g (lw_at lw_m6 105 rfl) rfl
theorem q1369 : (Jvm.Cond.methodLink "CoastTiles" (157 : Nat) ({ cls := "CoastTiles", name := "sum", desc := "(LCoastTiles$Question;)I" } : Jvm.MethodName)) ∈ lw_all := lw_g (lw_at lw_m6 106 rfl) rfl
theorem q1370 : (Jvm.Cond.privateMethod ({ cls := "CoastTiles", name := "sum", desc := "(LCoastTiles$Question;)I" } : Jvm.MethodName)) ∈ lw_tbl := lw_at lw_m6 107 rfl
theorem q1371 : (Jvm.Cond.instanceMethod ({ cls := "CoastTiles", name := "sum", desc := "(LCoastTiles$Question;)I" } : Jvm.MethodName)) ∈ lw_all := lw_g (lw_at lw_m6 108 rfl) rfl
theorem q1372 : (Jvm.Cond.code ({ cls := "CoastTiles", name := "sum", desc := "(LCoastTiles$Question;)I" } : Jvm.MethodName) prog_1_method_19_code (5 : Nat) (Option.some Jvm.ClassFile.FieldType.int)) ∈ lw_all := lw_g (lw_at lw_m6 109 rfl) rfl
theorem q1373 : (Jvm.Cond.interfaceEntry "CoastTiles" (149 : Nat)) ∈ lw_tbl := lw_at lw_m6 110 rfl
theorem q1374 : (Jvm.Cond.methodLink "CoastTiles" (149 : Nat) ({ cls := "CoastTiles$Question", name := "ask", desc := "(II)I" } : Jvm.MethodName)) ∈ lw_all := lw_g (lw_at lw_m6 111 rfl) rfl
theorem q1378 : (Jvm.Cond.instanceMethod ({ cls := "CoastTiles", name := "firstFault", desc := "()I" } : Jvm.MethodName)) ∈ lw_all := lw_g (lw_at lw_m6 115 rfl) rfl
theorem q1379 : (Jvm.Cond.selects "CoastTiles" ({ cls := "CoastTiles", name := "firstFault", desc := "()I" } : Jvm.MethodName) ({ cls := "CoastTiles", name := "firstFault", desc := "()I" } : Jvm.MethodName)) ∈ lw_all := lw_g (lw_at lw_m6 116 rfl) rfl
theorem q1380 : (Jvm.Cond.code ({ cls := "CoastTiles", name := "firstFault", desc := "()I" } : Jvm.MethodName) prog_1_method_21_code (3 : Nat) (Option.some Jvm.ClassFile.FieldType.int)) ∈ lw_all := lw_g (lw_at lw_m6 117 rfl) rfl
theorem q1382 : (Jvm.Cond.instanceMethod ({ cls := "CoastTiles", name := "maskOf", desc := "(I)I" } : Jvm.MethodName)) ∈ lw_all := lw_g (lw_at lw_m6 119 rfl) rfl
theorem q1383 : (Jvm.Cond.selects "CoastTiles" ({ cls := "CoastTiles", name := "maskOf", desc := "(I)I" } : Jvm.MethodName) ({ cls := "CoastTiles", name := "maskOf", desc := "(I)I" } : Jvm.MethodName)) ∈ lw_all := lw_g (lw_at lw_m6 120 rfl) rfl
theorem q1384 : (Jvm.Cond.code ({ cls := "CoastTiles", name := "maskOf", desc := "(I)I" } : Jvm.MethodName) prog_1_method_22_code (2 : Nat) (Option.some Jvm.ClassFile.FieldType.int)) ∈ lw_all := lw_g (lw_at lw_m6 121 rfl) rfl
theorem q1385 : (Jvm.Cond.methodLink "CoastTiles" (161 : Nat) ({ cls := "CoastTiles$Catalogue", name := "mask", desc := "(I)LCoastTiles$Mask;" } : Jvm.MethodName)) ∈ lw_all := lw_g (lw_at lw_m6 122 rfl) rfl
theorem q1387 : (Jvm.Cond.instanceMethod ({ cls := "CoastTiles", name := "shapeOf", desc := "(I)I" } : Jvm.MethodName)) ∈ lw_all := lw_g (lw_at lw_m6 124 rfl) rfl
theorem q1388 : (Jvm.Cond.selects "CoastTiles" ({ cls := "CoastTiles", name := "shapeOf", desc := "(I)I" } : Jvm.MethodName) ({ cls := "CoastTiles", name := "shapeOf", desc := "(I)I" } : Jvm.MethodName)) ∈ lw_all := lw_g (lw_at lw_m6 125 rfl) rfl
theorem q1389 : (Jvm.Cond.code ({ cls := "CoastTiles", name := "shapeOf", desc := "(I)I" } : Jvm.MethodName) prog_1_method_23_code (2 : Nat) (Option.some Jvm.ClassFile.FieldType.int)) ∈ lw_all := lw_g (lw_at lw_m6 126 rfl) rfl
theorem q1390 : (Jvm.Cond.classLink "CoastTiles" (123 : Nat) "CoastTiles$Mask") ∈ lw_all := lw_g (lw_at lw_m6 127 rfl) rfl
theorem q1391 : (Jvm.Cond.methodLink "CoastTiles" (165 : Nat) ({ cls := "CoastTiles$Mask", name := "<init>", desc := "(I)V" } : Jvm.MethodName)) ∈ lw_all := lw_g (lw_at lw_m6 128 rfl) rfl
theorem q1392 : (Jvm.Cond.methodLink "CoastTiles" (168 : Nat) ({ cls := "CoastTiles$Catalogue", name := "shape", desc := "(LCoastTiles$Mask;)I" } : Jvm.MethodName)) ∈ lw_all := lw_g (lw_at lw_m6 129 rfl) rfl
theorem q1394 : (Jvm.Cond.instanceMethod ({ cls := "CoastTiles", name := "turned", desc := "(II)I" } : Jvm.MethodName)) ∈ lw_all := lw_g (lw_at lw_m6 131 rfl) rfl
theorem q1395 : (Jvm.Cond.selects "CoastTiles" ({ cls := "CoastTiles", name := "turned", desc := "(II)I" } : Jvm.MethodName) ({ cls := "CoastTiles", name := "turned", desc := "(II)I" } : Jvm.MethodName)) ∈ lw_all := lw_g (lw_at lw_m6 132 rfl) rfl
theorem q1396 : (Jvm.Cond.code ({ cls := "CoastTiles", name := "turned", desc := "(II)I" } : Jvm.MethodName) prog_1_method_24_code (3 : Nat) (Option.some Jvm.ClassFile.FieldType.int)) ∈ lw_all := lw_g (lw_at lw_m6 133 rfl) rfl
theorem q1397 : (Jvm.Cond.methodLink "CoastTiles" (171 : Nat) ({ cls := "CoastTiles$Mask", name := "turned", desc := "(I)LCoastTiles$Mask;" } : Jvm.MethodName)) ∈ lw_all := lw_g (lw_at lw_m6 134 rfl) rfl
theorem q1399 : (Jvm.Cond.instanceMethod ({ cls := "CoastTiles", name := "mirrored", desc := "(I)I" } : Jvm.MethodName)) ∈ lw_all := lw_g (lw_at lw_m6 136 rfl) rfl
theorem q1400 : (Jvm.Cond.selects "CoastTiles" ({ cls := "CoastTiles", name := "mirrored", desc := "(I)I" } : Jvm.MethodName) ({ cls := "CoastTiles", name := "mirrored", desc := "(I)I" } : Jvm.MethodName)) ∈ lw_all := lw_g (lw_at lw_m6 137 rfl) rfl
theorem q1401 : (Jvm.Cond.code ({ cls := "CoastTiles", name := "mirrored", desc := "(I)I" } : Jvm.MethodName) prog_1_method_25_code (2 : Nat) (Option.some Jvm.ClassFile.FieldType.int)) ∈ lw_all := lw_g (lw_at lw_m6 138 rfl) rfl
theorem q1402 : (Jvm.Cond.methodLink "CoastTiles" (173 : Nat) ({ cls := "CoastTiles$Mask", name := "mirrored", desc := "()LCoastTiles$Mask;" } : Jvm.MethodName)) ∈ lw_all := lw_g (lw_at lw_m6 139 rfl) rfl
theorem q1407 : (Jvm.Cond.instanceMethod ({ cls := "CoastTiles", name := "count", desc := "(I)I" } : Jvm.MethodName)) ∈ lw_all := lw_g (lw_at lw_m6 144 rfl) rfl
theorem q1408 : (Jvm.Cond.selects "CoastTiles" ({ cls := "CoastTiles", name := "count", desc := "(I)I" } : Jvm.MethodName) ({ cls := "CoastTiles", name := "count", desc := "(I)I" } : Jvm.MethodName)) ∈ lw_all := lw_g (lw_at lw_m6 145 rfl) rfl
theorem q1409 : (Jvm.Cond.code ({ cls := "CoastTiles", name := "count", desc := "(I)I" } : Jvm.MethodName) prog_1_method_26_code (2 : Nat) (Option.some Jvm.ClassFile.FieldType.int)) ∈ lw_all := lw_g (lw_at lw_m6 146 rfl) rfl
theorem q1410 : (Jvm.Cond.privateMethod ({ cls := "CoastTiles", name := "lambda$count$7", desc := "(III)I" } : Jvm.MethodName)) ∈ lw_tbl := lw_at lw_m6 147 rfl
theorem q1411 : (Jvm.Cond.instanceMethod ({ cls := "CoastTiles", name := "lambda$count$7", desc := "(III)I" } : Jvm.MethodName)) ∈ lw_all := lw_g (lw_at lw_m6 148 rfl) rfl
theorem q1412 : (Jvm.Cond.code ({ cls := "CoastTiles", name := "lambda$count$7", desc := "(III)I" } : Jvm.MethodName) prog_1_method_48_code (4 : Nat) (Option.some Jvm.ClassFile.FieldType.int)) ∈ lw_all := lw_g (lw_at lw_m6 149 rfl) rfl
theorem q1414 : (Jvm.Cond.instanceMethod ({ cls := "CoastTiles", name := "shapes", desc := "()I" } : Jvm.MethodName)) ∈ lw_all := lw_g (lw_at lw_m6 151 rfl) rfl
theorem q1415 : (Jvm.Cond.selects "CoastTiles" ({ cls := "CoastTiles", name := "shapes", desc := "()I" } : Jvm.MethodName) ({ cls := "CoastTiles", name := "shapes", desc := "()I" } : Jvm.MethodName)) ∈ lw_all := lw_g (lw_at lw_m6 152 rfl) rfl
theorem q1416 : (Jvm.Cond.code ({ cls := "CoastTiles", name := "shapes", desc := "()I" } : Jvm.MethodName) prog_1_method_27_code (2 : Nat) (Option.some Jvm.ClassFile.FieldType.int)) ∈ lw_all := lw_g (lw_at lw_m6 153 rfl) rfl
theorem q1417 : (Jvm.Cond.classLink "CoastTiles" (180 : Nat) "java/util/BitSet") ∈ lw_all := lw_g (lw_at lw_m6 154 rfl) rfl
theorem q1418 : (Jvm.Cond.methodLink "CoastTiles" (182 : Nat) ({ cls := "java/util/BitSet", name := "<init>", desc := "()V" } : Jvm.MethodName)) ∈ lw_all := lw_g (lw_at lw_m6 155 rfl) rfl
theorem q1419 : (Jvm.Cond.privateMethod ({ cls := "CoastTiles", name := "lambda$shapes$8", desc := "(Ljava/util/BitSet;II)I" } : Jvm.MethodName)) ∈ lw_tbl := lw_at lw_m6 156 rfl
theorem q1420 : (Jvm.Cond.instanceMethod ({ cls := "CoastTiles", name := "lambda$shapes$8", desc := "(Ljava/util/BitSet;II)I" } : Jvm.MethodName)) ∈ lw_all := lw_g (lw_at lw_m6 157 rfl) rfl
theorem q1421 : (Jvm.Cond.code ({ cls := "CoastTiles", name := "lambda$shapes$8", desc := "(Ljava/util/BitSet;II)I" } : Jvm.MethodName) prog_1_method_47_code (4 : Nat) (Option.some Jvm.ClassFile.FieldType.int)) ∈ lw_all := lw_g (lw_at lw_m6 158 rfl) rfl
theorem q1422 : (Jvm.Cond.methodLink "CoastTiles" (301 : Nat) ({ cls := "java/util/BitSet", name := "set", desc := "(I)V" } : Jvm.MethodName)) ∈ lw_all := lw_g (lw_at lw_m6 159 rfl) rfl
theorem q1423 : (Jvm.Cond.methodLink "CoastTiles" (186 : Nat) ({ cls := "java/util/BitSet", name := "cardinality", desc := "()I" } : Jvm.MethodName)) ∈ lw_all := lw_g (lw_at lw_m6 160 rfl) rfl
theorem q1434 : (Jvm.Cond.instanceMethod ({ cls := "CoastTiles", name := "land", desc := "()I" } : Jvm.MethodName)) ∈ lw_all := lw_g (lw_at lw_m6 171 rfl) rfl
theorem q1435 : (Jvm.Cond.selects "CoastTiles" ({ cls := "CoastTiles", name := "land", desc := "()I" } : Jvm.MethodName) ({ cls := "CoastTiles", name := "land", desc := "()I" } : Jvm.MethodName)) ∈ lw_all := lw_g (lw_at lw_m6 172 rfl) rfl
theorem q1436 : (Jvm.Cond.code ({ cls := "CoastTiles", name := "land", desc := "()I" } : Jvm.MethodName) prog_1_method_28_code (1 : Nat) (Option.some Jvm.ClassFile.FieldType.int)) ∈ lw_all := lw_g (lw_at lw_m6 173 rfl) rfl
theorem q1437 : (Jvm.Cond.methodLink "CoastTiles" (189 : Nat) ({ cls := "CoastTiles$Coast", name := "land", desc := "()I" } : Jvm.MethodName)) ∈ lw_all := lw_g (lw_at lw_m6 174 rfl) rfl
theorem q1442 : (Jvm.Cond.instanceMethod ({ cls := "CoastTiles", name := "landShare", desc := "()I" } : Jvm.MethodName)) ∈ lw_all := lw_g (lw_at lw_m6 179 rfl) rfl
theorem q1443 : (Jvm.Cond.selects "CoastTiles" ({ cls := "CoastTiles", name := "landShare", desc := "()I" } : Jvm.MethodName) ({ cls := "CoastTiles", name := "landShare", desc := "()I" } : Jvm.MethodName)) ∈ lw_all := lw_g (lw_at lw_m6 180 rfl) rfl
theorem q1444 : (Jvm.Cond.code ({ cls := "CoastTiles", name := "landShare", desc := "()I" } : Jvm.MethodName) prog_1_method_29_code (1 : Nat) (Option.some Jvm.ClassFile.FieldType.int)) ∈ lw_all := lw_g (lw_at lw_m6 181 rfl) rfl
theorem q1445 : (Jvm.Cond.methodLink "CoastTiles" (192 : Nat) ({ cls := "java/lang/Float", name := "floatToIntBits", desc := "(F)I" } : Jvm.MethodName)) ∈ lw_all := lw_g (lw_at lw_m6 182 rfl) rfl
theorem q1456 : (Jvm.Cond.instanceMethod ({ cls := "CoastTiles", name := "coast", desc := "()I" } : Jvm.MethodName)) ∈ lw_all := lw_g (lw_at lw_m6 193 rfl) rfl
theorem q1457 : (Jvm.Cond.selects "CoastTiles" ({ cls := "CoastTiles", name := "coast", desc := "()I" } : Jvm.MethodName) ({ cls := "CoastTiles", name := "coast", desc := "()I" } : Jvm.MethodName)) ∈ lw_all := lw_g (lw_at lw_m6 194 rfl) rfl
theorem q1458 : (Jvm.Cond.code ({ cls := "CoastTiles", name := "coast", desc := "()I" } : Jvm.MethodName) prog_1_method_30_code (1 : Nat) (Option.some Jvm.ClassFile.FieldType.int)) ∈ lw_all := lw_g (lw_at lw_m6 195 rfl) rfl
theorem q1459 : (Jvm.Cond.methodLink "CoastTiles" (198 : Nat) ({ cls := "CoastTiles$Coast", name := "coast", desc := "()I" } : Jvm.MethodName)) ∈ lw_all := lw_g (lw_at lw_m6 196 rfl) rfl
theorem q1464 : (Jvm.Cond.instanceMethod ({ cls := "CoastTiles", name := "islands", desc := "()I" } : Jvm.MethodName)) ∈ lw_all := lw_g (lw_at lw_m6 201 rfl) rfl
theorem q1465 : (Jvm.Cond.selects "CoastTiles" ({ cls := "CoastTiles", name := "islands", desc := "()I" } : Jvm.MethodName) ({ cls := "CoastTiles", name := "islands", desc := "()I" } : Jvm.MethodName)) ∈ lw_all := lw_g (lw_at lw_m6 202 rfl) rfl
theorem q1466 : (Jvm.Cond.code ({ cls := "CoastTiles", name := "islands", desc := "()I" } : Jvm.MethodName) prog_1_method_31_code (1 : Nat) (Option.some Jvm.ClassFile.FieldType.int)) ∈ lw_all := lw_g (lw_at lw_m6 203 rfl) rfl
theorem q1467 : (Jvm.Cond.methodLink "CoastTiles" (200 : Nat) ({ cls := "CoastTiles$Coast", name := "regions", desc := "(ZZ)Ljava/util/LinkedList;" } : Jvm.MethodName)) ∈ lw_all := lw_g (lw_at lw_m6 204 rfl) rfl
theorem q1504 : (Jvm.Cond.methodLink "CoastTiles" (204 : Nat) ({ cls := "java/util/LinkedList", name := "size", desc := "()I" } : Jvm.MethodName)) ∈ lw_all := lw_g (lw_at lw_m7 1 rfl) rfl
theorem q1506 : (Jvm.Cond.instanceMethod ({ cls := "CoastTiles", name := "lakes", desc := "()I" } : Jvm.MethodName)) ∈ lw_all := lw_g (lw_at lw_m7 3 rfl) rfl
theorem q1507 : (Jvm.Cond.selects "CoastTiles" ({ cls := "CoastTiles", name := "lakes", desc := "()I" } : Jvm.MethodName) ({ cls := "CoastTiles", name := "lakes", desc := "()I" } : Jvm.MethodName)) ∈ lw_all := lw_g (lw_at lw_m7 4 rfl) rfl
theorem q1508 : (Jvm.Cond.code ({ cls := "CoastTiles", name := "lakes", desc := "()I" } : Jvm.MethodName) prog_1_method_32_code (3 : Nat) (Option.some Jvm.ClassFile.FieldType.int)) ∈ lw_all := lw_g (lw_at lw_m7 5 rfl) rfl
theorem q1509 : (Jvm.Cond.methodLink "CoastTiles" (207 : Nat) ({ cls := "java/util/LinkedList", name := "isEmpty", desc := "()Z" } : Jvm.MethodName)) ∈ lw_all := lw_g (lw_at lw_m7 6 rfl) rfl
theorem q1526 : (Jvm.Cond.methodLink "CoastTiles" (211 : Nat) ({ cls := "java/util/LinkedList", name := "removeFirst", desc := "()Ljava/lang/Object;" } : Jvm.MethodName)) ∈ lw_all := lw_g (lw_at lw_m7 23 rfl) rfl
theorem q1534 : (Jvm.Cond.methodLink "CoastTiles" (215 : Nat) ({ cls := "CoastTiles$Coast", name := "isLake", desc := "(Ljava/util/BitSet;)Z" } : Jvm.MethodName)) ∈ lw_all := lw_g (lw_at lw_m7 31 rfl) rfl
theorem q1544 : (Jvm.Cond.instanceMethod ({ cls := "CoastTiles", name := "region", desc := "(IIZ)I" } : Jvm.MethodName)) ∈ lw_all := lw_g (lw_at lw_m7 41 rfl) rfl
theorem q1545 : (Jvm.Cond.selects "CoastTiles" ({ cls := "CoastTiles", name := "region", desc := "(IIZ)I" } : Jvm.MethodName) ({ cls := "CoastTiles", name := "region", desc := "(IIZ)I" } : Jvm.MethodName)) ∈ lw_all := lw_g (lw_at lw_m7 42 rfl) rfl
theorem q1546 : (Jvm.Cond.code ({ cls := "CoastTiles", name := "region", desc := "(IIZ)I" } : Jvm.MethodName) prog_1_method_33_code (4 : Nat) (Option.some Jvm.ClassFile.FieldType.int)) ∈ lw_all := lw_g (lw_at lw_m7 43 rfl) rfl
theorem q1547 : (Jvm.Cond.static ({ cls := "CoastTiles", name := "lambda$region$9", desc := "(LCoastTiles$Step;)V" } : Jvm.MethodName)) ∈ lw_all := lw_g (lw_at lw_m7 44 rfl) rfl
theorem q1548 : (Jvm.Cond.code ({ cls := "CoastTiles", name := "lambda$region$9", desc := "(LCoastTiles$Step;)V" } : Jvm.MethodName) prog_1_method_46_code (1 : Nat) (Option.none : Option Jvm.ClassFile.FieldType)) ∈ lw_all := lw_g (lw_at lw_m7 45 rfl) rfl
theorem q1550 : (Jvm.Cond.instanceMethod ({ cls := "CoastTiles", name := "largestIsland", desc := "()I" } : Jvm.MethodName)) ∈ lw_all := lw_g (lw_at lw_m7 47 rfl) rfl
theorem q1551 : (Jvm.Cond.selects "CoastTiles" ({ cls := "CoastTiles", name := "largestIsland", desc := "()I" } : Jvm.MethodName) ({ cls := "CoastTiles", name := "largestIsland", desc := "()I" } : Jvm.MethodName)) ∈ lw_all := lw_g (lw_at lw_m7 48 rfl) rfl
theorem q1552 : (Jvm.Cond.code ({ cls := "CoastTiles", name := "largestIsland", desc := "()I" } : Jvm.MethodName) prog_1_method_34_code (4 : Nat) (Option.some Jvm.ClassFile.FieldType.int)) ∈ lw_all := lw_g (lw_at lw_m7 49 rfl) rfl
theorem q1553 : (Jvm.Cond.methodLink "CoastTiles" (227 : Nat) ({ cls := "java/util/LinkedList", name := "iterator", desc := "()Ljava/util/Iterator;" } : Jvm.MethodName)) ∈ lw_all := lw_g (lw_at lw_m7 50 rfl) rfl
theorem q1637 : (Jvm.Cond.interfaceEntry "CoastTiles" (231 : Nat)) ∈ lw_tbl := lw_at lw_m7 134 rfl
theorem q1638 : (Jvm.Cond.methodLink "CoastTiles" (231 : Nat) ({ cls := "java/util/Iterator", name := "hasNext", desc := "()Z" } : Jvm.MethodName)) ∈ lw_all := lw_g (lw_at lw_m7 135 rfl) rfl
theorem q1663 : (Jvm.Cond.interfaceEntry "CoastTiles" (236 : Nat)) ∈ lw_tbl := lw_at lw_m7 160 rfl
theorem q1664 : (Jvm.Cond.methodLink "CoastTiles" (236 : Nat) ({ cls := "java/util/Iterator", name := "next", desc := "()Ljava/lang/Object;" } : Jvm.MethodName)) ∈ lw_all := lw_g (lw_at lw_m7 161 rfl) rfl
theorem q1924 : (Jvm.Cond.instanceMethod ({ cls := "CoastTiles", name := "way", desc := "(IIII)I" } : Jvm.MethodName)) ∈ lw_all := lw_g (lw_at lw_m8 181 rfl) rfl
theorem q1925 : (Jvm.Cond.selects "CoastTiles" ({ cls := "CoastTiles", name := "way", desc := "(IIII)I" } : Jvm.MethodName) ({ cls := "CoastTiles", name := "way", desc := "(IIII)I" } : Jvm.MethodName)) ∈ lw_all := lw_g (lw_at lw_m8 182 rfl) rfl
theorem q1926 : (Jvm.Cond.code ({ cls := "CoastTiles", name := "way", desc := "(IIII)I" } : Jvm.MethodName) prog_1_method_35_code (6 : Nat) (Option.some Jvm.ClassFile.FieldType.int)) ∈ lw_all := lw_g (lw_at lw_m8 183 rfl) rfl
theorem q1927 : (Jvm.Cond.classLink "CoastTiles" (243 : Nat) "CoastTiles$Goal") ∈ lw_all := lw_g (lw_at lw_m8 184 rfl) rfl
theorem q1929 : (Jvm.Cond.methodLink "CoastTiles" (245 : Nat) ({ cls := "CoastTiles$Goal", name := "<init>", desc := "(II)V" } : Jvm.MethodName)) ∈ lw_all := lw_g (lw_at lw_m8 186 rfl) rfl
theorem q1936 : (Jvm.Cond.fieldLinkNest "CoastTiles" (248 : Nat) "CoastTiles$Goal" "steps" "I" "CoastTiles") ∈ lw_tbl := lw_at lw_m8 193 rfl
theorem q1945 : (Jvm.Cond.instanceMethod ({ cls := "CoastTiles", name := "coastIfChanged", desc := "(II)I" } : Jvm.MethodName)) ∈ lw_all := lw_g (lw_at lw_m8 202 rfl) rfl
theorem q1946 : (Jvm.Cond.selects "CoastTiles" ({ cls := "CoastTiles", name := "coastIfChanged", desc := "(II)I" } : Jvm.MethodName) ({ cls := "CoastTiles", name := "coastIfChanged", desc := "(II)I" } : Jvm.MethodName)) ∈ lw_all := lw_g (lw_at lw_m8 203 rfl) rfl
theorem q1947 : (Jvm.Cond.code ({ cls := "CoastTiles", name := "coastIfChanged", desc := "(II)I" } : Jvm.MethodName) prog_1_method_36_code (4 : Nat) (Option.some Jvm.ClassFile.FieldType.int)) ∈ lw_all := lw_g (lw_at lw_m8 204 rfl) rfl
theorem q1949 : (Jvm.Cond.instanceMethod ({ cls := "CoastTiles", name := "needs", desc := "(III)I" } : Jvm.MethodName)) ∈ lw_all := lw_g (lw_at lw_m8 206 rfl) rfl
theorem q1950 : (Jvm.Cond.selects "CoastTiles" ({ cls := "CoastTiles", name := "needs", desc := "(III)I" } : Jvm.MethodName) ({ cls := "CoastTiles", name := "needs", desc := "(III)I" } : Jvm.MethodName)) ∈ lw_all := lw_g (lw_at lw_m8 207 rfl) rfl
theorem q1951 : (Jvm.Cond.code ({ cls := "CoastTiles", name := "needs", desc := "(III)I" } : Jvm.MethodName) prog_1_method_38_code (10 : Nat) (Option.some Jvm.ClassFile.FieldType.int)) ∈ lw_all := lw_g (lw_at lw_m8 208 rfl) rfl
theorem q1952 : (Jvm.Cond.methodLink "CoastTiles" (264 : Nat) ({ cls := "CoastTiles$Mask", name := "regular", desc := "()LCoastTiles$Mask;" } : Jvm.MethodName)) ∈ lw_all := lw_g (lw_at lw_m8 209 rfl) rfl
theorem q1953 : (Jvm.Cond.methodLink "CoastTiles" (267 : Nat) ({ cls := "CoastTiles$Mask", name := "equals", desc := "(Ljava/lang/Object;)Z" } : Jvm.MethodName)) ∈ lw_all := lw_g (lw_at lw_m8 210 rfl) rfl
theorem q1954 : (Jvm.Cond.methodLink "CoastTiles" (270 : Nat) ({ cls := "CoastTiles", name := "changes", desc := "(IILCoastTiles$Mask;LCoastTiles$Mask;)I" } : Jvm.MethodName)) ∈ lw_all := lw_g (lw_at lw_m8 211 rfl) rfl
theorem q1955 : (Jvm.Cond.privateMethod ({ cls := "CoastTiles", name := "changes", desc := "(IILCoastTiles$Mask;LCoastTiles$Mask;)I" } : Jvm.MethodName)) ∈ lw_tbl := lw_at lw_m8 212 rfl
theorem q1956 : (Jvm.Cond.instanceMethod ({ cls := "CoastTiles", name := "changes", desc := "(IILCoastTiles$Mask;LCoastTiles$Mask;)I" } : Jvm.MethodName)) ∈ lw_all := lw_g (lw_at lw_m8 213 rfl) rfl
theorem q1957 : (Jvm.Cond.code ({ cls := "CoastTiles", name := "changes", desc := "(IILCoastTiles$Mask;LCoastTiles$Mask;)I" } : Jvm.MethodName) prog_1_method_37_code (7 : Nat) (Option.some Jvm.ClassFile.FieldType.int)) ∈ lw_all := lw_g (lw_at lw_m8 214 rfl) rfl
theorem q1958 : (Jvm.Cond.fieldLink "CoastTiles" (251 : Nat) "CoastTiles" "ROW_STEPS" "[I") ∈ lw_all := lw_g (lw_at lw_m8 215 rfl) rfl
theorem q1959 : (Jvm.Cond.fieldLink "CoastTiles" (255 : Nat) "CoastTiles" "COLUMN_STEPS" "[I") ∈ lw_all := lw_g (lw_at lw_m8 216 rfl) rfl
theorem q1960 : (Jvm.Cond.methodLink "CoastTiles" (258 : Nat) ({ cls := "CoastTiles$Mask", name := "has", desc := "(I)Z" } : Jvm.MethodName)) ∈ lw_all := lw_g (lw_at lw_m8 217 rfl) rfl
theorem q1961 : (Jvm.Cond.methodLink "CoastTiles" (261 : Nat) ({ cls := "CoastTiles$Mask", name := "distance", desc := "(LCoastTiles$Mask;)I" } : Jvm.MethodName)) ∈ lw_all := lw_g (lw_at lw_m8 218 rfl) rfl
theorem q1963 : (Jvm.Cond.instanceMethod ({ cls := "CoastTiles", name := "append", desc := "(I)I" } : Jvm.MethodName)) ∈ lw_all := lw_g (lw_at lw_m8 220 rfl) rfl
theorem q1964 : (Jvm.Cond.selects "CoastTiles" ({ cls := "CoastTiles", name := "append", desc := "(I)I" } : Jvm.MethodName) ({ cls := "CoastTiles", name := "append", desc := "(I)I" } : Jvm.MethodName)) ∈ lw_all := lw_g (lw_at lw_m8 221 rfl) rfl
theorem q1965 : (Jvm.Cond.code ({ cls := "CoastTiles", name := "append", desc := "(I)I" } : Jvm.MethodName) prog_1_method_39_code (2 : Nat) (Option.some Jvm.ClassFile.FieldType.int)) ∈ lw_all := lw_g (lw_at lw_m8 222 rfl) rfl
theorem q1966 : (Jvm.Cond.methodLink "CoastTiles" (274 : Nat) ({ cls := "java/lang/StringBuilder", name := "length", desc := "()I" } : Jvm.MethodName)) ∈ lw_all := lw_g (lw_at lw_m8 223 rfl) rfl
theorem q1967 : (Jvm.Cond.methodLink "CoastTiles" (277 : Nat) ({ cls := "java/lang/StringBuilder", name := "append", desc := "(C)Ljava/lang/StringBuilder;" } : Jvm.MethodName)) ∈ lw_all := lw_g (lw_at lw_m8 224 rfl) rfl
theorem q1988 : (Jvm.Cond.instanceMethod ({ cls := "CoastTiles", name := "clearText", desc := "()I" } : Jvm.MethodName)) ∈ lw_all := lw_g (lw_at lw_m9 5 rfl) rfl
theorem q1989 : (Jvm.Cond.selects "CoastTiles" ({ cls := "CoastTiles", name := "clearText", desc := "()I" } : Jvm.MethodName) ({ cls := "CoastTiles", name := "clearText", desc := "()I" } : Jvm.MethodName)) ∈ lw_all := lw_g (lw_at lw_m9 6 rfl) rfl
theorem q1990 : (Jvm.Cond.code ({ cls := "CoastTiles", name := "clearText", desc := "()I" } : Jvm.MethodName) prog_1_method_40_code (2 : Nat) (Option.some Jvm.ClassFile.FieldType.int)) ∈ lw_all := lw_g (lw_at lw_m9 7 rfl) rfl
theorem q1991 : (Jvm.Cond.methodLink "CoastTiles" (281 : Nat) ({ cls := "java/lang/StringBuilder", name := "setLength", desc := "(I)V" } : Jvm.MethodName)) ∈ lw_all := lw_g (lw_at lw_m9 8 rfl) rfl
theorem q2012 : (Jvm.Cond.instanceMethod ({ cls := "CoastTiles", name := "errorPosition", desc := "()I" } : Jvm.MethodName)) ∈ lw_all := lw_g (lw_at lw_m9 29 rfl) rfl
theorem q2013 : (Jvm.Cond.selects "CoastTiles" ({ cls := "CoastTiles", name := "errorPosition", desc := "()I" } : Jvm.MethodName) ({ cls := "CoastTiles", name := "errorPosition", desc := "()I" } : Jvm.MethodName)) ∈ lw_all := lw_g (lw_at lw_m9 30 rfl) rfl
theorem q2014 : (Jvm.Cond.code ({ cls := "CoastTiles", name := "errorPosition", desc := "()I" } : Jvm.MethodName) prog_1_method_41_code (1 : Nat) (Option.some Jvm.ClassFile.FieldType.int)) ∈ lw_all := lw_g (lw_at lw_m9 31 rfl) rfl
theorem q2015 : (Jvm.Cond.classLink "CoastTiles" (284 : Nat) "CoastTiles$Reader") ∈ lw_all := lw_g (lw_at lw_m9 32 rfl) rfl
theorem q2017 : (Jvm.Cond.methodLinkNest "CoastTiles" (286 : Nat) ({ cls := "CoastTiles$Reader", name := "<init>", desc := "(LCoastTiles;)V" } : Jvm.MethodName) "CoastTiles") ∈ lw_tbl := lw_at lw_m9 34 rfl
theorem q2024 : (Jvm.Cond.fieldLinkNest "CoastTiles" (294 : Nat) "CoastTiles$Reader" "land" "Ljava/util/BitSet;" "CoastTiles") ∈ lw_tbl := lw_at lw_m9 41 rfl
theorem q2027 : (Jvm.Cond.fieldLinkNest "CoastTiles" (292 : Nat) "CoastTiles$Reader" "rows" "I" "CoastTiles") ∈ lw_tbl := lw_at lw_m9 44 rfl
theorem q2029 : (Jvm.Cond.fieldLinkNest "CoastTiles" (293 : Nat) "CoastTiles$Reader" "columns" "I" "CoastTiles") ∈ lw_tbl := lw_at lw_m9 46 rfl
theorem q2045 : (Jvm.Cond.methodLink "CoastTiles" (289 : Nat) ({ cls := "CoastTiles$Reader", name := "errorPosition", desc := "()I" } : Jvm.MethodName)) ∈ lw_all := lw_g (lw_at lw_m9 62 rfl) rfl
theorem q2093 : (Jvm.Cond.instanceMethod ({ cls := "CoastTiles", name := "read", desc := "()I" } : Jvm.MethodName)) ∈ lw_all := lw_g (lw_at lw_m9 110 rfl) rfl
theorem q2094 : (Jvm.Cond.selects "CoastTiles" ({ cls := "CoastTiles", name := "read", desc := "()I" } : Jvm.MethodName) ({ cls := "CoastTiles", name := "read", desc := "()I" } : Jvm.MethodName)) ∈ lw_all := lw_g (lw_at lw_m9 111 rfl) rfl
theorem q2095 : (Jvm.Cond.code ({ cls := "CoastTiles", name := "read", desc := "()I" } : Jvm.MethodName) prog_1_method_42_code (3 : Nat) (Option.some Jvm.ClassFile.FieldType.int)) ∈ lw_all := lw_g (lw_at lw_m9 112 rfl) rfl
theorem q2097 : (Jvm.Cond.instanceMethod ({ cls := "CoastTiles", name := "undo", desc := "()I" } : Jvm.MethodName)) ∈ lw_all := lw_g (lw_at lw_m9 114 rfl) rfl
theorem q2098 : (Jvm.Cond.selects "CoastTiles" ({ cls := "CoastTiles", name := "undo", desc := "()I" } : Jvm.MethodName) ({ cls := "CoastTiles", name := "undo", desc := "()I" } : Jvm.MethodName)) ∈ lw_all := lw_g (lw_at lw_m9 115 rfl) rfl
theorem q2099 : (Jvm.Cond.code ({ cls := "CoastTiles", name := "undo", desc := "()I" } : Jvm.MethodName) prog_1_method_43_code (1 : Nat) (Option.some Jvm.ClassFile.FieldType.int)) ∈ lw_all := lw_g (lw_at lw_m9 116 rfl) rfl
theorem q2100 : (Jvm.Cond.interfaceEntry "CoastTiles" (297 : Nat)) ∈ lw_tbl := lw_at lw_m9 117 rfl
theorem q2101 : (Jvm.Cond.methodLink "CoastTiles" (297 : Nat) ({ cls := "java/util/List", name := "isEmpty", desc := "()Z" } : Jvm.MethodName)) ∈ lw_all := lw_g (lw_at lw_m9 118 rfl) rfl
theorem q2113 : (Jvm.Cond.instanceMethod ({ cls := "CoastTiles", name := "save", desc := "()I" } : Jvm.MethodName)) ∈ lw_all := lw_g (lw_at lw_m9 130 rfl) rfl
theorem q2114 : (Jvm.Cond.selects "CoastTiles" ({ cls := "CoastTiles", name := "save", desc := "()I" } : Jvm.MethodName) ({ cls := "CoastTiles", name := "save", desc := "()I" } : Jvm.MethodName)) ∈ lw_all := lw_g (lw_at lw_m9 131 rfl) rfl
theorem q2115 : (Jvm.Cond.code ({ cls := "CoastTiles", name := "save", desc := "()I" } : Jvm.MethodName) prog_1_method_44_code (1 : Nat) (Option.some Jvm.ClassFile.FieldType.int)) ∈ lw_all := lw_g (lw_at lw_m9 132 rfl) rfl
theorem q2117 : (Jvm.Cond.instanceMethod ({ cls := "CoastTiles", name := "restore", desc := "()I" } : Jvm.MethodName)) ∈ lw_all := lw_g (lw_at lw_m9 134 rfl) rfl
theorem q2118 : (Jvm.Cond.selects "CoastTiles" ({ cls := "CoastTiles", name := "restore", desc := "()I" } : Jvm.MethodName) ({ cls := "CoastTiles", name := "restore", desc := "()I" } : Jvm.MethodName)) ∈ lw_all := lw_g (lw_at lw_m9 135 rfl) rfl
theorem q2119 : (Jvm.Cond.code ({ cls := "CoastTiles", name := "restore", desc := "()I" } : Jvm.MethodName) prog_1_method_45_code (1 : Nat) (Option.some Jvm.ClassFile.FieldType.int)) ∈ lw_all := lw_g (lw_at lw_m9 136 rfl) rfl
theorem q2496 : (Jvm.Cond.castable "CoastTiles" "java/lang/Object") ∈ lw_tbl := lw_at lw_m11 33 rfl
theorem in_X0 : ∀ w ∈ wsX00, w ∈ lw_all := lw_in wsX00 [938, 940, 942, 944, 946] (by decide +kernel) (by decide +kernel)
/-! CoastTiles$Catalogue -/
set_option maxRecDepth 100000
def RX1 : String := "CoastTiles$Catalogue"
def TX1 : u_T := fun k => match k with
  | 0 => ("CoastTiles$Catalogue", "masks", "Ljava/util/List;", true)
  | _ => ("CoastTiles$Catalogue", "numbers", "Ljava/util/HashMap;", true)
def tyX1 : Nat → FieldType := fun k => match k with
  | 0 => .object "java/util/List"
  | _ => .object "java/util/HashMap"
abbrev wsX10 : List Cond := u_ws RX1 TX1 2
theorem nmX1 : ∀ a, a < 2 → ∀ b, b < 2 → a ≠ b → (TX1 a).2.1 ≠ (TX1 b).2.1 := by decide +kernel
theorem tyX1_ok : ∀ k, k < 2 → parseFieldDescriptor (TX1 k).2.2.1 = some (tyX1 k) := by decide +kernel
abbrev cX1_init : ByteArray := prog_2_method_1_code
def yX1_init : MethodName := ⟨RX1, "<init>", "()V"⟩
def dkwX1_init_3 : List UInt8 := [182, 0, 46, 87, 42, 180, 0, 12, 44, 185, 0, 50, 2, 0, 87, 132, 1, 1, 167, 255, 198, 177]
abbrev dktX1_init_3 : List UInt8 := dkwX1_init_3 ++ []
def dkwX1_init_2 : List UInt8 := [182, 0, 30, 153, 0, 35, 42, 180, 0, 21, 44, 42, 180, 0, 12, 185, 0, 34, 1, 0, 184, 0, 40]
abbrev dktX1_init_2 : List UInt8 := dkwX1_init_2 ++ dktX1_init_3
def dkwX1_init_1 : List UInt8 := [181, 0, 21, 3, 60, 27, 17, 1, 0, 162, 0, 57, 187, 0, 25, 89, 27, 183, 0, 27, 77, 44]
abbrev dktX1_init_1 : List UInt8 := dkwX1_init_1 ++ dktX1_init_2
def dkwX1_init_0 : List UInt8 := [42, 183, 0, 3, 42, 187, 0, 9, 89, 183, 0, 11, 181, 0, 12, 42, 187, 0, 18, 89, 183, 0, 20]
abbrev dktX1_init_0 : List UInt8 := dkwX1_init_0 ++ dktX1_init_1
theorem dksX1_init_0 : cX1_init.data.toList.drop 0 = dktX1_init_0 := by decide +kernel
theorem dksX1_init_1 : cX1_init.data.toList.drop 23 = dktX1_init_1 := dk_seg dksX1_init_0 23 rfl rfl
theorem dksX1_init_2 : cX1_init.data.toList.drop 45 = dktX1_init_2 := dk_seg dksX1_init_1 22 rfl rfl
theorem dksX1_init_3 : cX1_init.data.toList.drop 68 = dktX1_init_3 := dk_seg dksX1_init_2 23 rfl rfl
theorem dX1_init_0 : decode cX1_init 0 = .ok (.aload_n 0, 1) := dk_42 (dk_at dksX1_init_0 0 rfl rfl)
theorem dX1_init_1 : decode cX1_init 1 = .ok (.invokespecial 3, 3) := dk_183 0 3 (dk_at dksX1_init_0 1 rfl rfl)
theorem dX1_init_4 : decode cX1_init 4 = .ok (.aload_n 0, 1) := dk_42 (dk_at dksX1_init_0 4 rfl rfl)
theorem dX1_init_5 : decode cX1_init 5 = .ok (.new 9, 3) := dk_187 0 9 (dk_at dksX1_init_0 5 rfl rfl)
theorem dX1_init_8 : decode cX1_init 8 = .ok (.dup, 1) := dk_89 (dk_at dksX1_init_0 8 rfl rfl)
theorem dX1_init_9 : decode cX1_init 9 = .ok (.invokespecial 11, 3) := dk_183 0 11 (dk_at dksX1_init_0 9 rfl rfl)
theorem dX1_init_12 : decode cX1_init 12 = .ok (.putfield 12, 3) := dk_181 0 12 (dk_at dksX1_init_0 12 rfl rfl)
theorem dX1_init_15 : decode cX1_init 15 = .ok (.aload_n 0, 1) := dk_42 (dk_at dksX1_init_0 15 rfl rfl)
theorem dX1_init_16 : decode cX1_init 16 = .ok (.new 18, 3) := dk_187 0 18 (dk_at dksX1_init_0 16 rfl rfl)
theorem dX1_init_19 : decode cX1_init 19 = .ok (.dup, 1) := dk_89 (dk_at dksX1_init_0 19 rfl rfl)
theorem dX1_init_20 : decode cX1_init 20 = .ok (.invokespecial 20, 3) := dk_183 0 20 (dk_at dksX1_init_0 20 rfl rfl)
theorem dX1_init_23 : decode cX1_init 23 = .ok (.putfield 21, 3) := dk_181 0 21 (dk_at dksX1_init_1 0 rfl rfl)
theorem dX1_init_26 : decode cX1_init 26 = .ok (.iconst 0, 1) := dk_3 (dk_at dksX1_init_1 3 rfl rfl)
theorem dX1_init_27 : decode cX1_init 27 = .ok (.istore_n 1, 1) := dk_60 (dk_at dksX1_init_1 4 rfl rfl)
theorem dX1_init_28 : decode cX1_init 28 = .ok (.iload_n 1, 1) := dk_27 (dk_at dksX1_init_1 5 rfl rfl)
theorem dX1_init_29 : decode cX1_init 29 = .ok (.sipush 256, 3) := dk_17 1 0 (dk_at dksX1_init_1 6 rfl rfl)
theorem dX1_init_32 : decode cX1_init 32 = .ok (.if_icmp .ge 57, 3) := dk_162 0 57 (dk_at dksX1_init_1 9 rfl rfl)
theorem dX1_init_35 : decode cX1_init 35 = .ok (.new 25, 3) := dk_187 0 25 (dk_at dksX1_init_1 12 rfl rfl)
theorem dX1_init_38 : decode cX1_init 38 = .ok (.dup, 1) := dk_89 (dk_at dksX1_init_1 15 rfl rfl)
theorem dX1_init_39 : decode cX1_init 39 = .ok (.iload_n 1, 1) := dk_27 (dk_at dksX1_init_1 16 rfl rfl)
theorem dX1_init_40 : decode cX1_init 40 = .ok (.invokespecial 27, 3) := dk_183 0 27 (dk_at dksX1_init_1 17 rfl rfl)
theorem dX1_init_43 : decode cX1_init 43 = .ok (.astore_n 2, 1) := dk_77 (dk_at dksX1_init_1 20 rfl rfl)
theorem dX1_init_44 : decode cX1_init 44 = .ok (.aload_n 2, 1) := dk_44 (dk_at dksX1_init_1 21 rfl rfl)
theorem dX1_init_45 : decode cX1_init 45 = .ok (.invokevirtual 30, 3) := dk_182 0 30 (dk_at dksX1_init_2 0 rfl rfl)
theorem dX1_init_48 : decode cX1_init 48 = .ok (.ifCond .eq 35, 3) := dk_153 0 35 (dk_at dksX1_init_2 3 rfl rfl)
theorem dX1_init_51 : decode cX1_init 51 = .ok (.aload_n 0, 1) := dk_42 (dk_at dksX1_init_2 6 rfl rfl)
theorem dX1_init_52 : decode cX1_init 52 = .ok (.getfield 21, 3) := dk_180 0 21 (dk_at dksX1_init_2 7 rfl rfl)
theorem dX1_init_55 : decode cX1_init 55 = .ok (.aload_n 2, 1) := dk_44 (dk_at dksX1_init_2 10 rfl rfl)
theorem dX1_init_56 : decode cX1_init 56 = .ok (.aload_n 0, 1) := dk_42 (dk_at dksX1_init_2 11 rfl rfl)
theorem dX1_init_57 : decode cX1_init 57 = .ok (.getfield 12, 3) := dk_180 0 12 (dk_at dksX1_init_2 12 rfl rfl)
theorem dX1_init_60 : decode cX1_init 60 = .ok (.invokeinterface 34 1, 5) := by decide +kernel
theorem dX1_init_65 : decode cX1_init 65 = .ok (.invokestatic 40, 3) := dk_184 0 40 (dk_at dksX1_init_2 20 rfl rfl)
theorem dX1_init_68 : decode cX1_init 68 = .ok (.invokevirtual 46, 3) := dk_182 0 46 (dk_at dksX1_init_3 0 rfl rfl)
theorem dX1_init_71 : decode cX1_init 71 = .ok (.pop, 1) := dk_87 (dk_at dksX1_init_3 3 rfl rfl)
theorem dX1_init_72 : decode cX1_init 72 = .ok (.aload_n 0, 1) := dk_42 (dk_at dksX1_init_3 4 rfl rfl)
theorem dX1_init_73 : decode cX1_init 73 = .ok (.getfield 12, 3) := dk_180 0 12 (dk_at dksX1_init_3 5 rfl rfl)
theorem dX1_init_76 : decode cX1_init 76 = .ok (.aload_n 2, 1) := dk_44 (dk_at dksX1_init_3 8 rfl rfl)
theorem dX1_init_77 : decode cX1_init 77 = .ok (.invokeinterface 50 2, 5) := by decide +kernel
theorem dX1_init_82 : decode cX1_init 82 = .ok (.pop, 1) := dk_87 (dk_at dksX1_init_3 14 rfl rfl)
theorem dX1_init_83 : decode cX1_init 83 = .ok (.iinc 1 1, 3) := dk_132 1 1 (dk_at dksX1_init_3 15 rfl rfl)
theorem dX1_init_86 : decode cX1_init 86 = .ok (.goto (-58), 3) := dk_167 255 198 (dk_at dksX1_init_3 18 rfl rfl)
theorem dX1_init_89 : decode cX1_init 89 = .ok (.return_, 1) := dk_177 (dk_at dksX1_init_3 21 rfl rfl)
abbrev cX1_shape : ByteArray := prog_2_method_3_code
def yX1_shape : MethodName := ⟨RX1, "shape", "(LCoastTiles$Mask;)I"⟩
def dkwX1_shape_1 : List UInt8 := [182, 0, 61, 172]
abbrev dktX1_shape_1 : List UInt8 := dkwX1_shape_1 ++ []
def dkwX1_shape_0 : List UInt8 := [42, 180, 0, 21, 43, 182, 0, 58, 192, 0, 41, 77, 44, 199, 0, 8, 16, 250, 167, 0, 7, 44]
abbrev dktX1_shape_0 : List UInt8 := dkwX1_shape_0 ++ dktX1_shape_1
theorem dksX1_shape_0 : cX1_shape.data.toList.drop 0 = dktX1_shape_0 := by decide +kernel
theorem dksX1_shape_1 : cX1_shape.data.toList.drop 22 = dktX1_shape_1 := dk_seg dksX1_shape_0 22 rfl rfl
theorem dX1_shape_0 : decode cX1_shape 0 = .ok (.aload_n 0, 1) := dk_42 (dk_at dksX1_shape_0 0 rfl rfl)
theorem dX1_shape_1 : decode cX1_shape 1 = .ok (.getfield 21, 3) := dk_180 0 21 (dk_at dksX1_shape_0 1 rfl rfl)
theorem dX1_shape_4 : decode cX1_shape 4 = .ok (.aload_n 1, 1) := dk_43 (dk_at dksX1_shape_0 4 rfl rfl)
theorem dX1_shape_5 : decode cX1_shape 5 = .ok (.invokevirtual 58, 3) := dk_182 0 58 (dk_at dksX1_shape_0 5 rfl rfl)
theorem dX1_shape_8 : decode cX1_shape 8 = .ok (.checkcast 41, 3) := dk_192 0 41 (dk_at dksX1_shape_0 8 rfl rfl)
theorem dX1_shape_11 : decode cX1_shape 11 = .ok (.astore_n 2, 1) := dk_77 (dk_at dksX1_shape_0 11 rfl rfl)
theorem dX1_shape_12 : decode cX1_shape 12 = .ok (.aload_n 2, 1) := dk_44 (dk_at dksX1_shape_0 12 rfl rfl)
theorem dX1_shape_13 : decode cX1_shape 13 = .ok (.ifnonnull 8, 3) := dk_199 0 8 (dk_at dksX1_shape_0 13 rfl rfl)
theorem dX1_shape_16 : decode cX1_shape 16 = .ok (.bipush (-6), 2) := dk_16 250 (dk_at dksX1_shape_0 16 rfl rfl)
theorem dX1_shape_18 : decode cX1_shape 18 = .ok (.goto 7, 3) := dk_167 0 7 (dk_at dksX1_shape_0 18 rfl rfl)
theorem dX1_shape_21 : decode cX1_shape 21 = .ok (.aload_n 2, 1) := dk_44 (dk_at dksX1_shape_0 21 rfl rfl)
theorem dX1_shape_22 : decode cX1_shape 22 = .ok (.invokevirtual 61, 3) := dk_182 0 61 (dk_at dksX1_shape_1 0 rfl rfl)
theorem dX1_shape_25 : decode cX1_shape 25 = .ok (.ireturn, 1) := dk_172 (dk_at dksX1_shape_1 3 rfl rfl)
abbrev cX1_mask : ByteArray := prog_2_method_2_code
def yX1_mask : MethodName := ⟨RX1, "mask", "(I)LCoastTiles$Mask;"⟩
def dkwX1_mask_0 : List UInt8 := [42, 180, 0, 12, 27, 185, 0, 54, 2, 0, 192, 0, 25, 176]
abbrev dktX1_mask_0 : List UInt8 := dkwX1_mask_0 ++ []
theorem dksX1_mask_0 : cX1_mask.data.toList.drop 0 = dktX1_mask_0 := by decide +kernel
theorem dX1_mask_0 : decode cX1_mask 0 = .ok (.aload_n 0, 1) := dk_42 (dk_at dksX1_mask_0 0 rfl rfl)
theorem dX1_mask_1 : decode cX1_mask 1 = .ok (.getfield 12, 3) := dk_180 0 12 (dk_at dksX1_mask_0 1 rfl rfl)
theorem dX1_mask_4 : decode cX1_mask 4 = .ok (.iload_n 1, 1) := dk_27 (dk_at dksX1_mask_0 4 rfl rfl)
theorem dX1_mask_5 : decode cX1_mask 5 = .ok (.invokeinterface 54 2, 5) := by decide +kernel
theorem dX1_mask_10 : decode cX1_mask 10 = .ok (.checkcast 25, 3) := dk_192 0 25 (dk_at dksX1_mask_0 10 rfl rfl)
theorem dX1_mask_13 : decode cX1_mask 13 = .ok (.areturn, 1) := dk_176 (dk_at dksX1_mask_0 13 rfl rfl)
theorem q65 : (Jvm.Cond.initialized "CoastTiles$Catalogue") ∈ lw_all := lw_g (lw_at lw_m1 2 rfl) rfl
theorem q121 : (Jvm.Cond.instantiable "CoastTiles$Catalogue" (2 : Nat)) ∈ lw_all := lw_g (lw_at lw_m1 58 rfl) rfl
theorem q123 : (Jvm.Cond.instanceMethod ({ cls := "CoastTiles$Catalogue", name := "<init>", desc := "()V" } : Jvm.MethodName)) ∈ lw_all := lw_g (lw_at lw_m1 60 rfl) rfl
theorem q124 : (Jvm.Cond.code ({ cls := "CoastTiles$Catalogue", name := "<init>", desc := "()V" } : Jvm.MethodName) prog_2_method_1_code (3 : Nat) (Option.none : Option Jvm.ClassFile.FieldType)) ∈ lw_all := lw_g (lw_at lw_m1 61 rfl) rfl
theorem q125 : (Jvm.Cond.methodLink "CoastTiles$Catalogue" (3 : Nat) ({ cls := "java/lang/Object", name := "<init>", desc := "()V" } : Jvm.MethodName)) ∈ lw_all := lw_g (lw_at lw_m1 62 rfl) rfl
theorem q126 : (Jvm.Cond.classLink "CoastTiles$Catalogue" (9 : Nat) "java/util/ArrayList") ∈ lw_all := lw_g (lw_at lw_m1 63 rfl) rfl
theorem q128 : (Jvm.Cond.methodLink "CoastTiles$Catalogue" (11 : Nat) ({ cls := "java/util/ArrayList", name := "<init>", desc := "()V" } : Jvm.MethodName)) ∈ lw_all := lw_g (lw_at lw_m1 65 rfl) rfl
theorem q159 : (Jvm.Cond.classLink "CoastTiles$Catalogue" (18 : Nat) "java/util/HashMap") ∈ lw_all := lw_g (lw_at lw_m1 96 rfl) rfl
theorem q161 : (Jvm.Cond.methodLink "CoastTiles$Catalogue" (20 : Nat) ({ cls := "java/util/HashMap", name := "<init>", desc := "()V" } : Jvm.MethodName)) ∈ lw_all := lw_g (lw_at lw_m1 98 rfl) rfl
theorem q191 : (Jvm.Cond.classLink "CoastTiles$Catalogue" (25 : Nat) "CoastTiles$Mask") ∈ lw_all := lw_g (lw_at lw_m1 128 rfl) rfl
theorem q193 : (Jvm.Cond.methodLink "CoastTiles$Catalogue" (27 : Nat) ({ cls := "CoastTiles$Mask", name := "<init>", desc := "(I)V" } : Jvm.MethodName)) ∈ lw_all := lw_g (lw_at lw_m1 130 rfl) rfl
theorem q202 : (Jvm.Cond.methodLink "CoastTiles$Catalogue" (30 : Nat) ({ cls := "CoastTiles$Mask", name := "isRegular", desc := "()Z" } : Jvm.MethodName)) ∈ lw_all := lw_g (lw_at lw_m1 139 rfl) rfl
theorem q220 : (Jvm.Cond.interfaceEntry "CoastTiles$Catalogue" (34 : Nat)) ∈ lw_tbl := lw_at lw_m1 157 rfl
theorem q221 : (Jvm.Cond.methodLink "CoastTiles$Catalogue" (34 : Nat) ({ cls := "java/util/List", name := "size", desc := "()I" } : Jvm.MethodName)) ∈ lw_all := lw_g (lw_at lw_m1 158 rfl) rfl
theorem q236 : (Jvm.Cond.methodLink "CoastTiles$Catalogue" (40 : Nat) ({ cls := "java/lang/Integer", name := "valueOf", desc := "(I)Ljava/lang/Integer;" } : Jvm.MethodName)) ∈ lw_all := lw_g (lw_at lw_m1 173 rfl) rfl
theorem q256 : (Jvm.Cond.methodLink "CoastTiles$Catalogue" (46 : Nat) ({ cls := "java/util/HashMap", name := "put", desc := "(Ljava/lang/Object;Ljava/lang/Object;)Ljava/lang/Object;" } : Jvm.MethodName)) ∈ lw_all := lw_g (lw_at lw_m1 193 rfl) rfl
theorem q268 : (Jvm.Cond.selects "CoastTiles$Catalogue" ({ cls := "java/lang/Object", name := "hashCode", desc := "()I" } : Jvm.MethodName) ({ cls := "java/lang/Object", name := "hashCode", desc := "()I" } : Jvm.MethodName)) ∈ lw_all := lw_g (lw_at lw_m1 205 rfl) rfl
theorem q422 : (Jvm.Cond.selects "CoastTiles$Catalogue" ({ cls := "java/lang/Object", name := "getClass", desc := "()Ljava/lang/Class;" } : Jvm.MethodName) ({ cls := "java/lang/Object", name := "getClass", desc := "()Ljava/lang/Class;" } : Jvm.MethodName)) ∈ lw_all := lw_g (lw_at lw_m2 119 rfl) rfl
theorem q688 : (Jvm.Cond.selects "CoastTiles$Catalogue" ({ cls := "java/lang/Object", name := "equals", desc := "(Ljava/lang/Object;)Z" } : Jvm.MethodName) ({ cls := "java/lang/Object", name := "equals", desc := "(Ljava/lang/Object;)Z" } : Jvm.MethodName)) ∈ lw_all := lw_g (lw_at lw_m3 145 rfl) rfl
theorem q779 : (Jvm.Cond.interfaceEntry "CoastTiles$Catalogue" (50 : Nat)) ∈ lw_tbl := lw_at lw_m3 236 rfl
theorem q780 : (Jvm.Cond.methodLink "CoastTiles$Catalogue" (50 : Nat) ({ cls := "java/util/List", name := "add", desc := "(Ljava/lang/Object;)Z" } : Jvm.MethodName)) ∈ lw_all := lw_g (lw_at lw_m3 237 rfl) rfl
theorem q856 : (Jvm.Cond.fieldLink "CoastTiles$Catalogue" (12 : Nat) "CoastTiles$Catalogue" "masks" "Ljava/util/List;") ∈ lw_all := lw_g (lw_at lw_m4 73 rfl) rfl
theorem q857 : (Jvm.Cond.fieldLink "CoastTiles$Catalogue" (21 : Nat) "CoastTiles$Catalogue" "numbers" "Ljava/util/HashMap;") ∈ lw_all := lw_g (lw_at lw_m4 74 rfl) rfl
theorem q858 : (Jvm.Cond.laysFinal "CoastTiles$Catalogue" "CoastTiles$Catalogue" "masks" "Ljava/util/List;") ∈ lw_all := lw_g (lw_at lw_m4 75 rfl) rfl
theorem q859 : (Jvm.Cond.soleField "CoastTiles$Catalogue" "masks") ∈ lw_all := lw_g (lw_at lw_m4 76 rfl) rfl
theorem q860 : (Jvm.Cond.laysFinal "CoastTiles$Catalogue" "CoastTiles$Catalogue" "numbers" "Ljava/util/HashMap;") ∈ lw_all := lw_g (lw_at lw_m4 77 rfl) rfl
theorem q861 : (Jvm.Cond.soleField "CoastTiles$Catalogue" "numbers") ∈ lw_all := lw_g (lw_at lw_m4 78 rfl) rfl
theorem q862 : (Jvm.Cond.superclass "CoastTiles$Catalogue" "java/lang/Object") ∈ lw_all := lw_g (lw_at lw_m4 79 rfl) rfl
theorem q1064 : (Jvm.Cond.instanceMethod ({ cls := "CoastTiles$Catalogue", name := "shape", desc := "(LCoastTiles$Mask;)I" } : Jvm.MethodName)) ∈ lw_all := lw_g (lw_at lw_m5 41 rfl) rfl
theorem q1065 : (Jvm.Cond.selects "CoastTiles$Catalogue" ({ cls := "CoastTiles$Catalogue", name := "shape", desc := "(LCoastTiles$Mask;)I" } : Jvm.MethodName) ({ cls := "CoastTiles$Catalogue", name := "shape", desc := "(LCoastTiles$Mask;)I" } : Jvm.MethodName)) ∈ lw_all := lw_g (lw_at lw_m5 42 rfl) rfl
theorem q1066 : (Jvm.Cond.code ({ cls := "CoastTiles$Catalogue", name := "shape", desc := "(LCoastTiles$Mask;)I" } : Jvm.MethodName) prog_2_method_3_code (3 : Nat) (Option.some Jvm.ClassFile.FieldType.int)) ∈ lw_all := lw_g (lw_at lw_m5 43 rfl) rfl
theorem q1067 : (Jvm.Cond.methodLink "CoastTiles$Catalogue" (58 : Nat) ({ cls := "java/util/HashMap", name := "get", desc := "(Ljava/lang/Object;)Ljava/lang/Object;" } : Jvm.MethodName)) ∈ lw_all := lw_g (lw_at lw_m5 44 rfl) rfl
theorem q1079 : (Jvm.Cond.classLink "CoastTiles$Catalogue" (41 : Nat) "java/lang/Integer") ∈ lw_all := lw_g (lw_at lw_m5 56 rfl) rfl
theorem q1080 : (Jvm.Cond.methodLink "CoastTiles$Catalogue" (61 : Nat) ({ cls := "java/lang/Integer", name := "intValue", desc := "()I" } : Jvm.MethodName)) ∈ lw_all := lw_g (lw_at lw_m5 57 rfl) rfl
theorem q1297 : (Jvm.Cond.instanceMethod ({ cls := "CoastTiles$Catalogue", name := "mask", desc := "(I)LCoastTiles$Mask;" } : Jvm.MethodName)) ∈ lw_all := lw_g (lw_at lw_m6 34 rfl) rfl
theorem q1298 : (Jvm.Cond.selects "CoastTiles$Catalogue" ({ cls := "CoastTiles$Catalogue", name := "mask", desc := "(I)LCoastTiles$Mask;" } : Jvm.MethodName) ({ cls := "CoastTiles$Catalogue", name := "mask", desc := "(I)LCoastTiles$Mask;" } : Jvm.MethodName)) ∈ lw_all := lw_g (lw_at lw_m6 35 rfl) rfl
theorem q1299 : (Jvm.Cond.code ({ cls := "CoastTiles$Catalogue", name := "mask", desc := "(I)LCoastTiles$Mask;" } : Jvm.MethodName) prog_2_method_2_code (2 : Nat) (Option.some (Jvm.ClassFile.FieldType.object "CoastTiles$Mask"))) ∈ lw_all := lw_g (lw_at lw_m6 36 rfl) rfl
theorem q1300 : (Jvm.Cond.interfaceEntry "CoastTiles$Catalogue" (54 : Nat)) ∈ lw_tbl := lw_at lw_m6 37 rfl
theorem q1301 : (Jvm.Cond.methodLink "CoastTiles$Catalogue" (54 : Nat) ({ cls := "java/util/List", name := "get", desc := "(I)Ljava/lang/Object;" } : Jvm.MethodName)) ∈ lw_all := lw_g (lw_at lw_m6 38 rfl) rfl
theorem q2497 : (Jvm.Cond.castable "CoastTiles$Catalogue" "java/lang/Object") ∈ lw_tbl := lw_at lw_m11 34 rfl
theorem in_X1 : ∀ w ∈ wsX10, w ∈ lw_all := lw_in wsX10 [858, 860] (by decide +kernel) (by decide +kernel)
/-! CoastTiles$Mask -/
set_option maxRecDepth 100000
def RX2 : String := "CoastTiles$Mask"
def TX2 : u_T := fun k => match k with
  | _ => ("CoastTiles$Mask", "bits", "I", true)
def tyX2 : Nat → FieldType := fun k => match k with
  | _ => .int
abbrev wsX20 : List Cond := u_ws RX2 TX2 1
theorem nmX2 : ∀ a, a < 1 → ∀ b, b < 1 → a ≠ b → (TX2 a).2.1 ≠ (TX2 b).2.1 := by decide +kernel
theorem tyX2_ok : ∀ k, k < 1 → parseFieldDescriptor (TX2 k).2.2.1 = some (tyX2 k) := by decide +kernel
abbrev cX2_init : ByteArray := prog_6_method_1_code
def yX2_init : MethodName := ⟨RX2, "<init>", "(I)V"⟩
def dkwX2_init_0 : List UInt8 := [42, 183, 0, 3, 42, 27, 181, 0, 9, 177]
abbrev dktX2_init_0 : List UInt8 := dkwX2_init_0 ++ []
theorem dksX2_init_0 : cX2_init.data.toList.drop 0 = dktX2_init_0 := by decide +kernel
theorem dX2_init_0 : decode cX2_init 0 = .ok (.aload_n 0, 1) := dk_42 (dk_at dksX2_init_0 0 rfl rfl)
theorem dX2_init_1 : decode cX2_init 1 = .ok (.invokespecial 3, 3) := dk_183 0 3 (dk_at dksX2_init_0 1 rfl rfl)
theorem dX2_init_4 : decode cX2_init 4 = .ok (.aload_n 0, 1) := dk_42 (dk_at dksX2_init_0 4 rfl rfl)
theorem dX2_init_5 : decode cX2_init 5 = .ok (.iload_n 1, 1) := dk_27 (dk_at dksX2_init_0 5 rfl rfl)
theorem dX2_init_6 : decode cX2_init 6 = .ok (.putfield 9, 3) := dk_181 0 9 (dk_at dksX2_init_0 6 rfl rfl)
theorem dX2_init_9 : decode cX2_init 9 = .ok (.return_, 1) := dk_177 (dk_at dksX2_init_0 9 rfl rfl)
abbrev cX2_isRegular : ByteArray := prog_6_method_4_code
def yX2_isRegular : MethodName := ⟨RX2, "isRegular", "()Z"⟩
def dkwX2_isRegular_0 : List UInt8 := [42, 182, 0, 22, 42, 182, 0, 26, 172]
abbrev dktX2_isRegular_0 : List UInt8 := dkwX2_isRegular_0 ++ []
theorem dksX2_isRegular_0 : cX2_isRegular.data.toList.drop 0 = dktX2_isRegular_0 := by decide +kernel
theorem dX2_isRegular_0 : decode cX2_isRegular 0 = .ok (.aload_n 0, 1) := dk_42 (dk_at dksX2_isRegular_0 0 rfl rfl)
theorem dX2_isRegular_1 : decode cX2_isRegular 1 = .ok (.invokevirtual 22, 3) := dk_182 0 22 (dk_at dksX2_isRegular_0 1 rfl rfl)
theorem dX2_isRegular_4 : decode cX2_isRegular 4 = .ok (.aload_n 0, 1) := dk_42 (dk_at dksX2_isRegular_0 4 rfl rfl)
theorem dX2_isRegular_5 : decode cX2_isRegular 5 = .ok (.invokevirtual 26, 3) := dk_182 0 26 (dk_at dksX2_isRegular_0 5 rfl rfl)
theorem dX2_isRegular_8 : decode cX2_isRegular 8 = .ok (.ireturn, 1) := dk_172 (dk_at dksX2_isRegular_0 8 rfl rfl)
abbrev cX2_regular : ByteArray := prog_6_method_3_code
def yX2_regular : MethodName := ⟨RX2, "regular", "()LCoastTiles$Mask;"⟩
def dkwX2_regular_2 : List UInt8 := [187, 0, 10, 89, 27, 183, 0, 19, 176]
abbrev dktX2_regular_2 : List UInt8 := dkwX2_regular_2 ++ []
def dkwX2_regular_1 : List UInt8 := [28, 4, 96, 182, 0, 15, 154, 0, 11, 27, 4, 28, 120, 2, 130, 126, 60, 132, 2, 2, 167, 255, 219]
abbrev dktX2_regular_1 : List UInt8 := dkwX2_regular_1 ++ dktX2_regular_2
def dkwX2_regular_0 : List UInt8 := [42, 180, 0, 9, 60, 4, 61, 28, 16, 8, 162, 0, 37, 42, 28, 4, 100, 182, 0, 15, 153, 0, 13, 42]
abbrev dktX2_regular_0 : List UInt8 := dkwX2_regular_0 ++ dktX2_regular_1
theorem dksX2_regular_0 : cX2_regular.data.toList.drop 0 = dktX2_regular_0 := by decide +kernel
theorem dksX2_regular_1 : cX2_regular.data.toList.drop 24 = dktX2_regular_1 := dk_seg dksX2_regular_0 24 rfl rfl
theorem dksX2_regular_2 : cX2_regular.data.toList.drop 47 = dktX2_regular_2 := dk_seg dksX2_regular_1 23 rfl rfl
theorem dX2_regular_0 : decode cX2_regular 0 = .ok (.aload_n 0, 1) := dk_42 (dk_at dksX2_regular_0 0 rfl rfl)
theorem dX2_regular_1 : decode cX2_regular 1 = .ok (.getfield 9, 3) := dk_180 0 9 (dk_at dksX2_regular_0 1 rfl rfl)
theorem dX2_regular_4 : decode cX2_regular 4 = .ok (.istore_n 1, 1) := dk_60 (dk_at dksX2_regular_0 4 rfl rfl)
theorem dX2_regular_5 : decode cX2_regular 5 = .ok (.iconst 1, 1) := dk_4 (dk_at dksX2_regular_0 5 rfl rfl)
theorem dX2_regular_6 : decode cX2_regular 6 = .ok (.istore_n 2, 1) := dk_61 (dk_at dksX2_regular_0 6 rfl rfl)
theorem dX2_regular_7 : decode cX2_regular 7 = .ok (.iload_n 2, 1) := dk_28 (dk_at dksX2_regular_0 7 rfl rfl)
theorem dX2_regular_8 : decode cX2_regular 8 = .ok (.bipush 8, 2) := dk_16 8 (dk_at dksX2_regular_0 8 rfl rfl)
theorem dX2_regular_10 : decode cX2_regular 10 = .ok (.if_icmp .ge 37, 3) := dk_162 0 37 (dk_at dksX2_regular_0 10 rfl rfl)
theorem dX2_regular_13 : decode cX2_regular 13 = .ok (.aload_n 0, 1) := dk_42 (dk_at dksX2_regular_0 13 rfl rfl)
theorem dX2_regular_14 : decode cX2_regular 14 = .ok (.iload_n 2, 1) := dk_28 (dk_at dksX2_regular_0 14 rfl rfl)
theorem dX2_regular_15 : decode cX2_regular 15 = .ok (.iconst 1, 1) := dk_4 (dk_at dksX2_regular_0 15 rfl rfl)
theorem dX2_regular_16 : decode cX2_regular 16 = .ok (.isub, 1) := dk_100 (dk_at dksX2_regular_0 16 rfl rfl)
theorem dX2_regular_17 : decode cX2_regular 17 = .ok (.invokevirtual 15, 3) := dk_182 0 15 (dk_at dksX2_regular_0 17 rfl rfl)
theorem dX2_regular_20 : decode cX2_regular 20 = .ok (.ifCond .eq 13, 3) := dk_153 0 13 (dk_at dksX2_regular_0 20 rfl rfl)
theorem dX2_regular_23 : decode cX2_regular 23 = .ok (.aload_n 0, 1) := dk_42 (dk_at dksX2_regular_0 23 rfl rfl)
theorem dX2_regular_24 : decode cX2_regular 24 = .ok (.iload_n 2, 1) := dk_28 (dk_at dksX2_regular_1 0 rfl rfl)
theorem dX2_regular_25 : decode cX2_regular 25 = .ok (.iconst 1, 1) := dk_4 (dk_at dksX2_regular_1 1 rfl rfl)
theorem dX2_regular_26 : decode cX2_regular 26 = .ok (.iadd, 1) := dk_96 (dk_at dksX2_regular_1 2 rfl rfl)
theorem dX2_regular_27 : decode cX2_regular 27 = .ok (.invokevirtual 15, 3) := dk_182 0 15 (dk_at dksX2_regular_1 3 rfl rfl)
theorem dX2_regular_30 : decode cX2_regular 30 = .ok (.ifCond .ne 11, 3) := dk_154 0 11 (dk_at dksX2_regular_1 6 rfl rfl)
theorem dX2_regular_33 : decode cX2_regular 33 = .ok (.iload_n 1, 1) := dk_27 (dk_at dksX2_regular_1 9 rfl rfl)
theorem dX2_regular_34 : decode cX2_regular 34 = .ok (.iconst 1, 1) := dk_4 (dk_at dksX2_regular_1 10 rfl rfl)
theorem dX2_regular_35 : decode cX2_regular 35 = .ok (.iload_n 2, 1) := dk_28 (dk_at dksX2_regular_1 11 rfl rfl)
theorem dX2_regular_36 : decode cX2_regular 36 = .ok (.ishl, 1) := dk_120 (dk_at dksX2_regular_1 12 rfl rfl)
theorem dX2_regular_37 : decode cX2_regular 37 = .ok (.iconst (-1), 1) := dk_2 (dk_at dksX2_regular_1 13 rfl rfl)
theorem dX2_regular_38 : decode cX2_regular 38 = .ok (.ixor, 1) := dk_130 (dk_at dksX2_regular_1 14 rfl rfl)
theorem dX2_regular_39 : decode cX2_regular 39 = .ok (.iand, 1) := dk_126 (dk_at dksX2_regular_1 15 rfl rfl)
theorem dX2_regular_40 : decode cX2_regular 40 = .ok (.istore_n 1, 1) := dk_60 (dk_at dksX2_regular_1 16 rfl rfl)
theorem dX2_regular_41 : decode cX2_regular 41 = .ok (.iinc 2 2, 3) := dk_132 2 2 (dk_at dksX2_regular_1 17 rfl rfl)
theorem dX2_regular_44 : decode cX2_regular 44 = .ok (.goto (-37), 3) := dk_167 255 219 (dk_at dksX2_regular_1 20 rfl rfl)
theorem dX2_regular_47 : decode cX2_regular 47 = .ok (.new 10, 3) := dk_187 0 10 (dk_at dksX2_regular_2 0 rfl rfl)
theorem dX2_regular_50 : decode cX2_regular 50 = .ok (.dup, 1) := dk_89 (dk_at dksX2_regular_2 3 rfl rfl)
theorem dX2_regular_51 : decode cX2_regular 51 = .ok (.iload_n 1, 1) := dk_27 (dk_at dksX2_regular_2 4 rfl rfl)
theorem dX2_regular_52 : decode cX2_regular 52 = .ok (.invokespecial 19, 3) := dk_183 0 19 (dk_at dksX2_regular_2 5 rfl rfl)
theorem dX2_regular_55 : decode cX2_regular 55 = .ok (.areturn, 1) := dk_176 (dk_at dksX2_regular_2 8 rfl rfl)
abbrev cX2_has : ByteArray := prog_6_method_2_code
def yX2_has : MethodName := ⟨RX2, "has", "(I)Z"⟩
def dkwX2_has_0 : List UInt8 := [42, 180, 0, 9, 27, 16, 7, 126, 122, 4, 126, 4, 160, 0, 7, 4, 167, 0, 4, 3, 172]
abbrev dktX2_has_0 : List UInt8 := dkwX2_has_0 ++ []
theorem dksX2_has_0 : cX2_has.data.toList.drop 0 = dktX2_has_0 := by decide +kernel
theorem dX2_has_0 : decode cX2_has 0 = .ok (.aload_n 0, 1) := dk_42 (dk_at dksX2_has_0 0 rfl rfl)
theorem dX2_has_1 : decode cX2_has 1 = .ok (.getfield 9, 3) := dk_180 0 9 (dk_at dksX2_has_0 1 rfl rfl)
theorem dX2_has_4 : decode cX2_has 4 = .ok (.iload_n 1, 1) := dk_27 (dk_at dksX2_has_0 4 rfl rfl)
theorem dX2_has_5 : decode cX2_has 5 = .ok (.bipush 7, 2) := dk_16 7 (dk_at dksX2_has_0 5 rfl rfl)
theorem dX2_has_7 : decode cX2_has 7 = .ok (.iand, 1) := dk_126 (dk_at dksX2_has_0 7 rfl rfl)
theorem dX2_has_8 : decode cX2_has 8 = .ok (.ishr, 1) := dk_122 (dk_at dksX2_has_0 8 rfl rfl)
theorem dX2_has_9 : decode cX2_has 9 = .ok (.iconst 1, 1) := dk_4 (dk_at dksX2_has_0 9 rfl rfl)
theorem dX2_has_10 : decode cX2_has 10 = .ok (.iand, 1) := dk_126 (dk_at dksX2_has_0 10 rfl rfl)
theorem dX2_has_11 : decode cX2_has 11 = .ok (.iconst 1, 1) := dk_4 (dk_at dksX2_has_0 11 rfl rfl)
theorem dX2_has_12 : decode cX2_has 12 = .ok (.if_icmp .ne 7, 3) := dk_160 0 7 (dk_at dksX2_has_0 12 rfl rfl)
theorem dX2_has_15 : decode cX2_has 15 = .ok (.iconst 1, 1) := dk_4 (dk_at dksX2_has_0 15 rfl rfl)
theorem dX2_has_16 : decode cX2_has 16 = .ok (.goto 4, 3) := dk_167 0 4 (dk_at dksX2_has_0 16 rfl rfl)
theorem dX2_has_19 : decode cX2_has 19 = .ok (.iconst 0, 1) := dk_3 (dk_at dksX2_has_0 19 rfl rfl)
theorem dX2_has_20 : decode cX2_has 20 = .ok (.ireturn, 1) := dk_172 (dk_at dksX2_has_0 20 rfl rfl)
abbrev cX2_equals : ByteArray := prog_6_method_8_code
def yX2_equals : MethodName := ⟨RX2, "equals", "(Ljava/lang/Object;)Z"⟩
def dkwX2_equals_1 : List UInt8 := [167, 0, 4, 3, 172]
abbrev dktX2_equals_1 : List UInt8 := dkwX2_equals_1 ++ []
def dkwX2_equals_0 : List UInt8 := [43, 193, 0, 10, 153, 0, 21, 43, 192, 0, 10, 180, 0, 9, 42, 180, 0, 9, 160, 0, 7, 4]
abbrev dktX2_equals_0 : List UInt8 := dkwX2_equals_0 ++ dktX2_equals_1
theorem dksX2_equals_0 : cX2_equals.data.toList.drop 0 = dktX2_equals_0 := by decide +kernel
theorem dksX2_equals_1 : cX2_equals.data.toList.drop 22 = dktX2_equals_1 := dk_seg dksX2_equals_0 22 rfl rfl
theorem dX2_equals_0 : decode cX2_equals 0 = .ok (.aload_n 1, 1) := dk_43 (dk_at dksX2_equals_0 0 rfl rfl)
theorem dX2_equals_1 : decode cX2_equals 1 = .ok (.instanceof 10, 3) := dk_193 0 10 (dk_at dksX2_equals_0 1 rfl rfl)
theorem dX2_equals_4 : decode cX2_equals 4 = .ok (.ifCond .eq 21, 3) := dk_153 0 21 (dk_at dksX2_equals_0 4 rfl rfl)
theorem dX2_equals_7 : decode cX2_equals 7 = .ok (.aload_n 1, 1) := dk_43 (dk_at dksX2_equals_0 7 rfl rfl)
theorem dX2_equals_8 : decode cX2_equals 8 = .ok (.checkcast 10, 3) := dk_192 0 10 (dk_at dksX2_equals_0 8 rfl rfl)
theorem dX2_equals_11 : decode cX2_equals 11 = .ok (.getfield 9, 3) := dk_180 0 9 (dk_at dksX2_equals_0 11 rfl rfl)
theorem dX2_equals_14 : decode cX2_equals 14 = .ok (.aload_n 0, 1) := dk_42 (dk_at dksX2_equals_0 14 rfl rfl)
theorem dX2_equals_15 : decode cX2_equals 15 = .ok (.getfield 9, 3) := dk_180 0 9 (dk_at dksX2_equals_0 15 rfl rfl)
theorem dX2_equals_18 : decode cX2_equals 18 = .ok (.if_icmp .ne 7, 3) := dk_160 0 7 (dk_at dksX2_equals_0 18 rfl rfl)
theorem dX2_equals_21 : decode cX2_equals 21 = .ok (.iconst 1, 1) := dk_4 (dk_at dksX2_equals_0 21 rfl rfl)
theorem dX2_equals_22 : decode cX2_equals 22 = .ok (.goto 4, 3) := dk_167 0 4 (dk_at dksX2_equals_1 0 rfl rfl)
theorem dX2_equals_25 : decode cX2_equals 25 = .ok (.iconst 0, 1) := dk_3 (dk_at dksX2_equals_1 3 rfl rfl)
theorem dX2_equals_26 : decode cX2_equals 26 = .ok (.ireturn, 1) := dk_172 (dk_at dksX2_equals_1 4 rfl rfl)
abbrev cX2_hashCode : ByteArray := prog_6_method_9_code
def yX2_hashCode : MethodName := ⟨RX2, "hashCode", "()I"⟩
theorem dX2_hashCode_0 : decode cX2_hashCode 0 = .ok (.aload_n 0, 1) := by decide +kernel
theorem dX2_hashCode_1 : decode cX2_hashCode 1 = .ok (.getfield 9, 3) := by decide +kernel
theorem dX2_hashCode_4 : decode cX2_hashCode 4 = .ok (.ireturn, 1) := by decide +kernel
abbrev cX2_turned : ByteArray := prog_6_method_5_code
def yX2_turned : MethodName := ⟨RX2, "turned", "(I)LCoastTiles$Mask;"⟩
def dkwX2_turned_1 : List UInt8 := [183, 0, 19, 176]
abbrev dktX2_turned_1 : List UInt8 := dkwX2_turned_1 ++ []
def dkwX2_turned_0 : List UInt8 := [42, 180, 0, 9, 5, 27, 104, 120, 61, 187, 0, 10, 89, 28, 28, 16, 8, 122, 128, 17, 0, 255, 126]
abbrev dktX2_turned_0 : List UInt8 := dkwX2_turned_0 ++ dktX2_turned_1
theorem dksX2_turned_0 : cX2_turned.data.toList.drop 0 = dktX2_turned_0 := by decide +kernel
theorem dksX2_turned_1 : cX2_turned.data.toList.drop 23 = dktX2_turned_1 := dk_seg dksX2_turned_0 23 rfl rfl
theorem dX2_turned_0 : decode cX2_turned 0 = .ok (.aload_n 0, 1) := dk_42 (dk_at dksX2_turned_0 0 rfl rfl)
theorem dX2_turned_1 : decode cX2_turned 1 = .ok (.getfield 9, 3) := dk_180 0 9 (dk_at dksX2_turned_0 1 rfl rfl)
theorem dX2_turned_4 : decode cX2_turned 4 = .ok (.iconst 2, 1) := dk_5 (dk_at dksX2_turned_0 4 rfl rfl)
theorem dX2_turned_5 : decode cX2_turned 5 = .ok (.iload_n 1, 1) := dk_27 (dk_at dksX2_turned_0 5 rfl rfl)
theorem dX2_turned_6 : decode cX2_turned 6 = .ok (.imul, 1) := dk_104 (dk_at dksX2_turned_0 6 rfl rfl)
theorem dX2_turned_7 : decode cX2_turned 7 = .ok (.ishl, 1) := dk_120 (dk_at dksX2_turned_0 7 rfl rfl)
theorem dX2_turned_8 : decode cX2_turned 8 = .ok (.istore_n 2, 1) := dk_61 (dk_at dksX2_turned_0 8 rfl rfl)
theorem dX2_turned_9 : decode cX2_turned 9 = .ok (.new 10, 3) := dk_187 0 10 (dk_at dksX2_turned_0 9 rfl rfl)
theorem dX2_turned_12 : decode cX2_turned 12 = .ok (.dup, 1) := dk_89 (dk_at dksX2_turned_0 12 rfl rfl)
theorem dX2_turned_13 : decode cX2_turned 13 = .ok (.iload_n 2, 1) := dk_28 (dk_at dksX2_turned_0 13 rfl rfl)
theorem dX2_turned_14 : decode cX2_turned 14 = .ok (.iload_n 2, 1) := dk_28 (dk_at dksX2_turned_0 14 rfl rfl)
theorem dX2_turned_15 : decode cX2_turned 15 = .ok (.bipush 8, 2) := dk_16 8 (dk_at dksX2_turned_0 15 rfl rfl)
theorem dX2_turned_17 : decode cX2_turned 17 = .ok (.ishr, 1) := dk_122 (dk_at dksX2_turned_0 17 rfl rfl)
theorem dX2_turned_18 : decode cX2_turned 18 = .ok (.ior, 1) := dk_128 (dk_at dksX2_turned_0 18 rfl rfl)
theorem dX2_turned_19 : decode cX2_turned 19 = .ok (.sipush 255, 3) := dk_17 0 255 (dk_at dksX2_turned_0 19 rfl rfl)
theorem dX2_turned_22 : decode cX2_turned 22 = .ok (.iand, 1) := dk_126 (dk_at dksX2_turned_0 22 rfl rfl)
theorem dX2_turned_23 : decode cX2_turned 23 = .ok (.invokespecial 19, 3) := dk_183 0 19 (dk_at dksX2_turned_1 0 rfl rfl)
theorem dX2_turned_26 : decode cX2_turned 26 = .ok (.areturn, 1) := dk_176 (dk_at dksX2_turned_1 3 rfl rfl)
abbrev cX2_distance : ByteArray := prog_6_method_7_code
def yX2_distance : MethodName := ⟨RX2, "distance", "(LCoastTiles$Mask;)I"⟩
def dkwX2_distance_0 : List UInt8 := [42, 180, 0, 9, 43, 180, 0, 9, 130, 184, 0, 30, 172]
abbrev dktX2_distance_0 : List UInt8 := dkwX2_distance_0 ++ []
theorem dksX2_distance_0 : cX2_distance.data.toList.drop 0 = dktX2_distance_0 := by decide +kernel
theorem dX2_distance_0 : decode cX2_distance 0 = .ok (.aload_n 0, 1) := dk_42 (dk_at dksX2_distance_0 0 rfl rfl)
theorem dX2_distance_1 : decode cX2_distance 1 = .ok (.getfield 9, 3) := dk_180 0 9 (dk_at dksX2_distance_0 1 rfl rfl)
theorem dX2_distance_4 : decode cX2_distance 4 = .ok (.aload_n 1, 1) := dk_43 (dk_at dksX2_distance_0 4 rfl rfl)
theorem dX2_distance_5 : decode cX2_distance 5 = .ok (.getfield 9, 3) := dk_180 0 9 (dk_at dksX2_distance_0 5 rfl rfl)
theorem dX2_distance_8 : decode cX2_distance 8 = .ok (.ixor, 1) := dk_130 (dk_at dksX2_distance_0 8 rfl rfl)
theorem dX2_distance_9 : decode cX2_distance 9 = .ok (.invokestatic 30, 3) := dk_184 0 30 (dk_at dksX2_distance_0 9 rfl rfl)
theorem dX2_distance_12 : decode cX2_distance 12 = .ok (.ireturn, 1) := dk_172 (dk_at dksX2_distance_0 12 rfl rfl)
abbrev cX2_mirrored : ByteArray := prog_6_method_6_code
def yX2_mirrored : MethodName := ⟨RX2, "mirrored", "()LCoastTiles$Mask;"⟩
def dkwX2_mirrored_2 : List UInt8 := [176]
abbrev dktX2_mirrored_2 : List UInt8 := dkwX2_mirrored_2 ++ []
def dkwX2_mirrored_1 : List UInt8 := [16, 7, 126, 120, 167, 0, 4, 3, 128, 60, 132, 2, 1, 167, 255, 223, 187, 0, 10, 89, 27, 183, 0, 19]
abbrev dktX2_mirrored_1 : List UInt8 := dkwX2_mirrored_1 ++ dktX2_mirrored_2
def dkwX2_mirrored_0 : List UInt8 := [3, 60, 3, 61, 28, 16, 8, 162, 0, 33, 27, 42, 28, 182, 0, 15, 153, 0, 15, 4, 16, 8, 28, 100]
abbrev dktX2_mirrored_0 : List UInt8 := dkwX2_mirrored_0 ++ dktX2_mirrored_1
theorem dksX2_mirrored_0 : cX2_mirrored.data.toList.drop 0 = dktX2_mirrored_0 := by decide +kernel
theorem dksX2_mirrored_1 : cX2_mirrored.data.toList.drop 24 = dktX2_mirrored_1 := dk_seg dksX2_mirrored_0 24 rfl rfl
theorem dksX2_mirrored_2 : cX2_mirrored.data.toList.drop 48 = dktX2_mirrored_2 := dk_seg dksX2_mirrored_1 24 rfl rfl
theorem dX2_mirrored_0 : decode cX2_mirrored 0 = .ok (.iconst 0, 1) := dk_3 (dk_at dksX2_mirrored_0 0 rfl rfl)
theorem dX2_mirrored_1 : decode cX2_mirrored 1 = .ok (.istore_n 1, 1) := dk_60 (dk_at dksX2_mirrored_0 1 rfl rfl)
theorem dX2_mirrored_2 : decode cX2_mirrored 2 = .ok (.iconst 0, 1) := dk_3 (dk_at dksX2_mirrored_0 2 rfl rfl)
theorem dX2_mirrored_3 : decode cX2_mirrored 3 = .ok (.istore_n 2, 1) := dk_61 (dk_at dksX2_mirrored_0 3 rfl rfl)
theorem dX2_mirrored_4 : decode cX2_mirrored 4 = .ok (.iload_n 2, 1) := dk_28 (dk_at dksX2_mirrored_0 4 rfl rfl)
theorem dX2_mirrored_5 : decode cX2_mirrored 5 = .ok (.bipush 8, 2) := dk_16 8 (dk_at dksX2_mirrored_0 5 rfl rfl)
theorem dX2_mirrored_7 : decode cX2_mirrored 7 = .ok (.if_icmp .ge 33, 3) := dk_162 0 33 (dk_at dksX2_mirrored_0 7 rfl rfl)
theorem dX2_mirrored_10 : decode cX2_mirrored 10 = .ok (.iload_n 1, 1) := dk_27 (dk_at dksX2_mirrored_0 10 rfl rfl)
theorem dX2_mirrored_11 : decode cX2_mirrored 11 = .ok (.aload_n 0, 1) := dk_42 (dk_at dksX2_mirrored_0 11 rfl rfl)
theorem dX2_mirrored_12 : decode cX2_mirrored 12 = .ok (.iload_n 2, 1) := dk_28 (dk_at dksX2_mirrored_0 12 rfl rfl)
theorem dX2_mirrored_13 : decode cX2_mirrored 13 = .ok (.invokevirtual 15, 3) := dk_182 0 15 (dk_at dksX2_mirrored_0 13 rfl rfl)
theorem dX2_mirrored_16 : decode cX2_mirrored 16 = .ok (.ifCond .eq 15, 3) := dk_153 0 15 (dk_at dksX2_mirrored_0 16 rfl rfl)
theorem dX2_mirrored_19 : decode cX2_mirrored 19 = .ok (.iconst 1, 1) := dk_4 (dk_at dksX2_mirrored_0 19 rfl rfl)
theorem dX2_mirrored_20 : decode cX2_mirrored 20 = .ok (.bipush 8, 2) := dk_16 8 (dk_at dksX2_mirrored_0 20 rfl rfl)
theorem dX2_mirrored_22 : decode cX2_mirrored 22 = .ok (.iload_n 2, 1) := dk_28 (dk_at dksX2_mirrored_0 22 rfl rfl)
theorem dX2_mirrored_23 : decode cX2_mirrored 23 = .ok (.isub, 1) := dk_100 (dk_at dksX2_mirrored_0 23 rfl rfl)
theorem dX2_mirrored_24 : decode cX2_mirrored 24 = .ok (.bipush 7, 2) := dk_16 7 (dk_at dksX2_mirrored_1 0 rfl rfl)
theorem dX2_mirrored_26 : decode cX2_mirrored 26 = .ok (.iand, 1) := dk_126 (dk_at dksX2_mirrored_1 2 rfl rfl)
theorem dX2_mirrored_27 : decode cX2_mirrored 27 = .ok (.ishl, 1) := dk_120 (dk_at dksX2_mirrored_1 3 rfl rfl)
theorem dX2_mirrored_28 : decode cX2_mirrored 28 = .ok (.goto 4, 3) := dk_167 0 4 (dk_at dksX2_mirrored_1 4 rfl rfl)
theorem dX2_mirrored_31 : decode cX2_mirrored 31 = .ok (.iconst 0, 1) := dk_3 (dk_at dksX2_mirrored_1 7 rfl rfl)
theorem dX2_mirrored_32 : decode cX2_mirrored 32 = .ok (.ior, 1) := dk_128 (dk_at dksX2_mirrored_1 8 rfl rfl)
theorem dX2_mirrored_33 : decode cX2_mirrored 33 = .ok (.istore_n 1, 1) := dk_60 (dk_at dksX2_mirrored_1 9 rfl rfl)
theorem dX2_mirrored_34 : decode cX2_mirrored 34 = .ok (.iinc 2 1, 3) := dk_132 2 1 (dk_at dksX2_mirrored_1 10 rfl rfl)
theorem dX2_mirrored_37 : decode cX2_mirrored 37 = .ok (.goto (-33), 3) := dk_167 255 223 (dk_at dksX2_mirrored_1 13 rfl rfl)
theorem dX2_mirrored_40 : decode cX2_mirrored 40 = .ok (.new 10, 3) := dk_187 0 10 (dk_at dksX2_mirrored_1 16 rfl rfl)
theorem dX2_mirrored_43 : decode cX2_mirrored 43 = .ok (.dup, 1) := dk_89 (dk_at dksX2_mirrored_1 19 rfl rfl)
theorem dX2_mirrored_44 : decode cX2_mirrored 44 = .ok (.iload_n 1, 1) := dk_27 (dk_at dksX2_mirrored_1 20 rfl rfl)
theorem dX2_mirrored_45 : decode cX2_mirrored 45 = .ok (.invokespecial 19, 3) := dk_183 0 19 (dk_at dksX2_mirrored_1 21 rfl rfl)
theorem dX2_mirrored_48 : decode cX2_mirrored 48 = .ok (.areturn, 1) := dk_176 (dk_at dksX2_mirrored_2 0 rfl rfl)
theorem q71 : (Jvm.Cond.initialized "CoastTiles$Mask") ∈ lw_all := lw_g (lw_at lw_m1 8 rfl) rfl
theorem q192 : (Jvm.Cond.instantiable "CoastTiles$Mask" (1 : Nat)) ∈ lw_all := lw_g (lw_at lw_m1 129 rfl) rfl
theorem q194 : (Jvm.Cond.instanceMethod ({ cls := "CoastTiles$Mask", name := "<init>", desc := "(I)V" } : Jvm.MethodName)) ∈ lw_all := lw_g (lw_at lw_m1 131 rfl) rfl
theorem q195 : (Jvm.Cond.code ({ cls := "CoastTiles$Mask", name := "<init>", desc := "(I)V" } : Jvm.MethodName) prog_6_method_1_code (2 : Nat) (Option.none : Option Jvm.ClassFile.FieldType)) ∈ lw_all := lw_g (lw_at lw_m1 132 rfl) rfl
theorem q196 : (Jvm.Cond.methodLink "CoastTiles$Mask" (3 : Nat) ({ cls := "java/lang/Object", name := "<init>", desc := "()V" } : Jvm.MethodName)) ∈ lw_all := lw_g (lw_at lw_m1 133 rfl) rfl
theorem q197 : (Jvm.Cond.fieldLink "CoastTiles$Mask" (9 : Nat) "CoastTiles$Mask" "bits" "I") ∈ lw_all := lw_g (lw_at lw_m1 134 rfl) rfl
theorem q199 : (Jvm.Cond.laysFinal "CoastTiles$Mask" "CoastTiles$Mask" "bits" "I") ∈ lw_all := lw_g (lw_at lw_m1 136 rfl) rfl
theorem q200 : (Jvm.Cond.soleField "CoastTiles$Mask" "bits") ∈ lw_all := lw_g (lw_at lw_m1 137 rfl) rfl
theorem q201 : (Jvm.Cond.superclass "CoastTiles$Mask" "java/lang/Object") ∈ lw_all := lw_g (lw_at lw_m1 138 rfl) rfl
theorem q203 : (Jvm.Cond.instanceMethod ({ cls := "CoastTiles$Mask", name := "isRegular", desc := "()Z" } : Jvm.MethodName)) ∈ lw_all := lw_g (lw_at lw_m1 140 rfl) rfl
theorem q204 : (Jvm.Cond.selects "CoastTiles$Mask" ({ cls := "CoastTiles$Mask", name := "isRegular", desc := "()Z" } : Jvm.MethodName) ({ cls := "CoastTiles$Mask", name := "isRegular", desc := "()Z" } : Jvm.MethodName)) ∈ lw_all := lw_g (lw_at lw_m1 141 rfl) rfl
theorem q205 : (Jvm.Cond.code ({ cls := "CoastTiles$Mask", name := "isRegular", desc := "()Z" } : Jvm.MethodName) prog_6_method_4_code (1 : Nat) (Option.some Jvm.ClassFile.FieldType.boolean)) ∈ lw_all := lw_g (lw_at lw_m1 142 rfl) rfl
theorem q206 : (Jvm.Cond.methodLink "CoastTiles$Mask" (22 : Nat) ({ cls := "CoastTiles$Mask", name := "regular", desc := "()LCoastTiles$Mask;" } : Jvm.MethodName)) ∈ lw_all := lw_g (lw_at lw_m1 143 rfl) rfl
theorem q207 : (Jvm.Cond.instanceMethod ({ cls := "CoastTiles$Mask", name := "regular", desc := "()LCoastTiles$Mask;" } : Jvm.MethodName)) ∈ lw_all := lw_g (lw_at lw_m1 144 rfl) rfl
theorem q208 : (Jvm.Cond.selects "CoastTiles$Mask" ({ cls := "CoastTiles$Mask", name := "regular", desc := "()LCoastTiles$Mask;" } : Jvm.MethodName) ({ cls := "CoastTiles$Mask", name := "regular", desc := "()LCoastTiles$Mask;" } : Jvm.MethodName)) ∈ lw_all := lw_g (lw_at lw_m1 145 rfl) rfl
theorem q209 : (Jvm.Cond.code ({ cls := "CoastTiles$Mask", name := "regular", desc := "()LCoastTiles$Mask;" } : Jvm.MethodName) prog_6_method_3_code (3 : Nat) (Option.some (Jvm.ClassFile.FieldType.object "CoastTiles$Mask"))) ∈ lw_all := lw_g (lw_at lw_m1 146 rfl) rfl
theorem q210 : (Jvm.Cond.methodLink "CoastTiles$Mask" (15 : Nat) ({ cls := "CoastTiles$Mask", name := "has", desc := "(I)Z" } : Jvm.MethodName)) ∈ lw_all := lw_g (lw_at lw_m1 147 rfl) rfl
theorem q211 : (Jvm.Cond.instanceMethod ({ cls := "CoastTiles$Mask", name := "has", desc := "(I)Z" } : Jvm.MethodName)) ∈ lw_all := lw_g (lw_at lw_m1 148 rfl) rfl
theorem q212 : (Jvm.Cond.selects "CoastTiles$Mask" ({ cls := "CoastTiles$Mask", name := "has", desc := "(I)Z" } : Jvm.MethodName) ({ cls := "CoastTiles$Mask", name := "has", desc := "(I)Z" } : Jvm.MethodName)) ∈ lw_all := lw_g (lw_at lw_m1 149 rfl) rfl
theorem q213 : (Jvm.Cond.code ({ cls := "CoastTiles$Mask", name := "has", desc := "(I)Z" } : Jvm.MethodName) prog_6_method_2_code (2 : Nat) (Option.some Jvm.ClassFile.FieldType.boolean)) ∈ lw_all := lw_g (lw_at lw_m1 150 rfl) rfl
theorem q214 : (Jvm.Cond.classLink "CoastTiles$Mask" (10 : Nat) "CoastTiles$Mask") ∈ lw_all := lw_g (lw_at lw_m1 151 rfl) rfl
theorem q215 : (Jvm.Cond.methodLink "CoastTiles$Mask" (19 : Nat) ({ cls := "CoastTiles$Mask", name := "<init>", desc := "(I)V" } : Jvm.MethodName)) ∈ lw_all := lw_g (lw_at lw_m1 152 rfl) rfl
theorem q216 : (Jvm.Cond.methodLink "CoastTiles$Mask" (26 : Nat) ({ cls := "CoastTiles$Mask", name := "equals", desc := "(Ljava/lang/Object;)Z" } : Jvm.MethodName)) ∈ lw_all := lw_g (lw_at lw_m1 153 rfl) rfl
theorem q217 : (Jvm.Cond.instanceMethod ({ cls := "CoastTiles$Mask", name := "equals", desc := "(Ljava/lang/Object;)Z" } : Jvm.MethodName)) ∈ lw_all := lw_g (lw_at lw_m1 154 rfl) rfl
theorem q218 : (Jvm.Cond.selects "CoastTiles$Mask" ({ cls := "CoastTiles$Mask", name := "equals", desc := "(Ljava/lang/Object;)Z" } : Jvm.MethodName) ({ cls := "CoastTiles$Mask", name := "equals", desc := "(Ljava/lang/Object;)Z" } : Jvm.MethodName)) ∈ lw_all := lw_g (lw_at lw_m1 155 rfl) rfl
theorem q219 : (Jvm.Cond.code ({ cls := "CoastTiles$Mask", name := "equals", desc := "(Ljava/lang/Object;)Z" } : Jvm.MethodName) prog_6_method_8_code (2 : Nat) (Option.some Jvm.ClassFile.FieldType.boolean)) ∈ lw_all := lw_g (lw_at lw_m1 156 rfl) rfl
theorem q271 : (Jvm.Cond.selects "CoastTiles$Mask" ({ cls := "java/lang/Object", name := "hashCode", desc := "()I" } : Jvm.MethodName) ({ cls := "CoastTiles$Mask", name := "hashCode", desc := "()I" } : Jvm.MethodName)) ∈ lw_all := lw_g (lw_at lw_m1 208 rfl) rfl
theorem q272 : (Jvm.Cond.instanceMethod ({ cls := "CoastTiles$Mask", name := "hashCode", desc := "()I" } : Jvm.MethodName)) ∈ lw_all := lw_g (lw_at lw_m1 209 rfl) rfl
theorem q273 : (Jvm.Cond.code ({ cls := "CoastTiles$Mask", name := "hashCode", desc := "()I" } : Jvm.MethodName) prog_6_method_9_code (1 : Nat) (Option.some Jvm.ClassFile.FieldType.int)) ∈ lw_all := lw_g (lw_at lw_m1 210 rfl) rfl
theorem q425 : (Jvm.Cond.selects "CoastTiles$Mask" ({ cls := "java/lang/Object", name := "getClass", desc := "()Ljava/lang/Class;" } : Jvm.MethodName) ({ cls := "java/lang/Object", name := "getClass", desc := "()Ljava/lang/Class;" } : Jvm.MethodName)) ∈ lw_all := lw_g (lw_at lw_m2 122 rfl) rfl
theorem q691 : (Jvm.Cond.selects "CoastTiles$Mask" ({ cls := "java/lang/Object", name := "equals", desc := "(Ljava/lang/Object;)Z" } : Jvm.MethodName) ({ cls := "CoastTiles$Mask", name := "equals", desc := "(Ljava/lang/Object;)Z" } : Jvm.MethodName)) ∈ lw_all := lw_g (lw_at lw_m3 148 rfl) rfl
theorem q1319 : (Jvm.Cond.instanceMethod ({ cls := "CoastTiles$Mask", name := "turned", desc := "(I)LCoastTiles$Mask;" } : Jvm.MethodName)) ∈ lw_all := lw_g (lw_at lw_m6 56 rfl) rfl
theorem q1320 : (Jvm.Cond.selects "CoastTiles$Mask" ({ cls := "CoastTiles$Mask", name := "turned", desc := "(I)LCoastTiles$Mask;" } : Jvm.MethodName) ({ cls := "CoastTiles$Mask", name := "turned", desc := "(I)LCoastTiles$Mask;" } : Jvm.MethodName)) ∈ lw_all := lw_g (lw_at lw_m6 57 rfl) rfl
theorem q1321 : (Jvm.Cond.code ({ cls := "CoastTiles$Mask", name := "turned", desc := "(I)LCoastTiles$Mask;" } : Jvm.MethodName) prog_6_method_5_code (3 : Nat) (Option.some (Jvm.ClassFile.FieldType.object "CoastTiles$Mask"))) ∈ lw_all := lw_g (lw_at lw_m6 58 rfl) rfl
theorem q1341 : (Jvm.Cond.instanceMethod ({ cls := "CoastTiles$Mask", name := "distance", desc := "(LCoastTiles$Mask;)I" } : Jvm.MethodName)) ∈ lw_all := lw_g (lw_at lw_m6 78 rfl) rfl
theorem q1342 : (Jvm.Cond.selects "CoastTiles$Mask" ({ cls := "CoastTiles$Mask", name := "distance", desc := "(LCoastTiles$Mask;)I" } : Jvm.MethodName) ({ cls := "CoastTiles$Mask", name := "distance", desc := "(LCoastTiles$Mask;)I" } : Jvm.MethodName)) ∈ lw_all := lw_g (lw_at lw_m6 79 rfl) rfl
theorem q1343 : (Jvm.Cond.code ({ cls := "CoastTiles$Mask", name := "distance", desc := "(LCoastTiles$Mask;)I" } : Jvm.MethodName) prog_6_method_7_code (2 : Nat) (Option.some Jvm.ClassFile.FieldType.int)) ∈ lw_all := lw_g (lw_at lw_m6 80 rfl) rfl
theorem q1344 : (Jvm.Cond.methodLink "CoastTiles$Mask" (30 : Nat) ({ cls := "java/lang/Integer", name := "bitCount", desc := "(I)I" } : Jvm.MethodName)) ∈ lw_all := lw_g (lw_at lw_m6 81 rfl) rfl
theorem q1403 : (Jvm.Cond.instanceMethod ({ cls := "CoastTiles$Mask", name := "mirrored", desc := "()LCoastTiles$Mask;" } : Jvm.MethodName)) ∈ lw_all := lw_g (lw_at lw_m6 140 rfl) rfl
theorem q1404 : (Jvm.Cond.selects "CoastTiles$Mask" ({ cls := "CoastTiles$Mask", name := "mirrored", desc := "()LCoastTiles$Mask;" } : Jvm.MethodName) ({ cls := "CoastTiles$Mask", name := "mirrored", desc := "()LCoastTiles$Mask;" } : Jvm.MethodName)) ∈ lw_all := lw_g (lw_at lw_m6 141 rfl) rfl
theorem q1405 : (Jvm.Cond.code ({ cls := "CoastTiles$Mask", name := "mirrored", desc := "()LCoastTiles$Mask;" } : Jvm.MethodName) prog_6_method_6_code (3 : Nat) (Option.some (Jvm.ClassFile.FieldType.object "CoastTiles$Mask"))) ∈ lw_all := lw_g (lw_at lw_m6 142 rfl) rfl
theorem q2500 : (Jvm.Cond.castable "CoastTiles$Mask" "java/lang/Object") ∈ lw_tbl := lw_at lw_m11 37 rfl
theorem in_X2 : ∀ w ∈ wsX20, w ∈ lw_all := lw_in wsX20 [199] (by decide +kernel) (by decide +kernel)
/-! CoastTiles$Coast -/
set_option maxRecDepth 100000
def RX3 : String := "CoastTiles$Coast"
def TX3 : u_T := fun k => match k with
  | 0 => ("CoastTiles$Coast", "rows", "I", true)
  | 1 => ("CoastTiles$Coast", "columns", "I", true)
  | 2 => ("CoastTiles$Coast", "isLandOutside", "Z", true)
  | 3 => ("CoastTiles$Coast", "isLand", "[[Z", true)
  | 4 => ("CoastTiles$Coast", "pins", "[[I", true)
  | _ => ("CoastTiles$Coast", "this$0", "LCoastTiles;", true)
def tyX3 : Nat → FieldType := fun k => match k with
  | 0 => .int
  | 1 => .int
  | 2 => .boolean
  | 3 => .array (.array .boolean)
  | 4 => .array (.array .int)
  | _ => .object "CoastTiles"
abbrev wsX30 : List Cond := u_ws RX3 TX3 6
theorem nmX3 : ∀ a, a < 6 → ∀ b, b < 6 → a ≠ b → (TX3 a).2.1 ≠ (TX3 b).2.1 := by decide +kernel
theorem tyX3_ok : ∀ k, k < 6 → parseFieldDescriptor (TX3 k).2.2.1 = some (tyX3 k) := by decide +kernel
abbrev cX3_init : ByteArray := prog_3_method_1_code
def yX3_init : MethodName := ⟨RX3, "<init>", "(LCoastTiles;IIZ)V"⟩
def dkwX3_init_4 : List UInt8 := [167, 255, 240, 132, 7, 1, 167, 255, 217, 177]
abbrev dktX3_init_4 : List UInt8 := dkwX3_init_4 ++ []
def dkwX3_init_3 : List UInt8 := [50, 58, 8, 3, 54, 9, 21, 9, 29, 162, 0, 16, 25, 8, 21, 9, 16, 250, 79, 132, 9, 1]
abbrev dktX3_init_3 : List UInt8 := dkwX3_init_3 ++ dktX3_init_4
def dkwX3_init_2 : List UInt8 := [180, 0, 33, 58, 5, 25, 5, 190, 54, 6, 3, 54, 7, 21, 7, 21, 6, 162, 0, 38, 25, 5, 21, 7]
abbrev dktX3_init_2 : List UInt8 := dkwX3_init_2 ++ dktX3_init_3
def dkwX3_init_1 : List UInt8 := [181, 0, 22, 42, 28, 29, 197, 0, 26, 2, 181, 0, 28, 42, 28, 29, 197, 0, 31, 2, 181, 0, 33, 42]
abbrev dktX3_init_1 : List UInt8 := dkwX3_init_1 ++ dktX3_init_2
def dkwX3_init_0 : List UInt8 := [42, 43, 181, 0, 3, 42, 183, 0, 9, 42, 28, 181, 0, 15, 42, 29, 181, 0, 19, 42, 21, 4]
abbrev dktX3_init_0 : List UInt8 := dkwX3_init_0 ++ dktX3_init_1
theorem dksX3_init_0 : cX3_init.data.toList.drop 0 = dktX3_init_0 := by decide +kernel
theorem dksX3_init_1 : cX3_init.data.toList.drop 22 = dktX3_init_1 := dk_seg dksX3_init_0 22 rfl rfl
theorem dksX3_init_2 : cX3_init.data.toList.drop 46 = dktX3_init_2 := dk_seg dksX3_init_1 24 rfl rfl
theorem dksX3_init_3 : cX3_init.data.toList.drop 70 = dktX3_init_3 := dk_seg dksX3_init_2 24 rfl rfl
theorem dksX3_init_4 : cX3_init.data.toList.drop 92 = dktX3_init_4 := dk_seg dksX3_init_3 22 rfl rfl
theorem dX3_init_0 : decode cX3_init 0 = .ok (.aload_n 0, 1) := dk_42 (dk_at dksX3_init_0 0 rfl rfl)
theorem dX3_init_1 : decode cX3_init 1 = .ok (.aload_n 1, 1) := dk_43 (dk_at dksX3_init_0 1 rfl rfl)
theorem dX3_init_2 : decode cX3_init 2 = .ok (.putfield 3, 3) := dk_181 0 3 (dk_at dksX3_init_0 2 rfl rfl)
theorem dX3_init_5 : decode cX3_init 5 = .ok (.aload_n 0, 1) := dk_42 (dk_at dksX3_init_0 5 rfl rfl)
theorem dX3_init_6 : decode cX3_init 6 = .ok (.invokespecial 9, 3) := dk_183 0 9 (dk_at dksX3_init_0 6 rfl rfl)
theorem dX3_init_9 : decode cX3_init 9 = .ok (.aload_n 0, 1) := dk_42 (dk_at dksX3_init_0 9 rfl rfl)
theorem dX3_init_10 : decode cX3_init 10 = .ok (.iload_n 2, 1) := dk_28 (dk_at dksX3_init_0 10 rfl rfl)
theorem dX3_init_11 : decode cX3_init 11 = .ok (.putfield 15, 3) := dk_181 0 15 (dk_at dksX3_init_0 11 rfl rfl)
theorem dX3_init_14 : decode cX3_init 14 = .ok (.aload_n 0, 1) := dk_42 (dk_at dksX3_init_0 14 rfl rfl)
theorem dX3_init_15 : decode cX3_init 15 = .ok (.iload_n 3, 1) := dk_29 (dk_at dksX3_init_0 15 rfl rfl)
theorem dX3_init_16 : decode cX3_init 16 = .ok (.putfield 19, 3) := dk_181 0 19 (dk_at dksX3_init_0 16 rfl rfl)
theorem dX3_init_19 : decode cX3_init 19 = .ok (.aload_n 0, 1) := dk_42 (dk_at dksX3_init_0 19 rfl rfl)
theorem dX3_init_20 : decode cX3_init 20 = .ok (.iload 4, 2) := dk_21 4 (dk_at dksX3_init_0 20 rfl rfl)
theorem dX3_init_22 : decode cX3_init 22 = .ok (.putfield 22, 3) := dk_181 0 22 (dk_at dksX3_init_1 0 rfl rfl)
theorem dX3_init_25 : decode cX3_init 25 = .ok (.aload_n 0, 1) := dk_42 (dk_at dksX3_init_1 3 rfl rfl)
theorem dX3_init_26 : decode cX3_init 26 = .ok (.iload_n 2, 1) := dk_28 (dk_at dksX3_init_1 4 rfl rfl)
theorem dX3_init_27 : decode cX3_init 27 = .ok (.iload_n 3, 1) := dk_29 (dk_at dksX3_init_1 5 rfl rfl)
theorem dX3_init_28 : decode cX3_init 28 = .ok (.multianewarray 26 2, 4) := by decide +kernel
theorem dX3_init_32 : decode cX3_init 32 = .ok (.putfield 28, 3) := dk_181 0 28 (dk_at dksX3_init_1 10 rfl rfl)
theorem dX3_init_35 : decode cX3_init 35 = .ok (.aload_n 0, 1) := dk_42 (dk_at dksX3_init_1 13 rfl rfl)
theorem dX3_init_36 : decode cX3_init 36 = .ok (.iload_n 2, 1) := dk_28 (dk_at dksX3_init_1 14 rfl rfl)
theorem dX3_init_37 : decode cX3_init 37 = .ok (.iload_n 3, 1) := dk_29 (dk_at dksX3_init_1 15 rfl rfl)
theorem dX3_init_38 : decode cX3_init 38 = .ok (.multianewarray 31 2, 4) := by decide +kernel
theorem dX3_init_42 : decode cX3_init 42 = .ok (.putfield 33, 3) := dk_181 0 33 (dk_at dksX3_init_1 20 rfl rfl)
theorem dX3_init_45 : decode cX3_init 45 = .ok (.aload_n 0, 1) := dk_42 (dk_at dksX3_init_1 23 rfl rfl)
theorem dX3_init_46 : decode cX3_init 46 = .ok (.getfield 33, 3) := dk_180 0 33 (dk_at dksX3_init_2 0 rfl rfl)
theorem dX3_init_49 : decode cX3_init 49 = .ok (.astore 5, 2) := dk_58 5 (dk_at dksX3_init_2 3 rfl rfl)
theorem dX3_init_51 : decode cX3_init 51 = .ok (.aload 5, 2) := dk_25 5 (dk_at dksX3_init_2 5 rfl rfl)
theorem dX3_init_53 : decode cX3_init 53 = .ok (.arraylength, 1) := dk_190 (dk_at dksX3_init_2 7 rfl rfl)
theorem dX3_init_54 : decode cX3_init 54 = .ok (.istore 6, 2) := dk_54 6 (dk_at dksX3_init_2 8 rfl rfl)
theorem dX3_init_56 : decode cX3_init 56 = .ok (.iconst 0, 1) := dk_3 (dk_at dksX3_init_2 10 rfl rfl)
theorem dX3_init_57 : decode cX3_init 57 = .ok (.istore 7, 2) := dk_54 7 (dk_at dksX3_init_2 11 rfl rfl)
theorem dX3_init_59 : decode cX3_init 59 = .ok (.iload 7, 2) := dk_21 7 (dk_at dksX3_init_2 13 rfl rfl)
theorem dX3_init_61 : decode cX3_init 61 = .ok (.iload 6, 2) := dk_21 6 (dk_at dksX3_init_2 15 rfl rfl)
theorem dX3_init_63 : decode cX3_init 63 = .ok (.if_icmp .ge 38, 3) := dk_162 0 38 (dk_at dksX3_init_2 17 rfl rfl)
theorem dX3_init_66 : decode cX3_init 66 = .ok (.aload 5, 2) := dk_25 5 (dk_at dksX3_init_2 20 rfl rfl)
theorem dX3_init_68 : decode cX3_init 68 = .ok (.iload 7, 2) := dk_21 7 (dk_at dksX3_init_2 22 rfl rfl)
theorem dX3_init_70 : decode cX3_init 70 = .ok (.aaload, 1) := dk_50 (dk_at dksX3_init_3 0 rfl rfl)
theorem dX3_init_71 : decode cX3_init 71 = .ok (.astore 8, 2) := dk_58 8 (dk_at dksX3_init_3 1 rfl rfl)
theorem dX3_init_73 : decode cX3_init 73 = .ok (.iconst 0, 1) := dk_3 (dk_at dksX3_init_3 3 rfl rfl)
theorem dX3_init_74 : decode cX3_init 74 = .ok (.istore 9, 2) := dk_54 9 (dk_at dksX3_init_3 4 rfl rfl)
theorem dX3_init_76 : decode cX3_init 76 = .ok (.iload 9, 2) := dk_21 9 (dk_at dksX3_init_3 6 rfl rfl)
theorem dX3_init_78 : decode cX3_init 78 = .ok (.iload_n 3, 1) := dk_29 (dk_at dksX3_init_3 8 rfl rfl)
theorem dX3_init_79 : decode cX3_init 79 = .ok (.if_icmp .ge 16, 3) := dk_162 0 16 (dk_at dksX3_init_3 9 rfl rfl)
theorem dX3_init_82 : decode cX3_init 82 = .ok (.aload 8, 2) := dk_25 8 (dk_at dksX3_init_3 12 rfl rfl)
theorem dX3_init_84 : decode cX3_init 84 = .ok (.iload 9, 2) := dk_21 9 (dk_at dksX3_init_3 14 rfl rfl)
theorem dX3_init_86 : decode cX3_init 86 = .ok (.bipush (-6), 2) := dk_16 250 (dk_at dksX3_init_3 16 rfl rfl)
theorem dX3_init_88 : decode cX3_init 88 = .ok (.iastore, 1) := dk_79 (dk_at dksX3_init_3 18 rfl rfl)
theorem dX3_init_89 : decode cX3_init 89 = .ok (.iinc 9 1, 3) := dk_132 9 1 (dk_at dksX3_init_3 19 rfl rfl)
theorem dX3_init_92 : decode cX3_init 92 = .ok (.goto (-16), 3) := dk_167 255 240 (dk_at dksX3_init_4 0 rfl rfl)
theorem dX3_init_95 : decode cX3_init 95 = .ok (.iinc 7 1, 3) := dk_132 7 1 (dk_at dksX3_init_4 3 rfl rfl)
theorem dX3_init_98 : decode cX3_init 98 = .ok (.goto (-39), 3) := dk_167 255 217 (dk_at dksX3_init_4 6 rfl rfl)
theorem dX3_init_101 : decode cX3_init 101 = .ok (.return_, 1) := dk_177 (dk_at dksX3_init_4 9 rfl rfl)
abbrev cX3_copy : ByteArray := prog_3_method_2_code
def yX3_copy : MethodName := ⟨RX3, "copy", "(Z)LCoastTiles$Coast;"⟩
def dkwX3_copy_3 : List UInt8 := [167, 255, 209, 44, 176]
abbrev dktX3_copy_3 : List UInt8 := dkwX3_copy_3 ++ []
def dkwX3_copy_2 : List UInt8 := [83, 44, 180, 0, 33, 29, 42, 180, 0, 33, 29, 50, 182, 0, 45, 192, 0, 46, 83, 132, 3, 1]
abbrev dktX3_copy_2 : List UInt8 := dkwX3_copy_2 ++ dktX3_copy_3
def dkwX3_copy_1 : List UInt8 := [42, 180, 0, 15, 162, 0, 45, 44, 180, 0, 28, 29, 42, 180, 0, 28, 29, 50, 182, 0, 39, 192, 0, 40]
abbrev dktX3_copy_1 : List UInt8 := dkwX3_copy_1 ++ dktX3_copy_2
def dkwX3_copy_0 : List UInt8 := [187, 0, 4, 89, 42, 180, 0, 3, 42, 180, 0, 15, 42, 180, 0, 19, 27, 183, 0, 36, 77, 3, 62, 29]
abbrev dktX3_copy_0 : List UInt8 := dkwX3_copy_0 ++ dktX3_copy_1
theorem dksX3_copy_0 : cX3_copy.data.toList.drop 0 = dktX3_copy_0 := by decide +kernel
theorem dksX3_copy_1 : cX3_copy.data.toList.drop 24 = dktX3_copy_1 := dk_seg dksX3_copy_0 24 rfl rfl
theorem dksX3_copy_2 : cX3_copy.data.toList.drop 48 = dktX3_copy_2 := dk_seg dksX3_copy_1 24 rfl rfl
theorem dksX3_copy_3 : cX3_copy.data.toList.drop 70 = dktX3_copy_3 := dk_seg dksX3_copy_2 22 rfl rfl
theorem dX3_copy_0 : decode cX3_copy 0 = .ok (.new 4, 3) := dk_187 0 4 (dk_at dksX3_copy_0 0 rfl rfl)
theorem dX3_copy_3 : decode cX3_copy 3 = .ok (.dup, 1) := dk_89 (dk_at dksX3_copy_0 3 rfl rfl)
theorem dX3_copy_4 : decode cX3_copy 4 = .ok (.aload_n 0, 1) := dk_42 (dk_at dksX3_copy_0 4 rfl rfl)
theorem dX3_copy_5 : decode cX3_copy 5 = .ok (.getfield 3, 3) := dk_180 0 3 (dk_at dksX3_copy_0 5 rfl rfl)
theorem dX3_copy_8 : decode cX3_copy 8 = .ok (.aload_n 0, 1) := dk_42 (dk_at dksX3_copy_0 8 rfl rfl)
theorem dX3_copy_9 : decode cX3_copy 9 = .ok (.getfield 15, 3) := dk_180 0 15 (dk_at dksX3_copy_0 9 rfl rfl)
theorem dX3_copy_12 : decode cX3_copy 12 = .ok (.aload_n 0, 1) := dk_42 (dk_at dksX3_copy_0 12 rfl rfl)
theorem dX3_copy_13 : decode cX3_copy 13 = .ok (.getfield 19, 3) := dk_180 0 19 (dk_at dksX3_copy_0 13 rfl rfl)
theorem dX3_copy_16 : decode cX3_copy 16 = .ok (.iload_n 1, 1) := dk_27 (dk_at dksX3_copy_0 16 rfl rfl)
theorem dX3_copy_17 : decode cX3_copy 17 = .ok (.invokespecial 36, 3) := dk_183 0 36 (dk_at dksX3_copy_0 17 rfl rfl)
theorem dX3_copy_20 : decode cX3_copy 20 = .ok (.astore_n 2, 1) := dk_77 (dk_at dksX3_copy_0 20 rfl rfl)
theorem dX3_copy_21 : decode cX3_copy 21 = .ok (.iconst 0, 1) := dk_3 (dk_at dksX3_copy_0 21 rfl rfl)
theorem dX3_copy_22 : decode cX3_copy 22 = .ok (.istore_n 3, 1) := dk_62 (dk_at dksX3_copy_0 22 rfl rfl)
theorem dX3_copy_23 : decode cX3_copy 23 = .ok (.iload_n 3, 1) := dk_29 (dk_at dksX3_copy_0 23 rfl rfl)
theorem dX3_copy_24 : decode cX3_copy 24 = .ok (.aload_n 0, 1) := dk_42 (dk_at dksX3_copy_1 0 rfl rfl)
theorem dX3_copy_25 : decode cX3_copy 25 = .ok (.getfield 15, 3) := dk_180 0 15 (dk_at dksX3_copy_1 1 rfl rfl)
theorem dX3_copy_28 : decode cX3_copy 28 = .ok (.if_icmp .ge 45, 3) := dk_162 0 45 (dk_at dksX3_copy_1 4 rfl rfl)
theorem dX3_copy_31 : decode cX3_copy 31 = .ok (.aload_n 2, 1) := dk_44 (dk_at dksX3_copy_1 7 rfl rfl)
theorem dX3_copy_32 : decode cX3_copy 32 = .ok (.getfield 28, 3) := dk_180 0 28 (dk_at dksX3_copy_1 8 rfl rfl)
theorem dX3_copy_35 : decode cX3_copy 35 = .ok (.iload_n 3, 1) := dk_29 (dk_at dksX3_copy_1 11 rfl rfl)
theorem dX3_copy_36 : decode cX3_copy 36 = .ok (.aload_n 0, 1) := dk_42 (dk_at dksX3_copy_1 12 rfl rfl)
theorem dX3_copy_37 : decode cX3_copy 37 = .ok (.getfield 28, 3) := dk_180 0 28 (dk_at dksX3_copy_1 13 rfl rfl)
theorem dX3_copy_40 : decode cX3_copy 40 = .ok (.iload_n 3, 1) := dk_29 (dk_at dksX3_copy_1 16 rfl rfl)
theorem dX3_copy_41 : decode cX3_copy 41 = .ok (.aaload, 1) := dk_50 (dk_at dksX3_copy_1 17 rfl rfl)
theorem dX3_copy_42 : decode cX3_copy 42 = .ok (.invokevirtual 39, 3) := dk_182 0 39 (dk_at dksX3_copy_1 18 rfl rfl)
theorem dX3_copy_45 : decode cX3_copy 45 = .ok (.checkcast 40, 3) := dk_192 0 40 (dk_at dksX3_copy_1 21 rfl rfl)
theorem dX3_copy_48 : decode cX3_copy 48 = .ok (.aastore, 1) := dk_83 (dk_at dksX3_copy_2 0 rfl rfl)
theorem dX3_copy_49 : decode cX3_copy 49 = .ok (.aload_n 2, 1) := dk_44 (dk_at dksX3_copy_2 1 rfl rfl)
theorem dX3_copy_50 : decode cX3_copy 50 = .ok (.getfield 33, 3) := dk_180 0 33 (dk_at dksX3_copy_2 2 rfl rfl)
theorem dX3_copy_53 : decode cX3_copy 53 = .ok (.iload_n 3, 1) := dk_29 (dk_at dksX3_copy_2 5 rfl rfl)
theorem dX3_copy_54 : decode cX3_copy 54 = .ok (.aload_n 0, 1) := dk_42 (dk_at dksX3_copy_2 6 rfl rfl)
theorem dX3_copy_55 : decode cX3_copy 55 = .ok (.getfield 33, 3) := dk_180 0 33 (dk_at dksX3_copy_2 7 rfl rfl)
theorem dX3_copy_58 : decode cX3_copy 58 = .ok (.iload_n 3, 1) := dk_29 (dk_at dksX3_copy_2 10 rfl rfl)
theorem dX3_copy_59 : decode cX3_copy 59 = .ok (.aaload, 1) := dk_50 (dk_at dksX3_copy_2 11 rfl rfl)
theorem dX3_copy_60 : decode cX3_copy 60 = .ok (.invokevirtual 45, 3) := dk_182 0 45 (dk_at dksX3_copy_2 12 rfl rfl)
theorem dX3_copy_63 : decode cX3_copy 63 = .ok (.checkcast 46, 3) := dk_192 0 46 (dk_at dksX3_copy_2 15 rfl rfl)
theorem dX3_copy_66 : decode cX3_copy 66 = .ok (.aastore, 1) := dk_83 (dk_at dksX3_copy_2 18 rfl rfl)
theorem dX3_copy_67 : decode cX3_copy 67 = .ok (.iinc 3 1, 3) := dk_132 3 1 (dk_at dksX3_copy_2 19 rfl rfl)
theorem dX3_copy_70 : decode cX3_copy 70 = .ok (.goto (-47), 3) := dk_167 255 209 (dk_at dksX3_copy_3 0 rfl rfl)
theorem dX3_copy_73 : decode cX3_copy 73 = .ok (.aload_n 2, 1) := dk_44 (dk_at dksX3_copy_3 3 rfl rfl)
theorem dX3_copy_74 : decode cX3_copy 74 = .ok (.areturn, 1) := dk_176 (dk_at dksX3_copy_3 4 rfl rfl)
abbrev cX3_differences : ByteArray := prog_3_method_11_code
def yX3_differences : MethodName := ⟨RX3, "differences", "(LCoastTiles$Coast;)I"⟩
def dkwX3_differences_4 : List UInt8 := [167, 255, 166, 28, 172]
abbrev dktX3_differences_4 : List UInt8 := dkwX3_differences_4 ++ []
def dkwX3_differences_3 : List UInt8 := [182, 0, 92, 159, 0, 7, 4, 167, 0, 4, 3, 96, 61, 132, 4, 1, 167, 255, 183, 132, 3, 1]
abbrev dktX3_differences_3 : List UInt8 := dkwX3_differences_3 ++ dktX3_differences_4
def dkwX3_differences_2 : List UInt8 := [4, 167, 0, 4, 3, 54, 5, 28, 21, 5, 153, 0, 24, 42, 29, 21, 4, 182, 0, 92, 43, 29, 21, 4]
abbrev dktX3_differences_2 : List UInt8 := dkwX3_differences_2 ++ dktX3_differences_3
def dkwX3_differences_1 : List UInt8 := [42, 180, 0, 28, 29, 50, 21, 4, 51, 153, 0, 19, 43, 180, 0, 28, 29, 50, 21, 4, 51, 153, 0, 7]
abbrev dktX3_differences_1 : List UInt8 := dkwX3_differences_1 ++ dktX3_differences_2
def dkwX3_differences_0 : List UInt8 := [3, 61, 3, 62, 29, 42, 180, 0, 15, 162, 0, 88, 3, 54, 4, 21, 4, 42, 180, 0, 19, 162, 0, 70]
abbrev dktX3_differences_0 : List UInt8 := dkwX3_differences_0 ++ dktX3_differences_1
theorem dksX3_differences_0 : cX3_differences.data.toList.drop 0 = dktX3_differences_0 := by decide +kernel
theorem dksX3_differences_1 : cX3_differences.data.toList.drop 24 = dktX3_differences_1 := dk_seg dksX3_differences_0 24 rfl rfl
theorem dksX3_differences_2 : cX3_differences.data.toList.drop 48 = dktX3_differences_2 := dk_seg dksX3_differences_1 24 rfl rfl
theorem dksX3_differences_3 : cX3_differences.data.toList.drop 72 = dktX3_differences_3 := dk_seg dksX3_differences_2 24 rfl rfl
theorem dksX3_differences_4 : cX3_differences.data.toList.drop 94 = dktX3_differences_4 := dk_seg dksX3_differences_3 22 rfl rfl
theorem dX3_differences_0 : decode cX3_differences 0 = .ok (.iconst 0, 1) := dk_3 (dk_at dksX3_differences_0 0 rfl rfl)
theorem dX3_differences_1 : decode cX3_differences 1 = .ok (.istore_n 2, 1) := dk_61 (dk_at dksX3_differences_0 1 rfl rfl)
theorem dX3_differences_2 : decode cX3_differences 2 = .ok (.iconst 0, 1) := dk_3 (dk_at dksX3_differences_0 2 rfl rfl)
theorem dX3_differences_3 : decode cX3_differences 3 = .ok (.istore_n 3, 1) := dk_62 (dk_at dksX3_differences_0 3 rfl rfl)
theorem dX3_differences_4 : decode cX3_differences 4 = .ok (.iload_n 3, 1) := dk_29 (dk_at dksX3_differences_0 4 rfl rfl)
theorem dX3_differences_5 : decode cX3_differences 5 = .ok (.aload_n 0, 1) := dk_42 (dk_at dksX3_differences_0 5 rfl rfl)
theorem dX3_differences_6 : decode cX3_differences 6 = .ok (.getfield 15, 3) := dk_180 0 15 (dk_at dksX3_differences_0 6 rfl rfl)
theorem dX3_differences_9 : decode cX3_differences 9 = .ok (.if_icmp .ge 88, 3) := dk_162 0 88 (dk_at dksX3_differences_0 9 rfl rfl)
theorem dX3_differences_12 : decode cX3_differences 12 = .ok (.iconst 0, 1) := dk_3 (dk_at dksX3_differences_0 12 rfl rfl)
theorem dX3_differences_13 : decode cX3_differences 13 = .ok (.istore 4, 2) := dk_54 4 (dk_at dksX3_differences_0 13 rfl rfl)
theorem dX3_differences_15 : decode cX3_differences 15 = .ok (.iload 4, 2) := dk_21 4 (dk_at dksX3_differences_0 15 rfl rfl)
theorem dX3_differences_17 : decode cX3_differences 17 = .ok (.aload_n 0, 1) := dk_42 (dk_at dksX3_differences_0 17 rfl rfl)
theorem dX3_differences_18 : decode cX3_differences 18 = .ok (.getfield 19, 3) := dk_180 0 19 (dk_at dksX3_differences_0 18 rfl rfl)
theorem dX3_differences_21 : decode cX3_differences 21 = .ok (.if_icmp .ge 70, 3) := dk_162 0 70 (dk_at dksX3_differences_0 21 rfl rfl)
theorem dX3_differences_24 : decode cX3_differences 24 = .ok (.aload_n 0, 1) := dk_42 (dk_at dksX3_differences_1 0 rfl rfl)
theorem dX3_differences_25 : decode cX3_differences 25 = .ok (.getfield 28, 3) := dk_180 0 28 (dk_at dksX3_differences_1 1 rfl rfl)
theorem dX3_differences_28 : decode cX3_differences 28 = .ok (.iload_n 3, 1) := dk_29 (dk_at dksX3_differences_1 4 rfl rfl)
theorem dX3_differences_29 : decode cX3_differences 29 = .ok (.aaload, 1) := dk_50 (dk_at dksX3_differences_1 5 rfl rfl)
theorem dX3_differences_30 : decode cX3_differences 30 = .ok (.iload 4, 2) := dk_21 4 (dk_at dksX3_differences_1 6 rfl rfl)
theorem dX3_differences_32 : decode cX3_differences 32 = .ok (.baload, 1) := dk_51 (dk_at dksX3_differences_1 8 rfl rfl)
theorem dX3_differences_33 : decode cX3_differences 33 = .ok (.ifCond .eq 19, 3) := dk_153 0 19 (dk_at dksX3_differences_1 9 rfl rfl)
theorem dX3_differences_36 : decode cX3_differences 36 = .ok (.aload_n 1, 1) := dk_43 (dk_at dksX3_differences_1 12 rfl rfl)
theorem dX3_differences_37 : decode cX3_differences 37 = .ok (.getfield 28, 3) := dk_180 0 28 (dk_at dksX3_differences_1 13 rfl rfl)
theorem dX3_differences_40 : decode cX3_differences 40 = .ok (.iload_n 3, 1) := dk_29 (dk_at dksX3_differences_1 16 rfl rfl)
theorem dX3_differences_41 : decode cX3_differences 41 = .ok (.aaload, 1) := dk_50 (dk_at dksX3_differences_1 17 rfl rfl)
theorem dX3_differences_42 : decode cX3_differences 42 = .ok (.iload 4, 2) := dk_21 4 (dk_at dksX3_differences_1 18 rfl rfl)
theorem dX3_differences_44 : decode cX3_differences 44 = .ok (.baload, 1) := dk_51 (dk_at dksX3_differences_1 20 rfl rfl)
theorem dX3_differences_45 : decode cX3_differences 45 = .ok (.ifCond .eq 7, 3) := dk_153 0 7 (dk_at dksX3_differences_1 21 rfl rfl)
theorem dX3_differences_48 : decode cX3_differences 48 = .ok (.iconst 1, 1) := dk_4 (dk_at dksX3_differences_2 0 rfl rfl)
theorem dX3_differences_49 : decode cX3_differences 49 = .ok (.goto 4, 3) := dk_167 0 4 (dk_at dksX3_differences_2 1 rfl rfl)
theorem dX3_differences_52 : decode cX3_differences 52 = .ok (.iconst 0, 1) := dk_3 (dk_at dksX3_differences_2 4 rfl rfl)
theorem dX3_differences_53 : decode cX3_differences 53 = .ok (.istore 5, 2) := dk_54 5 (dk_at dksX3_differences_2 5 rfl rfl)
theorem dX3_differences_55 : decode cX3_differences 55 = .ok (.iload_n 2, 1) := dk_28 (dk_at dksX3_differences_2 7 rfl rfl)
theorem dX3_differences_56 : decode cX3_differences 56 = .ok (.iload 5, 2) := dk_21 5 (dk_at dksX3_differences_2 8 rfl rfl)
theorem dX3_differences_58 : decode cX3_differences 58 = .ok (.ifCond .eq 24, 3) := dk_153 0 24 (dk_at dksX3_differences_2 10 rfl rfl)
theorem dX3_differences_61 : decode cX3_differences 61 = .ok (.aload_n 0, 1) := dk_42 (dk_at dksX3_differences_2 13 rfl rfl)
theorem dX3_differences_62 : decode cX3_differences 62 = .ok (.iload_n 3, 1) := dk_29 (dk_at dksX3_differences_2 14 rfl rfl)
theorem dX3_differences_63 : decode cX3_differences 63 = .ok (.iload 4, 2) := dk_21 4 (dk_at dksX3_differences_2 15 rfl rfl)
theorem dX3_differences_65 : decode cX3_differences 65 = .ok (.invokevirtual 92, 3) := dk_182 0 92 (dk_at dksX3_differences_2 17 rfl rfl)
theorem dX3_differences_68 : decode cX3_differences 68 = .ok (.aload_n 1, 1) := dk_43 (dk_at dksX3_differences_2 20 rfl rfl)
theorem dX3_differences_69 : decode cX3_differences 69 = .ok (.iload_n 3, 1) := dk_29 (dk_at dksX3_differences_2 21 rfl rfl)
theorem dX3_differences_70 : decode cX3_differences 70 = .ok (.iload 4, 2) := dk_21 4 (dk_at dksX3_differences_2 22 rfl rfl)
theorem dX3_differences_72 : decode cX3_differences 72 = .ok (.invokevirtual 92, 3) := dk_182 0 92 (dk_at dksX3_differences_3 0 rfl rfl)
theorem dX3_differences_75 : decode cX3_differences 75 = .ok (.if_icmp .eq 7, 3) := dk_159 0 7 (dk_at dksX3_differences_3 3 rfl rfl)
theorem dX3_differences_78 : decode cX3_differences 78 = .ok (.iconst 1, 1) := dk_4 (dk_at dksX3_differences_3 6 rfl rfl)
theorem dX3_differences_79 : decode cX3_differences 79 = .ok (.goto 4, 3) := dk_167 0 4 (dk_at dksX3_differences_3 7 rfl rfl)
theorem dX3_differences_82 : decode cX3_differences 82 = .ok (.iconst 0, 1) := dk_3 (dk_at dksX3_differences_3 10 rfl rfl)
theorem dX3_differences_83 : decode cX3_differences 83 = .ok (.iadd, 1) := dk_96 (dk_at dksX3_differences_3 11 rfl rfl)
theorem dX3_differences_84 : decode cX3_differences 84 = .ok (.istore_n 2, 1) := dk_61 (dk_at dksX3_differences_3 12 rfl rfl)
theorem dX3_differences_85 : decode cX3_differences 85 = .ok (.iinc 4 1, 3) := dk_132 4 1 (dk_at dksX3_differences_3 13 rfl rfl)
theorem dX3_differences_88 : decode cX3_differences 88 = .ok (.goto (-73), 3) := dk_167 255 183 (dk_at dksX3_differences_3 16 rfl rfl)
theorem dX3_differences_91 : decode cX3_differences 91 = .ok (.iinc 3 1, 3) := dk_132 3 1 (dk_at dksX3_differences_3 19 rfl rfl)
theorem dX3_differences_94 : decode cX3_differences 94 = .ok (.goto (-90), 3) := dk_167 255 166 (dk_at dksX3_differences_4 0 rfl rfl)
theorem dX3_differences_97 : decode cX3_differences 97 = .ok (.iload_n 2, 1) := dk_28 (dk_at dksX3_differences_4 3 rfl rfl)
theorem dX3_differences_98 : decode cX3_differences 98 = .ok (.ireturn, 1) := dk_172 (dk_at dksX3_differences_4 4 rfl rfl)
abbrev cX3_shape : ByteArray := prog_3_method_8_code
def yX3_shape : MethodName := ⟨RX3, "shape", "(II)I"⟩
def dkwX3_shape_1 : List UInt8 := [160, 0, 12, 42, 27, 28, 182, 0, 88, 167, 0, 11, 42, 180, 0, 33, 27, 50, 28, 46, 172]
abbrev dktX3_shape_1 : List UInt8 := dkwX3_shape_1 ++ []
def dkwX3_shape_0 : List UInt8 := [42, 180, 0, 28, 27, 50, 28, 51, 154, 0, 6, 16, 250, 172, 42, 180, 0, 33, 27, 50, 28, 46, 16, 250]
abbrev dktX3_shape_0 : List UInt8 := dkwX3_shape_0 ++ dktX3_shape_1
theorem dksX3_shape_0 : cX3_shape.data.toList.drop 0 = dktX3_shape_0 := by decide +kernel
theorem dksX3_shape_1 : cX3_shape.data.toList.drop 24 = dktX3_shape_1 := dk_seg dksX3_shape_0 24 rfl rfl
theorem dX3_shape_0 : decode cX3_shape 0 = .ok (.aload_n 0, 1) := dk_42 (dk_at dksX3_shape_0 0 rfl rfl)
theorem dX3_shape_1 : decode cX3_shape 1 = .ok (.getfield 28, 3) := dk_180 0 28 (dk_at dksX3_shape_0 1 rfl rfl)
theorem dX3_shape_4 : decode cX3_shape 4 = .ok (.iload_n 1, 1) := dk_27 (dk_at dksX3_shape_0 4 rfl rfl)
theorem dX3_shape_5 : decode cX3_shape 5 = .ok (.aaload, 1) := dk_50 (dk_at dksX3_shape_0 5 rfl rfl)
theorem dX3_shape_6 : decode cX3_shape 6 = .ok (.iload_n 2, 1) := dk_28 (dk_at dksX3_shape_0 6 rfl rfl)
theorem dX3_shape_7 : decode cX3_shape 7 = .ok (.baload, 1) := dk_51 (dk_at dksX3_shape_0 7 rfl rfl)
theorem dX3_shape_8 : decode cX3_shape 8 = .ok (.ifCond .ne 6, 3) := dk_154 0 6 (dk_at dksX3_shape_0 8 rfl rfl)
theorem dX3_shape_11 : decode cX3_shape 11 = .ok (.bipush (-6), 2) := dk_16 250 (dk_at dksX3_shape_0 11 rfl rfl)
theorem dX3_shape_13 : decode cX3_shape 13 = .ok (.ireturn, 1) := dk_172 (dk_at dksX3_shape_0 13 rfl rfl)
theorem dX3_shape_14 : decode cX3_shape 14 = .ok (.aload_n 0, 1) := dk_42 (dk_at dksX3_shape_0 14 rfl rfl)
theorem dX3_shape_15 : decode cX3_shape 15 = .ok (.getfield 33, 3) := dk_180 0 33 (dk_at dksX3_shape_0 15 rfl rfl)
theorem dX3_shape_18 : decode cX3_shape 18 = .ok (.iload_n 1, 1) := dk_27 (dk_at dksX3_shape_0 18 rfl rfl)
theorem dX3_shape_19 : decode cX3_shape 19 = .ok (.aaload, 1) := dk_50 (dk_at dksX3_shape_0 19 rfl rfl)
theorem dX3_shape_20 : decode cX3_shape 20 = .ok (.iload_n 2, 1) := dk_28 (dk_at dksX3_shape_0 20 rfl rfl)
theorem dX3_shape_21 : decode cX3_shape 21 = .ok (.iaload, 1) := dk_46 (dk_at dksX3_shape_0 21 rfl rfl)
theorem dX3_shape_22 : decode cX3_shape 22 = .ok (.bipush (-6), 2) := dk_16 250 (dk_at dksX3_shape_0 22 rfl rfl)
theorem dX3_shape_24 : decode cX3_shape 24 = .ok (.if_icmp .ne 12, 3) := dk_160 0 12 (dk_at dksX3_shape_1 0 rfl rfl)
theorem dX3_shape_27 : decode cX3_shape 27 = .ok (.aload_n 0, 1) := dk_42 (dk_at dksX3_shape_1 3 rfl rfl)
theorem dX3_shape_28 : decode cX3_shape 28 = .ok (.iload_n 1, 1) := dk_27 (dk_at dksX3_shape_1 4 rfl rfl)
theorem dX3_shape_29 : decode cX3_shape 29 = .ok (.iload_n 2, 1) := dk_28 (dk_at dksX3_shape_1 5 rfl rfl)
theorem dX3_shape_30 : decode cX3_shape 30 = .ok (.invokevirtual 88, 3) := dk_182 0 88 (dk_at dksX3_shape_1 6 rfl rfl)
theorem dX3_shape_33 : decode cX3_shape 33 = .ok (.goto 11, 3) := dk_167 0 11 (dk_at dksX3_shape_1 9 rfl rfl)
theorem dX3_shape_36 : decode cX3_shape 36 = .ok (.aload_n 0, 1) := dk_42 (dk_at dksX3_shape_1 12 rfl rfl)
theorem dX3_shape_37 : decode cX3_shape 37 = .ok (.getfield 33, 3) := dk_180 0 33 (dk_at dksX3_shape_1 13 rfl rfl)
theorem dX3_shape_40 : decode cX3_shape 40 = .ok (.iload_n 1, 1) := dk_27 (dk_at dksX3_shape_1 16 rfl rfl)
theorem dX3_shape_41 : decode cX3_shape 41 = .ok (.aaload, 1) := dk_50 (dk_at dksX3_shape_1 17 rfl rfl)
theorem dX3_shape_42 : decode cX3_shape 42 = .ok (.iload_n 2, 1) := dk_28 (dk_at dksX3_shape_1 18 rfl rfl)
theorem dX3_shape_43 : decode cX3_shape 43 = .ok (.iaload, 1) := dk_46 (dk_at dksX3_shape_1 19 rfl rfl)
theorem dX3_shape_44 : decode cX3_shape 44 = .ok (.ireturn, 1) := dk_172 (dk_at dksX3_shape_1 20 rfl rfl)
abbrev cX3_rightShape : ByteArray := prog_3_method_7_code
def yX3_rightShape : MethodName := ⟨RX3, "rightShape", "(II)I"⟩
def dkwX3_rightShape_0 : List UInt8 := [42, 180, 0, 3, 180, 0, 70, 42, 27, 28, 182, 0, 74, 182, 0, 78, 182, 0, 82, 172]
abbrev dktX3_rightShape_0 : List UInt8 := dkwX3_rightShape_0 ++ []
theorem dksX3_rightShape_0 : cX3_rightShape.data.toList.drop 0 = dktX3_rightShape_0 := by decide +kernel
theorem dX3_rightShape_0 : decode cX3_rightShape 0 = .ok (.aload_n 0, 1) := dk_42 (dk_at dksX3_rightShape_0 0 rfl rfl)
theorem dX3_rightShape_1 : decode cX3_rightShape 1 = .ok (.getfield 3, 3) := dk_180 0 3 (dk_at dksX3_rightShape_0 1 rfl rfl)
theorem dX3_rightShape_4 : decode cX3_rightShape 4 = .ok (.getfield 70, 3) := dk_180 0 70 (dk_at dksX3_rightShape_0 4 rfl rfl)
theorem dX3_rightShape_7 : decode cX3_rightShape 7 = .ok (.aload_n 0, 1) := dk_42 (dk_at dksX3_rightShape_0 7 rfl rfl)
theorem dX3_rightShape_8 : decode cX3_rightShape 8 = .ok (.iload_n 1, 1) := dk_27 (dk_at dksX3_rightShape_0 8 rfl rfl)
theorem dX3_rightShape_9 : decode cX3_rightShape 9 = .ok (.iload_n 2, 1) := dk_28 (dk_at dksX3_rightShape_0 9 rfl rfl)
theorem dX3_rightShape_10 : decode cX3_rightShape 10 = .ok (.invokevirtual 74, 3) := dk_182 0 74 (dk_at dksX3_rightShape_0 10 rfl rfl)
theorem dX3_rightShape_13 : decode cX3_rightShape 13 = .ok (.invokevirtual 78, 3) := dk_182 0 78 (dk_at dksX3_rightShape_0 13 rfl rfl)
theorem dX3_rightShape_16 : decode cX3_rightShape 16 = .ok (.invokevirtual 82, 3) := dk_182 0 82 (dk_at dksX3_rightShape_0 16 rfl rfl)
theorem dX3_rightShape_19 : decode cX3_rightShape 19 = .ok (.ireturn, 1) := dk_172 (dk_at dksX3_rightShape_0 19 rfl rfl)
abbrev cX3_surroundings : ByteArray := prog_3_method_6_code
def yX3_surroundings : MethodName := ⟨RX3, "surroundings", "(II)LCoastTiles$Mask;"⟩
def dkwX3_surroundings_2 : List UInt8 := [176]
abbrev dktX3_surroundings_2 : List UInt8 := dkwX3_surroundings_2 ++ []
def dkwX3_surroundings_1 : List UInt8 := [4, 21, 4, 120, 167, 0, 4, 3, 128, 62, 132, 4, 1, 167, 255, 224, 187, 0, 65, 89, 29, 183, 0, 67]
abbrev dktX3_surroundings_1 : List UInt8 := dkwX3_surroundings_1 ++ dktX3_surroundings_2
def dkwX3_surroundings_0 : List UInt8 := [3, 62, 3, 54, 4, 21, 4, 16, 8, 162, 0, 31, 29, 42, 27, 28, 21, 4, 182, 0, 61, 153, 0, 10]
abbrev dktX3_surroundings_0 : List UInt8 := dkwX3_surroundings_0 ++ dktX3_surroundings_1
theorem dksX3_surroundings_0 : cX3_surroundings.data.toList.drop 0 = dktX3_surroundings_0 := by decide +kernel
theorem dksX3_surroundings_1 : cX3_surroundings.data.toList.drop 24 = dktX3_surroundings_1 := dk_seg dksX3_surroundings_0 24 rfl rfl
theorem dksX3_surroundings_2 : cX3_surroundings.data.toList.drop 48 = dktX3_surroundings_2 := dk_seg dksX3_surroundings_1 24 rfl rfl
theorem dX3_surroundings_0 : decode cX3_surroundings 0 = .ok (.iconst 0, 1) := dk_3 (dk_at dksX3_surroundings_0 0 rfl rfl)
theorem dX3_surroundings_1 : decode cX3_surroundings 1 = .ok (.istore_n 3, 1) := dk_62 (dk_at dksX3_surroundings_0 1 rfl rfl)
theorem dX3_surroundings_2 : decode cX3_surroundings 2 = .ok (.iconst 0, 1) := dk_3 (dk_at dksX3_surroundings_0 2 rfl rfl)
theorem dX3_surroundings_3 : decode cX3_surroundings 3 = .ok (.istore 4, 2) := dk_54 4 (dk_at dksX3_surroundings_0 3 rfl rfl)
theorem dX3_surroundings_5 : decode cX3_surroundings 5 = .ok (.iload 4, 2) := dk_21 4 (dk_at dksX3_surroundings_0 5 rfl rfl)
theorem dX3_surroundings_7 : decode cX3_surroundings 7 = .ok (.bipush 8, 2) := dk_16 8 (dk_at dksX3_surroundings_0 7 rfl rfl)
theorem dX3_surroundings_9 : decode cX3_surroundings 9 = .ok (.if_icmp .ge 31, 3) := dk_162 0 31 (dk_at dksX3_surroundings_0 9 rfl rfl)
theorem dX3_surroundings_12 : decode cX3_surroundings 12 = .ok (.iload_n 3, 1) := dk_29 (dk_at dksX3_surroundings_0 12 rfl rfl)
theorem dX3_surroundings_13 : decode cX3_surroundings 13 = .ok (.aload_n 0, 1) := dk_42 (dk_at dksX3_surroundings_0 13 rfl rfl)
theorem dX3_surroundings_14 : decode cX3_surroundings 14 = .ok (.iload_n 1, 1) := dk_27 (dk_at dksX3_surroundings_0 14 rfl rfl)
theorem dX3_surroundings_15 : decode cX3_surroundings 15 = .ok (.iload_n 2, 1) := dk_28 (dk_at dksX3_surroundings_0 15 rfl rfl)
theorem dX3_surroundings_16 : decode cX3_surroundings 16 = .ok (.iload 4, 2) := dk_21 4 (dk_at dksX3_surroundings_0 16 rfl rfl)
theorem dX3_surroundings_18 : decode cX3_surroundings 18 = .ok (.invokevirtual 61, 3) := dk_182 0 61 (dk_at dksX3_surroundings_0 18 rfl rfl)
theorem dX3_surroundings_21 : decode cX3_surroundings 21 = .ok (.ifCond .eq 10, 3) := dk_153 0 10 (dk_at dksX3_surroundings_0 21 rfl rfl)
theorem dX3_surroundings_24 : decode cX3_surroundings 24 = .ok (.iconst 1, 1) := dk_4 (dk_at dksX3_surroundings_1 0 rfl rfl)
theorem dX3_surroundings_25 : decode cX3_surroundings 25 = .ok (.iload 4, 2) := dk_21 4 (dk_at dksX3_surroundings_1 1 rfl rfl)
theorem dX3_surroundings_27 : decode cX3_surroundings 27 = .ok (.ishl, 1) := dk_120 (dk_at dksX3_surroundings_1 3 rfl rfl)
theorem dX3_surroundings_28 : decode cX3_surroundings 28 = .ok (.goto 4, 3) := dk_167 0 4 (dk_at dksX3_surroundings_1 4 rfl rfl)
theorem dX3_surroundings_31 : decode cX3_surroundings 31 = .ok (.iconst 0, 1) := dk_3 (dk_at dksX3_surroundings_1 7 rfl rfl)
theorem dX3_surroundings_32 : decode cX3_surroundings 32 = .ok (.ior, 1) := dk_128 (dk_at dksX3_surroundings_1 8 rfl rfl)
theorem dX3_surroundings_33 : decode cX3_surroundings 33 = .ok (.istore_n 3, 1) := dk_62 (dk_at dksX3_surroundings_1 9 rfl rfl)
theorem dX3_surroundings_34 : decode cX3_surroundings 34 = .ok (.iinc 4 1, 3) := dk_132 4 1 (dk_at dksX3_surroundings_1 10 rfl rfl)
theorem dX3_surroundings_37 : decode cX3_surroundings 37 = .ok (.goto (-32), 3) := dk_167 255 224 (dk_at dksX3_surroundings_1 13 rfl rfl)
theorem dX3_surroundings_40 : decode cX3_surroundings 40 = .ok (.new 65, 3) := dk_187 0 65 (dk_at dksX3_surroundings_1 16 rfl rfl)
theorem dX3_surroundings_43 : decode cX3_surroundings 43 = .ok (.dup, 1) := dk_89 (dk_at dksX3_surroundings_1 19 rfl rfl)
theorem dX3_surroundings_44 : decode cX3_surroundings 44 = .ok (.iload_n 3, 1) := dk_29 (dk_at dksX3_surroundings_1 20 rfl rfl)
theorem dX3_surroundings_45 : decode cX3_surroundings 45 = .ok (.invokespecial 67, 3) := dk_183 0 67 (dk_at dksX3_surroundings_1 21 rfl rfl)
theorem dX3_surroundings_48 : decode cX3_surroundings 48 = .ok (.areturn, 1) := dk_176 (dk_at dksX3_surroundings_2 0 rfl rfl)
abbrev cX3_isLandIn : ByteArray := prog_3_method_5_code
def yX3_isLandIn : MethodName := ⟨RX3, "isLandIn", "(III)Z"⟩
def dkwX3_isLandIn_0 : List UInt8 := [42, 27, 178, 0, 52, 29, 46, 96, 28, 178, 0, 55, 29, 46, 96, 182, 0, 58, 172]
abbrev dktX3_isLandIn_0 : List UInt8 := dkwX3_isLandIn_0 ++ []
theorem dksX3_isLandIn_0 : cX3_isLandIn.data.toList.drop 0 = dktX3_isLandIn_0 := by decide +kernel
theorem dX3_isLandIn_0 : decode cX3_isLandIn 0 = .ok (.aload_n 0, 1) := dk_42 (dk_at dksX3_isLandIn_0 0 rfl rfl)
theorem dX3_isLandIn_1 : decode cX3_isLandIn 1 = .ok (.iload_n 1, 1) := dk_27 (dk_at dksX3_isLandIn_0 1 rfl rfl)
theorem dX3_isLandIn_2 : decode cX3_isLandIn 2 = .ok (.getstatic 52, 3) := dk_178 0 52 (dk_at dksX3_isLandIn_0 2 rfl rfl)
theorem dX3_isLandIn_5 : decode cX3_isLandIn 5 = .ok (.iload_n 3, 1) := dk_29 (dk_at dksX3_isLandIn_0 5 rfl rfl)
theorem dX3_isLandIn_6 : decode cX3_isLandIn 6 = .ok (.iaload, 1) := dk_46 (dk_at dksX3_isLandIn_0 6 rfl rfl)
theorem dX3_isLandIn_7 : decode cX3_isLandIn 7 = .ok (.iadd, 1) := dk_96 (dk_at dksX3_isLandIn_0 7 rfl rfl)
theorem dX3_isLandIn_8 : decode cX3_isLandIn 8 = .ok (.iload_n 2, 1) := dk_28 (dk_at dksX3_isLandIn_0 8 rfl rfl)
theorem dX3_isLandIn_9 : decode cX3_isLandIn 9 = .ok (.getstatic 55, 3) := dk_178 0 55 (dk_at dksX3_isLandIn_0 9 rfl rfl)
theorem dX3_isLandIn_12 : decode cX3_isLandIn 12 = .ok (.iload_n 3, 1) := dk_29 (dk_at dksX3_isLandIn_0 12 rfl rfl)
theorem dX3_isLandIn_13 : decode cX3_isLandIn 13 = .ok (.iaload, 1) := dk_46 (dk_at dksX3_isLandIn_0 13 rfl rfl)
theorem dX3_isLandIn_14 : decode cX3_isLandIn 14 = .ok (.iadd, 1) := dk_96 (dk_at dksX3_isLandIn_0 14 rfl rfl)
theorem dX3_isLandIn_15 : decode cX3_isLandIn 15 = .ok (.invokevirtual 58, 3) := dk_182 0 58 (dk_at dksX3_isLandIn_0 15 rfl rfl)
theorem dX3_isLandIn_18 : decode cX3_isLandIn 18 = .ok (.ireturn, 1) := dk_172 (dk_at dksX3_isLandIn_0 18 rfl rfl)
abbrev cX3_isLandAt : ByteArray := prog_3_method_4_code
def yX3_isLandAt : MethodName := ⟨RX3, "isLandAt", "(II)Z"⟩
def dkwX3_isLandAt_1 : List UInt8 := [172]
abbrev dktX3_isLandAt_1 : List UInt8 := dkwX3_isLandAt_1 ++ []
def dkwX3_isLandAt_0 : List UInt8 := [42, 27, 28, 182, 0, 48, 153, 0, 14, 42, 180, 0, 28, 27, 50, 28, 51, 167, 0, 7, 42, 180, 0, 22]
abbrev dktX3_isLandAt_0 : List UInt8 := dkwX3_isLandAt_0 ++ dktX3_isLandAt_1
theorem dksX3_isLandAt_0 : cX3_isLandAt.data.toList.drop 0 = dktX3_isLandAt_0 := by decide +kernel
theorem dksX3_isLandAt_1 : cX3_isLandAt.data.toList.drop 24 = dktX3_isLandAt_1 := dk_seg dksX3_isLandAt_0 24 rfl rfl
theorem dX3_isLandAt_0 : decode cX3_isLandAt 0 = .ok (.aload_n 0, 1) := dk_42 (dk_at dksX3_isLandAt_0 0 rfl rfl)
theorem dX3_isLandAt_1 : decode cX3_isLandAt 1 = .ok (.iload_n 1, 1) := dk_27 (dk_at dksX3_isLandAt_0 1 rfl rfl)
theorem dX3_isLandAt_2 : decode cX3_isLandAt 2 = .ok (.iload_n 2, 1) := dk_28 (dk_at dksX3_isLandAt_0 2 rfl rfl)
theorem dX3_isLandAt_3 : decode cX3_isLandAt 3 = .ok (.invokevirtual 48, 3) := dk_182 0 48 (dk_at dksX3_isLandAt_0 3 rfl rfl)
theorem dX3_isLandAt_6 : decode cX3_isLandAt 6 = .ok (.ifCond .eq 14, 3) := dk_153 0 14 (dk_at dksX3_isLandAt_0 6 rfl rfl)
theorem dX3_isLandAt_9 : decode cX3_isLandAt 9 = .ok (.aload_n 0, 1) := dk_42 (dk_at dksX3_isLandAt_0 9 rfl rfl)
theorem dX3_isLandAt_10 : decode cX3_isLandAt 10 = .ok (.getfield 28, 3) := dk_180 0 28 (dk_at dksX3_isLandAt_0 10 rfl rfl)
theorem dX3_isLandAt_13 : decode cX3_isLandAt 13 = .ok (.iload_n 1, 1) := dk_27 (dk_at dksX3_isLandAt_0 13 rfl rfl)
theorem dX3_isLandAt_14 : decode cX3_isLandAt 14 = .ok (.aaload, 1) := dk_50 (dk_at dksX3_isLandAt_0 14 rfl rfl)
theorem dX3_isLandAt_15 : decode cX3_isLandAt 15 = .ok (.iload_n 2, 1) := dk_28 (dk_at dksX3_isLandAt_0 15 rfl rfl)
theorem dX3_isLandAt_16 : decode cX3_isLandAt 16 = .ok (.baload, 1) := dk_51 (dk_at dksX3_isLandAt_0 16 rfl rfl)
theorem dX3_isLandAt_17 : decode cX3_isLandAt 17 = .ok (.goto 7, 3) := dk_167 0 7 (dk_at dksX3_isLandAt_0 17 rfl rfl)
theorem dX3_isLandAt_20 : decode cX3_isLandAt 20 = .ok (.aload_n 0, 1) := dk_42 (dk_at dksX3_isLandAt_0 20 rfl rfl)
theorem dX3_isLandAt_21 : decode cX3_isLandAt 21 = .ok (.getfield 22, 3) := dk_180 0 22 (dk_at dksX3_isLandAt_0 21 rfl rfl)
theorem dX3_isLandAt_24 : decode cX3_isLandAt 24 = .ok (.ireturn, 1) := dk_172 (dk_at dksX3_isLandAt_1 0 rfl rfl)
abbrev cX3_isTile : ByteArray := prog_3_method_3_code
def yX3_isTile : MethodName := ⟨RX3, "isTile", "(II)Z"⟩
def dkwX3_isTile_1 : List UInt8 := [4, 167, 0, 4, 3, 172]
abbrev dktX3_isTile_1 : List UInt8 := dkwX3_isTile_1 ++ []
def dkwX3_isTile_0 : List UInt8 := [27, 155, 0, 27, 27, 42, 180, 0, 15, 162, 0, 19, 28, 155, 0, 15, 28, 42, 180, 0, 19, 162, 0, 7]
abbrev dktX3_isTile_0 : List UInt8 := dkwX3_isTile_0 ++ dktX3_isTile_1
theorem dksX3_isTile_0 : cX3_isTile.data.toList.drop 0 = dktX3_isTile_0 := by decide +kernel
theorem dksX3_isTile_1 : cX3_isTile.data.toList.drop 24 = dktX3_isTile_1 := dk_seg dksX3_isTile_0 24 rfl rfl
theorem dX3_isTile_0 : decode cX3_isTile 0 = .ok (.iload_n 1, 1) := dk_27 (dk_at dksX3_isTile_0 0 rfl rfl)
theorem dX3_isTile_1 : decode cX3_isTile 1 = .ok (.ifCond .lt 27, 3) := dk_155 0 27 (dk_at dksX3_isTile_0 1 rfl rfl)
theorem dX3_isTile_4 : decode cX3_isTile 4 = .ok (.iload_n 1, 1) := dk_27 (dk_at dksX3_isTile_0 4 rfl rfl)
theorem dX3_isTile_5 : decode cX3_isTile 5 = .ok (.aload_n 0, 1) := dk_42 (dk_at dksX3_isTile_0 5 rfl rfl)
theorem dX3_isTile_6 : decode cX3_isTile 6 = .ok (.getfield 15, 3) := dk_180 0 15 (dk_at dksX3_isTile_0 6 rfl rfl)
theorem dX3_isTile_9 : decode cX3_isTile 9 = .ok (.if_icmp .ge 19, 3) := dk_162 0 19 (dk_at dksX3_isTile_0 9 rfl rfl)
theorem dX3_isTile_12 : decode cX3_isTile 12 = .ok (.iload_n 2, 1) := dk_28 (dk_at dksX3_isTile_0 12 rfl rfl)
theorem dX3_isTile_13 : decode cX3_isTile 13 = .ok (.ifCond .lt 15, 3) := dk_155 0 15 (dk_at dksX3_isTile_0 13 rfl rfl)
theorem dX3_isTile_16 : decode cX3_isTile 16 = .ok (.iload_n 2, 1) := dk_28 (dk_at dksX3_isTile_0 16 rfl rfl)
theorem dX3_isTile_17 : decode cX3_isTile 17 = .ok (.aload_n 0, 1) := dk_42 (dk_at dksX3_isTile_0 17 rfl rfl)
theorem dX3_isTile_18 : decode cX3_isTile 18 = .ok (.getfield 19, 3) := dk_180 0 19 (dk_at dksX3_isTile_0 18 rfl rfl)
theorem dX3_isTile_21 : decode cX3_isTile 21 = .ok (.if_icmp .ge 7, 3) := dk_162 0 7 (dk_at dksX3_isTile_0 21 rfl rfl)
theorem dX3_isTile_24 : decode cX3_isTile 24 = .ok (.iconst 1, 1) := dk_4 (dk_at dksX3_isTile_1 0 rfl rfl)
theorem dX3_isTile_25 : decode cX3_isTile 25 = .ok (.goto 4, 3) := dk_167 0 4 (dk_at dksX3_isTile_1 1 rfl rfl)
theorem dX3_isTile_28 : decode cX3_isTile 28 = .ok (.iconst 0, 1) := dk_3 (dk_at dksX3_isTile_1 4 rfl rfl)
theorem dX3_isTile_29 : decode cX3_isTile 29 = .ok (.ireturn, 1) := dk_172 (dk_at dksX3_isTile_1 5 rfl rfl)
abbrev cX3_put : ByteArray := prog_3_method_10_code
def yX3_put : MethodName := ⟨RX3, "put", "(IIZ)Z"⟩
def dkwX3_put_1 : List UInt8 := [50, 28, 29, 84, 29, 154, 0, 13, 42, 180, 0, 33, 27, 50, 28, 16, 250, 79, 21, 4, 172]
abbrev dktX3_put_1 : List UInt8 := dkwX3_put_1 ++ []
def dkwX3_put_0 : List UInt8 := [42, 180, 0, 28, 27, 50, 28, 51, 29, 159, 0, 7, 4, 167, 0, 4, 3, 54, 4, 42, 180, 0, 28, 27]
abbrev dktX3_put_0 : List UInt8 := dkwX3_put_0 ++ dktX3_put_1
theorem dksX3_put_0 : cX3_put.data.toList.drop 0 = dktX3_put_0 := by decide +kernel
theorem dksX3_put_1 : cX3_put.data.toList.drop 24 = dktX3_put_1 := dk_seg dksX3_put_0 24 rfl rfl
theorem dX3_put_0 : decode cX3_put 0 = .ok (.aload_n 0, 1) := dk_42 (dk_at dksX3_put_0 0 rfl rfl)
theorem dX3_put_1 : decode cX3_put 1 = .ok (.getfield 28, 3) := dk_180 0 28 (dk_at dksX3_put_0 1 rfl rfl)
theorem dX3_put_4 : decode cX3_put 4 = .ok (.iload_n 1, 1) := dk_27 (dk_at dksX3_put_0 4 rfl rfl)
theorem dX3_put_5 : decode cX3_put 5 = .ok (.aaload, 1) := dk_50 (dk_at dksX3_put_0 5 rfl rfl)
theorem dX3_put_6 : decode cX3_put 6 = .ok (.iload_n 2, 1) := dk_28 (dk_at dksX3_put_0 6 rfl rfl)
theorem dX3_put_7 : decode cX3_put 7 = .ok (.baload, 1) := dk_51 (dk_at dksX3_put_0 7 rfl rfl)
theorem dX3_put_8 : decode cX3_put 8 = .ok (.iload_n 3, 1) := dk_29 (dk_at dksX3_put_0 8 rfl rfl)
theorem dX3_put_9 : decode cX3_put 9 = .ok (.if_icmp .eq 7, 3) := dk_159 0 7 (dk_at dksX3_put_0 9 rfl rfl)
theorem dX3_put_12 : decode cX3_put 12 = .ok (.iconst 1, 1) := dk_4 (dk_at dksX3_put_0 12 rfl rfl)
theorem dX3_put_13 : decode cX3_put 13 = .ok (.goto 4, 3) := dk_167 0 4 (dk_at dksX3_put_0 13 rfl rfl)
theorem dX3_put_16 : decode cX3_put 16 = .ok (.iconst 0, 1) := dk_3 (dk_at dksX3_put_0 16 rfl rfl)
theorem dX3_put_17 : decode cX3_put 17 = .ok (.istore 4, 2) := dk_54 4 (dk_at dksX3_put_0 17 rfl rfl)
theorem dX3_put_19 : decode cX3_put 19 = .ok (.aload_n 0, 1) := dk_42 (dk_at dksX3_put_0 19 rfl rfl)
theorem dX3_put_20 : decode cX3_put 20 = .ok (.getfield 28, 3) := dk_180 0 28 (dk_at dksX3_put_0 20 rfl rfl)
theorem dX3_put_23 : decode cX3_put 23 = .ok (.iload_n 1, 1) := dk_27 (dk_at dksX3_put_0 23 rfl rfl)
theorem dX3_put_24 : decode cX3_put 24 = .ok (.aaload, 1) := dk_50 (dk_at dksX3_put_1 0 rfl rfl)
theorem dX3_put_25 : decode cX3_put 25 = .ok (.iload_n 2, 1) := dk_28 (dk_at dksX3_put_1 1 rfl rfl)
theorem dX3_put_26 : decode cX3_put 26 = .ok (.iload_n 3, 1) := dk_29 (dk_at dksX3_put_1 2 rfl rfl)
theorem dX3_put_27 : decode cX3_put 27 = .ok (.bastore, 1) := dk_84 (dk_at dksX3_put_1 3 rfl rfl)
theorem dX3_put_28 : decode cX3_put 28 = .ok (.iload_n 3, 1) := dk_29 (dk_at dksX3_put_1 4 rfl rfl)
theorem dX3_put_29 : decode cX3_put 29 = .ok (.ifCond .ne 13, 3) := dk_154 0 13 (dk_at dksX3_put_1 5 rfl rfl)
theorem dX3_put_32 : decode cX3_put 32 = .ok (.aload_n 0, 1) := dk_42 (dk_at dksX3_put_1 8 rfl rfl)
theorem dX3_put_33 : decode cX3_put 33 = .ok (.getfield 33, 3) := dk_180 0 33 (dk_at dksX3_put_1 9 rfl rfl)
theorem dX3_put_36 : decode cX3_put 36 = .ok (.iload_n 1, 1) := dk_27 (dk_at dksX3_put_1 12 rfl rfl)
theorem dX3_put_37 : decode cX3_put 37 = .ok (.aaload, 1) := dk_50 (dk_at dksX3_put_1 13 rfl rfl)
theorem dX3_put_38 : decode cX3_put 38 = .ok (.iload_n 2, 1) := dk_28 (dk_at dksX3_put_1 14 rfl rfl)
theorem dX3_put_39 : decode cX3_put 39 = .ok (.bipush (-6), 2) := dk_16 250 (dk_at dksX3_put_1 15 rfl rfl)
theorem dX3_put_41 : decode cX3_put 41 = .ok (.iastore, 1) := dk_79 (dk_at dksX3_put_1 17 rfl rfl)
theorem dX3_put_42 : decode cX3_put 42 = .ok (.iload 4, 2) := dk_21 4 (dk_at dksX3_put_1 18 rfl rfl)
theorem dX3_put_44 : decode cX3_put 44 = .ok (.ireturn, 1) := dk_172 (dk_at dksX3_put_1 20 rfl rfl)
abbrev cX3_search : ByteArray := prog_3_method_14_code
def yX3_search : MethodName := ⟨RX3, "search", "(IIZLCoastTiles$Visitor;)Ljava/util/BitSet;"⟩
def dkwX3_search_9 : List UInt8 := [54, 8, 167, 255, 122, 167, 255, 89, 25, 5, 176]
abbrev dktX3_search_9 : List UInt8 := dkwX3_search_9 ++ []
def dkwX3_search_8 : List UInt8 := [180, 0, 142, 4, 96, 183, 0, 109, 182, 0, 112, 87, 21, 8, 29, 153, 0, 7, 4, 167, 0, 4, 5, 96]
abbrev dktX3_search_8 : List UInt8 := dkwX3_search_8 ++ dktX3_search_9
def dkwX3_search_7 : List UInt8 := [16, 12, 21, 9, 104, 21, 10, 96, 182, 0, 116, 25, 6, 187, 0, 107, 89, 21, 9, 21, 10, 25, 7]
abbrev dktX3_search_7 : List UInt8 := dkwX3_search_7 ++ dktX3_search_8
def dkwX3_search_6 : List UInt8 := [28, 51, 160, 0, 56, 25, 5, 16, 12, 21, 9, 104, 21, 10, 96, 182, 0, 138, 154, 0, 40, 25, 5]
abbrev dktX3_search_6 : List UInt8 := dkwX3_search_6 ++ dktX3_search_7
def dkwX3_search_5 : List UInt8 := [21, 10, 182, 0, 48, 153, 0, 77, 42, 180, 0, 28, 21, 9, 50, 21, 10, 51, 42, 180, 0, 28, 27, 50]
abbrev dktX3_search_5 : List UInt8 := dkwX3_search_5 ++ dktX3_search_6
def dkwX3_search_4 : List UInt8 := [21, 8, 46, 96, 54, 9, 25, 7, 180, 0, 135, 178, 0, 55, 21, 8, 46, 96, 54, 10, 42, 21, 9]
abbrev dktX3_search_4 : List UInt8 := dkwX3_search_4 ++ dktX3_search_5
def dkwX3_search_3 : List UInt8 := [185, 0, 126, 2, 0, 3, 54, 8, 21, 8, 16, 8, 162, 0, 133, 25, 7, 180, 0, 132, 178, 0, 52]
abbrev dktX3_search_3 : List UInt8 := dkwX3_search_3 ++ dktX3_search_4
def dkwX3_search_2 : List UInt8 := [182, 0, 119, 154, 0, 165, 25, 6, 182, 0, 123, 192, 0, 107, 58, 7, 25, 4, 25, 7]
abbrev dktX3_search_2 : List UInt8 := dkwX3_search_2 ++ dktX3_search_3
def dkwX3_search_1 : List UInt8 := [27, 28, 3, 183, 0, 109, 182, 0, 112, 87, 25, 5, 16, 12, 27, 104, 28, 96, 182, 0, 116, 25, 6]
abbrev dktX3_search_1 : List UInt8 := dkwX3_search_1 ++ dktX3_search_2
def dkwX3_search_0 : List UInt8 := [187, 0, 101, 89, 183, 0, 103, 58, 5, 187, 0, 104, 89, 183, 0, 106, 58, 6, 25, 6, 187, 0, 107, 89]
abbrev dktX3_search_0 : List UInt8 := dkwX3_search_0 ++ dktX3_search_1
theorem dksX3_search_0 : cX3_search.data.toList.drop 0 = dktX3_search_0 := by decide +kernel
theorem dksX3_search_1 : cX3_search.data.toList.drop 24 = dktX3_search_1 := dk_seg dksX3_search_0 24 rfl rfl
theorem dksX3_search_2 : cX3_search.data.toList.drop 47 = dktX3_search_2 := dk_seg dksX3_search_1 23 rfl rfl
theorem dksX3_search_3 : cX3_search.data.toList.drop 67 = dktX3_search_3 := dk_seg dksX3_search_2 20 rfl rfl
theorem dksX3_search_4 : cX3_search.data.toList.drop 90 = dktX3_search_4 := dk_seg dksX3_search_3 23 rfl rfl
theorem dksX3_search_5 : cX3_search.data.toList.drop 113 = dktX3_search_5 := dk_seg dksX3_search_4 23 rfl rfl
theorem dksX3_search_6 : cX3_search.data.toList.drop 137 = dktX3_search_6 := dk_seg dksX3_search_5 24 rfl rfl
theorem dksX3_search_7 : cX3_search.data.toList.drop 160 = dktX3_search_7 := dk_seg dksX3_search_6 23 rfl rfl
theorem dksX3_search_8 : cX3_search.data.toList.drop 183 = dktX3_search_8 := dk_seg dksX3_search_7 23 rfl rfl
theorem dksX3_search_9 : cX3_search.data.toList.drop 207 = dktX3_search_9 := dk_seg dksX3_search_8 24 rfl rfl
theorem dX3_search_0 : decode cX3_search 0 = .ok (.new 101, 3) := dk_187 0 101 (dk_at dksX3_search_0 0 rfl rfl)
theorem dX3_search_3 : decode cX3_search 3 = .ok (.dup, 1) := dk_89 (dk_at dksX3_search_0 3 rfl rfl)
theorem dX3_search_4 : decode cX3_search 4 = .ok (.invokespecial 103, 3) := dk_183 0 103 (dk_at dksX3_search_0 4 rfl rfl)
theorem dX3_search_7 : decode cX3_search 7 = .ok (.astore 5, 2) := dk_58 5 (dk_at dksX3_search_0 7 rfl rfl)
theorem dX3_search_9 : decode cX3_search 9 = .ok (.new 104, 3) := dk_187 0 104 (dk_at dksX3_search_0 9 rfl rfl)
theorem dX3_search_12 : decode cX3_search 12 = .ok (.dup, 1) := dk_89 (dk_at dksX3_search_0 12 rfl rfl)
theorem dX3_search_13 : decode cX3_search 13 = .ok (.invokespecial 106, 3) := dk_183 0 106 (dk_at dksX3_search_0 13 rfl rfl)
theorem dX3_search_16 : decode cX3_search 16 = .ok (.astore 6, 2) := dk_58 6 (dk_at dksX3_search_0 16 rfl rfl)
theorem dX3_search_18 : decode cX3_search 18 = .ok (.aload 6, 2) := dk_25 6 (dk_at dksX3_search_0 18 rfl rfl)
theorem dX3_search_20 : decode cX3_search 20 = .ok (.new 107, 3) := dk_187 0 107 (dk_at dksX3_search_0 20 rfl rfl)
theorem dX3_search_23 : decode cX3_search 23 = .ok (.dup, 1) := dk_89 (dk_at dksX3_search_0 23 rfl rfl)
theorem dX3_search_24 : decode cX3_search 24 = .ok (.iload_n 1, 1) := dk_27 (dk_at dksX3_search_1 0 rfl rfl)
theorem dX3_search_25 : decode cX3_search 25 = .ok (.iload_n 2, 1) := dk_28 (dk_at dksX3_search_1 1 rfl rfl)
theorem dX3_search_26 : decode cX3_search 26 = .ok (.iconst 0, 1) := dk_3 (dk_at dksX3_search_1 2 rfl rfl)
theorem dX3_search_27 : decode cX3_search 27 = .ok (.invokespecial 109, 3) := dk_183 0 109 (dk_at dksX3_search_1 3 rfl rfl)
theorem dX3_search_30 : decode cX3_search 30 = .ok (.invokevirtual 112, 3) := dk_182 0 112 (dk_at dksX3_search_1 6 rfl rfl)
theorem dX3_search_33 : decode cX3_search 33 = .ok (.pop, 1) := dk_87 (dk_at dksX3_search_1 9 rfl rfl)
theorem dX3_search_34 : decode cX3_search 34 = .ok (.aload 5, 2) := dk_25 5 (dk_at dksX3_search_1 10 rfl rfl)
theorem dX3_search_36 : decode cX3_search 36 = .ok (.bipush 12, 2) := dk_16 12 (dk_at dksX3_search_1 12 rfl rfl)
theorem dX3_search_38 : decode cX3_search 38 = .ok (.iload_n 1, 1) := dk_27 (dk_at dksX3_search_1 14 rfl rfl)
theorem dX3_search_39 : decode cX3_search 39 = .ok (.imul, 1) := dk_104 (dk_at dksX3_search_1 15 rfl rfl)
theorem dX3_search_40 : decode cX3_search 40 = .ok (.iload_n 2, 1) := dk_28 (dk_at dksX3_search_1 16 rfl rfl)
theorem dX3_search_41 : decode cX3_search 41 = .ok (.iadd, 1) := dk_96 (dk_at dksX3_search_1 17 rfl rfl)
theorem dX3_search_42 : decode cX3_search 42 = .ok (.invokevirtual 116, 3) := dk_182 0 116 (dk_at dksX3_search_1 18 rfl rfl)
theorem dX3_search_45 : decode cX3_search 45 = .ok (.aload 6, 2) := dk_25 6 (dk_at dksX3_search_1 21 rfl rfl)
theorem dX3_search_47 : decode cX3_search 47 = .ok (.invokevirtual 119, 3) := dk_182 0 119 (dk_at dksX3_search_2 0 rfl rfl)
theorem dX3_search_50 : decode cX3_search 50 = .ok (.ifCond .ne 165, 3) := dk_154 0 165 (dk_at dksX3_search_2 3 rfl rfl)
theorem dX3_search_53 : decode cX3_search 53 = .ok (.aload 6, 2) := dk_25 6 (dk_at dksX3_search_2 6 rfl rfl)
theorem dX3_search_55 : decode cX3_search 55 = .ok (.invokevirtual 123, 3) := dk_182 0 123 (dk_at dksX3_search_2 8 rfl rfl)
theorem dX3_search_58 : decode cX3_search 58 = .ok (.checkcast 107, 3) := dk_192 0 107 (dk_at dksX3_search_2 11 rfl rfl)
theorem dX3_search_61 : decode cX3_search 61 = .ok (.astore 7, 2) := dk_58 7 (dk_at dksX3_search_2 14 rfl rfl)
theorem dX3_search_63 : decode cX3_search 63 = .ok (.aload 4, 2) := dk_25 4 (dk_at dksX3_search_2 16 rfl rfl)
theorem dX3_search_65 : decode cX3_search 65 = .ok (.aload 7, 2) := dk_25 7 (dk_at dksX3_search_2 18 rfl rfl)
theorem dX3_search_67 : decode cX3_search 67 = .ok (.invokeinterface 126 2, 5) := by decide +kernel
theorem dX3_search_72 : decode cX3_search 72 = .ok (.iconst 0, 1) := dk_3 (dk_at dksX3_search_3 5 rfl rfl)
theorem dX3_search_73 : decode cX3_search 73 = .ok (.istore 8, 2) := dk_54 8 (dk_at dksX3_search_3 6 rfl rfl)
theorem dX3_search_75 : decode cX3_search 75 = .ok (.iload 8, 2) := dk_21 8 (dk_at dksX3_search_3 8 rfl rfl)
theorem dX3_search_77 : decode cX3_search 77 = .ok (.bipush 8, 2) := dk_16 8 (dk_at dksX3_search_3 10 rfl rfl)
theorem dX3_search_79 : decode cX3_search 79 = .ok (.if_icmp .ge 133, 3) := dk_162 0 133 (dk_at dksX3_search_3 12 rfl rfl)
theorem dX3_search_82 : decode cX3_search 82 = .ok (.aload 7, 2) := dk_25 7 (dk_at dksX3_search_3 15 rfl rfl)
theorem dX3_search_84 : decode cX3_search 84 = .ok (.getfield 132, 3) := dk_180 0 132 (dk_at dksX3_search_3 17 rfl rfl)
theorem dX3_search_87 : decode cX3_search 87 = .ok (.getstatic 52, 3) := dk_178 0 52 (dk_at dksX3_search_3 20 rfl rfl)
theorem dX3_search_90 : decode cX3_search 90 = .ok (.iload 8, 2) := dk_21 8 (dk_at dksX3_search_4 0 rfl rfl)
theorem dX3_search_92 : decode cX3_search 92 = .ok (.iaload, 1) := dk_46 (dk_at dksX3_search_4 2 rfl rfl)
theorem dX3_search_93 : decode cX3_search 93 = .ok (.iadd, 1) := dk_96 (dk_at dksX3_search_4 3 rfl rfl)
theorem dX3_search_94 : decode cX3_search 94 = .ok (.istore 9, 2) := dk_54 9 (dk_at dksX3_search_4 4 rfl rfl)
theorem dX3_search_96 : decode cX3_search 96 = .ok (.aload 7, 2) := dk_25 7 (dk_at dksX3_search_4 6 rfl rfl)
theorem dX3_search_98 : decode cX3_search 98 = .ok (.getfield 135, 3) := dk_180 0 135 (dk_at dksX3_search_4 8 rfl rfl)
theorem dX3_search_101 : decode cX3_search 101 = .ok (.getstatic 55, 3) := dk_178 0 55 (dk_at dksX3_search_4 11 rfl rfl)
theorem dX3_search_104 : decode cX3_search 104 = .ok (.iload 8, 2) := dk_21 8 (dk_at dksX3_search_4 14 rfl rfl)
theorem dX3_search_106 : decode cX3_search 106 = .ok (.iaload, 1) := dk_46 (dk_at dksX3_search_4 16 rfl rfl)
theorem dX3_search_107 : decode cX3_search 107 = .ok (.iadd, 1) := dk_96 (dk_at dksX3_search_4 17 rfl rfl)
theorem dX3_search_108 : decode cX3_search 108 = .ok (.istore 10, 2) := dk_54 10 (dk_at dksX3_search_4 18 rfl rfl)
theorem dX3_search_110 : decode cX3_search 110 = .ok (.aload_n 0, 1) := dk_42 (dk_at dksX3_search_4 20 rfl rfl)
theorem dX3_search_111 : decode cX3_search 111 = .ok (.iload 9, 2) := dk_21 9 (dk_at dksX3_search_4 21 rfl rfl)
theorem dX3_search_113 : decode cX3_search 113 = .ok (.iload 10, 2) := dk_21 10 (dk_at dksX3_search_5 0 rfl rfl)
theorem dX3_search_115 : decode cX3_search 115 = .ok (.invokevirtual 48, 3) := dk_182 0 48 (dk_at dksX3_search_5 2 rfl rfl)
theorem dX3_search_118 : decode cX3_search 118 = .ok (.ifCond .eq 77, 3) := dk_153 0 77 (dk_at dksX3_search_5 5 rfl rfl)
theorem dX3_search_121 : decode cX3_search 121 = .ok (.aload_n 0, 1) := dk_42 (dk_at dksX3_search_5 8 rfl rfl)
theorem dX3_search_122 : decode cX3_search 122 = .ok (.getfield 28, 3) := dk_180 0 28 (dk_at dksX3_search_5 9 rfl rfl)
theorem dX3_search_125 : decode cX3_search 125 = .ok (.iload 9, 2) := dk_21 9 (dk_at dksX3_search_5 12 rfl rfl)
theorem dX3_search_127 : decode cX3_search 127 = .ok (.aaload, 1) := dk_50 (dk_at dksX3_search_5 14 rfl rfl)
theorem dX3_search_128 : decode cX3_search 128 = .ok (.iload 10, 2) := dk_21 10 (dk_at dksX3_search_5 15 rfl rfl)
theorem dX3_search_130 : decode cX3_search 130 = .ok (.baload, 1) := dk_51 (dk_at dksX3_search_5 17 rfl rfl)
theorem dX3_search_131 : decode cX3_search 131 = .ok (.aload_n 0, 1) := dk_42 (dk_at dksX3_search_5 18 rfl rfl)
theorem dX3_search_132 : decode cX3_search 132 = .ok (.getfield 28, 3) := dk_180 0 28 (dk_at dksX3_search_5 19 rfl rfl)
theorem dX3_search_135 : decode cX3_search 135 = .ok (.iload_n 1, 1) := dk_27 (dk_at dksX3_search_5 22 rfl rfl)
theorem dX3_search_136 : decode cX3_search 136 = .ok (.aaload, 1) := dk_50 (dk_at dksX3_search_5 23 rfl rfl)
theorem dX3_search_137 : decode cX3_search 137 = .ok (.iload_n 2, 1) := dk_28 (dk_at dksX3_search_6 0 rfl rfl)
theorem dX3_search_138 : decode cX3_search 138 = .ok (.baload, 1) := dk_51 (dk_at dksX3_search_6 1 rfl rfl)
theorem dX3_search_139 : decode cX3_search 139 = .ok (.if_icmp .ne 56, 3) := dk_160 0 56 (dk_at dksX3_search_6 2 rfl rfl)
theorem dX3_search_142 : decode cX3_search 142 = .ok (.aload 5, 2) := dk_25 5 (dk_at dksX3_search_6 5 rfl rfl)
theorem dX3_search_144 : decode cX3_search 144 = .ok (.bipush 12, 2) := dk_16 12 (dk_at dksX3_search_6 7 rfl rfl)
theorem dX3_search_146 : decode cX3_search 146 = .ok (.iload 9, 2) := dk_21 9 (dk_at dksX3_search_6 9 rfl rfl)
theorem dX3_search_148 : decode cX3_search 148 = .ok (.imul, 1) := dk_104 (dk_at dksX3_search_6 11 rfl rfl)
theorem dX3_search_149 : decode cX3_search 149 = .ok (.iload 10, 2) := dk_21 10 (dk_at dksX3_search_6 12 rfl rfl)
theorem dX3_search_151 : decode cX3_search 151 = .ok (.iadd, 1) := dk_96 (dk_at dksX3_search_6 14 rfl rfl)
theorem dX3_search_152 : decode cX3_search 152 = .ok (.invokevirtual 138, 3) := dk_182 0 138 (dk_at dksX3_search_6 15 rfl rfl)
theorem dX3_search_155 : decode cX3_search 155 = .ok (.ifCond .ne 40, 3) := dk_154 0 40 (dk_at dksX3_search_6 18 rfl rfl)
theorem dX3_search_158 : decode cX3_search 158 = .ok (.aload 5, 2) := dk_25 5 (dk_at dksX3_search_6 21 rfl rfl)
theorem dX3_search_160 : decode cX3_search 160 = .ok (.bipush 12, 2) := dk_16 12 (dk_at dksX3_search_7 0 rfl rfl)
theorem dX3_search_162 : decode cX3_search 162 = .ok (.iload 9, 2) := dk_21 9 (dk_at dksX3_search_7 2 rfl rfl)
theorem dX3_search_164 : decode cX3_search 164 = .ok (.imul, 1) := dk_104 (dk_at dksX3_search_7 4 rfl rfl)
theorem dX3_search_165 : decode cX3_search 165 = .ok (.iload 10, 2) := dk_21 10 (dk_at dksX3_search_7 5 rfl rfl)
theorem dX3_search_167 : decode cX3_search 167 = .ok (.iadd, 1) := dk_96 (dk_at dksX3_search_7 7 rfl rfl)
theorem dX3_search_168 : decode cX3_search 168 = .ok (.invokevirtual 116, 3) := dk_182 0 116 (dk_at dksX3_search_7 8 rfl rfl)
theorem dX3_search_171 : decode cX3_search 171 = .ok (.aload 6, 2) := dk_25 6 (dk_at dksX3_search_7 11 rfl rfl)
theorem dX3_search_173 : decode cX3_search 173 = .ok (.new 107, 3) := dk_187 0 107 (dk_at dksX3_search_7 13 rfl rfl)
theorem dX3_search_176 : decode cX3_search 176 = .ok (.dup, 1) := dk_89 (dk_at dksX3_search_7 16 rfl rfl)
theorem dX3_search_177 : decode cX3_search 177 = .ok (.iload 9, 2) := dk_21 9 (dk_at dksX3_search_7 17 rfl rfl)
theorem dX3_search_179 : decode cX3_search 179 = .ok (.iload 10, 2) := dk_21 10 (dk_at dksX3_search_7 19 rfl rfl)
theorem dX3_search_181 : decode cX3_search 181 = .ok (.aload 7, 2) := dk_25 7 (dk_at dksX3_search_7 21 rfl rfl)
theorem dX3_search_183 : decode cX3_search 183 = .ok (.getfield 142, 3) := dk_180 0 142 (dk_at dksX3_search_8 0 rfl rfl)
theorem dX3_search_186 : decode cX3_search 186 = .ok (.iconst 1, 1) := dk_4 (dk_at dksX3_search_8 3 rfl rfl)
theorem dX3_search_187 : decode cX3_search 187 = .ok (.iadd, 1) := dk_96 (dk_at dksX3_search_8 4 rfl rfl)
theorem dX3_search_188 : decode cX3_search 188 = .ok (.invokespecial 109, 3) := dk_183 0 109 (dk_at dksX3_search_8 5 rfl rfl)
theorem dX3_search_191 : decode cX3_search 191 = .ok (.invokevirtual 112, 3) := dk_182 0 112 (dk_at dksX3_search_8 8 rfl rfl)
theorem dX3_search_194 : decode cX3_search 194 = .ok (.pop, 1) := dk_87 (dk_at dksX3_search_8 11 rfl rfl)
theorem dX3_search_195 : decode cX3_search 195 = .ok (.iload 8, 2) := dk_21 8 (dk_at dksX3_search_8 12 rfl rfl)
theorem dX3_search_197 : decode cX3_search 197 = .ok (.iload_n 3, 1) := dk_29 (dk_at dksX3_search_8 14 rfl rfl)
theorem dX3_search_198 : decode cX3_search 198 = .ok (.ifCond .eq 7, 3) := dk_153 0 7 (dk_at dksX3_search_8 15 rfl rfl)
theorem dX3_search_201 : decode cX3_search 201 = .ok (.iconst 1, 1) := dk_4 (dk_at dksX3_search_8 18 rfl rfl)
theorem dX3_search_202 : decode cX3_search 202 = .ok (.goto 4, 3) := dk_167 0 4 (dk_at dksX3_search_8 19 rfl rfl)
theorem dX3_search_205 : decode cX3_search 205 = .ok (.iconst 2, 1) := dk_5 (dk_at dksX3_search_8 22 rfl rfl)
theorem dX3_search_206 : decode cX3_search 206 = .ok (.iadd, 1) := dk_96 (dk_at dksX3_search_8 23 rfl rfl)
theorem dX3_search_207 : decode cX3_search 207 = .ok (.istore 8, 2) := dk_54 8 (dk_at dksX3_search_9 0 rfl rfl)
theorem dX3_search_209 : decode cX3_search 209 = .ok (.goto (-134), 3) := dk_167 255 122 (dk_at dksX3_search_9 2 rfl rfl)
theorem dX3_search_212 : decode cX3_search 212 = .ok (.goto (-167), 3) := dk_167 255 89 (dk_at dksX3_search_9 5 rfl rfl)
theorem dX3_search_215 : decode cX3_search 215 = .ok (.aload 5, 2) := dk_25 5 (dk_at dksX3_search_9 8 rfl rfl)
theorem dX3_search_217 : decode cX3_search 217 = .ok (.areturn, 1) := dk_176 (dk_at dksX3_search_9 10 rfl rfl)
abbrev cX3_turned : ByteArray := prog_3_method_18_code
def yX3_turned : MethodName := ⟨RX3, "turned", "()LCoastTiles$Coast;"⟩
def dkwX3_turned_6 : List UInt8 := [176]
abbrev dktX3_turned_6 : List UInt8 := dkwX3_turned_6 ++ []
def dkwX3_turned_5 : List UInt8 := [182, 0, 94, 4, 182, 0, 170, 182, 0, 82, 79, 132, 3, 1, 167, 255, 159, 132, 2, 1, 167, 255, 143, 43]
abbrev dktX3_turned_5 : List UInt8 := dkwX3_turned_5 ++ dktX3_turned_6
def dkwX3_turned_4 : List UInt8 := [160, 0, 8, 16, 250, 167, 0, 29, 42, 180, 0, 3, 180, 0, 70, 42, 180, 0, 3, 180, 0, 70, 21, 4]
abbrev dktX3_turned_4 : List UInt8 := dkwX3_turned_4 ++ dktX3_turned_5
def dkwX3_turned_3 : List UInt8 := [28, 50, 29, 51, 84, 43, 180, 0, 33, 29, 50, 42, 180, 0, 15, 4, 100, 28, 100, 21, 4, 16, 250]
abbrev dktX3_turned_3 : List UInt8 := dkwX3_turned_3 ++ dktX3_turned_4
def dkwX3_turned_2 : List UInt8 := [28, 50, 29, 46, 54, 4, 43, 180, 0, 28, 29, 50, 42, 180, 0, 15, 4, 100, 28, 100, 42, 180, 0, 28]
abbrev dktX3_turned_2 : List UInt8 := dkwX3_turned_2 ++ dktX3_turned_3
def dkwX3_turned_1 : List UInt8 := [3, 61, 28, 42, 180, 0, 15, 162, 0, 111, 3, 62, 29, 42, 180, 0, 19, 162, 0, 95, 42, 180, 0, 33]
abbrev dktX3_turned_1 : List UInt8 := dkwX3_turned_1 ++ dktX3_turned_2
def dkwX3_turned_0 : List UInt8 := [187, 0, 4, 89, 42, 180, 0, 3, 42, 180, 0, 19, 42, 180, 0, 15, 42, 180, 0, 22, 183, 0, 36, 76]
abbrev dktX3_turned_0 : List UInt8 := dkwX3_turned_0 ++ dktX3_turned_1
theorem dksX3_turned_0 : cX3_turned.data.toList.drop 0 = dktX3_turned_0 := by decide +kernel
theorem dksX3_turned_1 : cX3_turned.data.toList.drop 24 = dktX3_turned_1 := dk_seg dksX3_turned_0 24 rfl rfl
theorem dksX3_turned_2 : cX3_turned.data.toList.drop 48 = dktX3_turned_2 := dk_seg dksX3_turned_1 24 rfl rfl
theorem dksX3_turned_3 : cX3_turned.data.toList.drop 72 = dktX3_turned_3 := dk_seg dksX3_turned_2 24 rfl rfl
theorem dksX3_turned_4 : cX3_turned.data.toList.drop 95 = dktX3_turned_4 := dk_seg dksX3_turned_3 23 rfl rfl
theorem dksX3_turned_5 : cX3_turned.data.toList.drop 119 = dktX3_turned_5 := dk_seg dksX3_turned_4 24 rfl rfl
theorem dksX3_turned_6 : cX3_turned.data.toList.drop 143 = dktX3_turned_6 := dk_seg dksX3_turned_5 24 rfl rfl
theorem dX3_turned_0 : decode cX3_turned 0 = .ok (.new 4, 3) := dk_187 0 4 (dk_at dksX3_turned_0 0 rfl rfl)
theorem dX3_turned_3 : decode cX3_turned 3 = .ok (.dup, 1) := dk_89 (dk_at dksX3_turned_0 3 rfl rfl)
theorem dX3_turned_4 : decode cX3_turned 4 = .ok (.aload_n 0, 1) := dk_42 (dk_at dksX3_turned_0 4 rfl rfl)
theorem dX3_turned_5 : decode cX3_turned 5 = .ok (.getfield 3, 3) := dk_180 0 3 (dk_at dksX3_turned_0 5 rfl rfl)
theorem dX3_turned_8 : decode cX3_turned 8 = .ok (.aload_n 0, 1) := dk_42 (dk_at dksX3_turned_0 8 rfl rfl)
theorem dX3_turned_9 : decode cX3_turned 9 = .ok (.getfield 19, 3) := dk_180 0 19 (dk_at dksX3_turned_0 9 rfl rfl)
theorem dX3_turned_12 : decode cX3_turned 12 = .ok (.aload_n 0, 1) := dk_42 (dk_at dksX3_turned_0 12 rfl rfl)
theorem dX3_turned_13 : decode cX3_turned 13 = .ok (.getfield 15, 3) := dk_180 0 15 (dk_at dksX3_turned_0 13 rfl rfl)
theorem dX3_turned_16 : decode cX3_turned 16 = .ok (.aload_n 0, 1) := dk_42 (dk_at dksX3_turned_0 16 rfl rfl)
theorem dX3_turned_17 : decode cX3_turned 17 = .ok (.getfield 22, 3) := dk_180 0 22 (dk_at dksX3_turned_0 17 rfl rfl)
theorem dX3_turned_20 : decode cX3_turned 20 = .ok (.invokespecial 36, 3) := dk_183 0 36 (dk_at dksX3_turned_0 20 rfl rfl)
theorem dX3_turned_23 : decode cX3_turned 23 = .ok (.astore_n 1, 1) := dk_76 (dk_at dksX3_turned_0 23 rfl rfl)
theorem dX3_turned_24 : decode cX3_turned 24 = .ok (.iconst 0, 1) := dk_3 (dk_at dksX3_turned_1 0 rfl rfl)
theorem dX3_turned_25 : decode cX3_turned 25 = .ok (.istore_n 2, 1) := dk_61 (dk_at dksX3_turned_1 1 rfl rfl)
theorem dX3_turned_26 : decode cX3_turned 26 = .ok (.iload_n 2, 1) := dk_28 (dk_at dksX3_turned_1 2 rfl rfl)
theorem dX3_turned_27 : decode cX3_turned 27 = .ok (.aload_n 0, 1) := dk_42 (dk_at dksX3_turned_1 3 rfl rfl)
theorem dX3_turned_28 : decode cX3_turned 28 = .ok (.getfield 15, 3) := dk_180 0 15 (dk_at dksX3_turned_1 4 rfl rfl)
theorem dX3_turned_31 : decode cX3_turned 31 = .ok (.if_icmp .ge 111, 3) := dk_162 0 111 (dk_at dksX3_turned_1 7 rfl rfl)
theorem dX3_turned_34 : decode cX3_turned 34 = .ok (.iconst 0, 1) := dk_3 (dk_at dksX3_turned_1 10 rfl rfl)
theorem dX3_turned_35 : decode cX3_turned 35 = .ok (.istore_n 3, 1) := dk_62 (dk_at dksX3_turned_1 11 rfl rfl)
theorem dX3_turned_36 : decode cX3_turned 36 = .ok (.iload_n 3, 1) := dk_29 (dk_at dksX3_turned_1 12 rfl rfl)
theorem dX3_turned_37 : decode cX3_turned 37 = .ok (.aload_n 0, 1) := dk_42 (dk_at dksX3_turned_1 13 rfl rfl)
theorem dX3_turned_38 : decode cX3_turned 38 = .ok (.getfield 19, 3) := dk_180 0 19 (dk_at dksX3_turned_1 14 rfl rfl)
theorem dX3_turned_41 : decode cX3_turned 41 = .ok (.if_icmp .ge 95, 3) := dk_162 0 95 (dk_at dksX3_turned_1 17 rfl rfl)
theorem dX3_turned_44 : decode cX3_turned 44 = .ok (.aload_n 0, 1) := dk_42 (dk_at dksX3_turned_1 20 rfl rfl)
theorem dX3_turned_45 : decode cX3_turned 45 = .ok (.getfield 33, 3) := dk_180 0 33 (dk_at dksX3_turned_1 21 rfl rfl)
theorem dX3_turned_48 : decode cX3_turned 48 = .ok (.iload_n 2, 1) := dk_28 (dk_at dksX3_turned_2 0 rfl rfl)
theorem dX3_turned_49 : decode cX3_turned 49 = .ok (.aaload, 1) := dk_50 (dk_at dksX3_turned_2 1 rfl rfl)
theorem dX3_turned_50 : decode cX3_turned 50 = .ok (.iload_n 3, 1) := dk_29 (dk_at dksX3_turned_2 2 rfl rfl)
theorem dX3_turned_51 : decode cX3_turned 51 = .ok (.iaload, 1) := dk_46 (dk_at dksX3_turned_2 3 rfl rfl)
theorem dX3_turned_52 : decode cX3_turned 52 = .ok (.istore 4, 2) := dk_54 4 (dk_at dksX3_turned_2 4 rfl rfl)
theorem dX3_turned_54 : decode cX3_turned 54 = .ok (.aload_n 1, 1) := dk_43 (dk_at dksX3_turned_2 6 rfl rfl)
theorem dX3_turned_55 : decode cX3_turned 55 = .ok (.getfield 28, 3) := dk_180 0 28 (dk_at dksX3_turned_2 7 rfl rfl)
theorem dX3_turned_58 : decode cX3_turned 58 = .ok (.iload_n 3, 1) := dk_29 (dk_at dksX3_turned_2 10 rfl rfl)
theorem dX3_turned_59 : decode cX3_turned 59 = .ok (.aaload, 1) := dk_50 (dk_at dksX3_turned_2 11 rfl rfl)
theorem dX3_turned_60 : decode cX3_turned 60 = .ok (.aload_n 0, 1) := dk_42 (dk_at dksX3_turned_2 12 rfl rfl)
theorem dX3_turned_61 : decode cX3_turned 61 = .ok (.getfield 15, 3) := dk_180 0 15 (dk_at dksX3_turned_2 13 rfl rfl)
theorem dX3_turned_64 : decode cX3_turned 64 = .ok (.iconst 1, 1) := dk_4 (dk_at dksX3_turned_2 16 rfl rfl)
theorem dX3_turned_65 : decode cX3_turned 65 = .ok (.isub, 1) := dk_100 (dk_at dksX3_turned_2 17 rfl rfl)
theorem dX3_turned_66 : decode cX3_turned 66 = .ok (.iload_n 2, 1) := dk_28 (dk_at dksX3_turned_2 18 rfl rfl)
theorem dX3_turned_67 : decode cX3_turned 67 = .ok (.isub, 1) := dk_100 (dk_at dksX3_turned_2 19 rfl rfl)
theorem dX3_turned_68 : decode cX3_turned 68 = .ok (.aload_n 0, 1) := dk_42 (dk_at dksX3_turned_2 20 rfl rfl)
theorem dX3_turned_69 : decode cX3_turned 69 = .ok (.getfield 28, 3) := dk_180 0 28 (dk_at dksX3_turned_2 21 rfl rfl)
theorem dX3_turned_72 : decode cX3_turned 72 = .ok (.iload_n 2, 1) := dk_28 (dk_at dksX3_turned_3 0 rfl rfl)
theorem dX3_turned_73 : decode cX3_turned 73 = .ok (.aaload, 1) := dk_50 (dk_at dksX3_turned_3 1 rfl rfl)
theorem dX3_turned_74 : decode cX3_turned 74 = .ok (.iload_n 3, 1) := dk_29 (dk_at dksX3_turned_3 2 rfl rfl)
theorem dX3_turned_75 : decode cX3_turned 75 = .ok (.baload, 1) := dk_51 (dk_at dksX3_turned_3 3 rfl rfl)
theorem dX3_turned_76 : decode cX3_turned 76 = .ok (.bastore, 1) := dk_84 (dk_at dksX3_turned_3 4 rfl rfl)
theorem dX3_turned_77 : decode cX3_turned 77 = .ok (.aload_n 1, 1) := dk_43 (dk_at dksX3_turned_3 5 rfl rfl)
theorem dX3_turned_78 : decode cX3_turned 78 = .ok (.getfield 33, 3) := dk_180 0 33 (dk_at dksX3_turned_3 6 rfl rfl)
theorem dX3_turned_81 : decode cX3_turned 81 = .ok (.iload_n 3, 1) := dk_29 (dk_at dksX3_turned_3 9 rfl rfl)
theorem dX3_turned_82 : decode cX3_turned 82 = .ok (.aaload, 1) := dk_50 (dk_at dksX3_turned_3 10 rfl rfl)
theorem dX3_turned_83 : decode cX3_turned 83 = .ok (.aload_n 0, 1) := dk_42 (dk_at dksX3_turned_3 11 rfl rfl)
theorem dX3_turned_84 : decode cX3_turned 84 = .ok (.getfield 15, 3) := dk_180 0 15 (dk_at dksX3_turned_3 12 rfl rfl)
theorem dX3_turned_87 : decode cX3_turned 87 = .ok (.iconst 1, 1) := dk_4 (dk_at dksX3_turned_3 15 rfl rfl)
theorem dX3_turned_88 : decode cX3_turned 88 = .ok (.isub, 1) := dk_100 (dk_at dksX3_turned_3 16 rfl rfl)
theorem dX3_turned_89 : decode cX3_turned 89 = .ok (.iload_n 2, 1) := dk_28 (dk_at dksX3_turned_3 17 rfl rfl)
theorem dX3_turned_90 : decode cX3_turned 90 = .ok (.isub, 1) := dk_100 (dk_at dksX3_turned_3 18 rfl rfl)
theorem dX3_turned_91 : decode cX3_turned 91 = .ok (.iload 4, 2) := dk_21 4 (dk_at dksX3_turned_3 19 rfl rfl)
theorem dX3_turned_93 : decode cX3_turned 93 = .ok (.bipush (-6), 2) := dk_16 250 (dk_at dksX3_turned_3 21 rfl rfl)
theorem dX3_turned_95 : decode cX3_turned 95 = .ok (.if_icmp .ne 8, 3) := dk_160 0 8 (dk_at dksX3_turned_4 0 rfl rfl)
theorem dX3_turned_98 : decode cX3_turned 98 = .ok (.bipush (-6), 2) := dk_16 250 (dk_at dksX3_turned_4 3 rfl rfl)
theorem dX3_turned_100 : decode cX3_turned 100 = .ok (.goto 29, 3) := dk_167 0 29 (dk_at dksX3_turned_4 5 rfl rfl)
theorem dX3_turned_103 : decode cX3_turned 103 = .ok (.aload_n 0, 1) := dk_42 (dk_at dksX3_turned_4 8 rfl rfl)
theorem dX3_turned_104 : decode cX3_turned 104 = .ok (.getfield 3, 3) := dk_180 0 3 (dk_at dksX3_turned_4 9 rfl rfl)
theorem dX3_turned_107 : decode cX3_turned 107 = .ok (.getfield 70, 3) := dk_180 0 70 (dk_at dksX3_turned_4 12 rfl rfl)
theorem dX3_turned_110 : decode cX3_turned 110 = .ok (.aload_n 0, 1) := dk_42 (dk_at dksX3_turned_4 15 rfl rfl)
theorem dX3_turned_111 : decode cX3_turned 111 = .ok (.getfield 3, 3) := dk_180 0 3 (dk_at dksX3_turned_4 16 rfl rfl)
theorem dX3_turned_114 : decode cX3_turned 114 = .ok (.getfield 70, 3) := dk_180 0 70 (dk_at dksX3_turned_4 19 rfl rfl)
theorem dX3_turned_117 : decode cX3_turned 117 = .ok (.iload 4, 2) := dk_21 4 (dk_at dksX3_turned_4 22 rfl rfl)
theorem dX3_turned_119 : decode cX3_turned 119 = .ok (.invokevirtual 94, 3) := dk_182 0 94 (dk_at dksX3_turned_5 0 rfl rfl)
theorem dX3_turned_122 : decode cX3_turned 122 = .ok (.iconst 1, 1) := dk_4 (dk_at dksX3_turned_5 3 rfl rfl)
theorem dX3_turned_123 : decode cX3_turned 123 = .ok (.invokevirtual 170, 3) := dk_182 0 170 (dk_at dksX3_turned_5 4 rfl rfl)
theorem dX3_turned_126 : decode cX3_turned 126 = .ok (.invokevirtual 82, 3) := dk_182 0 82 (dk_at dksX3_turned_5 7 rfl rfl)
theorem dX3_turned_129 : decode cX3_turned 129 = .ok (.iastore, 1) := dk_79 (dk_at dksX3_turned_5 10 rfl rfl)
theorem dX3_turned_130 : decode cX3_turned 130 = .ok (.iinc 3 1, 3) := dk_132 3 1 (dk_at dksX3_turned_5 11 rfl rfl)
theorem dX3_turned_133 : decode cX3_turned 133 = .ok (.goto (-97), 3) := dk_167 255 159 (dk_at dksX3_turned_5 14 rfl rfl)
theorem dX3_turned_136 : decode cX3_turned 136 = .ok (.iinc 2 1, 3) := dk_132 2 1 (dk_at dksX3_turned_5 17 rfl rfl)
theorem dX3_turned_139 : decode cX3_turned 139 = .ok (.goto (-113), 3) := dk_167 255 143 (dk_at dksX3_turned_5 20 rfl rfl)
theorem dX3_turned_142 : decode cX3_turned 142 = .ok (.aload_n 1, 1) := dk_43 (dk_at dksX3_turned_5 23 rfl rfl)
theorem dX3_turned_143 : decode cX3_turned 143 = .ok (.areturn, 1) := dk_176 (dk_at dksX3_turned_6 0 rfl rfl)
abbrev cX3_faults : ByteArray := prog_3_method_9_code
def yX3_faults : MethodName := ⟨RX3, "faults", "(II)I"⟩
def dkwX3_faults_2 : List UInt8 := [167, 0, 4, 3, 172]
abbrev dktX3_faults_2 : List UInt8 := dkwX3_faults_2 ++ []
def dkwX3_faults_1 : List UInt8 := [182, 0, 94, 42, 180, 0, 3, 180, 0, 70, 42, 27, 28, 182, 0, 88, 182, 0, 94, 182, 0, 98]
abbrev dktX3_faults_1 : List UInt8 := dkwX3_faults_1 ++ dktX3_faults_2
def dkwX3_faults_0 : List UInt8 := [42, 180, 0, 28, 27, 50, 28, 51, 153, 0, 41, 42, 180, 0, 3, 180, 0, 70, 42, 27, 28, 182, 0, 92]
abbrev dktX3_faults_0 : List UInt8 := dkwX3_faults_0 ++ dktX3_faults_1
theorem dksX3_faults_0 : cX3_faults.data.toList.drop 0 = dktX3_faults_0 := by decide +kernel
theorem dksX3_faults_1 : cX3_faults.data.toList.drop 24 = dktX3_faults_1 := dk_seg dksX3_faults_0 24 rfl rfl
theorem dksX3_faults_2 : cX3_faults.data.toList.drop 46 = dktX3_faults_2 := dk_seg dksX3_faults_1 22 rfl rfl
theorem dX3_faults_0 : decode cX3_faults 0 = .ok (.aload_n 0, 1) := dk_42 (dk_at dksX3_faults_0 0 rfl rfl)
theorem dX3_faults_1 : decode cX3_faults 1 = .ok (.getfield 28, 3) := dk_180 0 28 (dk_at dksX3_faults_0 1 rfl rfl)
theorem dX3_faults_4 : decode cX3_faults 4 = .ok (.iload_n 1, 1) := dk_27 (dk_at dksX3_faults_0 4 rfl rfl)
theorem dX3_faults_5 : decode cX3_faults 5 = .ok (.aaload, 1) := dk_50 (dk_at dksX3_faults_0 5 rfl rfl)
theorem dX3_faults_6 : decode cX3_faults 6 = .ok (.iload_n 2, 1) := dk_28 (dk_at dksX3_faults_0 6 rfl rfl)
theorem dX3_faults_7 : decode cX3_faults 7 = .ok (.baload, 1) := dk_51 (dk_at dksX3_faults_0 7 rfl rfl)
theorem dX3_faults_8 : decode cX3_faults 8 = .ok (.ifCond .eq 41, 3) := dk_153 0 41 (dk_at dksX3_faults_0 8 rfl rfl)
theorem dX3_faults_11 : decode cX3_faults 11 = .ok (.aload_n 0, 1) := dk_42 (dk_at dksX3_faults_0 11 rfl rfl)
theorem dX3_faults_12 : decode cX3_faults 12 = .ok (.getfield 3, 3) := dk_180 0 3 (dk_at dksX3_faults_0 12 rfl rfl)
theorem dX3_faults_15 : decode cX3_faults 15 = .ok (.getfield 70, 3) := dk_180 0 70 (dk_at dksX3_faults_0 15 rfl rfl)
theorem dX3_faults_18 : decode cX3_faults 18 = .ok (.aload_n 0, 1) := dk_42 (dk_at dksX3_faults_0 18 rfl rfl)
theorem dX3_faults_19 : decode cX3_faults 19 = .ok (.iload_n 1, 1) := dk_27 (dk_at dksX3_faults_0 19 rfl rfl)
theorem dX3_faults_20 : decode cX3_faults 20 = .ok (.iload_n 2, 1) := dk_28 (dk_at dksX3_faults_0 20 rfl rfl)
theorem dX3_faults_21 : decode cX3_faults 21 = .ok (.invokevirtual 92, 3) := dk_182 0 92 (dk_at dksX3_faults_0 21 rfl rfl)
theorem dX3_faults_24 : decode cX3_faults 24 = .ok (.invokevirtual 94, 3) := dk_182 0 94 (dk_at dksX3_faults_1 0 rfl rfl)
theorem dX3_faults_27 : decode cX3_faults 27 = .ok (.aload_n 0, 1) := dk_42 (dk_at dksX3_faults_1 3 rfl rfl)
theorem dX3_faults_28 : decode cX3_faults 28 = .ok (.getfield 3, 3) := dk_180 0 3 (dk_at dksX3_faults_1 4 rfl rfl)
theorem dX3_faults_31 : decode cX3_faults 31 = .ok (.getfield 70, 3) := dk_180 0 70 (dk_at dksX3_faults_1 7 rfl rfl)
theorem dX3_faults_34 : decode cX3_faults 34 = .ok (.aload_n 0, 1) := dk_42 (dk_at dksX3_faults_1 10 rfl rfl)
theorem dX3_faults_35 : decode cX3_faults 35 = .ok (.iload_n 1, 1) := dk_27 (dk_at dksX3_faults_1 11 rfl rfl)
theorem dX3_faults_36 : decode cX3_faults 36 = .ok (.iload_n 2, 1) := dk_28 (dk_at dksX3_faults_1 12 rfl rfl)
theorem dX3_faults_37 : decode cX3_faults 37 = .ok (.invokevirtual 88, 3) := dk_182 0 88 (dk_at dksX3_faults_1 13 rfl rfl)
theorem dX3_faults_40 : decode cX3_faults 40 = .ok (.invokevirtual 94, 3) := dk_182 0 94 (dk_at dksX3_faults_1 16 rfl rfl)
theorem dX3_faults_43 : decode cX3_faults 43 = .ok (.invokevirtual 98, 3) := dk_182 0 98 (dk_at dksX3_faults_1 19 rfl rfl)
theorem dX3_faults_46 : decode cX3_faults 46 = .ok (.goto 4, 3) := dk_167 0 4 (dk_at dksX3_faults_2 0 rfl rfl)
theorem dX3_faults_49 : decode cX3_faults 49 = .ok (.iconst 0, 1) := dk_3 (dk_at dksX3_faults_2 3 rfl rfl)
theorem dX3_faults_50 : decode cX3_faults 50 = .ok (.ireturn, 1) := dk_172 (dk_at dksX3_faults_2 4 rfl rfl)
abbrev cX3_land : ByteArray := prog_3_method_12_code
def yX3_land : MethodName := ⟨RX3, "land", "()I"⟩
def dkwX3_land_3 : List UInt8 := [132, 4, 1, 167, 255, 196, 27, 172]
abbrev dktX3_land_3 : List UInt8 := dkwX3_land_3 ++ []
def dkwX3_land_2 : List UInt8 := [21, 8, 51, 54, 9, 27, 21, 9, 153, 0, 7, 4, 167, 0, 4, 3, 96, 60, 132, 8, 1, 167, 255, 226]
abbrev dktX3_land_2 : List UInt8 := dkwX3_land_2 ++ dktX3_land_3
def dkwX3_land_1 : List UInt8 := [58, 5, 25, 5, 58, 6, 25, 6, 190, 54, 7, 3, 54, 8, 21, 8, 21, 7, 162, 0, 29, 25, 6]
abbrev dktX3_land_1 : List UInt8 := dkwX3_land_1 ++ dktX3_land_2
def dkwX3_land_0 : List UInt8 := [3, 60, 42, 180, 0, 28, 77, 44, 190, 62, 3, 54, 4, 21, 4, 29, 162, 0, 60, 44, 21, 4, 50]
abbrev dktX3_land_0 : List UInt8 := dkwX3_land_0 ++ dktX3_land_1
theorem dksX3_land_0 : cX3_land.data.toList.drop 0 = dktX3_land_0 := by decide +kernel
theorem dksX3_land_1 : cX3_land.data.toList.drop 23 = dktX3_land_1 := dk_seg dksX3_land_0 23 rfl rfl
theorem dksX3_land_2 : cX3_land.data.toList.drop 46 = dktX3_land_2 := dk_seg dksX3_land_1 23 rfl rfl
theorem dksX3_land_3 : cX3_land.data.toList.drop 70 = dktX3_land_3 := dk_seg dksX3_land_2 24 rfl rfl
theorem dX3_land_0 : decode cX3_land 0 = .ok (.iconst 0, 1) := dk_3 (dk_at dksX3_land_0 0 rfl rfl)
theorem dX3_land_1 : decode cX3_land 1 = .ok (.istore_n 1, 1) := dk_60 (dk_at dksX3_land_0 1 rfl rfl)
theorem dX3_land_2 : decode cX3_land 2 = .ok (.aload_n 0, 1) := dk_42 (dk_at dksX3_land_0 2 rfl rfl)
theorem dX3_land_3 : decode cX3_land 3 = .ok (.getfield 28, 3) := dk_180 0 28 (dk_at dksX3_land_0 3 rfl rfl)
theorem dX3_land_6 : decode cX3_land 6 = .ok (.astore_n 2, 1) := dk_77 (dk_at dksX3_land_0 6 rfl rfl)
theorem dX3_land_7 : decode cX3_land 7 = .ok (.aload_n 2, 1) := dk_44 (dk_at dksX3_land_0 7 rfl rfl)
theorem dX3_land_8 : decode cX3_land 8 = .ok (.arraylength, 1) := dk_190 (dk_at dksX3_land_0 8 rfl rfl)
theorem dX3_land_9 : decode cX3_land 9 = .ok (.istore_n 3, 1) := dk_62 (dk_at dksX3_land_0 9 rfl rfl)
theorem dX3_land_10 : decode cX3_land 10 = .ok (.iconst 0, 1) := dk_3 (dk_at dksX3_land_0 10 rfl rfl)
theorem dX3_land_11 : decode cX3_land 11 = .ok (.istore 4, 2) := dk_54 4 (dk_at dksX3_land_0 11 rfl rfl)
theorem dX3_land_13 : decode cX3_land 13 = .ok (.iload 4, 2) := dk_21 4 (dk_at dksX3_land_0 13 rfl rfl)
theorem dX3_land_15 : decode cX3_land 15 = .ok (.iload_n 3, 1) := dk_29 (dk_at dksX3_land_0 15 rfl rfl)
theorem dX3_land_16 : decode cX3_land 16 = .ok (.if_icmp .ge 60, 3) := dk_162 0 60 (dk_at dksX3_land_0 16 rfl rfl)
theorem dX3_land_19 : decode cX3_land 19 = .ok (.aload_n 2, 1) := dk_44 (dk_at dksX3_land_0 19 rfl rfl)
theorem dX3_land_20 : decode cX3_land 20 = .ok (.iload 4, 2) := dk_21 4 (dk_at dksX3_land_0 20 rfl rfl)
theorem dX3_land_22 : decode cX3_land 22 = .ok (.aaload, 1) := dk_50 (dk_at dksX3_land_0 22 rfl rfl)
theorem dX3_land_23 : decode cX3_land 23 = .ok (.astore 5, 2) := dk_58 5 (dk_at dksX3_land_1 0 rfl rfl)
theorem dX3_land_25 : decode cX3_land 25 = .ok (.aload 5, 2) := dk_25 5 (dk_at dksX3_land_1 2 rfl rfl)
theorem dX3_land_27 : decode cX3_land 27 = .ok (.astore 6, 2) := dk_58 6 (dk_at dksX3_land_1 4 rfl rfl)
theorem dX3_land_29 : decode cX3_land 29 = .ok (.aload 6, 2) := dk_25 6 (dk_at dksX3_land_1 6 rfl rfl)
theorem dX3_land_31 : decode cX3_land 31 = .ok (.arraylength, 1) := dk_190 (dk_at dksX3_land_1 8 rfl rfl)
theorem dX3_land_32 : decode cX3_land 32 = .ok (.istore 7, 2) := dk_54 7 (dk_at dksX3_land_1 9 rfl rfl)
theorem dX3_land_34 : decode cX3_land 34 = .ok (.iconst 0, 1) := dk_3 (dk_at dksX3_land_1 11 rfl rfl)
theorem dX3_land_35 : decode cX3_land 35 = .ok (.istore 8, 2) := dk_54 8 (dk_at dksX3_land_1 12 rfl rfl)
theorem dX3_land_37 : decode cX3_land 37 = .ok (.iload 8, 2) := dk_21 8 (dk_at dksX3_land_1 14 rfl rfl)
theorem dX3_land_39 : decode cX3_land 39 = .ok (.iload 7, 2) := dk_21 7 (dk_at dksX3_land_1 16 rfl rfl)
theorem dX3_land_41 : decode cX3_land 41 = .ok (.if_icmp .ge 29, 3) := dk_162 0 29 (dk_at dksX3_land_1 18 rfl rfl)
theorem dX3_land_44 : decode cX3_land 44 = .ok (.aload 6, 2) := dk_25 6 (dk_at dksX3_land_1 21 rfl rfl)
theorem dX3_land_46 : decode cX3_land 46 = .ok (.iload 8, 2) := dk_21 8 (dk_at dksX3_land_2 0 rfl rfl)
theorem dX3_land_48 : decode cX3_land 48 = .ok (.baload, 1) := dk_51 (dk_at dksX3_land_2 2 rfl rfl)
theorem dX3_land_49 : decode cX3_land 49 = .ok (.istore 9, 2) := dk_54 9 (dk_at dksX3_land_2 3 rfl rfl)
theorem dX3_land_51 : decode cX3_land 51 = .ok (.iload_n 1, 1) := dk_27 (dk_at dksX3_land_2 5 rfl rfl)
theorem dX3_land_52 : decode cX3_land 52 = .ok (.iload 9, 2) := dk_21 9 (dk_at dksX3_land_2 6 rfl rfl)
theorem dX3_land_54 : decode cX3_land 54 = .ok (.ifCond .eq 7, 3) := dk_153 0 7 (dk_at dksX3_land_2 8 rfl rfl)
theorem dX3_land_57 : decode cX3_land 57 = .ok (.iconst 1, 1) := dk_4 (dk_at dksX3_land_2 11 rfl rfl)
theorem dX3_land_58 : decode cX3_land 58 = .ok (.goto 4, 3) := dk_167 0 4 (dk_at dksX3_land_2 12 rfl rfl)
theorem dX3_land_61 : decode cX3_land 61 = .ok (.iconst 0, 1) := dk_3 (dk_at dksX3_land_2 15 rfl rfl)
theorem dX3_land_62 : decode cX3_land 62 = .ok (.iadd, 1) := dk_96 (dk_at dksX3_land_2 16 rfl rfl)
theorem dX3_land_63 : decode cX3_land 63 = .ok (.istore_n 1, 1) := dk_60 (dk_at dksX3_land_2 17 rfl rfl)
theorem dX3_land_64 : decode cX3_land 64 = .ok (.iinc 8 1, 3) := dk_132 8 1 (dk_at dksX3_land_2 18 rfl rfl)
theorem dX3_land_67 : decode cX3_land 67 = .ok (.goto (-30), 3) := dk_167 255 226 (dk_at dksX3_land_2 21 rfl rfl)
theorem dX3_land_70 : decode cX3_land 70 = .ok (.iinc 4 1, 3) := dk_132 4 1 (dk_at dksX3_land_3 0 rfl rfl)
theorem dX3_land_73 : decode cX3_land 73 = .ok (.goto (-60), 3) := dk_167 255 196 (dk_at dksX3_land_3 3 rfl rfl)
theorem dX3_land_76 : decode cX3_land 76 = .ok (.iload_n 1, 1) := dk_27 (dk_at dksX3_land_3 6 rfl rfl)
theorem dX3_land_77 : decode cX3_land 77 = .ok (.ireturn, 1) := dk_172 (dk_at dksX3_land_3 7 rfl rfl)
abbrev cX3_coast : ByteArray := prog_3_method_13_code
def yX3_coast : MethodName := ⟨RX3, "coast", "()I"⟩
def dkwX3_coast_3 : List UInt8 := [167, 255, 199, 132, 2, 1, 167, 255, 183, 27, 172]
abbrev dktX3_coast_3 : List UInt8 := dkwX3_coast_3 ++ []
def dkwX3_coast_2 : List UInt8 := [21, 4, 182, 0, 61, 153, 0, 7, 3, 167, 0, 4, 4, 96, 60, 132, 4, 2, 167, 255, 216, 132, 3, 1]
abbrev dktX3_coast_2 : List UInt8 := dkwX3_coast_2 ++ dktX3_coast_3
def dkwX3_coast_1 : List UInt8 := [54, 4, 21, 4, 16, 8, 162, 0, 39, 42, 180, 0, 28, 28, 50, 29, 51, 153, 0, 28, 27, 42, 28, 29]
abbrev dktX3_coast_1 : List UInt8 := dkwX3_coast_1 ++ dktX3_coast_2
def dkwX3_coast_0 : List UInt8 := [3, 60, 3, 61, 28, 42, 180, 0, 15, 162, 0, 71, 3, 62, 29, 42, 180, 0, 19, 162, 0, 55, 3]
abbrev dktX3_coast_0 : List UInt8 := dkwX3_coast_0 ++ dktX3_coast_1
theorem dksX3_coast_0 : cX3_coast.data.toList.drop 0 = dktX3_coast_0 := by decide +kernel
theorem dksX3_coast_1 : cX3_coast.data.toList.drop 23 = dktX3_coast_1 := dk_seg dksX3_coast_0 23 rfl rfl
theorem dksX3_coast_2 : cX3_coast.data.toList.drop 47 = dktX3_coast_2 := dk_seg dksX3_coast_1 24 rfl rfl
theorem dksX3_coast_3 : cX3_coast.data.toList.drop 71 = dktX3_coast_3 := dk_seg dksX3_coast_2 24 rfl rfl
theorem dX3_coast_0 : decode cX3_coast 0 = .ok (.iconst 0, 1) := dk_3 (dk_at dksX3_coast_0 0 rfl rfl)
theorem dX3_coast_1 : decode cX3_coast 1 = .ok (.istore_n 1, 1) := dk_60 (dk_at dksX3_coast_0 1 rfl rfl)
theorem dX3_coast_2 : decode cX3_coast 2 = .ok (.iconst 0, 1) := dk_3 (dk_at dksX3_coast_0 2 rfl rfl)
theorem dX3_coast_3 : decode cX3_coast 3 = .ok (.istore_n 2, 1) := dk_61 (dk_at dksX3_coast_0 3 rfl rfl)
theorem dX3_coast_4 : decode cX3_coast 4 = .ok (.iload_n 2, 1) := dk_28 (dk_at dksX3_coast_0 4 rfl rfl)
theorem dX3_coast_5 : decode cX3_coast 5 = .ok (.aload_n 0, 1) := dk_42 (dk_at dksX3_coast_0 5 rfl rfl)
theorem dX3_coast_6 : decode cX3_coast 6 = .ok (.getfield 15, 3) := dk_180 0 15 (dk_at dksX3_coast_0 6 rfl rfl)
theorem dX3_coast_9 : decode cX3_coast 9 = .ok (.if_icmp .ge 71, 3) := dk_162 0 71 (dk_at dksX3_coast_0 9 rfl rfl)
theorem dX3_coast_12 : decode cX3_coast 12 = .ok (.iconst 0, 1) := dk_3 (dk_at dksX3_coast_0 12 rfl rfl)
theorem dX3_coast_13 : decode cX3_coast 13 = .ok (.istore_n 3, 1) := dk_62 (dk_at dksX3_coast_0 13 rfl rfl)
theorem dX3_coast_14 : decode cX3_coast 14 = .ok (.iload_n 3, 1) := dk_29 (dk_at dksX3_coast_0 14 rfl rfl)
theorem dX3_coast_15 : decode cX3_coast 15 = .ok (.aload_n 0, 1) := dk_42 (dk_at dksX3_coast_0 15 rfl rfl)
theorem dX3_coast_16 : decode cX3_coast 16 = .ok (.getfield 19, 3) := dk_180 0 19 (dk_at dksX3_coast_0 16 rfl rfl)
theorem dX3_coast_19 : decode cX3_coast 19 = .ok (.if_icmp .ge 55, 3) := dk_162 0 55 (dk_at dksX3_coast_0 19 rfl rfl)
theorem dX3_coast_22 : decode cX3_coast 22 = .ok (.iconst 0, 1) := dk_3 (dk_at dksX3_coast_0 22 rfl rfl)
theorem dX3_coast_23 : decode cX3_coast 23 = .ok (.istore 4, 2) := dk_54 4 (dk_at dksX3_coast_1 0 rfl rfl)
theorem dX3_coast_25 : decode cX3_coast 25 = .ok (.iload 4, 2) := dk_21 4 (dk_at dksX3_coast_1 2 rfl rfl)
theorem dX3_coast_27 : decode cX3_coast 27 = .ok (.bipush 8, 2) := dk_16 8 (dk_at dksX3_coast_1 4 rfl rfl)
theorem dX3_coast_29 : decode cX3_coast 29 = .ok (.if_icmp .ge 39, 3) := dk_162 0 39 (dk_at dksX3_coast_1 6 rfl rfl)
theorem dX3_coast_32 : decode cX3_coast 32 = .ok (.aload_n 0, 1) := dk_42 (dk_at dksX3_coast_1 9 rfl rfl)
theorem dX3_coast_33 : decode cX3_coast 33 = .ok (.getfield 28, 3) := dk_180 0 28 (dk_at dksX3_coast_1 10 rfl rfl)
theorem dX3_coast_36 : decode cX3_coast 36 = .ok (.iload_n 2, 1) := dk_28 (dk_at dksX3_coast_1 13 rfl rfl)
theorem dX3_coast_37 : decode cX3_coast 37 = .ok (.aaload, 1) := dk_50 (dk_at dksX3_coast_1 14 rfl rfl)
theorem dX3_coast_38 : decode cX3_coast 38 = .ok (.iload_n 3, 1) := dk_29 (dk_at dksX3_coast_1 15 rfl rfl)
theorem dX3_coast_39 : decode cX3_coast 39 = .ok (.baload, 1) := dk_51 (dk_at dksX3_coast_1 16 rfl rfl)
theorem dX3_coast_40 : decode cX3_coast 40 = .ok (.ifCond .eq 28, 3) := dk_153 0 28 (dk_at dksX3_coast_1 17 rfl rfl)
theorem dX3_coast_43 : decode cX3_coast 43 = .ok (.iload_n 1, 1) := dk_27 (dk_at dksX3_coast_1 20 rfl rfl)
theorem dX3_coast_44 : decode cX3_coast 44 = .ok (.aload_n 0, 1) := dk_42 (dk_at dksX3_coast_1 21 rfl rfl)
theorem dX3_coast_45 : decode cX3_coast 45 = .ok (.iload_n 2, 1) := dk_28 (dk_at dksX3_coast_1 22 rfl rfl)
theorem dX3_coast_46 : decode cX3_coast 46 = .ok (.iload_n 3, 1) := dk_29 (dk_at dksX3_coast_1 23 rfl rfl)
theorem dX3_coast_47 : decode cX3_coast 47 = .ok (.iload 4, 2) := dk_21 4 (dk_at dksX3_coast_2 0 rfl rfl)
theorem dX3_coast_49 : decode cX3_coast 49 = .ok (.invokevirtual 61, 3) := dk_182 0 61 (dk_at dksX3_coast_2 2 rfl rfl)
theorem dX3_coast_52 : decode cX3_coast 52 = .ok (.ifCond .eq 7, 3) := dk_153 0 7 (dk_at dksX3_coast_2 5 rfl rfl)
theorem dX3_coast_55 : decode cX3_coast 55 = .ok (.iconst 0, 1) := dk_3 (dk_at dksX3_coast_2 8 rfl rfl)
theorem dX3_coast_56 : decode cX3_coast 56 = .ok (.goto 4, 3) := dk_167 0 4 (dk_at dksX3_coast_2 9 rfl rfl)
theorem dX3_coast_59 : decode cX3_coast 59 = .ok (.iconst 1, 1) := dk_4 (dk_at dksX3_coast_2 12 rfl rfl)
theorem dX3_coast_60 : decode cX3_coast 60 = .ok (.iadd, 1) := dk_96 (dk_at dksX3_coast_2 13 rfl rfl)
theorem dX3_coast_61 : decode cX3_coast 61 = .ok (.istore_n 1, 1) := dk_60 (dk_at dksX3_coast_2 14 rfl rfl)
theorem dX3_coast_62 : decode cX3_coast 62 = .ok (.iinc 4 2, 3) := dk_132 4 2 (dk_at dksX3_coast_2 15 rfl rfl)
theorem dX3_coast_65 : decode cX3_coast 65 = .ok (.goto (-40), 3) := dk_167 255 216 (dk_at dksX3_coast_2 18 rfl rfl)
theorem dX3_coast_68 : decode cX3_coast 68 = .ok (.iinc 3 1, 3) := dk_132 3 1 (dk_at dksX3_coast_2 21 rfl rfl)
theorem dX3_coast_71 : decode cX3_coast 71 = .ok (.goto (-57), 3) := dk_167 255 199 (dk_at dksX3_coast_3 0 rfl rfl)
theorem dX3_coast_74 : decode cX3_coast 74 = .ok (.iinc 2 1, 3) := dk_132 2 1 (dk_at dksX3_coast_3 3 rfl rfl)
theorem dX3_coast_77 : decode cX3_coast 77 = .ok (.goto (-73), 3) := dk_167 255 183 (dk_at dksX3_coast_3 6 rfl rfl)
theorem dX3_coast_80 : decode cX3_coast 80 = .ok (.iload_n 1, 1) := dk_27 (dk_at dksX3_coast_3 9 rfl rfl)
theorem dX3_coast_81 : decode cX3_coast 81 = .ok (.ireturn, 1) := dk_172 (dk_at dksX3_coast_3 10 rfl rfl)
abbrev cX3_regions : ByteArray := prog_3_method_16_code
def yX3_regions : MethodName := ⟨RX3, "regions", "(ZZ)Ljava/util/LinkedList;"⟩
def dkwX3_regions_4 : List UInt8 := [25, 7, 182, 0, 159, 132, 6, 1, 167, 255, 185, 132, 5, 1, 167, 255, 167, 45, 176]
abbrev dktX3_regions_4 : List UInt8 := dkwX3_regions_4 ++ []
def dkwX3_regions_3 : List UInt8 := [42, 21, 5, 21, 6, 28, 186, 0, 148, 0, 0, 182, 0, 151, 58, 7, 45, 25, 7, 182, 0, 155, 25, 4]
abbrev dktX3_regions_3 : List UInt8 := dkwX3_regions_3 ++ dktX3_regions_4
def dkwX3_regions_2 : List UInt8 := [50, 21, 6, 51, 27, 160, 0, 48, 25, 4, 16, 12, 21, 5, 104, 21, 6, 96, 182, 0, 138, 154, 0, 32]
abbrev dktX3_regions_2 : List UInt8 := dkwX3_regions_2 ++ dktX3_regions_3
def dkwX3_regions_1 : List UInt8 := [180, 0, 15, 162, 0, 86, 3, 54, 6, 21, 6, 42, 180, 0, 19, 162, 0, 68, 42, 180, 0, 28, 21, 5]
abbrev dktX3_regions_1 : List UInt8 := dkwX3_regions_1 ++ dktX3_regions_2
def dkwX3_regions_0 : List UInt8 := [187, 0, 145, 89, 183, 0, 147, 78, 187, 0, 101, 89, 183, 0, 103, 58, 4, 3, 54, 5, 21, 5, 42]
abbrev dktX3_regions_0 : List UInt8 := dkwX3_regions_0 ++ dktX3_regions_1
theorem dksX3_regions_0 : cX3_regions.data.toList.drop 0 = dktX3_regions_0 := by decide +kernel
theorem dksX3_regions_1 : cX3_regions.data.toList.drop 23 = dktX3_regions_1 := dk_seg dksX3_regions_0 23 rfl rfl
theorem dksX3_regions_2 : cX3_regions.data.toList.drop 47 = dktX3_regions_2 := dk_seg dksX3_regions_1 24 rfl rfl
theorem dksX3_regions_3 : cX3_regions.data.toList.drop 71 = dktX3_regions_3 := dk_seg dksX3_regions_2 24 rfl rfl
theorem dksX3_regions_4 : cX3_regions.data.toList.drop 95 = dktX3_regions_4 := dk_seg dksX3_regions_3 24 rfl rfl
theorem dX3_regions_0 : decode cX3_regions 0 = .ok (.new 145, 3) := dk_187 0 145 (dk_at dksX3_regions_0 0 rfl rfl)
theorem dX3_regions_3 : decode cX3_regions 3 = .ok (.dup, 1) := dk_89 (dk_at dksX3_regions_0 3 rfl rfl)
theorem dX3_regions_4 : decode cX3_regions 4 = .ok (.invokespecial 147, 3) := dk_183 0 147 (dk_at dksX3_regions_0 4 rfl rfl)
theorem dX3_regions_7 : decode cX3_regions 7 = .ok (.astore_n 3, 1) := dk_78 (dk_at dksX3_regions_0 7 rfl rfl)
theorem dX3_regions_8 : decode cX3_regions 8 = .ok (.new 101, 3) := dk_187 0 101 (dk_at dksX3_regions_0 8 rfl rfl)
theorem dX3_regions_11 : decode cX3_regions 11 = .ok (.dup, 1) := dk_89 (dk_at dksX3_regions_0 11 rfl rfl)
theorem dX3_regions_12 : decode cX3_regions 12 = .ok (.invokespecial 103, 3) := dk_183 0 103 (dk_at dksX3_regions_0 12 rfl rfl)
theorem dX3_regions_15 : decode cX3_regions 15 = .ok (.astore 4, 2) := dk_58 4 (dk_at dksX3_regions_0 15 rfl rfl)
theorem dX3_regions_17 : decode cX3_regions 17 = .ok (.iconst 0, 1) := dk_3 (dk_at dksX3_regions_0 17 rfl rfl)
theorem dX3_regions_18 : decode cX3_regions 18 = .ok (.istore 5, 2) := dk_54 5 (dk_at dksX3_regions_0 18 rfl rfl)
theorem dX3_regions_20 : decode cX3_regions 20 = .ok (.iload 5, 2) := dk_21 5 (dk_at dksX3_regions_0 20 rfl rfl)
theorem dX3_regions_22 : decode cX3_regions 22 = .ok (.aload_n 0, 1) := dk_42 (dk_at dksX3_regions_0 22 rfl rfl)
theorem dX3_regions_23 : decode cX3_regions 23 = .ok (.getfield 15, 3) := dk_180 0 15 (dk_at dksX3_regions_1 0 rfl rfl)
theorem dX3_regions_26 : decode cX3_regions 26 = .ok (.if_icmp .ge 86, 3) := dk_162 0 86 (dk_at dksX3_regions_1 3 rfl rfl)
theorem dX3_regions_29 : decode cX3_regions 29 = .ok (.iconst 0, 1) := dk_3 (dk_at dksX3_regions_1 6 rfl rfl)
theorem dX3_regions_30 : decode cX3_regions 30 = .ok (.istore 6, 2) := dk_54 6 (dk_at dksX3_regions_1 7 rfl rfl)
theorem dX3_regions_32 : decode cX3_regions 32 = .ok (.iload 6, 2) := dk_21 6 (dk_at dksX3_regions_1 9 rfl rfl)
theorem dX3_regions_34 : decode cX3_regions 34 = .ok (.aload_n 0, 1) := dk_42 (dk_at dksX3_regions_1 11 rfl rfl)
theorem dX3_regions_35 : decode cX3_regions 35 = .ok (.getfield 19, 3) := dk_180 0 19 (dk_at dksX3_regions_1 12 rfl rfl)
theorem dX3_regions_38 : decode cX3_regions 38 = .ok (.if_icmp .ge 68, 3) := dk_162 0 68 (dk_at dksX3_regions_1 15 rfl rfl)
theorem dX3_regions_41 : decode cX3_regions 41 = .ok (.aload_n 0, 1) := dk_42 (dk_at dksX3_regions_1 18 rfl rfl)
theorem dX3_regions_42 : decode cX3_regions 42 = .ok (.getfield 28, 3) := dk_180 0 28 (dk_at dksX3_regions_1 19 rfl rfl)
theorem dX3_regions_45 : decode cX3_regions 45 = .ok (.iload 5, 2) := dk_21 5 (dk_at dksX3_regions_1 22 rfl rfl)
theorem dX3_regions_47 : decode cX3_regions 47 = .ok (.aaload, 1) := dk_50 (dk_at dksX3_regions_2 0 rfl rfl)
theorem dX3_regions_48 : decode cX3_regions 48 = .ok (.iload 6, 2) := dk_21 6 (dk_at dksX3_regions_2 1 rfl rfl)
theorem dX3_regions_50 : decode cX3_regions 50 = .ok (.baload, 1) := dk_51 (dk_at dksX3_regions_2 3 rfl rfl)
theorem dX3_regions_51 : decode cX3_regions 51 = .ok (.iload_n 1, 1) := dk_27 (dk_at dksX3_regions_2 4 rfl rfl)
theorem dX3_regions_52 : decode cX3_regions 52 = .ok (.if_icmp .ne 48, 3) := dk_160 0 48 (dk_at dksX3_regions_2 5 rfl rfl)
theorem dX3_regions_55 : decode cX3_regions 55 = .ok (.aload 4, 2) := dk_25 4 (dk_at dksX3_regions_2 8 rfl rfl)
theorem dX3_regions_57 : decode cX3_regions 57 = .ok (.bipush 12, 2) := dk_16 12 (dk_at dksX3_regions_2 10 rfl rfl)
theorem dX3_regions_59 : decode cX3_regions 59 = .ok (.iload 5, 2) := dk_21 5 (dk_at dksX3_regions_2 12 rfl rfl)
theorem dX3_regions_61 : decode cX3_regions 61 = .ok (.imul, 1) := dk_104 (dk_at dksX3_regions_2 14 rfl rfl)
theorem dX3_regions_62 : decode cX3_regions 62 = .ok (.iload 6, 2) := dk_21 6 (dk_at dksX3_regions_2 15 rfl rfl)
theorem dX3_regions_64 : decode cX3_regions 64 = .ok (.iadd, 1) := dk_96 (dk_at dksX3_regions_2 17 rfl rfl)
theorem dX3_regions_65 : decode cX3_regions 65 = .ok (.invokevirtual 138, 3) := dk_182 0 138 (dk_at dksX3_regions_2 18 rfl rfl)
theorem dX3_regions_68 : decode cX3_regions 68 = .ok (.ifCond .ne 32, 3) := dk_154 0 32 (dk_at dksX3_regions_2 21 rfl rfl)
theorem dX3_regions_71 : decode cX3_regions 71 = .ok (.aload_n 0, 1) := dk_42 (dk_at dksX3_regions_3 0 rfl rfl)
theorem dX3_regions_72 : decode cX3_regions 72 = .ok (.iload 5, 2) := dk_21 5 (dk_at dksX3_regions_3 1 rfl rfl)
theorem dX3_regions_74 : decode cX3_regions 74 = .ok (.iload 6, 2) := dk_21 6 (dk_at dksX3_regions_3 3 rfl rfl)
theorem dX3_regions_76 : decode cX3_regions 76 = .ok (.iload_n 2, 1) := dk_28 (dk_at dksX3_regions_3 5 rfl rfl)
theorem dX3_regions_77 : decode cX3_regions 77 = .ok (.invokedynamic 148, 5) := by decide +kernel
theorem dX3_regions_82 : decode cX3_regions 82 = .ok (.invokevirtual 151, 3) := dk_182 0 151 (dk_at dksX3_regions_3 11 rfl rfl)
theorem dX3_regions_85 : decode cX3_regions 85 = .ok (.astore 7, 2) := dk_58 7 (dk_at dksX3_regions_3 14 rfl rfl)
theorem dX3_regions_87 : decode cX3_regions 87 = .ok (.aload_n 3, 1) := dk_45 (dk_at dksX3_regions_3 16 rfl rfl)
theorem dX3_regions_88 : decode cX3_regions 88 = .ok (.aload 7, 2) := dk_25 7 (dk_at dksX3_regions_3 17 rfl rfl)
theorem dX3_regions_90 : decode cX3_regions 90 = .ok (.invokevirtual 155, 3) := dk_182 0 155 (dk_at dksX3_regions_3 19 rfl rfl)
theorem dX3_regions_93 : decode cX3_regions 93 = .ok (.aload 4, 2) := dk_25 4 (dk_at dksX3_regions_3 22 rfl rfl)
theorem dX3_regions_95 : decode cX3_regions 95 = .ok (.aload 7, 2) := dk_25 7 (dk_at dksX3_regions_4 0 rfl rfl)
theorem dX3_regions_97 : decode cX3_regions 97 = .ok (.invokevirtual 159, 3) := dk_182 0 159 (dk_at dksX3_regions_4 2 rfl rfl)
theorem dX3_regions_100 : decode cX3_regions 100 = .ok (.iinc 6 1, 3) := dk_132 6 1 (dk_at dksX3_regions_4 5 rfl rfl)
theorem dX3_regions_103 : decode cX3_regions 103 = .ok (.goto (-71), 3) := dk_167 255 185 (dk_at dksX3_regions_4 8 rfl rfl)
theorem dX3_regions_106 : decode cX3_regions 106 = .ok (.iinc 5 1, 3) := dk_132 5 1 (dk_at dksX3_regions_4 11 rfl rfl)
theorem dX3_regions_109 : decode cX3_regions 109 = .ok (.goto (-89), 3) := dk_167 255 167 (dk_at dksX3_regions_4 14 rfl rfl)
theorem dX3_regions_112 : decode cX3_regions 112 = .ok (.aload_n 3, 1) := dk_45 (dk_at dksX3_regions_4 17 rfl rfl)
theorem dX3_regions_113 : decode cX3_regions 113 = .ok (.areturn, 1) := dk_176 (dk_at dksX3_regions_4 18 rfl rfl)
abbrev cX3_lambda_regions_0 : ByteArray := prog_3_method_19_code
def yX3_lambda_regions_0 : MethodName := ⟨RX3, "lambda$regions$0", "(LCoastTiles$Step;)V"⟩
theorem dX3_lambda_regions_0_0 : decode cX3_lambda_regions_0 0 = .ok (.return_, 1) := by decide +kernel
abbrev cX3_isLake : ByteArray := prog_3_method_17_code
def yX3_isLake : MethodName := ⟨RX3, "isLake", "(Ljava/util/BitSet;)Z"⟩
def dkwX3_isLake_1 : List UInt8 := [153, 0, 5, 3, 172, 43, 28, 4, 96, 182, 0, 163, 61, 167, 255, 227, 4, 172]
abbrev dktX3_isLake_1 : List UInt8 := dkwX3_isLake_1 ++ []
def dkwX3_isLake_0 : List UInt8 := [43, 3, 182, 0, 163, 61, 28, 155, 0, 31, 42, 28, 16, 12, 108, 28, 16, 12, 112, 182, 0, 167]
abbrev dktX3_isLake_0 : List UInt8 := dkwX3_isLake_0 ++ dktX3_isLake_1
theorem dksX3_isLake_0 : cX3_isLake.data.toList.drop 0 = dktX3_isLake_0 := by decide +kernel
theorem dksX3_isLake_1 : cX3_isLake.data.toList.drop 22 = dktX3_isLake_1 := dk_seg dksX3_isLake_0 22 rfl rfl
theorem dX3_isLake_0 : decode cX3_isLake 0 = .ok (.aload_n 1, 1) := dk_43 (dk_at dksX3_isLake_0 0 rfl rfl)
theorem dX3_isLake_1 : decode cX3_isLake 1 = .ok (.iconst 0, 1) := dk_3 (dk_at dksX3_isLake_0 1 rfl rfl)
theorem dX3_isLake_2 : decode cX3_isLake 2 = .ok (.invokevirtual 163, 3) := dk_182 0 163 (dk_at dksX3_isLake_0 2 rfl rfl)
theorem dX3_isLake_5 : decode cX3_isLake 5 = .ok (.istore_n 2, 1) := dk_61 (dk_at dksX3_isLake_0 5 rfl rfl)
theorem dX3_isLake_6 : decode cX3_isLake 6 = .ok (.iload_n 2, 1) := dk_28 (dk_at dksX3_isLake_0 6 rfl rfl)
theorem dX3_isLake_7 : decode cX3_isLake 7 = .ok (.ifCond .lt 31, 3) := dk_155 0 31 (dk_at dksX3_isLake_0 7 rfl rfl)
theorem dX3_isLake_10 : decode cX3_isLake 10 = .ok (.aload_n 0, 1) := dk_42 (dk_at dksX3_isLake_0 10 rfl rfl)
theorem dX3_isLake_11 : decode cX3_isLake 11 = .ok (.iload_n 2, 1) := dk_28 (dk_at dksX3_isLake_0 11 rfl rfl)
theorem dX3_isLake_12 : decode cX3_isLake 12 = .ok (.bipush 12, 2) := dk_16 12 (dk_at dksX3_isLake_0 12 rfl rfl)
theorem dX3_isLake_14 : decode cX3_isLake 14 = .ok (.idiv, 1) := dk_108 (dk_at dksX3_isLake_0 14 rfl rfl)
theorem dX3_isLake_15 : decode cX3_isLake 15 = .ok (.iload_n 2, 1) := dk_28 (dk_at dksX3_isLake_0 15 rfl rfl)
theorem dX3_isLake_16 : decode cX3_isLake 16 = .ok (.bipush 12, 2) := dk_16 12 (dk_at dksX3_isLake_0 16 rfl rfl)
theorem dX3_isLake_18 : decode cX3_isLake 18 = .ok (.irem, 1) := dk_112 (dk_at dksX3_isLake_0 18 rfl rfl)
theorem dX3_isLake_19 : decode cX3_isLake 19 = .ok (.invokevirtual 167, 3) := dk_182 0 167 (dk_at dksX3_isLake_0 19 rfl rfl)
theorem dX3_isLake_22 : decode cX3_isLake 22 = .ok (.ifCond .eq 5, 3) := dk_153 0 5 (dk_at dksX3_isLake_1 0 rfl rfl)
theorem dX3_isLake_25 : decode cX3_isLake 25 = .ok (.iconst 0, 1) := dk_3 (dk_at dksX3_isLake_1 3 rfl rfl)
theorem dX3_isLake_26 : decode cX3_isLake 26 = .ok (.ireturn, 1) := dk_172 (dk_at dksX3_isLake_1 4 rfl rfl)
theorem dX3_isLake_27 : decode cX3_isLake 27 = .ok (.aload_n 1, 1) := dk_43 (dk_at dksX3_isLake_1 5 rfl rfl)
theorem dX3_isLake_28 : decode cX3_isLake 28 = .ok (.iload_n 2, 1) := dk_28 (dk_at dksX3_isLake_1 6 rfl rfl)
theorem dX3_isLake_29 : decode cX3_isLake 29 = .ok (.iconst 1, 1) := dk_4 (dk_at dksX3_isLake_1 7 rfl rfl)
theorem dX3_isLake_30 : decode cX3_isLake 30 = .ok (.iadd, 1) := dk_96 (dk_at dksX3_isLake_1 8 rfl rfl)
theorem dX3_isLake_31 : decode cX3_isLake 31 = .ok (.invokevirtual 163, 3) := dk_182 0 163 (dk_at dksX3_isLake_1 9 rfl rfl)
theorem dX3_isLake_34 : decode cX3_isLake 34 = .ok (.istore_n 2, 1) := dk_61 (dk_at dksX3_isLake_1 12 rfl rfl)
theorem dX3_isLake_35 : decode cX3_isLake 35 = .ok (.goto (-29), 3) := dk_167 255 227 (dk_at dksX3_isLake_1 13 rfl rfl)
theorem dX3_isLake_38 : decode cX3_isLake 38 = .ok (.iconst 1, 1) := dk_4 (dk_at dksX3_isLake_1 16 rfl rfl)
theorem dX3_isLake_39 : decode cX3_isLake 39 = .ok (.ireturn, 1) := dk_172 (dk_at dksX3_isLake_1 17 rfl rfl)
abbrev cX3_isAtBorder : ByteArray := prog_3_method_15_code
def yX3_isAtBorder : MethodName := ⟨RX3, "isAtBorder", "(II)Z"⟩
def dkwX3_isAtBorder_1 : List UInt8 := [100, 160, 0, 7, 4, 167, 0, 4, 3, 172]
abbrev dktX3_isAtBorder_1 : List UInt8 := dkwX3_isAtBorder_1 ++ []
def dkwX3_isAtBorder_0 : List UInt8 := [27, 153, 0, 27, 28, 153, 0, 23, 27, 42, 180, 0, 15, 4, 100, 159, 0, 13, 28, 42, 180, 0, 19, 4]
abbrev dktX3_isAtBorder_0 : List UInt8 := dkwX3_isAtBorder_0 ++ dktX3_isAtBorder_1
theorem dksX3_isAtBorder_0 : cX3_isAtBorder.data.toList.drop 0 = dktX3_isAtBorder_0 := by decide +kernel
theorem dksX3_isAtBorder_1 : cX3_isAtBorder.data.toList.drop 24 = dktX3_isAtBorder_1 := dk_seg dksX3_isAtBorder_0 24 rfl rfl
theorem dX3_isAtBorder_0 : decode cX3_isAtBorder 0 = .ok (.iload_n 1, 1) := dk_27 (dk_at dksX3_isAtBorder_0 0 rfl rfl)
theorem dX3_isAtBorder_1 : decode cX3_isAtBorder 1 = .ok (.ifCond .eq 27, 3) := dk_153 0 27 (dk_at dksX3_isAtBorder_0 1 rfl rfl)
theorem dX3_isAtBorder_4 : decode cX3_isAtBorder 4 = .ok (.iload_n 2, 1) := dk_28 (dk_at dksX3_isAtBorder_0 4 rfl rfl)
theorem dX3_isAtBorder_5 : decode cX3_isAtBorder 5 = .ok (.ifCond .eq 23, 3) := dk_153 0 23 (dk_at dksX3_isAtBorder_0 5 rfl rfl)
theorem dX3_isAtBorder_8 : decode cX3_isAtBorder 8 = .ok (.iload_n 1, 1) := dk_27 (dk_at dksX3_isAtBorder_0 8 rfl rfl)
theorem dX3_isAtBorder_9 : decode cX3_isAtBorder 9 = .ok (.aload_n 0, 1) := dk_42 (dk_at dksX3_isAtBorder_0 9 rfl rfl)
theorem dX3_isAtBorder_10 : decode cX3_isAtBorder 10 = .ok (.getfield 15, 3) := dk_180 0 15 (dk_at dksX3_isAtBorder_0 10 rfl rfl)
theorem dX3_isAtBorder_13 : decode cX3_isAtBorder 13 = .ok (.iconst 1, 1) := dk_4 (dk_at dksX3_isAtBorder_0 13 rfl rfl)
theorem dX3_isAtBorder_14 : decode cX3_isAtBorder 14 = .ok (.isub, 1) := dk_100 (dk_at dksX3_isAtBorder_0 14 rfl rfl)
theorem dX3_isAtBorder_15 : decode cX3_isAtBorder 15 = .ok (.if_icmp .eq 13, 3) := dk_159 0 13 (dk_at dksX3_isAtBorder_0 15 rfl rfl)
theorem dX3_isAtBorder_18 : decode cX3_isAtBorder 18 = .ok (.iload_n 2, 1) := dk_28 (dk_at dksX3_isAtBorder_0 18 rfl rfl)
theorem dX3_isAtBorder_19 : decode cX3_isAtBorder 19 = .ok (.aload_n 0, 1) := dk_42 (dk_at dksX3_isAtBorder_0 19 rfl rfl)
theorem dX3_isAtBorder_20 : decode cX3_isAtBorder 20 = .ok (.getfield 19, 3) := dk_180 0 19 (dk_at dksX3_isAtBorder_0 20 rfl rfl)
theorem dX3_isAtBorder_23 : decode cX3_isAtBorder 23 = .ok (.iconst 1, 1) := dk_4 (dk_at dksX3_isAtBorder_0 23 rfl rfl)
theorem dX3_isAtBorder_24 : decode cX3_isAtBorder 24 = .ok (.isub, 1) := dk_100 (dk_at dksX3_isAtBorder_1 0 rfl rfl)
theorem dX3_isAtBorder_25 : decode cX3_isAtBorder 25 = .ok (.if_icmp .ne 7, 3) := dk_160 0 7 (dk_at dksX3_isAtBorder_1 1 rfl rfl)
theorem dX3_isAtBorder_28 : decode cX3_isAtBorder 28 = .ok (.iconst 1, 1) := dk_4 (dk_at dksX3_isAtBorder_1 4 rfl rfl)
theorem dX3_isAtBorder_29 : decode cX3_isAtBorder 29 = .ok (.goto 4, 3) := dk_167 0 4 (dk_at dksX3_isAtBorder_1 5 rfl rfl)
theorem dX3_isAtBorder_32 : decode cX3_isAtBorder 32 = .ok (.iconst 0, 1) := dk_3 (dk_at dksX3_isAtBorder_1 8 rfl rfl)
theorem dX3_isAtBorder_33 : decode cX3_isAtBorder 33 = .ok (.ireturn, 1) := dk_172 (dk_at dksX3_isAtBorder_1 9 rfl rfl)
theorem q90 : (Jvm.Cond.initialized "CoastTiles$Coast") ∈ lw_all := lw_g (lw_at lw_m1 27 rfl) rfl
theorem q269 : (Jvm.Cond.selects "CoastTiles$Coast" ({ cls := "java/lang/Object", name := "hashCode", desc := "()I" } : Jvm.MethodName) ({ cls := "java/lang/Object", name := "hashCode", desc := "()I" } : Jvm.MethodName)) ∈ lw_all := lw_g (lw_at lw_m1 206 rfl) rfl
theorem q423 : (Jvm.Cond.selects "CoastTiles$Coast" ({ cls := "java/lang/Object", name := "getClass", desc := "()Ljava/lang/Class;" } : Jvm.MethodName) ({ cls := "java/lang/Object", name := "getClass", desc := "()Ljava/lang/Class;" } : Jvm.MethodName)) ∈ lw_all := lw_g (lw_at lw_m2 120 rfl) rfl
theorem q689 : (Jvm.Cond.selects "CoastTiles$Coast" ({ cls := "java/lang/Object", name := "equals", desc := "(Ljava/lang/Object;)Z" } : Jvm.MethodName) ({ cls := "java/lang/Object", name := "equals", desc := "(Ljava/lang/Object;)Z" } : Jvm.MethodName)) ∈ lw_all := lw_g (lw_at lw_m3 146 rfl) rfl
theorem q864 : (Jvm.Cond.instantiable "CoastTiles$Coast" (6 : Nat)) ∈ lw_all := lw_g (lw_at lw_m4 81 rfl) rfl
theorem q866 : (Jvm.Cond.instanceMethod ({ cls := "CoastTiles$Coast", name := "<init>", desc := "(LCoastTiles;IIZ)V" } : Jvm.MethodName)) ∈ lw_all := lw_g (lw_at lw_m4 83 rfl) rfl
theorem q867 : (Jvm.Cond.code ({ cls := "CoastTiles$Coast", name := "<init>", desc := "(LCoastTiles;IIZ)V" } : Jvm.MethodName) prog_3_method_1_code (10 : Nat) (Option.none : Option Jvm.ClassFile.FieldType)) ∈ lw_all := lw_g (lw_at lw_m4 84 rfl) rfl
theorem q868 : (Jvm.Cond.methodLink "CoastTiles$Coast" (9 : Nat) ({ cls := "java/lang/Object", name := "<init>", desc := "()V" } : Jvm.MethodName)) ∈ lw_all := lw_g (lw_at lw_m4 85 rfl) rfl
theorem q869 : (Jvm.Cond.classLink "CoastTiles$Coast" (26 : Nat) "[[Z") ∈ lw_all := lw_g (lw_at lw_m4 86 rfl) rfl
theorem q871 : (Jvm.Cond.classLink "CoastTiles$Coast" (31 : Nat) "[[I") ∈ lw_all := lw_g (lw_at lw_m4 88 rfl) rfl
theorem q873 : (Jvm.Cond.fieldLink "CoastTiles$Coast" (15 : Nat) "CoastTiles$Coast" "rows" "I") ∈ lw_all := lw_g (lw_at lw_m4 90 rfl) rfl
theorem q875 : (Jvm.Cond.fieldLink "CoastTiles$Coast" (19 : Nat) "CoastTiles$Coast" "columns" "I") ∈ lw_all := lw_g (lw_at lw_m4 92 rfl) rfl
theorem q877 : (Jvm.Cond.fieldLink "CoastTiles$Coast" (22 : Nat) "CoastTiles$Coast" "isLandOutside" "Z") ∈ lw_all := lw_g (lw_at lw_m4 94 rfl) rfl
theorem q879 : (Jvm.Cond.fieldLink "CoastTiles$Coast" (28 : Nat) "CoastTiles$Coast" "isLand" "[[Z") ∈ lw_all := lw_g (lw_at lw_m4 96 rfl) rfl
theorem q881 : (Jvm.Cond.fieldLink "CoastTiles$Coast" (33 : Nat) "CoastTiles$Coast" "pins" "[[I") ∈ lw_all := lw_g (lw_at lw_m4 98 rfl) rfl
theorem q883 : (Jvm.Cond.fieldLink "CoastTiles$Coast" (3 : Nat) "CoastTiles$Coast" "this$0" "LCoastTiles;") ∈ lw_all := lw_g (lw_at lw_m4 100 rfl) rfl
theorem q884 : (Jvm.Cond.laysFinal "CoastTiles$Coast" "CoastTiles$Coast" "rows" "I") ∈ lw_all := lw_g (lw_at lw_m4 101 rfl) rfl
theorem q885 : (Jvm.Cond.soleField "CoastTiles$Coast" "rows") ∈ lw_all := lw_g (lw_at lw_m4 102 rfl) rfl
theorem q886 : (Jvm.Cond.laysFinal "CoastTiles$Coast" "CoastTiles$Coast" "columns" "I") ∈ lw_all := lw_g (lw_at lw_m4 103 rfl) rfl
theorem q887 : (Jvm.Cond.soleField "CoastTiles$Coast" "columns") ∈ lw_all := lw_g (lw_at lw_m4 104 rfl) rfl
theorem q888 : (Jvm.Cond.laysFinal "CoastTiles$Coast" "CoastTiles$Coast" "isLandOutside" "Z") ∈ lw_all := lw_g (lw_at lw_m4 105 rfl) rfl
theorem q889 : (Jvm.Cond.soleField "CoastTiles$Coast" "isLandOutside") ∈ lw_all := lw_g (lw_at lw_m4 106 rfl) rfl
theorem q890 : (Jvm.Cond.laysFinal "CoastTiles$Coast" "CoastTiles$Coast" "isLand" "[[Z") ∈ lw_all := lw_g (lw_at lw_m4 107 rfl) rfl
theorem q891 : (Jvm.Cond.soleField "CoastTiles$Coast" "isLand") ∈ lw_all := lw_g (lw_at lw_m4 108 rfl) rfl
theorem q892 : (Jvm.Cond.laysFinal "CoastTiles$Coast" "CoastTiles$Coast" "pins" "[[I") ∈ lw_all := lw_g (lw_at lw_m4 109 rfl) rfl
theorem q893 : (Jvm.Cond.soleField "CoastTiles$Coast" "pins") ∈ lw_all := lw_g (lw_at lw_m4 110 rfl) rfl
theorem q894 : (Jvm.Cond.laysFinal "CoastTiles$Coast" "CoastTiles$Coast" "this$0" "LCoastTiles;") ∈ lw_all := lw_g (lw_at lw_m4 111 rfl) rfl
theorem q895 : (Jvm.Cond.soleField "CoastTiles$Coast" "this$0") ∈ lw_all := lw_g (lw_at lw_m4 112 rfl) rfl
theorem q896 : (Jvm.Cond.superclass "CoastTiles$Coast" "java/lang/Object") ∈ lw_all := lw_g (lw_at lw_m4 113 rfl) rfl
theorem q932 : (Jvm.Cond.fieldLinkNest "CoastTiles$Coast" (70 : Nat) "CoastTiles" "catalogue" "LCoastTiles$Catalogue;" "CoastTiles") ∈ lw_tbl := lw_at lw_m4 149 rfl
theorem q1011 : (Jvm.Cond.instanceMethod ({ cls := "CoastTiles$Coast", name := "copy", desc := "(Z)LCoastTiles$Coast;" } : Jvm.MethodName)) ∈ lw_all := lw_g (lw_at lw_m4 228 rfl) rfl
theorem q1012 : (Jvm.Cond.selects "CoastTiles$Coast" ({ cls := "CoastTiles$Coast", name := "copy", desc := "(Z)LCoastTiles$Coast;" } : Jvm.MethodName) ({ cls := "CoastTiles$Coast", name := "copy", desc := "(Z)LCoastTiles$Coast;" } : Jvm.MethodName)) ∈ lw_all := lw_g (lw_at lw_m4 229 rfl) rfl
theorem q1013 : (Jvm.Cond.code ({ cls := "CoastTiles$Coast", name := "copy", desc := "(Z)LCoastTiles$Coast;" } : Jvm.MethodName) prog_3_method_2_code (4 : Nat) (Option.some (Jvm.ClassFile.FieldType.object "CoastTiles$Coast"))) ∈ lw_all := lw_g (lw_at lw_m4 230 rfl) rfl
theorem q1014 : (Jvm.Cond.classLink "CoastTiles$Coast" (4 : Nat) "CoastTiles$Coast") ∈ lw_all := lw_g (lw_at lw_m4 231 rfl) rfl
theorem q1015 : (Jvm.Cond.methodLink "CoastTiles$Coast" (36 : Nat) ({ cls := "CoastTiles$Coast", name := "<init>", desc := "(LCoastTiles;IIZ)V" } : Jvm.MethodName)) ∈ lw_all := lw_g (lw_at lw_m4 232 rfl) rfl
theorem q1016 : (Jvm.Cond.methodLink "CoastTiles$Coast" (39 : Nat) ({ cls := "[Z", name := "clone", desc := "()Ljava/lang/Object;" } : Jvm.MethodName)) ∈ lw_all := lw_g (lw_at lw_m4 233 rfl) rfl
theorem q1022 : (Jvm.Cond.classLink "CoastTiles$Coast" (40 : Nat) "[Z") ∈ lw_all := lw_g (lw_at lw_m4 239 rfl) rfl
theorem q1023 : (Jvm.Cond.methodLink "CoastTiles$Coast" (45 : Nat) ({ cls := "[I", name := "clone", desc := "()Ljava/lang/Object;" } : Jvm.MethodName)) ∈ lw_all := lw_g (lw_at lw_m5 0 rfl) rfl
theorem q1027 : (Jvm.Cond.classLink "CoastTiles$Coast" (46 : Nat) "[I") ∈ lw_all := lw_g (lw_at lw_m5 4 rfl) rfl
theorem q1029 : (Jvm.Cond.instanceMethod ({ cls := "CoastTiles$Coast", name := "differences", desc := "(LCoastTiles$Coast;)I" } : Jvm.MethodName)) ∈ lw_all := lw_g (lw_at lw_m5 6 rfl) rfl
theorem q1030 : (Jvm.Cond.selects "CoastTiles$Coast" ({ cls := "CoastTiles$Coast", name := "differences", desc := "(LCoastTiles$Coast;)I" } : Jvm.MethodName) ({ cls := "CoastTiles$Coast", name := "differences", desc := "(LCoastTiles$Coast;)I" } : Jvm.MethodName)) ∈ lw_all := lw_g (lw_at lw_m5 7 rfl) rfl
theorem q1031 : (Jvm.Cond.code ({ cls := "CoastTiles$Coast", name := "differences", desc := "(LCoastTiles$Coast;)I" } : Jvm.MethodName) prog_3_method_11_code (6 : Nat) (Option.some Jvm.ClassFile.FieldType.int)) ∈ lw_all := lw_g (lw_at lw_m5 8 rfl) rfl
theorem q1032 : (Jvm.Cond.methodLink "CoastTiles$Coast" (92 : Nat) ({ cls := "CoastTiles$Coast", name := "shape", desc := "(II)I" } : Jvm.MethodName)) ∈ lw_all := lw_g (lw_at lw_m5 9 rfl) rfl
theorem q1033 : (Jvm.Cond.instanceMethod ({ cls := "CoastTiles$Coast", name := "shape", desc := "(II)I" } : Jvm.MethodName)) ∈ lw_all := lw_g (lw_at lw_m5 10 rfl) rfl
theorem q1034 : (Jvm.Cond.selects "CoastTiles$Coast" ({ cls := "CoastTiles$Coast", name := "shape", desc := "(II)I" } : Jvm.MethodName) ({ cls := "CoastTiles$Coast", name := "shape", desc := "(II)I" } : Jvm.MethodName)) ∈ lw_all := lw_g (lw_at lw_m5 11 rfl) rfl
theorem q1035 : (Jvm.Cond.code ({ cls := "CoastTiles$Coast", name := "shape", desc := "(II)I" } : Jvm.MethodName) prog_3_method_8_code (3 : Nat) (Option.some Jvm.ClassFile.FieldType.int)) ∈ lw_all := lw_g (lw_at lw_m5 12 rfl) rfl
theorem q1036 : (Jvm.Cond.methodLink "CoastTiles$Coast" (88 : Nat) ({ cls := "CoastTiles$Coast", name := "rightShape", desc := "(II)I" } : Jvm.MethodName)) ∈ lw_all := lw_g (lw_at lw_m5 13 rfl) rfl
theorem q1037 : (Jvm.Cond.instanceMethod ({ cls := "CoastTiles$Coast", name := "rightShape", desc := "(II)I" } : Jvm.MethodName)) ∈ lw_all := lw_g (lw_at lw_m5 14 rfl) rfl
theorem q1038 : (Jvm.Cond.selects "CoastTiles$Coast" ({ cls := "CoastTiles$Coast", name := "rightShape", desc := "(II)I" } : Jvm.MethodName) ({ cls := "CoastTiles$Coast", name := "rightShape", desc := "(II)I" } : Jvm.MethodName)) ∈ lw_all := lw_g (lw_at lw_m5 15 rfl) rfl
theorem q1039 : (Jvm.Cond.code ({ cls := "CoastTiles$Coast", name := "rightShape", desc := "(II)I" } : Jvm.MethodName) prog_3_method_7_code (3 : Nat) (Option.some Jvm.ClassFile.FieldType.int)) ∈ lw_all := lw_g (lw_at lw_m5 16 rfl) rfl
theorem q1040 : (Jvm.Cond.methodLink "CoastTiles$Coast" (74 : Nat) ({ cls := "CoastTiles$Coast", name := "surroundings", desc := "(II)LCoastTiles$Mask;" } : Jvm.MethodName)) ∈ lw_all := lw_g (lw_at lw_m5 17 rfl) rfl
theorem q1041 : (Jvm.Cond.instanceMethod ({ cls := "CoastTiles$Coast", name := "surroundings", desc := "(II)LCoastTiles$Mask;" } : Jvm.MethodName)) ∈ lw_all := lw_g (lw_at lw_m5 18 rfl) rfl
theorem q1042 : (Jvm.Cond.selects "CoastTiles$Coast" ({ cls := "CoastTiles$Coast", name := "surroundings", desc := "(II)LCoastTiles$Mask;" } : Jvm.MethodName) ({ cls := "CoastTiles$Coast", name := "surroundings", desc := "(II)LCoastTiles$Mask;" } : Jvm.MethodName)) ∈ lw_all := lw_g (lw_at lw_m5 19 rfl) rfl
theorem q1043 : (Jvm.Cond.code ({ cls := "CoastTiles$Coast", name := "surroundings", desc := "(II)LCoastTiles$Mask;" } : Jvm.MethodName) prog_3_method_6_code (5 : Nat) (Option.some (Jvm.ClassFile.FieldType.object "CoastTiles$Mask"))) ∈ lw_all := lw_g (lw_at lw_m5 20 rfl) rfl
theorem q1044 : (Jvm.Cond.methodLink "CoastTiles$Coast" (61 : Nat) ({ cls := "CoastTiles$Coast", name := "isLandIn", desc := "(III)Z" } : Jvm.MethodName)) ∈ lw_all := lw_g (lw_at lw_m5 21 rfl) rfl
theorem q1045 : (Jvm.Cond.instanceMethod ({ cls := "CoastTiles$Coast", name := "isLandIn", desc := "(III)Z" } : Jvm.MethodName)) ∈ lw_all := lw_g (lw_at lw_m5 22 rfl) rfl
theorem q1046 : (Jvm.Cond.selects "CoastTiles$Coast" ({ cls := "CoastTiles$Coast", name := "isLandIn", desc := "(III)Z" } : Jvm.MethodName) ({ cls := "CoastTiles$Coast", name := "isLandIn", desc := "(III)Z" } : Jvm.MethodName)) ∈ lw_all := lw_g (lw_at lw_m5 23 rfl) rfl
theorem q1047 : (Jvm.Cond.code ({ cls := "CoastTiles$Coast", name := "isLandIn", desc := "(III)Z" } : Jvm.MethodName) prog_3_method_5_code (4 : Nat) (Option.some Jvm.ClassFile.FieldType.boolean)) ∈ lw_all := lw_g (lw_at lw_m5 24 rfl) rfl
theorem q1048 : (Jvm.Cond.fieldLinkNest "CoastTiles$Coast" (52 : Nat) "CoastTiles" "ROW_STEPS" "[I" "CoastTiles") ∈ lw_tbl := lw_at lw_m5 25 rfl
theorem q1050 : (Jvm.Cond.fieldLinkNest "CoastTiles$Coast" (55 : Nat) "CoastTiles" "COLUMN_STEPS" "[I" "CoastTiles") ∈ lw_tbl := lw_at lw_m5 27 rfl
theorem q1052 : (Jvm.Cond.methodLink "CoastTiles$Coast" (58 : Nat) ({ cls := "CoastTiles$Coast", name := "isLandAt", desc := "(II)Z" } : Jvm.MethodName)) ∈ lw_all := lw_g (lw_at lw_m5 29 rfl) rfl
theorem q1053 : (Jvm.Cond.instanceMethod ({ cls := "CoastTiles$Coast", name := "isLandAt", desc := "(II)Z" } : Jvm.MethodName)) ∈ lw_all := lw_g (lw_at lw_m5 30 rfl) rfl
theorem q1054 : (Jvm.Cond.selects "CoastTiles$Coast" ({ cls := "CoastTiles$Coast", name := "isLandAt", desc := "(II)Z" } : Jvm.MethodName) ({ cls := "CoastTiles$Coast", name := "isLandAt", desc := "(II)Z" } : Jvm.MethodName)) ∈ lw_all := lw_g (lw_at lw_m5 31 rfl) rfl
theorem q1055 : (Jvm.Cond.code ({ cls := "CoastTiles$Coast", name := "isLandAt", desc := "(II)Z" } : Jvm.MethodName) prog_3_method_4_code (3 : Nat) (Option.some Jvm.ClassFile.FieldType.boolean)) ∈ lw_all := lw_g (lw_at lw_m5 32 rfl) rfl
theorem q1056 : (Jvm.Cond.methodLink "CoastTiles$Coast" (48 : Nat) ({ cls := "CoastTiles$Coast", name := "isTile", desc := "(II)Z" } : Jvm.MethodName)) ∈ lw_all := lw_g (lw_at lw_m5 33 rfl) rfl
theorem q1057 : (Jvm.Cond.instanceMethod ({ cls := "CoastTiles$Coast", name := "isTile", desc := "(II)Z" } : Jvm.MethodName)) ∈ lw_all := lw_g (lw_at lw_m5 34 rfl) rfl
theorem q1058 : (Jvm.Cond.selects "CoastTiles$Coast" ({ cls := "CoastTiles$Coast", name := "isTile", desc := "(II)Z" } : Jvm.MethodName) ({ cls := "CoastTiles$Coast", name := "isTile", desc := "(II)Z" } : Jvm.MethodName)) ∈ lw_all := lw_g (lw_at lw_m5 35 rfl) rfl
theorem q1059 : (Jvm.Cond.code ({ cls := "CoastTiles$Coast", name := "isTile", desc := "(II)Z" } : Jvm.MethodName) prog_3_method_3_code (3 : Nat) (Option.some Jvm.ClassFile.FieldType.boolean)) ∈ lw_all := lw_g (lw_at lw_m5 36 rfl) rfl
theorem q1060 : (Jvm.Cond.classLink "CoastTiles$Coast" (65 : Nat) "CoastTiles$Mask") ∈ lw_all := lw_g (lw_at lw_m5 37 rfl) rfl
theorem q1061 : (Jvm.Cond.methodLink "CoastTiles$Coast" (67 : Nat) ({ cls := "CoastTiles$Mask", name := "<init>", desc := "(I)V" } : Jvm.MethodName)) ∈ lw_all := lw_g (lw_at lw_m5 38 rfl) rfl
theorem q1062 : (Jvm.Cond.methodLink "CoastTiles$Coast" (78 : Nat) ({ cls := "CoastTiles$Mask", name := "regular", desc := "()LCoastTiles$Mask;" } : Jvm.MethodName)) ∈ lw_all := lw_g (lw_at lw_m5 39 rfl) rfl
theorem q1063 : (Jvm.Cond.methodLink "CoastTiles$Coast" (82 : Nat) ({ cls := "CoastTiles$Catalogue", name := "shape", desc := "(LCoastTiles$Mask;)I" } : Jvm.MethodName)) ∈ lw_all := lw_g (lw_at lw_m5 40 rfl) rfl
theorem q1091 : (Jvm.Cond.instanceMethod ({ cls := "CoastTiles$Coast", name := "put", desc := "(IIZ)Z" } : Jvm.MethodName)) ∈ lw_all := lw_g (lw_at lw_m5 68 rfl) rfl
theorem q1092 : (Jvm.Cond.selects "CoastTiles$Coast" ({ cls := "CoastTiles$Coast", name := "put", desc := "(IIZ)Z" } : Jvm.MethodName) ({ cls := "CoastTiles$Coast", name := "put", desc := "(IIZ)Z" } : Jvm.MethodName)) ∈ lw_all := lw_g (lw_at lw_m5 69 rfl) rfl
theorem q1093 : (Jvm.Cond.code ({ cls := "CoastTiles$Coast", name := "put", desc := "(IIZ)Z" } : Jvm.MethodName) prog_3_method_10_code (5 : Nat) (Option.some Jvm.ClassFile.FieldType.boolean)) ∈ lw_all := lw_g (lw_at lw_m5 70 rfl) rfl
theorem q1104 : (Jvm.Cond.instanceMethod ({ cls := "CoastTiles$Coast", name := "search", desc := "(IIZLCoastTiles$Visitor;)Ljava/util/BitSet;" } : Jvm.MethodName)) ∈ lw_all := lw_g (lw_at lw_m5 81 rfl) rfl
theorem q1105 : (Jvm.Cond.selects "CoastTiles$Coast" ({ cls := "CoastTiles$Coast", name := "search", desc := "(IIZLCoastTiles$Visitor;)Ljava/util/BitSet;" } : Jvm.MethodName) ({ cls := "CoastTiles$Coast", name := "search", desc := "(IIZLCoastTiles$Visitor;)Ljava/util/BitSet;" } : Jvm.MethodName)) ∈ lw_all := lw_g (lw_at lw_m5 82 rfl) rfl
theorem q1106 : (Jvm.Cond.code ({ cls := "CoastTiles$Coast", name := "search", desc := "(IIZLCoastTiles$Visitor;)Ljava/util/BitSet;" } : Jvm.MethodName) prog_3_method_14_code (11 : Nat) (Option.some (Jvm.ClassFile.FieldType.object "java/util/BitSet"))) ∈ lw_all := lw_g (lw_at lw_m5 83 rfl) rfl
theorem q1107 : (Jvm.Cond.classLink "CoastTiles$Coast" (101 : Nat) "java/util/BitSet") ∈ lw_all := lw_g (lw_at lw_m5 84 rfl) rfl
theorem q1109 : (Jvm.Cond.methodLink "CoastTiles$Coast" (103 : Nat) ({ cls := "java/util/BitSet", name := "<init>", desc := "()V" } : Jvm.MethodName)) ∈ lw_all := lw_g (lw_at lw_m5 86 rfl) rfl
theorem q1131 : (Jvm.Cond.classLink "CoastTiles$Coast" (104 : Nat) "java/util/ArrayDeque") ∈ lw_all := lw_g (lw_at lw_m5 108 rfl) rfl
theorem q1133 : (Jvm.Cond.methodLink "CoastTiles$Coast" (106 : Nat) ({ cls := "java/util/ArrayDeque", name := "<init>", desc := "()V" } : Jvm.MethodName)) ∈ lw_all := lw_g (lw_at lw_m5 110 rfl) rfl
theorem q1148 : (Jvm.Cond.classLink "CoastTiles$Coast" (107 : Nat) "CoastTiles$Step") ∈ lw_all := lw_g (lw_at lw_m5 125 rfl) rfl
theorem q1150 : (Jvm.Cond.methodLink "CoastTiles$Coast" (109 : Nat) ({ cls := "CoastTiles$Step", name := "<init>", desc := "(III)V" } : Jvm.MethodName)) ∈ lw_all := lw_g (lw_at lw_m5 127 rfl) rfl
theorem q1156 : (Jvm.Cond.fieldLinkNest "CoastTiles$Coast" (132 : Nat) "CoastTiles$Step" "row" "I" "CoastTiles") ∈ lw_tbl := lw_at lw_m5 133 rfl
theorem q1159 : (Jvm.Cond.fieldLinkNest "CoastTiles$Coast" (135 : Nat) "CoastTiles$Step" "column" "I" "CoastTiles") ∈ lw_tbl := lw_at lw_m5 136 rfl
theorem q1162 : (Jvm.Cond.fieldLinkNest "CoastTiles$Coast" (142 : Nat) "CoastTiles$Step" "number" "I" "CoastTiles") ∈ lw_tbl := lw_at lw_m5 139 rfl
theorem q1170 : (Jvm.Cond.methodLink "CoastTiles$Coast" (112 : Nat) ({ cls := "java/util/ArrayDeque", name := "add", desc := "(Ljava/lang/Object;)Z" } : Jvm.MethodName)) ∈ lw_all := lw_g (lw_at lw_m5 147 rfl) rfl
theorem q1193 : (Jvm.Cond.methodLink "CoastTiles$Coast" (116 : Nat) ({ cls := "java/util/BitSet", name := "set", desc := "(I)V" } : Jvm.MethodName)) ∈ lw_all := lw_g (lw_at lw_m5 170 rfl) rfl
theorem q1220 : (Jvm.Cond.methodLink "CoastTiles$Coast" (119 : Nat) ({ cls := "java/util/ArrayDeque", name := "isEmpty", desc := "()Z" } : Jvm.MethodName)) ∈ lw_all := lw_g (lw_at lw_m5 197 rfl) rfl
theorem q1224 : (Jvm.Cond.methodLink "CoastTiles$Coast" (123 : Nat) ({ cls := "java/util/ArrayDeque", name := "remove", desc := "()Ljava/lang/Object;" } : Jvm.MethodName)) ∈ lw_all := lw_g (lw_at lw_m5 201 rfl) rfl
theorem q1239 : (Jvm.Cond.interfaceEntry "CoastTiles$Coast" (126 : Nat)) ∈ lw_tbl := lw_at lw_m5 216 rfl
theorem q1240 : (Jvm.Cond.methodLink "CoastTiles$Coast" (126 : Nat) ({ cls := "CoastTiles$Visitor", name := "visit", desc := "(LCoastTiles$Step;)V" } : Jvm.MethodName)) ∈ lw_all := lw_g (lw_at lw_m5 217 rfl) rfl
theorem q1249 : (Jvm.Cond.methodLink "CoastTiles$Coast" (138 : Nat) ({ cls := "java/util/BitSet", name := "get", desc := "(I)Z" } : Jvm.MethodName)) ∈ lw_all := lw_g (lw_at lw_m5 226 rfl) rfl
theorem q1293 : (Jvm.Cond.instanceMethod ({ cls := "CoastTiles$Coast", name := "turned", desc := "()LCoastTiles$Coast;" } : Jvm.MethodName)) ∈ lw_all := lw_g (lw_at lw_m6 30 rfl) rfl
theorem q1294 : (Jvm.Cond.selects "CoastTiles$Coast" ({ cls := "CoastTiles$Coast", name := "turned", desc := "()LCoastTiles$Coast;" } : Jvm.MethodName) ({ cls := "CoastTiles$Coast", name := "turned", desc := "()LCoastTiles$Coast;" } : Jvm.MethodName)) ∈ lw_all := lw_g (lw_at lw_m6 31 rfl) rfl
theorem q1295 : (Jvm.Cond.code ({ cls := "CoastTiles$Coast", name := "turned", desc := "()LCoastTiles$Coast;" } : Jvm.MethodName) prog_3_method_18_code (5 : Nat) (Option.some (Jvm.ClassFile.FieldType.object "CoastTiles$Coast"))) ∈ lw_all := lw_g (lw_at lw_m6 32 rfl) rfl
theorem q1296 : (Jvm.Cond.methodLink "CoastTiles$Coast" (94 : Nat) ({ cls := "CoastTiles$Catalogue", name := "mask", desc := "(I)LCoastTiles$Mask;" } : Jvm.MethodName)) ∈ lw_all := lw_g (lw_at lw_m6 33 rfl) rfl
theorem q1318 : (Jvm.Cond.methodLink "CoastTiles$Coast" (170 : Nat) ({ cls := "CoastTiles$Mask", name := "turned", desc := "(I)LCoastTiles$Mask;" } : Jvm.MethodName)) ∈ lw_all := lw_g (lw_at lw_m6 55 rfl) rfl
theorem q1337 : (Jvm.Cond.instanceMethod ({ cls := "CoastTiles$Coast", name := "faults", desc := "(II)I" } : Jvm.MethodName)) ∈ lw_all := lw_g (lw_at lw_m6 74 rfl) rfl
theorem q1338 : (Jvm.Cond.selects "CoastTiles$Coast" ({ cls := "CoastTiles$Coast", name := "faults", desc := "(II)I" } : Jvm.MethodName) ({ cls := "CoastTiles$Coast", name := "faults", desc := "(II)I" } : Jvm.MethodName)) ∈ lw_all := lw_g (lw_at lw_m6 75 rfl) rfl
theorem q1339 : (Jvm.Cond.code ({ cls := "CoastTiles$Coast", name := "faults", desc := "(II)I" } : Jvm.MethodName) prog_3_method_9_code (3 : Nat) (Option.some Jvm.ClassFile.FieldType.int)) ∈ lw_all := lw_g (lw_at lw_m6 76 rfl) rfl
theorem q1340 : (Jvm.Cond.methodLink "CoastTiles$Coast" (98 : Nat) ({ cls := "CoastTiles$Mask", name := "distance", desc := "(LCoastTiles$Mask;)I" } : Jvm.MethodName)) ∈ lw_all := lw_g (lw_at lw_m6 77 rfl) rfl
theorem q1438 : (Jvm.Cond.instanceMethod ({ cls := "CoastTiles$Coast", name := "land", desc := "()I" } : Jvm.MethodName)) ∈ lw_all := lw_g (lw_at lw_m6 175 rfl) rfl
theorem q1439 : (Jvm.Cond.selects "CoastTiles$Coast" ({ cls := "CoastTiles$Coast", name := "land", desc := "()I" } : Jvm.MethodName) ({ cls := "CoastTiles$Coast", name := "land", desc := "()I" } : Jvm.MethodName)) ∈ lw_all := lw_g (lw_at lw_m6 176 rfl) rfl
theorem q1440 : (Jvm.Cond.code ({ cls := "CoastTiles$Coast", name := "land", desc := "()I" } : Jvm.MethodName) prog_3_method_12_code (10 : Nat) (Option.some Jvm.ClassFile.FieldType.int)) ∈ lw_all := lw_g (lw_at lw_m6 177 rfl) rfl
theorem q1460 : (Jvm.Cond.instanceMethod ({ cls := "CoastTiles$Coast", name := "coast", desc := "()I" } : Jvm.MethodName)) ∈ lw_all := lw_g (lw_at lw_m6 197 rfl) rfl
theorem q1461 : (Jvm.Cond.selects "CoastTiles$Coast" ({ cls := "CoastTiles$Coast", name := "coast", desc := "()I" } : Jvm.MethodName) ({ cls := "CoastTiles$Coast", name := "coast", desc := "()I" } : Jvm.MethodName)) ∈ lw_all := lw_g (lw_at lw_m6 198 rfl) rfl
theorem q1462 : (Jvm.Cond.code ({ cls := "CoastTiles$Coast", name := "coast", desc := "()I" } : Jvm.MethodName) prog_3_method_13_code (5 : Nat) (Option.some Jvm.ClassFile.FieldType.int)) ∈ lw_all := lw_g (lw_at lw_m6 199 rfl) rfl
theorem q1468 : (Jvm.Cond.instanceMethod ({ cls := "CoastTiles$Coast", name := "regions", desc := "(ZZ)Ljava/util/LinkedList;" } : Jvm.MethodName)) ∈ lw_all := lw_g (lw_at lw_m6 205 rfl) rfl
theorem q1469 : (Jvm.Cond.selects "CoastTiles$Coast" ({ cls := "CoastTiles$Coast", name := "regions", desc := "(ZZ)Ljava/util/LinkedList;" } : Jvm.MethodName) ({ cls := "CoastTiles$Coast", name := "regions", desc := "(ZZ)Ljava/util/LinkedList;" } : Jvm.MethodName)) ∈ lw_all := lw_g (lw_at lw_m6 206 rfl) rfl
theorem q1470 : (Jvm.Cond.code ({ cls := "CoastTiles$Coast", name := "regions", desc := "(ZZ)Ljava/util/LinkedList;" } : Jvm.MethodName) prog_3_method_16_code (8 : Nat) (Option.some (Jvm.ClassFile.FieldType.object "java/util/LinkedList"))) ∈ lw_all := lw_g (lw_at lw_m6 207 rfl) rfl
theorem q1471 : (Jvm.Cond.classLink "CoastTiles$Coast" (145 : Nat) "java/util/LinkedList") ∈ lw_all := lw_g (lw_at lw_m6 208 rfl) rfl
theorem q1472 : (Jvm.Cond.methodLink "CoastTiles$Coast" (147 : Nat) ({ cls := "java/util/LinkedList", name := "<init>", desc := "()V" } : Jvm.MethodName)) ∈ lw_all := lw_g (lw_at lw_m6 209 rfl) rfl
theorem q1491 : (Jvm.Cond.static ({ cls := "CoastTiles$Coast", name := "lambda$regions$0", desc := "(LCoastTiles$Step;)V" } : Jvm.MethodName)) ∈ lw_all := lw_g (lw_at lw_m6 228 rfl) rfl
theorem q1492 : (Jvm.Cond.code ({ cls := "CoastTiles$Coast", name := "lambda$regions$0", desc := "(LCoastTiles$Step;)V" } : Jvm.MethodName) prog_3_method_19_code (1 : Nat) (Option.none : Option Jvm.ClassFile.FieldType)) ∈ lw_all := lw_g (lw_at lw_m6 229 rfl) rfl
theorem q1493 : (Jvm.Cond.methodLink "CoastTiles$Coast" (151 : Nat) ({ cls := "CoastTiles$Coast", name := "search", desc := "(IIZLCoastTiles$Visitor;)Ljava/util/BitSet;" } : Jvm.MethodName)) ∈ lw_all := lw_g (lw_at lw_m6 230 rfl) rfl
theorem q1494 : (Jvm.Cond.methodLink "CoastTiles$Coast" (155 : Nat) ({ cls := "java/util/LinkedList", name := "addLast", desc := "(Ljava/lang/Object;)V" } : Jvm.MethodName)) ∈ lw_all := lw_g (lw_at lw_m6 231 rfl) rfl
theorem q1498 : (Jvm.Cond.methodLink "CoastTiles$Coast" (159 : Nat) ({ cls := "java/util/BitSet", name := "or", desc := "(Ljava/util/BitSet;)V" } : Jvm.MethodName)) ∈ lw_all := lw_g (lw_at lw_m6 235 rfl) rfl
theorem q1535 : (Jvm.Cond.instanceMethod ({ cls := "CoastTiles$Coast", name := "isLake", desc := "(Ljava/util/BitSet;)Z" } : Jvm.MethodName)) ∈ lw_all := lw_g (lw_at lw_m7 32 rfl) rfl
theorem q1536 : (Jvm.Cond.selects "CoastTiles$Coast" ({ cls := "CoastTiles$Coast", name := "isLake", desc := "(Ljava/util/BitSet;)Z" } : Jvm.MethodName) ({ cls := "CoastTiles$Coast", name := "isLake", desc := "(Ljava/util/BitSet;)Z" } : Jvm.MethodName)) ∈ lw_all := lw_g (lw_at lw_m7 33 rfl) rfl
theorem q1537 : (Jvm.Cond.code ({ cls := "CoastTiles$Coast", name := "isLake", desc := "(Ljava/util/BitSet;)Z" } : Jvm.MethodName) prog_3_method_17_code (3 : Nat) (Option.some Jvm.ClassFile.FieldType.boolean)) ∈ lw_all := lw_g (lw_at lw_m7 34 rfl) rfl
theorem q1538 : (Jvm.Cond.methodLink "CoastTiles$Coast" (163 : Nat) ({ cls := "java/util/BitSet", name := "nextSetBit", desc := "(I)I" } : Jvm.MethodName)) ∈ lw_all := lw_g (lw_at lw_m7 35 rfl) rfl
theorem q1539 : (Jvm.Cond.methodLink "CoastTiles$Coast" (167 : Nat) ({ cls := "CoastTiles$Coast", name := "isAtBorder", desc := "(II)Z" } : Jvm.MethodName)) ∈ lw_all := lw_g (lw_at lw_m7 36 rfl) rfl
theorem q1540 : (Jvm.Cond.instanceMethod ({ cls := "CoastTiles$Coast", name := "isAtBorder", desc := "(II)Z" } : Jvm.MethodName)) ∈ lw_all := lw_g (lw_at lw_m7 37 rfl) rfl
theorem q1541 : (Jvm.Cond.selects "CoastTiles$Coast" ({ cls := "CoastTiles$Coast", name := "isAtBorder", desc := "(II)Z" } : Jvm.MethodName) ({ cls := "CoastTiles$Coast", name := "isAtBorder", desc := "(II)Z" } : Jvm.MethodName)) ∈ lw_all := lw_g (lw_at lw_m7 38 rfl) rfl
theorem q1542 : (Jvm.Cond.code ({ cls := "CoastTiles$Coast", name := "isAtBorder", desc := "(II)Z" } : Jvm.MethodName) prog_3_method_15_code (3 : Nat) (Option.some Jvm.ClassFile.FieldType.boolean)) ∈ lw_all := lw_g (lw_at lw_m7 39 rfl) rfl
theorem q2503 : (Jvm.Cond.castable "CoastTiles$Coast" "java/lang/Object") ∈ lw_tbl := lw_at lw_m11 40 rfl
theorem in_X3 : ∀ w ∈ wsX30, w ∈ lw_all := lw_in wsX30 [884, 886, 888, 890, 892, 894] (by decide +kernel) (by decide +kernel)
/-! CoastTiles$Step -/
set_option maxRecDepth 100000
def RX5 : String := "CoastTiles$Step"
def TX5 : u_T := fun k => match k with
  | 0 => ("CoastTiles$Step", "row", "I", true)
  | 1 => ("CoastTiles$Step", "column", "I", true)
  | _ => ("CoastTiles$Step", "number", "I", true)
def tyX5 : Nat → FieldType := fun k => match k with
  | 0 => .int
  | 1 => .int
  | _ => .int
abbrev wsX50 : List Cond := u_ws RX5 TX5 3
theorem nmX5 : ∀ a, a < 3 → ∀ b, b < 3 → a ≠ b → (TX5 a).2.1 ≠ (TX5 b).2.1 := by decide +kernel
theorem tyX5_ok : ∀ k, k < 3 → parseFieldDescriptor (TX5 k).2.2.1 = some (tyX5 k) := by decide +kernel
abbrev cX5_init : ByteArray := prog_9_method_1_code
def yX5_init : MethodName := ⟨RX5, "<init>", "(III)V"⟩
def dkwX5_init_0 : List UInt8 := [42, 183, 0, 1, 42, 27, 181, 0, 7, 42, 28, 181, 0, 13, 42, 29, 181, 0, 16, 177]
abbrev dktX5_init_0 : List UInt8 := dkwX5_init_0 ++ []
theorem dksX5_init_0 : cX5_init.data.toList.drop 0 = dktX5_init_0 := by decide +kernel
theorem dX5_init_0 : decode cX5_init 0 = .ok (.aload_n 0, 1) := dk_42 (dk_at dksX5_init_0 0 rfl rfl)
theorem dX5_init_1 : decode cX5_init 1 = .ok (.invokespecial 1, 3) := dk_183 0 1 (dk_at dksX5_init_0 1 rfl rfl)
theorem dX5_init_4 : decode cX5_init 4 = .ok (.aload_n 0, 1) := dk_42 (dk_at dksX5_init_0 4 rfl rfl)
theorem dX5_init_5 : decode cX5_init 5 = .ok (.iload_n 1, 1) := dk_27 (dk_at dksX5_init_0 5 rfl rfl)
theorem dX5_init_6 : decode cX5_init 6 = .ok (.putfield 7, 3) := dk_181 0 7 (dk_at dksX5_init_0 6 rfl rfl)
theorem dX5_init_9 : decode cX5_init 9 = .ok (.aload_n 0, 1) := dk_42 (dk_at dksX5_init_0 9 rfl rfl)
theorem dX5_init_10 : decode cX5_init 10 = .ok (.iload_n 2, 1) := dk_28 (dk_at dksX5_init_0 10 rfl rfl)
theorem dX5_init_11 : decode cX5_init 11 = .ok (.putfield 13, 3) := dk_181 0 13 (dk_at dksX5_init_0 11 rfl rfl)
theorem dX5_init_14 : decode cX5_init 14 = .ok (.aload_n 0, 1) := dk_42 (dk_at dksX5_init_0 14 rfl rfl)
theorem dX5_init_15 : decode cX5_init 15 = .ok (.iload_n 3, 1) := dk_29 (dk_at dksX5_init_0 15 rfl rfl)
theorem dX5_init_16 : decode cX5_init 16 = .ok (.putfield 16, 3) := dk_181 0 16 (dk_at dksX5_init_0 16 rfl rfl)
theorem dX5_init_19 : decode cX5_init 19 = .ok (.return_, 1) := dk_177 (dk_at dksX5_init_0 19 rfl rfl)
theorem q97 : (Jvm.Cond.initialized "CoastTiles$Step") ∈ lw_all := lw_g (lw_at lw_m1 34 rfl) rfl
theorem q275 : (Jvm.Cond.selects "CoastTiles$Step" ({ cls := "java/lang/Object", name := "hashCode", desc := "()I" } : Jvm.MethodName) ({ cls := "java/lang/Object", name := "hashCode", desc := "()I" } : Jvm.MethodName)) ∈ lw_all := lw_g (lw_at lw_m1 212 rfl) rfl
theorem q427 : (Jvm.Cond.selects "CoastTiles$Step" ({ cls := "java/lang/Object", name := "getClass", desc := "()Ljava/lang/Class;" } : Jvm.MethodName) ({ cls := "java/lang/Object", name := "getClass", desc := "()Ljava/lang/Class;" } : Jvm.MethodName)) ∈ lw_all := lw_g (lw_at lw_m2 124 rfl) rfl
theorem q693 : (Jvm.Cond.selects "CoastTiles$Step" ({ cls := "java/lang/Object", name := "equals", desc := "(Ljava/lang/Object;)Z" } : Jvm.MethodName) ({ cls := "java/lang/Object", name := "equals", desc := "(Ljava/lang/Object;)Z" } : Jvm.MethodName)) ∈ lw_all := lw_g (lw_at lw_m3 150 rfl) rfl
theorem q1149 : (Jvm.Cond.instantiable "CoastTiles$Step" (3 : Nat)) ∈ lw_all := lw_g (lw_at lw_m5 126 rfl) rfl
theorem q1151 : (Jvm.Cond.instanceMethod ({ cls := "CoastTiles$Step", name := "<init>", desc := "(III)V" } : Jvm.MethodName)) ∈ lw_all := lw_g (lw_at lw_m5 128 rfl) rfl
theorem q1152 : (Jvm.Cond.code ({ cls := "CoastTiles$Step", name := "<init>", desc := "(III)V" } : Jvm.MethodName) prog_9_method_1_code (4 : Nat) (Option.none : Option Jvm.ClassFile.FieldType)) ∈ lw_all := lw_g (lw_at lw_m5 129 rfl) rfl
theorem q1153 : (Jvm.Cond.methodLink "CoastTiles$Step" (1 : Nat) ({ cls := "java/lang/Object", name := "<init>", desc := "()V" } : Jvm.MethodName)) ∈ lw_all := lw_g (lw_at lw_m5 130 rfl) rfl
theorem q1154 : (Jvm.Cond.fieldLink "CoastTiles$Step" (7 : Nat) "CoastTiles$Step" "row" "I") ∈ lw_all := lw_g (lw_at lw_m5 131 rfl) rfl
theorem q1157 : (Jvm.Cond.fieldLink "CoastTiles$Step" (13 : Nat) "CoastTiles$Step" "column" "I") ∈ lw_all := lw_g (lw_at lw_m5 134 rfl) rfl
theorem q1160 : (Jvm.Cond.fieldLink "CoastTiles$Step" (16 : Nat) "CoastTiles$Step" "number" "I") ∈ lw_all := lw_g (lw_at lw_m5 137 rfl) rfl
theorem q1163 : (Jvm.Cond.laysFinal "CoastTiles$Step" "CoastTiles$Step" "row" "I") ∈ lw_all := lw_g (lw_at lw_m5 140 rfl) rfl
theorem q1164 : (Jvm.Cond.soleField "CoastTiles$Step" "row") ∈ lw_all := lw_g (lw_at lw_m5 141 rfl) rfl
theorem q1165 : (Jvm.Cond.laysFinal "CoastTiles$Step" "CoastTiles$Step" "column" "I") ∈ lw_all := lw_g (lw_at lw_m5 142 rfl) rfl
theorem q1166 : (Jvm.Cond.soleField "CoastTiles$Step" "column") ∈ lw_all := lw_g (lw_at lw_m5 143 rfl) rfl
theorem q1167 : (Jvm.Cond.laysFinal "CoastTiles$Step" "CoastTiles$Step" "number" "I") ∈ lw_all := lw_g (lw_at lw_m5 144 rfl) rfl
theorem q1168 : (Jvm.Cond.soleField "CoastTiles$Step" "number") ∈ lw_all := lw_g (lw_at lw_m5 145 rfl) rfl
theorem q1169 : (Jvm.Cond.superclass "CoastTiles$Step" "java/lang/Object") ∈ lw_all := lw_g (lw_at lw_m5 146 rfl) rfl
theorem q2509 : (Jvm.Cond.castable "CoastTiles$Step" "java/lang/Object") ∈ lw_tbl := lw_at lw_m11 46 rfl
theorem in_X5 : ∀ w ∈ wsX50, w ∈ lw_all := lw_in wsX50 [1163, 1165, 1167] (by decide +kernel) (by decide +kernel)
/-! CoastTiles$Goal -/
set_option maxRecDepth 100000
def RX6 : String := "CoastTiles$Goal"
def TX6 : u_T := fun k => match k with
  | 0 => ("CoastTiles$Goal", "row", "I", true)
  | 1 => ("CoastTiles$Goal", "column", "I", true)
  | _ => ("CoastTiles$Goal", "steps", "I", false)
def tyX6 : Nat → FieldType := fun k => match k with
  | 0 => .int
  | 1 => .int
  | _ => .int
abbrev wsX60 : List Cond := u_ws RX6 TX6 3
theorem nmX6 : ∀ a, a < 3 → ∀ b, b < 3 → a ≠ b → (TX6 a).2.1 ≠ (TX6 b).2.1 := by decide +kernel
theorem tyX6_ok : ∀ k, k < 3 → parseFieldDescriptor (TX6 k).2.2.1 = some (tyX6 k) := by decide +kernel
abbrev cX6_visit : ByteArray := prog_5_method_2_code
def yX6_visit : MethodName := ⟨RX6, "visit", "(LCoastTiles$Step;)V"⟩
def dkwX6_visit_1 : List UInt8 := [180, 0, 25, 181, 0, 9, 177]
abbrev dktX6_visit_1 : List UInt8 := dkwX6_visit_1 ++ []
def dkwX6_visit_0 : List UInt8 := [43, 180, 0, 21, 42, 180, 0, 15, 160, 0, 22, 43, 180, 0, 24, 42, 180, 0, 18, 160, 0, 11, 42, 43]
abbrev dktX6_visit_0 : List UInt8 := dkwX6_visit_0 ++ dktX6_visit_1
theorem dksX6_visit_0 : cX6_visit.data.toList.drop 0 = dktX6_visit_0 := by decide +kernel
theorem dksX6_visit_1 : cX6_visit.data.toList.drop 24 = dktX6_visit_1 := dk_seg dksX6_visit_0 24 rfl rfl
theorem dX6_visit_0 : decode cX6_visit 0 = .ok (.aload_n 1, 1) := dk_43 (dk_at dksX6_visit_0 0 rfl rfl)
theorem dX6_visit_1 : decode cX6_visit 1 = .ok (.getfield 21, 3) := dk_180 0 21 (dk_at dksX6_visit_0 1 rfl rfl)
theorem dX6_visit_4 : decode cX6_visit 4 = .ok (.aload_n 0, 1) := dk_42 (dk_at dksX6_visit_0 4 rfl rfl)
theorem dX6_visit_5 : decode cX6_visit 5 = .ok (.getfield 15, 3) := dk_180 0 15 (dk_at dksX6_visit_0 5 rfl rfl)
theorem dX6_visit_8 : decode cX6_visit 8 = .ok (.if_icmp .ne 22, 3) := dk_160 0 22 (dk_at dksX6_visit_0 8 rfl rfl)
theorem dX6_visit_11 : decode cX6_visit 11 = .ok (.aload_n 1, 1) := dk_43 (dk_at dksX6_visit_0 11 rfl rfl)
theorem dX6_visit_12 : decode cX6_visit 12 = .ok (.getfield 24, 3) := dk_180 0 24 (dk_at dksX6_visit_0 12 rfl rfl)
theorem dX6_visit_15 : decode cX6_visit 15 = .ok (.aload_n 0, 1) := dk_42 (dk_at dksX6_visit_0 15 rfl rfl)
theorem dX6_visit_16 : decode cX6_visit 16 = .ok (.getfield 18, 3) := dk_180 0 18 (dk_at dksX6_visit_0 16 rfl rfl)
theorem dX6_visit_19 : decode cX6_visit 19 = .ok (.if_icmp .ne 11, 3) := dk_160 0 11 (dk_at dksX6_visit_0 19 rfl rfl)
theorem dX6_visit_22 : decode cX6_visit 22 = .ok (.aload_n 0, 1) := dk_42 (dk_at dksX6_visit_0 22 rfl rfl)
theorem dX6_visit_23 : decode cX6_visit 23 = .ok (.aload_n 1, 1) := dk_43 (dk_at dksX6_visit_0 23 rfl rfl)
theorem dX6_visit_24 : decode cX6_visit 24 = .ok (.getfield 25, 3) := dk_180 0 25 (dk_at dksX6_visit_1 0 rfl rfl)
theorem dX6_visit_27 : decode cX6_visit 27 = .ok (.putfield 9, 3) := dk_181 0 9 (dk_at dksX6_visit_1 3 rfl rfl)
theorem dX6_visit_30 : decode cX6_visit 30 = .ok (.return_, 1) := dk_177 (dk_at dksX6_visit_1 6 rfl rfl)
abbrev cX6_init : ByteArray := prog_5_method_1_code
def yX6_init : MethodName := ⟨RX6, "<init>", "(II)V"⟩
def dkwX6_init_0 : List UInt8 := [42, 183, 0, 3, 42, 16, 250, 181, 0, 9, 42, 27, 181, 0, 15, 42, 28, 181, 0, 18, 177]
abbrev dktX6_init_0 : List UInt8 := dkwX6_init_0 ++ []
theorem dksX6_init_0 : cX6_init.data.toList.drop 0 = dktX6_init_0 := by decide +kernel
theorem dX6_init_0 : decode cX6_init 0 = .ok (.aload_n 0, 1) := dk_42 (dk_at dksX6_init_0 0 rfl rfl)
theorem dX6_init_1 : decode cX6_init 1 = .ok (.invokespecial 3, 3) := dk_183 0 3 (dk_at dksX6_init_0 1 rfl rfl)
theorem dX6_init_4 : decode cX6_init 4 = .ok (.aload_n 0, 1) := dk_42 (dk_at dksX6_init_0 4 rfl rfl)
theorem dX6_init_5 : decode cX6_init 5 = .ok (.bipush (-6), 2) := dk_16 250 (dk_at dksX6_init_0 5 rfl rfl)
theorem dX6_init_7 : decode cX6_init 7 = .ok (.putfield 9, 3) := dk_181 0 9 (dk_at dksX6_init_0 7 rfl rfl)
theorem dX6_init_10 : decode cX6_init 10 = .ok (.aload_n 0, 1) := dk_42 (dk_at dksX6_init_0 10 rfl rfl)
theorem dX6_init_11 : decode cX6_init 11 = .ok (.iload_n 1, 1) := dk_27 (dk_at dksX6_init_0 11 rfl rfl)
theorem dX6_init_12 : decode cX6_init 12 = .ok (.putfield 15, 3) := dk_181 0 15 (dk_at dksX6_init_0 12 rfl rfl)
theorem dX6_init_15 : decode cX6_init 15 = .ok (.aload_n 0, 1) := dk_42 (dk_at dksX6_init_0 15 rfl rfl)
theorem dX6_init_16 : decode cX6_init 16 = .ok (.iload_n 2, 1) := dk_28 (dk_at dksX6_init_0 16 rfl rfl)
theorem dX6_init_17 : decode cX6_init 17 = .ok (.putfield 18, 3) := dk_181 0 18 (dk_at dksX6_init_0 17 rfl rfl)
theorem dX6_init_20 : decode cX6_init 20 = .ok (.return_, 1) := dk_177 (dk_at dksX6_init_0 20 rfl rfl)
theorem q110 : (Jvm.Cond.initialized "CoastTiles$Goal") ∈ lw_all := lw_g (lw_at lw_m1 47 rfl) rfl
theorem q270 : (Jvm.Cond.selects "CoastTiles$Goal" ({ cls := "java/lang/Object", name := "hashCode", desc := "()I" } : Jvm.MethodName) ({ cls := "java/lang/Object", name := "hashCode", desc := "()I" } : Jvm.MethodName)) ∈ lw_all := lw_g (lw_at lw_m1 207 rfl) rfl
theorem q424 : (Jvm.Cond.selects "CoastTiles$Goal" ({ cls := "java/lang/Object", name := "getClass", desc := "()Ljava/lang/Class;" } : Jvm.MethodName) ({ cls := "java/lang/Object", name := "getClass", desc := "()Ljava/lang/Class;" } : Jvm.MethodName)) ∈ lw_all := lw_g (lw_at lw_m2 121 rfl) rfl
theorem q690 : (Jvm.Cond.selects "CoastTiles$Goal" ({ cls := "java/lang/Object", name := "equals", desc := "(Ljava/lang/Object;)Z" } : Jvm.MethodName) ({ cls := "java/lang/Object", name := "equals", desc := "(Ljava/lang/Object;)Z" } : Jvm.MethodName)) ∈ lw_all := lw_g (lw_at lw_m3 147 rfl) rfl
theorem q1155 : (Jvm.Cond.fieldLinkNest "CoastTiles$Goal" (21 : Nat) "CoastTiles$Step" "row" "I" "CoastTiles") ∈ lw_tbl := lw_at lw_m5 132 rfl
theorem q1158 : (Jvm.Cond.fieldLinkNest "CoastTiles$Goal" (24 : Nat) "CoastTiles$Step" "column" "I" "CoastTiles") ∈ lw_tbl := lw_at lw_m5 135 rfl
theorem q1161 : (Jvm.Cond.fieldLinkNest "CoastTiles$Goal" (25 : Nat) "CoastTiles$Step" "number" "I" "CoastTiles") ∈ lw_tbl := lw_at lw_m5 138 rfl
theorem q1243 : (Jvm.Cond.castable "CoastTiles$Goal" "CoastTiles$Visitor") ∈ lw_tbl := lw_at lw_m5 220 rfl
theorem q1244 : (Jvm.Cond.selects "CoastTiles$Goal" ({ cls := "CoastTiles$Visitor", name := "visit", desc := "(LCoastTiles$Step;)V" } : Jvm.MethodName) ({ cls := "CoastTiles$Goal", name := "visit", desc := "(LCoastTiles$Step;)V" } : Jvm.MethodName)) ∈ lw_all := lw_g (lw_at lw_m5 221 rfl) rfl
theorem q1245 : (Jvm.Cond.unhidden "CoastTiles$Goal" "visit" "(LCoastTiles$Step;)V") ∈ lw_tbl := lw_at lw_m5 222 rfl
theorem q1246 : (Jvm.Cond.instanceMethod ({ cls := "CoastTiles$Goal", name := "visit", desc := "(LCoastTiles$Step;)V" } : Jvm.MethodName)) ∈ lw_all := lw_g (lw_at lw_m5 223 rfl) rfl
theorem q1247 : (Jvm.Cond.publicMethod ({ cls := "CoastTiles$Goal", name := "visit", desc := "(LCoastTiles$Step;)V" } : Jvm.MethodName)) ∈ lw_tbl := lw_at lw_m5 224 rfl
theorem q1248 : (Jvm.Cond.code ({ cls := "CoastTiles$Goal", name := "visit", desc := "(LCoastTiles$Step;)V" } : Jvm.MethodName) prog_5_method_2_code (2 : Nat) (Option.none : Option Jvm.ClassFile.FieldType)) ∈ lw_all := lw_g (lw_at lw_m5 225 rfl) rfl
theorem q1928 : (Jvm.Cond.instantiable "CoastTiles$Goal" (3 : Nat)) ∈ lw_all := lw_g (lw_at lw_m8 185 rfl) rfl
theorem q1930 : (Jvm.Cond.instanceMethod ({ cls := "CoastTiles$Goal", name := "<init>", desc := "(II)V" } : Jvm.MethodName)) ∈ lw_all := lw_g (lw_at lw_m8 187 rfl) rfl
theorem q1931 : (Jvm.Cond.code ({ cls := "CoastTiles$Goal", name := "<init>", desc := "(II)V" } : Jvm.MethodName) prog_5_method_1_code (3 : Nat) (Option.none : Option Jvm.ClassFile.FieldType)) ∈ lw_all := lw_g (lw_at lw_m8 188 rfl) rfl
theorem q1932 : (Jvm.Cond.methodLink "CoastTiles$Goal" (3 : Nat) ({ cls := "java/lang/Object", name := "<init>", desc := "()V" } : Jvm.MethodName)) ∈ lw_all := lw_g (lw_at lw_m8 189 rfl) rfl
theorem q1933 : (Jvm.Cond.fieldLink "CoastTiles$Goal" (15 : Nat) "CoastTiles$Goal" "row" "I") ∈ lw_all := lw_g (lw_at lw_m8 190 rfl) rfl
theorem q1934 : (Jvm.Cond.fieldLink "CoastTiles$Goal" (18 : Nat) "CoastTiles$Goal" "column" "I") ∈ lw_all := lw_g (lw_at lw_m8 191 rfl) rfl
theorem q1935 : (Jvm.Cond.fieldLink "CoastTiles$Goal" (9 : Nat) "CoastTiles$Goal" "steps" "I") ∈ lw_all := lw_g (lw_at lw_m8 192 rfl) rfl
theorem q1937 : (Jvm.Cond.laysFinal "CoastTiles$Goal" "CoastTiles$Goal" "row" "I") ∈ lw_all := lw_g (lw_at lw_m8 194 rfl) rfl
theorem q1938 : (Jvm.Cond.soleField "CoastTiles$Goal" "row") ∈ lw_all := lw_g (lw_at lw_m8 195 rfl) rfl
theorem q1939 : (Jvm.Cond.laysFinal "CoastTiles$Goal" "CoastTiles$Goal" "column" "I") ∈ lw_all := lw_g (lw_at lw_m8 196 rfl) rfl
theorem q1940 : (Jvm.Cond.soleField "CoastTiles$Goal" "column") ∈ lw_all := lw_g (lw_at lw_m8 197 rfl) rfl
theorem q1941 : (Jvm.Cond.lays "CoastTiles$Goal" "CoastTiles$Goal" "steps" "I") ∈ lw_all := lw_g (lw_at lw_m8 198 rfl) rfl
theorem q1942 : (Jvm.Cond.soleField "CoastTiles$Goal" "steps") ∈ lw_all := lw_g (lw_at lw_m8 199 rfl) rfl
theorem q1943 : (Jvm.Cond.superclass "CoastTiles$Goal" "java/lang/Object") ∈ lw_all := lw_g (lw_at lw_m8 200 rfl) rfl
theorem q2517 : (Jvm.Cond.castable "CoastTiles$Goal" "java/lang/Object") ∈ lw_tbl := lw_at lw_m11 54 rfl
theorem in_X6 : ∀ w ∈ wsX60, w ∈ lw_all := lw_in wsX60 [1937, 1939, 1941] (by decide +kernel) (by decide +kernel)
/-! CoastTiles$Reader -/
set_option maxRecDepth 100000
def RX7 : String := "CoastTiles$Reader"
def TX7 : u_T := fun k => match k with
  | 0 => ("CoastTiles$Reader", "land", "Ljava/util/BitSet;", true)
  | 1 => ("CoastTiles$Reader", "at", "I", false)
  | 2 => ("CoastTiles$Reader", "rows", "I", false)
  | 3 => ("CoastTiles$Reader", "columns", "I", false)
  | 4 => ("CoastTiles$Reader", "filled", "I", false)
  | _ => ("CoastTiles$Reader", "this$0", "LCoastTiles;", true)
def tyX7 : Nat → FieldType := fun k => match k with
  | 0 => .object "java/util/BitSet"
  | 1 => .int
  | 2 => .int
  | 3 => .int
  | 4 => .int
  | _ => .object "CoastTiles"
abbrev wsX70 : List Cond := u_ws RX7 TX7 6
theorem nmX7 : ∀ a, a < 6 → ∀ b, b < 6 → a ≠ b → (TX7 a).2.1 ≠ (TX7 b).2.1 := by decide +kernel
theorem tyX7_ok : ∀ k, k < 6 → parseFieldDescriptor (TX7 k).2.2.1 = some (tyX7 k) := by decide +kernel
abbrev cX7_init : ByteArray := prog_8_method_1_code
def yX7_init : MethodName := ⟨RX7, "<init>", "(LCoastTiles;)V"⟩
def dkwX7_init_0 : List UInt8 := [42, 43, 181, 0, 3, 42, 183, 0, 9, 42, 187, 0, 15, 89, 183, 0, 17, 181, 0, 18, 177]
abbrev dktX7_init_0 : List UInt8 := dkwX7_init_0 ++ []
theorem dksX7_init_0 : cX7_init.data.toList.drop 0 = dktX7_init_0 := by decide +kernel
theorem dX7_init_0 : decode cX7_init 0 = .ok (.aload_n 0, 1) := dk_42 (dk_at dksX7_init_0 0 rfl rfl)
theorem dX7_init_1 : decode cX7_init 1 = .ok (.aload_n 1, 1) := dk_43 (dk_at dksX7_init_0 1 rfl rfl)
theorem dX7_init_2 : decode cX7_init 2 = .ok (.putfield 3, 3) := dk_181 0 3 (dk_at dksX7_init_0 2 rfl rfl)
theorem dX7_init_5 : decode cX7_init 5 = .ok (.aload_n 0, 1) := dk_42 (dk_at dksX7_init_0 5 rfl rfl)
theorem dX7_init_6 : decode cX7_init 6 = .ok (.invokespecial 9, 3) := dk_183 0 9 (dk_at dksX7_init_0 6 rfl rfl)
theorem dX7_init_9 : decode cX7_init 9 = .ok (.aload_n 0, 1) := dk_42 (dk_at dksX7_init_0 9 rfl rfl)
theorem dX7_init_10 : decode cX7_init 10 = .ok (.new 15, 3) := dk_187 0 15 (dk_at dksX7_init_0 10 rfl rfl)
theorem dX7_init_13 : decode cX7_init 13 = .ok (.dup, 1) := dk_89 (dk_at dksX7_init_0 13 rfl rfl)
theorem dX7_init_14 : decode cX7_init 14 = .ok (.invokespecial 17, 3) := dk_183 0 17 (dk_at dksX7_init_0 14 rfl rfl)
theorem dX7_init_17 : decode cX7_init 17 = .ok (.putfield 18, 3) := dk_181 0 18 (dk_at dksX7_init_0 17 rfl rfl)
theorem dX7_init_20 : decode cX7_init 20 = .ok (.return_, 1) := dk_177 (dk_at dksX7_init_0 20 rfl rfl)
abbrev cX7_errorPosition : ByteArray := prog_8_method_8_code
def yX7_errorPosition : MethodName := ⟨RX7, "errorPosition", "()I"⟩
def dkwX7_errorPosition_2 : List UInt8 := [180, 0, 22, 172]
abbrev dktX7_errorPosition_2 : List UInt8 := dkwX7_errorPosition_2 ++ []
def dkwX7_errorPosition_1 : List UInt8 := [16, 12, 160, 0, 8, 42, 180, 0, 22, 172, 42, 89, 180, 0, 22, 4, 96, 181, 0, 22, 167, 255, 213, 42]
abbrev dktX7_errorPosition_1 : List UInt8 := dkwX7_errorPosition_1 ++ dktX7_errorPosition_2
def dkwX7_errorPosition_0 : List UInt8 := [42, 182, 0, 73, 153, 0, 42, 42, 182, 0, 40, 16, 250, 160, 0, 6, 16, 250, 172, 42, 180, 0, 47]
abbrev dktX7_errorPosition_0 : List UInt8 := dkwX7_errorPosition_0 ++ dktX7_errorPosition_1
theorem dksX7_errorPosition_0 : cX7_errorPosition.data.toList.drop 0 = dktX7_errorPosition_0 := by decide +kernel
theorem dksX7_errorPosition_1 : cX7_errorPosition.data.toList.drop 23 = dktX7_errorPosition_1 := dk_seg dksX7_errorPosition_0 23 rfl rfl
theorem dksX7_errorPosition_2 : cX7_errorPosition.data.toList.drop 47 = dktX7_errorPosition_2 := dk_seg dksX7_errorPosition_1 24 rfl rfl
theorem dX7_errorPosition_0 : decode cX7_errorPosition 0 = .ok (.aload_n 0, 1) := dk_42 (dk_at dksX7_errorPosition_0 0 rfl rfl)
theorem dX7_errorPosition_1 : decode cX7_errorPosition 1 = .ok (.invokevirtual 73, 3) := dk_182 0 73 (dk_at dksX7_errorPosition_0 1 rfl rfl)
theorem dX7_errorPosition_4 : decode cX7_errorPosition 4 = .ok (.ifCond .eq 42, 3) := dk_153 0 42 (dk_at dksX7_errorPosition_0 4 rfl rfl)
theorem dX7_errorPosition_7 : decode cX7_errorPosition 7 = .ok (.aload_n 0, 1) := dk_42 (dk_at dksX7_errorPosition_0 7 rfl rfl)
theorem dX7_errorPosition_8 : decode cX7_errorPosition 8 = .ok (.invokevirtual 40, 3) := dk_182 0 40 (dk_at dksX7_errorPosition_0 8 rfl rfl)
theorem dX7_errorPosition_11 : decode cX7_errorPosition 11 = .ok (.bipush (-6), 2) := dk_16 250 (dk_at dksX7_errorPosition_0 11 rfl rfl)
theorem dX7_errorPosition_13 : decode cX7_errorPosition 13 = .ok (.if_icmp .ne 6, 3) := dk_160 0 6 (dk_at dksX7_errorPosition_0 13 rfl rfl)
theorem dX7_errorPosition_16 : decode cX7_errorPosition 16 = .ok (.bipush (-6), 2) := dk_16 250 (dk_at dksX7_errorPosition_0 16 rfl rfl)
theorem dX7_errorPosition_18 : decode cX7_errorPosition 18 = .ok (.ireturn, 1) := dk_172 (dk_at dksX7_errorPosition_0 18 rfl rfl)
theorem dX7_errorPosition_19 : decode cX7_errorPosition 19 = .ok (.aload_n 0, 1) := dk_42 (dk_at dksX7_errorPosition_0 19 rfl rfl)
theorem dX7_errorPosition_20 : decode cX7_errorPosition 20 = .ok (.getfield 47, 3) := dk_180 0 47 (dk_at dksX7_errorPosition_0 20 rfl rfl)
theorem dX7_errorPosition_23 : decode cX7_errorPosition 23 = .ok (.bipush 12, 2) := dk_16 12 (dk_at dksX7_errorPosition_1 0 rfl rfl)
theorem dX7_errorPosition_25 : decode cX7_errorPosition 25 = .ok (.if_icmp .ne 8, 3) := dk_160 0 8 (dk_at dksX7_errorPosition_1 2 rfl rfl)
theorem dX7_errorPosition_28 : decode cX7_errorPosition 28 = .ok (.aload_n 0, 1) := dk_42 (dk_at dksX7_errorPosition_1 5 rfl rfl)
theorem dX7_errorPosition_29 : decode cX7_errorPosition 29 = .ok (.getfield 22, 3) := dk_180 0 22 (dk_at dksX7_errorPosition_1 6 rfl rfl)
theorem dX7_errorPosition_32 : decode cX7_errorPosition 32 = .ok (.ireturn, 1) := dk_172 (dk_at dksX7_errorPosition_1 9 rfl rfl)
theorem dX7_errorPosition_33 : decode cX7_errorPosition 33 = .ok (.aload_n 0, 1) := dk_42 (dk_at dksX7_errorPosition_1 10 rfl rfl)
theorem dX7_errorPosition_34 : decode cX7_errorPosition 34 = .ok (.dup, 1) := dk_89 (dk_at dksX7_errorPosition_1 11 rfl rfl)
theorem dX7_errorPosition_35 : decode cX7_errorPosition 35 = .ok (.getfield 22, 3) := dk_180 0 22 (dk_at dksX7_errorPosition_1 12 rfl rfl)
theorem dX7_errorPosition_38 : decode cX7_errorPosition 38 = .ok (.iconst 1, 1) := dk_4 (dk_at dksX7_errorPosition_1 15 rfl rfl)
theorem dX7_errorPosition_39 : decode cX7_errorPosition 39 = .ok (.iadd, 1) := dk_96 (dk_at dksX7_errorPosition_1 16 rfl rfl)
theorem dX7_errorPosition_40 : decode cX7_errorPosition 40 = .ok (.putfield 22, 3) := dk_181 0 22 (dk_at dksX7_errorPosition_1 17 rfl rfl)
theorem dX7_errorPosition_43 : decode cX7_errorPosition 43 = .ok (.goto (-43), 3) := dk_167 255 213 (dk_at dksX7_errorPosition_1 20 rfl rfl)
theorem dX7_errorPosition_46 : decode cX7_errorPosition 46 = .ok (.aload_n 0, 1) := dk_42 (dk_at dksX7_errorPosition_1 23 rfl rfl)
theorem dX7_errorPosition_47 : decode cX7_errorPosition 47 = .ok (.getfield 22, 3) := dk_180 0 22 (dk_at dksX7_errorPosition_2 0 rfl rfl)
theorem dX7_errorPosition_50 : decode cX7_errorPosition 50 = .ok (.ireturn, 1) := dk_172 (dk_at dksX7_errorPosition_2 3 rfl rfl)
abbrev cX7_readsRow : ByteArray := prog_8_method_7_code
def yX7_readsRow : MethodName := ⟨RX7, "readsRow", "()Z"⟩
def dkwX7_readsRow_3 : List UInt8 := [172]
abbrev dktX7_readsRow_3 : List UInt8 := dkwX7_readsRow_3 ++ []
def dkwX7_readsRow_2 : List UInt8 := [162, 0, 5, 3, 172, 42, 42, 180, 0, 53, 181, 0, 50, 42, 89, 180, 0, 47, 4, 96, 181, 0, 47, 4]
abbrev dktX7_readsRow_2 : List UInt8 := dkwX7_readsRow_2 ++ dktX7_readsRow_3
def dkwX7_readsRow_1 : List UInt8 := [182, 0, 40, 16, 47, 160, 255, 232, 42, 180, 0, 47, 158, 0, 16, 42, 180, 0, 53, 42, 180, 0, 50]
abbrev dktX7_readsRow_1 : List UInt8 := dkwX7_readsRow_1 ++ dktX7_readsRow_2
def dkwX7_readsRow_0 : List UInt8 := [42, 3, 181, 0, 53, 42, 182, 0, 70, 154, 0, 5, 3, 172, 42, 182, 0, 40, 16, 250, 159, 0, 12, 42]
abbrev dktX7_readsRow_0 : List UInt8 := dkwX7_readsRow_0 ++ dktX7_readsRow_1
theorem dksX7_readsRow_0 : cX7_readsRow.data.toList.drop 0 = dktX7_readsRow_0 := by decide +kernel
theorem dksX7_readsRow_1 : cX7_readsRow.data.toList.drop 24 = dktX7_readsRow_1 := dk_seg dksX7_readsRow_0 24 rfl rfl
theorem dksX7_readsRow_2 : cX7_readsRow.data.toList.drop 47 = dktX7_readsRow_2 := dk_seg dksX7_readsRow_1 23 rfl rfl
theorem dksX7_readsRow_3 : cX7_readsRow.data.toList.drop 71 = dktX7_readsRow_3 := dk_seg dksX7_readsRow_2 24 rfl rfl
theorem dX7_readsRow_0 : decode cX7_readsRow 0 = .ok (.aload_n 0, 1) := dk_42 (dk_at dksX7_readsRow_0 0 rfl rfl)
theorem dX7_readsRow_1 : decode cX7_readsRow 1 = .ok (.iconst 0, 1) := dk_3 (dk_at dksX7_readsRow_0 1 rfl rfl)
theorem dX7_readsRow_2 : decode cX7_readsRow 2 = .ok (.putfield 53, 3) := dk_181 0 53 (dk_at dksX7_readsRow_0 2 rfl rfl)
theorem dX7_readsRow_5 : decode cX7_readsRow 5 = .ok (.aload_n 0, 1) := dk_42 (dk_at dksX7_readsRow_0 5 rfl rfl)
theorem dX7_readsRow_6 : decode cX7_readsRow 6 = .ok (.invokevirtual 70, 3) := dk_182 0 70 (dk_at dksX7_readsRow_0 6 rfl rfl)
theorem dX7_readsRow_9 : decode cX7_readsRow 9 = .ok (.ifCond .ne 5, 3) := dk_154 0 5 (dk_at dksX7_readsRow_0 9 rfl rfl)
theorem dX7_readsRow_12 : decode cX7_readsRow 12 = .ok (.iconst 0, 1) := dk_3 (dk_at dksX7_readsRow_0 12 rfl rfl)
theorem dX7_readsRow_13 : decode cX7_readsRow 13 = .ok (.ireturn, 1) := dk_172 (dk_at dksX7_readsRow_0 13 rfl rfl)
theorem dX7_readsRow_14 : decode cX7_readsRow 14 = .ok (.aload_n 0, 1) := dk_42 (dk_at dksX7_readsRow_0 14 rfl rfl)
theorem dX7_readsRow_15 : decode cX7_readsRow 15 = .ok (.invokevirtual 40, 3) := dk_182 0 40 (dk_at dksX7_readsRow_0 15 rfl rfl)
theorem dX7_readsRow_18 : decode cX7_readsRow 18 = .ok (.bipush (-6), 2) := dk_16 250 (dk_at dksX7_readsRow_0 18 rfl rfl)
theorem dX7_readsRow_20 : decode cX7_readsRow 20 = .ok (.if_icmp .eq 12, 3) := dk_159 0 12 (dk_at dksX7_readsRow_0 20 rfl rfl)
theorem dX7_readsRow_23 : decode cX7_readsRow 23 = .ok (.aload_n 0, 1) := dk_42 (dk_at dksX7_readsRow_0 23 rfl rfl)
theorem dX7_readsRow_24 : decode cX7_readsRow 24 = .ok (.invokevirtual 40, 3) := dk_182 0 40 (dk_at dksX7_readsRow_1 0 rfl rfl)
theorem dX7_readsRow_27 : decode cX7_readsRow 27 = .ok (.bipush 47, 2) := dk_16 47 (dk_at dksX7_readsRow_1 3 rfl rfl)
theorem dX7_readsRow_29 : decode cX7_readsRow 29 = .ok (.if_icmp .ne (-24), 3) := dk_160 255 232 (dk_at dksX7_readsRow_1 5 rfl rfl)
theorem dX7_readsRow_32 : decode cX7_readsRow 32 = .ok (.aload_n 0, 1) := dk_42 (dk_at dksX7_readsRow_1 8 rfl rfl)
theorem dX7_readsRow_33 : decode cX7_readsRow 33 = .ok (.getfield 47, 3) := dk_180 0 47 (dk_at dksX7_readsRow_1 9 rfl rfl)
theorem dX7_readsRow_36 : decode cX7_readsRow 36 = .ok (.ifCond .le 16, 3) := dk_158 0 16 (dk_at dksX7_readsRow_1 12 rfl rfl)
theorem dX7_readsRow_39 : decode cX7_readsRow 39 = .ok (.aload_n 0, 1) := dk_42 (dk_at dksX7_readsRow_1 15 rfl rfl)
theorem dX7_readsRow_40 : decode cX7_readsRow 40 = .ok (.getfield 53, 3) := dk_180 0 53 (dk_at dksX7_readsRow_1 16 rfl rfl)
theorem dX7_readsRow_43 : decode cX7_readsRow 43 = .ok (.aload_n 0, 1) := dk_42 (dk_at dksX7_readsRow_1 19 rfl rfl)
theorem dX7_readsRow_44 : decode cX7_readsRow 44 = .ok (.getfield 50, 3) := dk_180 0 50 (dk_at dksX7_readsRow_1 20 rfl rfl)
theorem dX7_readsRow_47 : decode cX7_readsRow 47 = .ok (.if_icmp .ge 5, 3) := dk_162 0 5 (dk_at dksX7_readsRow_2 0 rfl rfl)
theorem dX7_readsRow_50 : decode cX7_readsRow 50 = .ok (.iconst 0, 1) := dk_3 (dk_at dksX7_readsRow_2 3 rfl rfl)
theorem dX7_readsRow_51 : decode cX7_readsRow 51 = .ok (.ireturn, 1) := dk_172 (dk_at dksX7_readsRow_2 4 rfl rfl)
theorem dX7_readsRow_52 : decode cX7_readsRow 52 = .ok (.aload_n 0, 1) := dk_42 (dk_at dksX7_readsRow_2 5 rfl rfl)
theorem dX7_readsRow_53 : decode cX7_readsRow 53 = .ok (.aload_n 0, 1) := dk_42 (dk_at dksX7_readsRow_2 6 rfl rfl)
theorem dX7_readsRow_54 : decode cX7_readsRow 54 = .ok (.getfield 53, 3) := dk_180 0 53 (dk_at dksX7_readsRow_2 7 rfl rfl)
theorem dX7_readsRow_57 : decode cX7_readsRow 57 = .ok (.putfield 50, 3) := dk_181 0 50 (dk_at dksX7_readsRow_2 10 rfl rfl)
theorem dX7_readsRow_60 : decode cX7_readsRow 60 = .ok (.aload_n 0, 1) := dk_42 (dk_at dksX7_readsRow_2 13 rfl rfl)
theorem dX7_readsRow_61 : decode cX7_readsRow 61 = .ok (.dup, 1) := dk_89 (dk_at dksX7_readsRow_2 14 rfl rfl)
theorem dX7_readsRow_62 : decode cX7_readsRow 62 = .ok (.getfield 47, 3) := dk_180 0 47 (dk_at dksX7_readsRow_2 15 rfl rfl)
theorem dX7_readsRow_65 : decode cX7_readsRow 65 = .ok (.iconst 1, 1) := dk_4 (dk_at dksX7_readsRow_2 18 rfl rfl)
theorem dX7_readsRow_66 : decode cX7_readsRow 66 = .ok (.iadd, 1) := dk_96 (dk_at dksX7_readsRow_2 19 rfl rfl)
theorem dX7_readsRow_67 : decode cX7_readsRow 67 = .ok (.putfield 47, 3) := dk_181 0 47 (dk_at dksX7_readsRow_2 20 rfl rfl)
theorem dX7_readsRow_70 : decode cX7_readsRow 70 = .ok (.iconst 1, 1) := dk_4 (dk_at dksX7_readsRow_2 23 rfl rfl)
theorem dX7_readsRow_71 : decode cX7_readsRow 71 = .ok (.ireturn, 1) := dk_172 (dk_at dksX7_readsRow_3 0 rfl rfl)
abbrev cX7_readsRun : ByteArray := prog_8_method_6_code
def yX7_readsRun : MethodName := ⟨RX7, "readsRun", "()Z"⟩
def dkwX7_readsRun_4 : List UInt8 := [42, 89, 180, 0, 22, 4, 96, 181, 0, 22, 4, 172]
abbrev dktX7_readsRun_4 : List UInt8 := dkwX7_readsRun_4 ++ []
def dkwX7_readsRun_3 : List UInt8 := [180, 0, 47, 104, 42, 180, 0, 53, 96, 27, 96, 182, 0, 66, 42, 89, 180, 0, 53, 27, 96, 181, 0, 53]
abbrev dktX7_readsRun_3 : List UInt8 := dkwX7_readsRun_3 ++ dktX7_readsRun_4
def dkwX7_readsRun_2 : List UInt8 := [160, 0, 36, 42, 180, 0, 18, 16, 12, 42, 180, 0, 47, 104, 42, 180, 0, 53, 96, 16, 12, 42]
abbrev dktX7_readsRun_2 : List UInt8 := dkwX7_readsRun_2 ++ dktX7_readsRun_3
def dkwX7_readsRun_1 : List UInt8 := [16, 46, 159, 0, 14, 42, 182, 0, 40, 16, 35, 159, 0, 5, 3, 172, 42, 182, 0, 40, 16, 35]
abbrev dktX7_readsRun_1 : List UInt8 := dkwX7_readsRun_1 ++ dktX7_readsRun_2
def dkwX7_readsRun_0 : List UInt8 := [42, 182, 0, 60, 154, 0, 5, 3, 172, 42, 182, 0, 63, 60, 27, 16, 250, 159, 0, 21, 42, 182, 0, 40]
abbrev dktX7_readsRun_0 : List UInt8 := dkwX7_readsRun_0 ++ dktX7_readsRun_1
theorem dksX7_readsRun_0 : cX7_readsRun.data.toList.drop 0 = dktX7_readsRun_0 := by decide +kernel
theorem dksX7_readsRun_1 : cX7_readsRun.data.toList.drop 24 = dktX7_readsRun_1 := dk_seg dksX7_readsRun_0 24 rfl rfl
theorem dksX7_readsRun_2 : cX7_readsRun.data.toList.drop 46 = dktX7_readsRun_2 := dk_seg dksX7_readsRun_1 22 rfl rfl
theorem dksX7_readsRun_3 : cX7_readsRun.data.toList.drop 68 = dktX7_readsRun_3 := dk_seg dksX7_readsRun_2 22 rfl rfl
theorem dksX7_readsRun_4 : cX7_readsRun.data.toList.drop 92 = dktX7_readsRun_4 := dk_seg dksX7_readsRun_3 24 rfl rfl
theorem dX7_readsRun_0 : decode cX7_readsRun 0 = .ok (.aload_n 0, 1) := dk_42 (dk_at dksX7_readsRun_0 0 rfl rfl)
theorem dX7_readsRun_1 : decode cX7_readsRun 1 = .ok (.invokevirtual 60, 3) := dk_182 0 60 (dk_at dksX7_readsRun_0 1 rfl rfl)
theorem dX7_readsRun_4 : decode cX7_readsRun 4 = .ok (.ifCond .ne 5, 3) := dk_154 0 5 (dk_at dksX7_readsRun_0 4 rfl rfl)
theorem dX7_readsRun_7 : decode cX7_readsRun 7 = .ok (.iconst 0, 1) := dk_3 (dk_at dksX7_readsRun_0 7 rfl rfl)
theorem dX7_readsRun_8 : decode cX7_readsRun 8 = .ok (.ireturn, 1) := dk_172 (dk_at dksX7_readsRun_0 8 rfl rfl)
theorem dX7_readsRun_9 : decode cX7_readsRun 9 = .ok (.aload_n 0, 1) := dk_42 (dk_at dksX7_readsRun_0 9 rfl rfl)
theorem dX7_readsRun_10 : decode cX7_readsRun 10 = .ok (.invokevirtual 63, 3) := dk_182 0 63 (dk_at dksX7_readsRun_0 10 rfl rfl)
theorem dX7_readsRun_13 : decode cX7_readsRun 13 = .ok (.istore_n 1, 1) := dk_60 (dk_at dksX7_readsRun_0 13 rfl rfl)
theorem dX7_readsRun_14 : decode cX7_readsRun 14 = .ok (.iload_n 1, 1) := dk_27 (dk_at dksX7_readsRun_0 14 rfl rfl)
theorem dX7_readsRun_15 : decode cX7_readsRun 15 = .ok (.bipush (-6), 2) := dk_16 250 (dk_at dksX7_readsRun_0 15 rfl rfl)
theorem dX7_readsRun_17 : decode cX7_readsRun 17 = .ok (.if_icmp .eq 21, 3) := dk_159 0 21 (dk_at dksX7_readsRun_0 17 rfl rfl)
theorem dX7_readsRun_20 : decode cX7_readsRun 20 = .ok (.aload_n 0, 1) := dk_42 (dk_at dksX7_readsRun_0 20 rfl rfl)
theorem dX7_readsRun_21 : decode cX7_readsRun 21 = .ok (.invokevirtual 40, 3) := dk_182 0 40 (dk_at dksX7_readsRun_0 21 rfl rfl)
theorem dX7_readsRun_24 : decode cX7_readsRun 24 = .ok (.bipush 46, 2) := dk_16 46 (dk_at dksX7_readsRun_1 0 rfl rfl)
theorem dX7_readsRun_26 : decode cX7_readsRun 26 = .ok (.if_icmp .eq 14, 3) := dk_159 0 14 (dk_at dksX7_readsRun_1 2 rfl rfl)
theorem dX7_readsRun_29 : decode cX7_readsRun 29 = .ok (.aload_n 0, 1) := dk_42 (dk_at dksX7_readsRun_1 5 rfl rfl)
theorem dX7_readsRun_30 : decode cX7_readsRun 30 = .ok (.invokevirtual 40, 3) := dk_182 0 40 (dk_at dksX7_readsRun_1 6 rfl rfl)
theorem dX7_readsRun_33 : decode cX7_readsRun 33 = .ok (.bipush 35, 2) := dk_16 35 (dk_at dksX7_readsRun_1 9 rfl rfl)
theorem dX7_readsRun_35 : decode cX7_readsRun 35 = .ok (.if_icmp .eq 5, 3) := dk_159 0 5 (dk_at dksX7_readsRun_1 11 rfl rfl)
theorem dX7_readsRun_38 : decode cX7_readsRun 38 = .ok (.iconst 0, 1) := dk_3 (dk_at dksX7_readsRun_1 14 rfl rfl)
theorem dX7_readsRun_39 : decode cX7_readsRun 39 = .ok (.ireturn, 1) := dk_172 (dk_at dksX7_readsRun_1 15 rfl rfl)
theorem dX7_readsRun_40 : decode cX7_readsRun 40 = .ok (.aload_n 0, 1) := dk_42 (dk_at dksX7_readsRun_1 16 rfl rfl)
theorem dX7_readsRun_41 : decode cX7_readsRun 41 = .ok (.invokevirtual 40, 3) := dk_182 0 40 (dk_at dksX7_readsRun_1 17 rfl rfl)
theorem dX7_readsRun_44 : decode cX7_readsRun 44 = .ok (.bipush 35, 2) := dk_16 35 (dk_at dksX7_readsRun_1 20 rfl rfl)
theorem dX7_readsRun_46 : decode cX7_readsRun 46 = .ok (.if_icmp .ne 36, 3) := dk_160 0 36 (dk_at dksX7_readsRun_2 0 rfl rfl)
theorem dX7_readsRun_49 : decode cX7_readsRun 49 = .ok (.aload_n 0, 1) := dk_42 (dk_at dksX7_readsRun_2 3 rfl rfl)
theorem dX7_readsRun_50 : decode cX7_readsRun 50 = .ok (.getfield 18, 3) := dk_180 0 18 (dk_at dksX7_readsRun_2 4 rfl rfl)
theorem dX7_readsRun_53 : decode cX7_readsRun 53 = .ok (.bipush 12, 2) := dk_16 12 (dk_at dksX7_readsRun_2 7 rfl rfl)
theorem dX7_readsRun_55 : decode cX7_readsRun 55 = .ok (.aload_n 0, 1) := dk_42 (dk_at dksX7_readsRun_2 9 rfl rfl)
theorem dX7_readsRun_56 : decode cX7_readsRun 56 = .ok (.getfield 47, 3) := dk_180 0 47 (dk_at dksX7_readsRun_2 10 rfl rfl)
theorem dX7_readsRun_59 : decode cX7_readsRun 59 = .ok (.imul, 1) := dk_104 (dk_at dksX7_readsRun_2 13 rfl rfl)
theorem dX7_readsRun_60 : decode cX7_readsRun 60 = .ok (.aload_n 0, 1) := dk_42 (dk_at dksX7_readsRun_2 14 rfl rfl)
theorem dX7_readsRun_61 : decode cX7_readsRun 61 = .ok (.getfield 53, 3) := dk_180 0 53 (dk_at dksX7_readsRun_2 15 rfl rfl)
theorem dX7_readsRun_64 : decode cX7_readsRun 64 = .ok (.iadd, 1) := dk_96 (dk_at dksX7_readsRun_2 18 rfl rfl)
theorem dX7_readsRun_65 : decode cX7_readsRun 65 = .ok (.bipush 12, 2) := dk_16 12 (dk_at dksX7_readsRun_2 19 rfl rfl)
theorem dX7_readsRun_67 : decode cX7_readsRun 67 = .ok (.aload_n 0, 1) := dk_42 (dk_at dksX7_readsRun_2 21 rfl rfl)
theorem dX7_readsRun_68 : decode cX7_readsRun 68 = .ok (.getfield 47, 3) := dk_180 0 47 (dk_at dksX7_readsRun_3 0 rfl rfl)
theorem dX7_readsRun_71 : decode cX7_readsRun 71 = .ok (.imul, 1) := dk_104 (dk_at dksX7_readsRun_3 3 rfl rfl)
theorem dX7_readsRun_72 : decode cX7_readsRun 72 = .ok (.aload_n 0, 1) := dk_42 (dk_at dksX7_readsRun_3 4 rfl rfl)
theorem dX7_readsRun_73 : decode cX7_readsRun 73 = .ok (.getfield 53, 3) := dk_180 0 53 (dk_at dksX7_readsRun_3 5 rfl rfl)
theorem dX7_readsRun_76 : decode cX7_readsRun 76 = .ok (.iadd, 1) := dk_96 (dk_at dksX7_readsRun_3 8 rfl rfl)
theorem dX7_readsRun_77 : decode cX7_readsRun 77 = .ok (.iload_n 1, 1) := dk_27 (dk_at dksX7_readsRun_3 9 rfl rfl)
theorem dX7_readsRun_78 : decode cX7_readsRun 78 = .ok (.iadd, 1) := dk_96 (dk_at dksX7_readsRun_3 10 rfl rfl)
theorem dX7_readsRun_79 : decode cX7_readsRun 79 = .ok (.invokevirtual 66, 3) := dk_182 0 66 (dk_at dksX7_readsRun_3 11 rfl rfl)
theorem dX7_readsRun_82 : decode cX7_readsRun 82 = .ok (.aload_n 0, 1) := dk_42 (dk_at dksX7_readsRun_3 14 rfl rfl)
theorem dX7_readsRun_83 : decode cX7_readsRun 83 = .ok (.dup, 1) := dk_89 (dk_at dksX7_readsRun_3 15 rfl rfl)
theorem dX7_readsRun_84 : decode cX7_readsRun 84 = .ok (.getfield 53, 3) := dk_180 0 53 (dk_at dksX7_readsRun_3 16 rfl rfl)
theorem dX7_readsRun_87 : decode cX7_readsRun 87 = .ok (.iload_n 1, 1) := dk_27 (dk_at dksX7_readsRun_3 19 rfl rfl)
theorem dX7_readsRun_88 : decode cX7_readsRun 88 = .ok (.iadd, 1) := dk_96 (dk_at dksX7_readsRun_3 20 rfl rfl)
theorem dX7_readsRun_89 : decode cX7_readsRun 89 = .ok (.putfield 53, 3) := dk_181 0 53 (dk_at dksX7_readsRun_3 21 rfl rfl)
theorem dX7_readsRun_92 : decode cX7_readsRun 92 = .ok (.aload_n 0, 1) := dk_42 (dk_at dksX7_readsRun_4 0 rfl rfl)
theorem dX7_readsRun_93 : decode cX7_readsRun 93 = .ok (.dup, 1) := dk_89 (dk_at dksX7_readsRun_4 1 rfl rfl)
theorem dX7_readsRun_94 : decode cX7_readsRun 94 = .ok (.getfield 22, 3) := dk_180 0 22 (dk_at dksX7_readsRun_4 2 rfl rfl)
theorem dX7_readsRun_97 : decode cX7_readsRun 97 = .ok (.iconst 1, 1) := dk_4 (dk_at dksX7_readsRun_4 5 rfl rfl)
theorem dX7_readsRun_98 : decode cX7_readsRun 98 = .ok (.iadd, 1) := dk_96 (dk_at dksX7_readsRun_4 6 rfl rfl)
theorem dX7_readsRun_99 : decode cX7_readsRun 99 = .ok (.putfield 22, 3) := dk_181 0 22 (dk_at dksX7_readsRun_4 7 rfl rfl)
theorem dX7_readsRun_102 : decode cX7_readsRun 102 = .ok (.iconst 1, 1) := dk_4 (dk_at dksX7_readsRun_4 10 rfl rfl)
theorem dX7_readsRun_103 : decode cX7_readsRun 103 = .ok (.ireturn, 1) := dk_172 (dk_at dksX7_readsRun_4 11 rfl rfl)
abbrev cX7_room : ByteArray := prog_8_method_4_code
def yX7_room : MethodName := ⟨RX7, "room", "()I"⟩
def dkwX7_room_0 : List UInt8 := [42, 180, 0, 47, 154, 0, 8, 16, 12, 167, 0, 7, 42, 180, 0, 50, 42, 180, 0, 53, 100, 172]
abbrev dktX7_room_0 : List UInt8 := dkwX7_room_0 ++ []
theorem dksX7_room_0 : cX7_room.data.toList.drop 0 = dktX7_room_0 := by decide +kernel
theorem dX7_room_0 : decode cX7_room 0 = .ok (.aload_n 0, 1) := dk_42 (dk_at dksX7_room_0 0 rfl rfl)
theorem dX7_room_1 : decode cX7_room 1 = .ok (.getfield 47, 3) := dk_180 0 47 (dk_at dksX7_room_0 1 rfl rfl)
theorem dX7_room_4 : decode cX7_room 4 = .ok (.ifCond .ne 8, 3) := dk_154 0 8 (dk_at dksX7_room_0 4 rfl rfl)
theorem dX7_room_7 : decode cX7_room 7 = .ok (.bipush 12, 2) := dk_16 12 (dk_at dksX7_room_0 7 rfl rfl)
theorem dX7_room_9 : decode cX7_room 9 = .ok (.goto 7, 3) := dk_167 0 7 (dk_at dksX7_room_0 9 rfl rfl)
theorem dX7_room_12 : decode cX7_room 12 = .ok (.aload_n 0, 1) := dk_42 (dk_at dksX7_room_0 12 rfl rfl)
theorem dX7_room_13 : decode cX7_room 13 = .ok (.getfield 50, 3) := dk_180 0 50 (dk_at dksX7_room_0 13 rfl rfl)
theorem dX7_room_16 : decode cX7_room 16 = .ok (.aload_n 0, 1) := dk_42 (dk_at dksX7_room_0 16 rfl rfl)
theorem dX7_room_17 : decode cX7_room 17 = .ok (.getfield 53, 3) := dk_180 0 53 (dk_at dksX7_room_0 17 rfl rfl)
theorem dX7_room_20 : decode cX7_room 20 = .ok (.isub, 1) := dk_100 (dk_at dksX7_room_0 20 rfl rfl)
theorem dX7_room_21 : decode cX7_room 21 = .ok (.ireturn, 1) := dk_172 (dk_at dksX7_room_0 21 rfl rfl)
abbrev cX7_number : ByteArray := prog_8_method_5_code
def yX7_number : MethodName := ⟨RX7, "number", "()I"⟩
def dkwX7_number_4 : List UInt8 := [164, 0, 6, 16, 250, 172, 16, 10, 29, 96, 60, 42, 89, 180, 0, 22, 4, 96, 181, 0, 22, 27, 172]
abbrev dktX7_number_4 : List UInt8 := dkwX7_number_4 ++ []
def dkwX7_number_3 : List UInt8 := [42, 182, 0, 40, 16, 48, 100, 62, 42, 182, 0, 56, 153, 0, 14, 16, 10, 29, 96, 42, 182, 0, 60]
abbrev dktX7_number_3 : List UInt8 := dkwX7_number_3 ++ dktX7_number_4
def dkwX7_number_2 : List UInt8 := [184, 0, 43, 154, 0, 6, 16, 250, 172, 42, 89, 180, 0, 22, 4, 96, 181, 0, 22, 27, 4, 160, 0, 47]
abbrev dktX7_number_2 : List UInt8 := dkwX7_number_2 ++ dktX7_number_3
def dkwX7_number_1 : List UInt8 := [182, 0, 60, 16, 10, 161, 0, 7, 4, 167, 0, 4, 3, 61, 28, 154, 0, 18, 27, 5, 42, 182, 0, 60]
abbrev dktX7_number_1 : List UInt8 := dkwX7_number_1 ++ dktX7_number_2
def dkwX7_number_0 : List UInt8 := [42, 182, 0, 56, 154, 0, 5, 4, 172, 42, 182, 0, 40, 16, 48, 100, 60, 27, 4, 160, 0, 16, 42]
abbrev dktX7_number_0 : List UInt8 := dkwX7_number_0 ++ dktX7_number_1
theorem dksX7_number_0 : cX7_number.data.toList.drop 0 = dktX7_number_0 := by decide +kernel
theorem dksX7_number_1 : cX7_number.data.toList.drop 23 = dktX7_number_1 := dk_seg dksX7_number_0 23 rfl rfl
theorem dksX7_number_2 : cX7_number.data.toList.drop 47 = dktX7_number_2 := dk_seg dksX7_number_1 24 rfl rfl
theorem dksX7_number_3 : cX7_number.data.toList.drop 71 = dktX7_number_3 := dk_seg dksX7_number_2 24 rfl rfl
theorem dksX7_number_4 : cX7_number.data.toList.drop 94 = dktX7_number_4 := dk_seg dksX7_number_3 23 rfl rfl
theorem dX7_number_0 : decode cX7_number 0 = .ok (.aload_n 0, 1) := dk_42 (dk_at dksX7_number_0 0 rfl rfl)
theorem dX7_number_1 : decode cX7_number 1 = .ok (.invokevirtual 56, 3) := dk_182 0 56 (dk_at dksX7_number_0 1 rfl rfl)
theorem dX7_number_4 : decode cX7_number 4 = .ok (.ifCond .ne 5, 3) := dk_154 0 5 (dk_at dksX7_number_0 4 rfl rfl)
theorem dX7_number_7 : decode cX7_number 7 = .ok (.iconst 1, 1) := dk_4 (dk_at dksX7_number_0 7 rfl rfl)
theorem dX7_number_8 : decode cX7_number 8 = .ok (.ireturn, 1) := dk_172 (dk_at dksX7_number_0 8 rfl rfl)
theorem dX7_number_9 : decode cX7_number 9 = .ok (.aload_n 0, 1) := dk_42 (dk_at dksX7_number_0 9 rfl rfl)
theorem dX7_number_10 : decode cX7_number 10 = .ok (.invokevirtual 40, 3) := dk_182 0 40 (dk_at dksX7_number_0 10 rfl rfl)
theorem dX7_number_13 : decode cX7_number 13 = .ok (.bipush 48, 2) := dk_16 48 (dk_at dksX7_number_0 13 rfl rfl)
theorem dX7_number_15 : decode cX7_number 15 = .ok (.isub, 1) := dk_100 (dk_at dksX7_number_0 15 rfl rfl)
theorem dX7_number_16 : decode cX7_number 16 = .ok (.istore_n 1, 1) := dk_60 (dk_at dksX7_number_0 16 rfl rfl)
theorem dX7_number_17 : decode cX7_number 17 = .ok (.iload_n 1, 1) := dk_27 (dk_at dksX7_number_0 17 rfl rfl)
theorem dX7_number_18 : decode cX7_number 18 = .ok (.iconst 1, 1) := dk_4 (dk_at dksX7_number_0 18 rfl rfl)
theorem dX7_number_19 : decode cX7_number 19 = .ok (.if_icmp .ne 16, 3) := dk_160 0 16 (dk_at dksX7_number_0 19 rfl rfl)
theorem dX7_number_22 : decode cX7_number 22 = .ok (.aload_n 0, 1) := dk_42 (dk_at dksX7_number_0 22 rfl rfl)
theorem dX7_number_23 : decode cX7_number 23 = .ok (.invokevirtual 60, 3) := dk_182 0 60 (dk_at dksX7_number_1 0 rfl rfl)
theorem dX7_number_26 : decode cX7_number 26 = .ok (.bipush 10, 2) := dk_16 10 (dk_at dksX7_number_1 3 rfl rfl)
theorem dX7_number_28 : decode cX7_number 28 = .ok (.if_icmp .lt 7, 3) := dk_161 0 7 (dk_at dksX7_number_1 5 rfl rfl)
theorem dX7_number_31 : decode cX7_number 31 = .ok (.iconst 1, 1) := dk_4 (dk_at dksX7_number_1 8 rfl rfl)
theorem dX7_number_32 : decode cX7_number 32 = .ok (.goto 4, 3) := dk_167 0 4 (dk_at dksX7_number_1 9 rfl rfl)
theorem dX7_number_35 : decode cX7_number 35 = .ok (.iconst 0, 1) := dk_3 (dk_at dksX7_number_1 12 rfl rfl)
theorem dX7_number_36 : decode cX7_number 36 = .ok (.istore_n 2, 1) := dk_61 (dk_at dksX7_number_1 13 rfl rfl)
theorem dX7_number_37 : decode cX7_number 37 = .ok (.iload_n 2, 1) := dk_28 (dk_at dksX7_number_1 14 rfl rfl)
theorem dX7_number_38 : decode cX7_number 38 = .ok (.ifCond .ne 18, 3) := dk_154 0 18 (dk_at dksX7_number_1 15 rfl rfl)
theorem dX7_number_41 : decode cX7_number 41 = .ok (.iload_n 1, 1) := dk_27 (dk_at dksX7_number_1 18 rfl rfl)
theorem dX7_number_42 : decode cX7_number 42 = .ok (.iconst 2, 1) := dk_5 (dk_at dksX7_number_1 19 rfl rfl)
theorem dX7_number_43 : decode cX7_number 43 = .ok (.aload_n 0, 1) := dk_42 (dk_at dksX7_number_1 20 rfl rfl)
theorem dX7_number_44 : decode cX7_number 44 = .ok (.invokevirtual 60, 3) := dk_182 0 60 (dk_at dksX7_number_1 21 rfl rfl)
theorem dX7_number_47 : decode cX7_number 47 = .ok (.invokestatic 43, 3) := dk_184 0 43 (dk_at dksX7_number_2 0 rfl rfl)
theorem dX7_number_50 : decode cX7_number 50 = .ok (.ifCond .ne 6, 3) := dk_154 0 6 (dk_at dksX7_number_2 3 rfl rfl)
theorem dX7_number_53 : decode cX7_number 53 = .ok (.bipush (-6), 2) := dk_16 250 (dk_at dksX7_number_2 6 rfl rfl)
theorem dX7_number_55 : decode cX7_number 55 = .ok (.ireturn, 1) := dk_172 (dk_at dksX7_number_2 8 rfl rfl)
theorem dX7_number_56 : decode cX7_number 56 = .ok (.aload_n 0, 1) := dk_42 (dk_at dksX7_number_2 9 rfl rfl)
theorem dX7_number_57 : decode cX7_number 57 = .ok (.dup, 1) := dk_89 (dk_at dksX7_number_2 10 rfl rfl)
theorem dX7_number_58 : decode cX7_number 58 = .ok (.getfield 22, 3) := dk_180 0 22 (dk_at dksX7_number_2 11 rfl rfl)
theorem dX7_number_61 : decode cX7_number 61 = .ok (.iconst 1, 1) := dk_4 (dk_at dksX7_number_2 14 rfl rfl)
theorem dX7_number_62 : decode cX7_number 62 = .ok (.iadd, 1) := dk_96 (dk_at dksX7_number_2 15 rfl rfl)
theorem dX7_number_63 : decode cX7_number 63 = .ok (.putfield 22, 3) := dk_181 0 22 (dk_at dksX7_number_2 16 rfl rfl)
theorem dX7_number_66 : decode cX7_number 66 = .ok (.iload_n 1, 1) := dk_27 (dk_at dksX7_number_2 19 rfl rfl)
theorem dX7_number_67 : decode cX7_number 67 = .ok (.iconst 1, 1) := dk_4 (dk_at dksX7_number_2 20 rfl rfl)
theorem dX7_number_68 : decode cX7_number 68 = .ok (.if_icmp .ne 47, 3) := dk_160 0 47 (dk_at dksX7_number_2 21 rfl rfl)
theorem dX7_number_71 : decode cX7_number 71 = .ok (.aload_n 0, 1) := dk_42 (dk_at dksX7_number_3 0 rfl rfl)
theorem dX7_number_72 : decode cX7_number 72 = .ok (.invokevirtual 40, 3) := dk_182 0 40 (dk_at dksX7_number_3 1 rfl rfl)
theorem dX7_number_75 : decode cX7_number 75 = .ok (.bipush 48, 2) := dk_16 48 (dk_at dksX7_number_3 4 rfl rfl)
theorem dX7_number_77 : decode cX7_number 77 = .ok (.isub, 1) := dk_100 (dk_at dksX7_number_3 6 rfl rfl)
theorem dX7_number_78 : decode cX7_number 78 = .ok (.istore_n 3, 1) := dk_62 (dk_at dksX7_number_3 7 rfl rfl)
theorem dX7_number_79 : decode cX7_number 79 = .ok (.aload_n 0, 1) := dk_42 (dk_at dksX7_number_3 8 rfl rfl)
theorem dX7_number_80 : decode cX7_number 80 = .ok (.invokevirtual 56, 3) := dk_182 0 56 (dk_at dksX7_number_3 9 rfl rfl)
theorem dX7_number_83 : decode cX7_number 83 = .ok (.ifCond .eq 14, 3) := dk_153 0 14 (dk_at dksX7_number_3 12 rfl rfl)
theorem dX7_number_86 : decode cX7_number 86 = .ok (.bipush 10, 2) := dk_16 10 (dk_at dksX7_number_3 15 rfl rfl)
theorem dX7_number_88 : decode cX7_number 88 = .ok (.iload_n 3, 1) := dk_29 (dk_at dksX7_number_3 17 rfl rfl)
theorem dX7_number_89 : decode cX7_number 89 = .ok (.iadd, 1) := dk_96 (dk_at dksX7_number_3 18 rfl rfl)
theorem dX7_number_90 : decode cX7_number 90 = .ok (.aload_n 0, 1) := dk_42 (dk_at dksX7_number_3 19 rfl rfl)
theorem dX7_number_91 : decode cX7_number 91 = .ok (.invokevirtual 60, 3) := dk_182 0 60 (dk_at dksX7_number_3 20 rfl rfl)
theorem dX7_number_94 : decode cX7_number 94 = .ok (.if_icmp .le 6, 3) := dk_164 0 6 (dk_at dksX7_number_4 0 rfl rfl)
theorem dX7_number_97 : decode cX7_number 97 = .ok (.bipush (-6), 2) := dk_16 250 (dk_at dksX7_number_4 3 rfl rfl)
theorem dX7_number_99 : decode cX7_number 99 = .ok (.ireturn, 1) := dk_172 (dk_at dksX7_number_4 5 rfl rfl)
theorem dX7_number_100 : decode cX7_number 100 = .ok (.bipush 10, 2) := dk_16 10 (dk_at dksX7_number_4 6 rfl rfl)
theorem dX7_number_102 : decode cX7_number 102 = .ok (.iload_n 3, 1) := dk_29 (dk_at dksX7_number_4 8 rfl rfl)
theorem dX7_number_103 : decode cX7_number 103 = .ok (.iadd, 1) := dk_96 (dk_at dksX7_number_4 9 rfl rfl)
theorem dX7_number_104 : decode cX7_number 104 = .ok (.istore_n 1, 1) := dk_60 (dk_at dksX7_number_4 10 rfl rfl)
theorem dX7_number_105 : decode cX7_number 105 = .ok (.aload_n 0, 1) := dk_42 (dk_at dksX7_number_4 11 rfl rfl)
theorem dX7_number_106 : decode cX7_number 106 = .ok (.dup, 1) := dk_89 (dk_at dksX7_number_4 12 rfl rfl)
theorem dX7_number_107 : decode cX7_number 107 = .ok (.getfield 22, 3) := dk_180 0 22 (dk_at dksX7_number_4 13 rfl rfl)
theorem dX7_number_110 : decode cX7_number 110 = .ok (.iconst 1, 1) := dk_4 (dk_at dksX7_number_4 16 rfl rfl)
theorem dX7_number_111 : decode cX7_number 111 = .ok (.iadd, 1) := dk_96 (dk_at dksX7_number_4 17 rfl rfl)
theorem dX7_number_112 : decode cX7_number 112 = .ok (.putfield 22, 3) := dk_181 0 22 (dk_at dksX7_number_4 18 rfl rfl)
theorem dX7_number_115 : decode cX7_number 115 = .ok (.iload_n 1, 1) := dk_27 (dk_at dksX7_number_4 21 rfl rfl)
theorem dX7_number_116 : decode cX7_number 116 = .ok (.ireturn, 1) := dk_172 (dk_at dksX7_number_4 22 rfl rfl)
abbrev cX7_isDigit : ByteArray := prog_8_method_3_code
def yX7_isDigit : MethodName := ⟨RX7, "isDigit", "()Z"⟩
def dkwX7_isDigit_0 : List UInt8 := [42, 182, 0, 40, 16, 48, 16, 57, 184, 0, 43, 172]
abbrev dktX7_isDigit_0 : List UInt8 := dkwX7_isDigit_0 ++ []
theorem dksX7_isDigit_0 : cX7_isDigit.data.toList.drop 0 = dktX7_isDigit_0 := by decide +kernel
theorem dX7_isDigit_0 : decode cX7_isDigit 0 = .ok (.aload_n 0, 1) := dk_42 (dk_at dksX7_isDigit_0 0 rfl rfl)
theorem dX7_isDigit_1 : decode cX7_isDigit 1 = .ok (.invokevirtual 40, 3) := dk_182 0 40 (dk_at dksX7_isDigit_0 1 rfl rfl)
theorem dX7_isDigit_4 : decode cX7_isDigit 4 = .ok (.bipush 48, 2) := dk_16 48 (dk_at dksX7_isDigit_0 4 rfl rfl)
theorem dX7_isDigit_6 : decode cX7_isDigit 6 = .ok (.bipush 57, 2) := dk_16 57 (dk_at dksX7_isDigit_0 6 rfl rfl)
theorem dX7_isDigit_8 : decode cX7_isDigit 8 = .ok (.invokestatic 43, 3) := dk_184 0 43 (dk_at dksX7_isDigit_0 8 rfl rfl)
theorem dX7_isDigit_11 : decode cX7_isDigit 11 = .ok (.ireturn, 1) := dk_172 (dk_at dksX7_isDigit_0 11 rfl rfl)
abbrev cX7_next : ByteArray := prog_8_method_2_code
def yX7_next : MethodName := ⟨RX7, "next", "()I"⟩
def dkwX7_next_1 : List UInt8 := [42, 180, 0, 22, 182, 0, 36, 167, 0, 5, 16, 250, 172]
abbrev dktX7_next_1 : List UInt8 := dkwX7_next_1 ++ []
def dkwX7_next_0 : List UInt8 := [42, 180, 0, 22, 42, 180, 0, 3, 180, 0, 26, 182, 0, 30, 162, 0, 20, 42, 180, 0, 3, 180, 0, 26]
abbrev dktX7_next_0 : List UInt8 := dkwX7_next_0 ++ dktX7_next_1
theorem dksX7_next_0 : cX7_next.data.toList.drop 0 = dktX7_next_0 := by decide +kernel
theorem dksX7_next_1 : cX7_next.data.toList.drop 24 = dktX7_next_1 := dk_seg dksX7_next_0 24 rfl rfl
theorem dX7_next_0 : decode cX7_next 0 = .ok (.aload_n 0, 1) := dk_42 (dk_at dksX7_next_0 0 rfl rfl)
theorem dX7_next_1 : decode cX7_next 1 = .ok (.getfield 22, 3) := dk_180 0 22 (dk_at dksX7_next_0 1 rfl rfl)
theorem dX7_next_4 : decode cX7_next 4 = .ok (.aload_n 0, 1) := dk_42 (dk_at dksX7_next_0 4 rfl rfl)
theorem dX7_next_5 : decode cX7_next 5 = .ok (.getfield 3, 3) := dk_180 0 3 (dk_at dksX7_next_0 5 rfl rfl)
theorem dX7_next_8 : decode cX7_next 8 = .ok (.getfield 26, 3) := dk_180 0 26 (dk_at dksX7_next_0 8 rfl rfl)
theorem dX7_next_11 : decode cX7_next 11 = .ok (.invokevirtual 30, 3) := dk_182 0 30 (dk_at dksX7_next_0 11 rfl rfl)
theorem dX7_next_14 : decode cX7_next 14 = .ok (.if_icmp .ge 20, 3) := dk_162 0 20 (dk_at dksX7_next_0 14 rfl rfl)
theorem dX7_next_17 : decode cX7_next 17 = .ok (.aload_n 0, 1) := dk_42 (dk_at dksX7_next_0 17 rfl rfl)
theorem dX7_next_18 : decode cX7_next 18 = .ok (.getfield 3, 3) := dk_180 0 3 (dk_at dksX7_next_0 18 rfl rfl)
theorem dX7_next_21 : decode cX7_next 21 = .ok (.getfield 26, 3) := dk_180 0 26 (dk_at dksX7_next_0 21 rfl rfl)
theorem dX7_next_24 : decode cX7_next 24 = .ok (.aload_n 0, 1) := dk_42 (dk_at dksX7_next_1 0 rfl rfl)
theorem dX7_next_25 : decode cX7_next 25 = .ok (.getfield 22, 3) := dk_180 0 22 (dk_at dksX7_next_1 1 rfl rfl)
theorem dX7_next_28 : decode cX7_next 28 = .ok (.invokevirtual 36, 3) := dk_182 0 36 (dk_at dksX7_next_1 4 rfl rfl)
theorem dX7_next_31 : decode cX7_next 31 = .ok (.goto 5, 3) := dk_167 0 5 (dk_at dksX7_next_1 7 rfl rfl)
theorem dX7_next_34 : decode cX7_next 34 = .ok (.bipush (-6), 2) := dk_16 250 (dk_at dksX7_next_1 10 rfl rfl)
theorem dX7_next_36 : decode cX7_next 36 = .ok (.ireturn, 1) := dk_172 (dk_at dksX7_next_1 12 rfl rfl)
theorem q111 : (Jvm.Cond.initialized "CoastTiles$Reader") ∈ lw_all := lw_g (lw_at lw_m1 48 rfl) rfl
theorem q274 : (Jvm.Cond.selects "CoastTiles$Reader" ({ cls := "java/lang/Object", name := "hashCode", desc := "()I" } : Jvm.MethodName) ({ cls := "java/lang/Object", name := "hashCode", desc := "()I" } : Jvm.MethodName)) ∈ lw_all := lw_g (lw_at lw_m1 211 rfl) rfl
theorem q426 : (Jvm.Cond.selects "CoastTiles$Reader" ({ cls := "java/lang/Object", name := "getClass", desc := "()Ljava/lang/Class;" } : Jvm.MethodName) ({ cls := "java/lang/Object", name := "getClass", desc := "()Ljava/lang/Class;" } : Jvm.MethodName)) ∈ lw_all := lw_g (lw_at lw_m2 123 rfl) rfl
theorem q692 : (Jvm.Cond.selects "CoastTiles$Reader" ({ cls := "java/lang/Object", name := "equals", desc := "(Ljava/lang/Object;)Z" } : Jvm.MethodName) ({ cls := "java/lang/Object", name := "equals", desc := "(Ljava/lang/Object;)Z" } : Jvm.MethodName)) ∈ lw_all := lw_g (lw_at lw_m3 149 rfl) rfl
theorem q937 : (Jvm.Cond.fieldLinkNest "CoastTiles$Reader" (26 : Nat) "CoastTiles" "buffer" "Ljava/lang/StringBuilder;" "CoastTiles") ∈ lw_tbl := lw_at lw_m4 154 rfl
theorem q2016 : (Jvm.Cond.instantiable "CoastTiles$Reader" (6 : Nat)) ∈ lw_all := lw_g (lw_at lw_m9 33 rfl) rfl
theorem q2018 : (Jvm.Cond.instanceMethod ({ cls := "CoastTiles$Reader", name := "<init>", desc := "(LCoastTiles;)V" } : Jvm.MethodName)) ∈ lw_all := lw_g (lw_at lw_m9 35 rfl) rfl
theorem q2019 : (Jvm.Cond.code ({ cls := "CoastTiles$Reader", name := "<init>", desc := "(LCoastTiles;)V" } : Jvm.MethodName) prog_8_method_1_code (2 : Nat) (Option.none : Option Jvm.ClassFile.FieldType)) ∈ lw_all := lw_g (lw_at lw_m9 36 rfl) rfl
theorem q2020 : (Jvm.Cond.methodLink "CoastTiles$Reader" (9 : Nat) ({ cls := "java/lang/Object", name := "<init>", desc := "()V" } : Jvm.MethodName)) ∈ lw_all := lw_g (lw_at lw_m9 37 rfl) rfl
theorem q2021 : (Jvm.Cond.classLink "CoastTiles$Reader" (15 : Nat) "java/util/BitSet") ∈ lw_all := lw_g (lw_at lw_m9 38 rfl) rfl
theorem q2022 : (Jvm.Cond.methodLink "CoastTiles$Reader" (17 : Nat) ({ cls := "java/util/BitSet", name := "<init>", desc := "()V" } : Jvm.MethodName)) ∈ lw_all := lw_g (lw_at lw_m9 39 rfl) rfl
theorem q2023 : (Jvm.Cond.fieldLink "CoastTiles$Reader" (18 : Nat) "CoastTiles$Reader" "land" "Ljava/util/BitSet;") ∈ lw_all := lw_g (lw_at lw_m9 40 rfl) rfl
theorem q2025 : (Jvm.Cond.fieldLink "CoastTiles$Reader" (22 : Nat) "CoastTiles$Reader" "at" "I") ∈ lw_all := lw_g (lw_at lw_m9 42 rfl) rfl
theorem q2026 : (Jvm.Cond.fieldLink "CoastTiles$Reader" (47 : Nat) "CoastTiles$Reader" "rows" "I") ∈ lw_all := lw_g (lw_at lw_m9 43 rfl) rfl
theorem q2028 : (Jvm.Cond.fieldLink "CoastTiles$Reader" (50 : Nat) "CoastTiles$Reader" "columns" "I") ∈ lw_all := lw_g (lw_at lw_m9 45 rfl) rfl
theorem q2030 : (Jvm.Cond.fieldLink "CoastTiles$Reader" (53 : Nat) "CoastTiles$Reader" "filled" "I") ∈ lw_all := lw_g (lw_at lw_m9 47 rfl) rfl
theorem q2031 : (Jvm.Cond.fieldLink "CoastTiles$Reader" (3 : Nat) "CoastTiles$Reader" "this$0" "LCoastTiles;") ∈ lw_all := lw_g (lw_at lw_m9 48 rfl) rfl
theorem q2032 : (Jvm.Cond.laysFinal "CoastTiles$Reader" "CoastTiles$Reader" "land" "Ljava/util/BitSet;") ∈ lw_all := lw_g (lw_at lw_m9 49 rfl) rfl
theorem q2033 : (Jvm.Cond.soleField "CoastTiles$Reader" "land") ∈ lw_all := lw_g (lw_at lw_m9 50 rfl) rfl
theorem q2034 : (Jvm.Cond.lays "CoastTiles$Reader" "CoastTiles$Reader" "at" "I") ∈ lw_all := lw_g (lw_at lw_m9 51 rfl) rfl
theorem q2035 : (Jvm.Cond.soleField "CoastTiles$Reader" "at") ∈ lw_all := lw_g (lw_at lw_m9 52 rfl) rfl
theorem q2036 : (Jvm.Cond.lays "CoastTiles$Reader" "CoastTiles$Reader" "rows" "I") ∈ lw_all := lw_g (lw_at lw_m9 53 rfl) rfl
theorem q2037 : (Jvm.Cond.soleField "CoastTiles$Reader" "rows") ∈ lw_all := lw_g (lw_at lw_m9 54 rfl) rfl
theorem q2038 : (Jvm.Cond.lays "CoastTiles$Reader" "CoastTiles$Reader" "columns" "I") ∈ lw_all := lw_g (lw_at lw_m9 55 rfl) rfl
theorem q2039 : (Jvm.Cond.soleField "CoastTiles$Reader" "columns") ∈ lw_all := lw_g (lw_at lw_m9 56 rfl) rfl
theorem q2040 : (Jvm.Cond.lays "CoastTiles$Reader" "CoastTiles$Reader" "filled" "I") ∈ lw_all := lw_g (lw_at lw_m9 57 rfl) rfl
theorem q2041 : (Jvm.Cond.soleField "CoastTiles$Reader" "filled") ∈ lw_all := lw_g (lw_at lw_m9 58 rfl) rfl
theorem q2042 : (Jvm.Cond.laysFinal "CoastTiles$Reader" "CoastTiles$Reader" "this$0" "LCoastTiles;") ∈ lw_all := lw_g (lw_at lw_m9 59 rfl) rfl
theorem q2043 : (Jvm.Cond.soleField "CoastTiles$Reader" "this$0") ∈ lw_all := lw_g (lw_at lw_m9 60 rfl) rfl
theorem q2044 : (Jvm.Cond.superclass "CoastTiles$Reader" "java/lang/Object") ∈ lw_all := lw_g (lw_at lw_m9 61 rfl) rfl
theorem q2046 : (Jvm.Cond.instanceMethod ({ cls := "CoastTiles$Reader", name := "errorPosition", desc := "()I" } : Jvm.MethodName)) ∈ lw_all := lw_g (lw_at lw_m9 63 rfl) rfl
theorem q2047 : (Jvm.Cond.selects "CoastTiles$Reader" ({ cls := "CoastTiles$Reader", name := "errorPosition", desc := "()I" } : Jvm.MethodName) ({ cls := "CoastTiles$Reader", name := "errorPosition", desc := "()I" } : Jvm.MethodName)) ∈ lw_all := lw_g (lw_at lw_m9 64 rfl) rfl
theorem q2048 : (Jvm.Cond.code ({ cls := "CoastTiles$Reader", name := "errorPosition", desc := "()I" } : Jvm.MethodName) prog_8_method_8_code (1 : Nat) (Option.some Jvm.ClassFile.FieldType.int)) ∈ lw_all := lw_g (lw_at lw_m9 65 rfl) rfl
theorem q2049 : (Jvm.Cond.methodLink "CoastTiles$Reader" (73 : Nat) ({ cls := "CoastTiles$Reader", name := "readsRow", desc := "()Z" } : Jvm.MethodName)) ∈ lw_all := lw_g (lw_at lw_m9 66 rfl) rfl
theorem q2050 : (Jvm.Cond.privateMethod ({ cls := "CoastTiles$Reader", name := "readsRow", desc := "()Z" } : Jvm.MethodName)) ∈ lw_tbl := lw_at lw_m9 67 rfl
theorem q2051 : (Jvm.Cond.instanceMethod ({ cls := "CoastTiles$Reader", name := "readsRow", desc := "()Z" } : Jvm.MethodName)) ∈ lw_all := lw_g (lw_at lw_m9 68 rfl) rfl
theorem q2052 : (Jvm.Cond.code ({ cls := "CoastTiles$Reader", name := "readsRow", desc := "()Z" } : Jvm.MethodName) prog_8_method_7_code (1 : Nat) (Option.some Jvm.ClassFile.FieldType.boolean)) ∈ lw_all := lw_g (lw_at lw_m9 69 rfl) rfl
theorem q2053 : (Jvm.Cond.methodLink "CoastTiles$Reader" (70 : Nat) ({ cls := "CoastTiles$Reader", name := "readsRun", desc := "()Z" } : Jvm.MethodName)) ∈ lw_all := lw_g (lw_at lw_m9 70 rfl) rfl
theorem q2054 : (Jvm.Cond.privateMethod ({ cls := "CoastTiles$Reader", name := "readsRun", desc := "()Z" } : Jvm.MethodName)) ∈ lw_tbl := lw_at lw_m9 71 rfl
theorem q2055 : (Jvm.Cond.instanceMethod ({ cls := "CoastTiles$Reader", name := "readsRun", desc := "()Z" } : Jvm.MethodName)) ∈ lw_all := lw_g (lw_at lw_m9 72 rfl) rfl
theorem q2056 : (Jvm.Cond.code ({ cls := "CoastTiles$Reader", name := "readsRun", desc := "()Z" } : Jvm.MethodName) prog_8_method_6_code (2 : Nat) (Option.some Jvm.ClassFile.FieldType.boolean)) ∈ lw_all := lw_g (lw_at lw_m9 73 rfl) rfl
theorem q2057 : (Jvm.Cond.methodLink "CoastTiles$Reader" (60 : Nat) ({ cls := "CoastTiles$Reader", name := "room", desc := "()I" } : Jvm.MethodName)) ∈ lw_all := lw_g (lw_at lw_m9 74 rfl) rfl
theorem q2058 : (Jvm.Cond.privateMethod ({ cls := "CoastTiles$Reader", name := "room", desc := "()I" } : Jvm.MethodName)) ∈ lw_tbl := lw_at lw_m9 75 rfl
theorem q2059 : (Jvm.Cond.instanceMethod ({ cls := "CoastTiles$Reader", name := "room", desc := "()I" } : Jvm.MethodName)) ∈ lw_all := lw_g (lw_at lw_m9 76 rfl) rfl
theorem q2060 : (Jvm.Cond.code ({ cls := "CoastTiles$Reader", name := "room", desc := "()I" } : Jvm.MethodName) prog_8_method_4_code (1 : Nat) (Option.some Jvm.ClassFile.FieldType.int)) ∈ lw_all := lw_g (lw_at lw_m9 77 rfl) rfl
theorem q2061 : (Jvm.Cond.methodLink "CoastTiles$Reader" (63 : Nat) ({ cls := "CoastTiles$Reader", name := "number", desc := "()I" } : Jvm.MethodName)) ∈ lw_all := lw_g (lw_at lw_m9 78 rfl) rfl
theorem q2062 : (Jvm.Cond.privateMethod ({ cls := "CoastTiles$Reader", name := "number", desc := "()I" } : Jvm.MethodName)) ∈ lw_tbl := lw_at lw_m9 79 rfl
theorem q2063 : (Jvm.Cond.instanceMethod ({ cls := "CoastTiles$Reader", name := "number", desc := "()I" } : Jvm.MethodName)) ∈ lw_all := lw_g (lw_at lw_m9 80 rfl) rfl
theorem q2064 : (Jvm.Cond.code ({ cls := "CoastTiles$Reader", name := "number", desc := "()I" } : Jvm.MethodName) prog_8_method_5_code (4 : Nat) (Option.some Jvm.ClassFile.FieldType.int)) ∈ lw_all := lw_g (lw_at lw_m9 81 rfl) rfl
theorem q2065 : (Jvm.Cond.methodLink "CoastTiles$Reader" (56 : Nat) ({ cls := "CoastTiles$Reader", name := "isDigit", desc := "()Z" } : Jvm.MethodName)) ∈ lw_all := lw_g (lw_at lw_m9 82 rfl) rfl
theorem q2066 : (Jvm.Cond.privateMethod ({ cls := "CoastTiles$Reader", name := "isDigit", desc := "()Z" } : Jvm.MethodName)) ∈ lw_tbl := lw_at lw_m9 83 rfl
theorem q2067 : (Jvm.Cond.instanceMethod ({ cls := "CoastTiles$Reader", name := "isDigit", desc := "()Z" } : Jvm.MethodName)) ∈ lw_all := lw_g (lw_at lw_m9 84 rfl) rfl
theorem q2068 : (Jvm.Cond.code ({ cls := "CoastTiles$Reader", name := "isDigit", desc := "()Z" } : Jvm.MethodName) prog_8_method_3_code (1 : Nat) (Option.some Jvm.ClassFile.FieldType.boolean)) ∈ lw_all := lw_g (lw_at lw_m9 85 rfl) rfl
theorem q2069 : (Jvm.Cond.methodLink "CoastTiles$Reader" (40 : Nat) ({ cls := "CoastTiles$Reader", name := "next", desc := "()I" } : Jvm.MethodName)) ∈ lw_all := lw_g (lw_at lw_m9 86 rfl) rfl
theorem q2070 : (Jvm.Cond.privateMethod ({ cls := "CoastTiles$Reader", name := "next", desc := "()I" } : Jvm.MethodName)) ∈ lw_tbl := lw_at lw_m9 87 rfl
theorem q2071 : (Jvm.Cond.instanceMethod ({ cls := "CoastTiles$Reader", name := "next", desc := "()I" } : Jvm.MethodName)) ∈ lw_all := lw_g (lw_at lw_m9 88 rfl) rfl
theorem q2072 : (Jvm.Cond.code ({ cls := "CoastTiles$Reader", name := "next", desc := "()I" } : Jvm.MethodName) prog_8_method_2_code (1 : Nat) (Option.some Jvm.ClassFile.FieldType.int)) ∈ lw_all := lw_g (lw_at lw_m9 89 rfl) rfl
theorem q2073 : (Jvm.Cond.methodLink "CoastTiles$Reader" (30 : Nat) ({ cls := "java/lang/StringBuilder", name := "length", desc := "()I" } : Jvm.MethodName)) ∈ lw_all := lw_g (lw_at lw_m9 90 rfl) rfl
theorem q2074 : (Jvm.Cond.methodLink "CoastTiles$Reader" (36 : Nat) ({ cls := "java/lang/StringBuilder", name := "charAt", desc := "(I)C" } : Jvm.MethodName)) ∈ lw_all := lw_g (lw_at lw_m9 91 rfl) rfl
theorem q2084 : (Jvm.Cond.methodLinkNest "CoastTiles$Reader" (43 : Nat) ({ cls := "CoastTiles", name := "isIn", desc := "(III)Z" } : Jvm.MethodName) "CoastTiles") ∈ lw_tbl := lw_at lw_m9 101 rfl
theorem q2085 : (Jvm.Cond.methodLink "CoastTiles$Reader" (66 : Nat) ({ cls := "java/util/BitSet", name := "set", desc := "(II)V" } : Jvm.MethodName)) ∈ lw_all := lw_g (lw_at lw_m9 102 rfl) rfl
theorem q2518 : (Jvm.Cond.castable "CoastTiles$Reader" "java/lang/Object") ∈ lw_tbl := lw_at lw_m11 55 rfl
theorem in_X7 : ∀ w ∈ wsX70, w ∈ lw_all := lw_in wsX70 [2032, 2034, 2036, 2038, 2040, 2042] (by decide +kernel) (by decide +kernel)
