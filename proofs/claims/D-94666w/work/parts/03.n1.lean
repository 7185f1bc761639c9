/-! WeekFoot -/
set_option maxRecDepth 100000
def RX0 : String := "WeekFoot"
def TX0 : u_T := fun k => match k with
  | 0 => ("WeekFoot", "status", "I", false)
  | 1 => ("WeekFoot", "refused", "[I", true)
  | 2 => ("WeekFoot", "one", "LWeekFoot$Big;", true)
  | 3 => ("WeekFoot", "two", "LWeekFoot$Big;", true)
  | 4 => ("WeekFoot", "state", "LWeekFoot$State;", true)
  | 5 => ("WeekFoot", "images", "[LWeekFoot$State;", true)
  | 6 => ("WeekFoot", "tape", "[B", true)
  | 7 => ("WeekFoot", "taped", "I", false)
  | 8 => ("WeekFoot", "fault", "I", false)
  | 9 => ("WeekFoot", "blurred", "I", false)
  | 10 => ("WeekFoot", "version", "I", false)
  | 11 => ("WeekFoot", "ends", "LWeekFoot$Ends;", true)
  | 12 => ("WeekFoot", "others", "LWeekFoot$Ends;", true)
  | 13 => ("WeekFoot", "told", "[LWeekFoot$Entry;", true)
  | 14 => ("WeekFoot", "top", "LWeekFoot$Big;", true)
  | 15 => ("WeekFoot", "bottom", "LWeekFoot$Big;", true)
  | 16 => ("WeekFoot", "left", "LWeekFoot$Big;", true)
  | 17 => ("WeekFoot", "right", "LWeekFoot$Big;", true)
  | 18 => ("WeekFoot", "near", "Z", false)
  | 19 => ("WeekFoot", "numbersLeast", "I", false)
  | 20 => ("WeekFoot", "numbersMost", "I", false)
  | 21 => ("WeekFoot", "groups", "[I", true)
  | 22 => ("WeekFoot", "wrongMade", "I", false)
  | 23 => ("WeekFoot", "wrongMany", "I", false)
  | 24 => ("WeekFoot", "wrongWays", "I", false)
  | 25 => ("WeekFoot", "wrongFirst", "I", false)
  | 26 => ("WeekFoot", "whose", "LWeekFoot$Whose;", true)
  | _ => ("WeekFoot", "year", "LWeekFoot$Year;", true)
def tyX0 : Nat → FieldType := fun k => match k with
  | 0 => .int
  | 1 => .array .int
  | 2 => .object "WeekFoot$Big"
  | 3 => .object "WeekFoot$Big"
  | 4 => .object "WeekFoot$State"
  | 5 => .array (.object "WeekFoot$State")
  | 6 => .array .byte
  | 7 => .int
  | 8 => .int
  | 9 => .int
  | 10 => .int
  | 11 => .object "WeekFoot$Ends"
  | 12 => .object "WeekFoot$Ends"
  | 13 => .array (.object "WeekFoot$Entry")
  | 14 => .object "WeekFoot$Big"
  | 15 => .object "WeekFoot$Big"
  | 16 => .object "WeekFoot$Big"
  | 17 => .object "WeekFoot$Big"
  | 18 => .boolean
  | 19 => .int
  | 20 => .int
  | 21 => .array .int
  | 22 => .int
  | 23 => .int
  | 24 => .int
  | 25 => .int
  | 26 => .object "WeekFoot$Whose"
  | _ => .object "WeekFoot$Year"
abbrev wsX00 : List Cond := u_ws RX0 TX0 28
set_option maxRecDepth 100000 in
theorem nmX0 : ∀ a, a < 28 → ∀ b, b < 28 → a ≠ b → (TX0 a).2.1 ≠ (TX0 b).2.1 := by decide +kernel
set_option maxRecDepth 100000 in
theorem tyX0_ok : ∀ k, k < 28 → parseFieldDescriptor (TX0 k).2.2.1 = some (tyX0 k) := by decide +kernel
abbrev cX0_image : ByteArray := prog_1_method_10_code
def yX0_image : MethodName := ⟨RX0, "image", "(I)I"⟩
def dkwX0_image_2 : List UInt8 := [182, 0, 72, 42, 3, 182, 0, 37, 172]
abbrev dktX0_image_2 : List UInt8 := dkwX0_image_2 ++ []
def dkwX0_image_1 : List UInt8 := [42, 180, 0, 64, 27, 187, 0, 50, 89, 183, 0, 68, 83, 42, 180, 0, 64, 27, 50, 42, 180, 0, 45]
abbrev dktX0_image_1 : List UInt8 := dkwX0_image_1 ++ dktX0_image_2
def dkwX0_image_0 : List UInt8 := [27, 3, 4, 184, 0, 41, 154, 0, 9, 42, 2, 182, 0, 61, 172, 42, 180, 0, 64, 27, 50, 199, 0, 16]
abbrev dktX0_image_0 : List UInt8 := dkwX0_image_0 ++ dktX0_image_1
theorem dksX0_image_0 : cX0_image.data.toList.drop 0 = dktX0_image_0 := by decide +kernel
theorem dksX0_image_1 : cX0_image.data.toList.drop 24 = dktX0_image_1 := dk_seg dksX0_image_0 24 rfl rfl
theorem dksX0_image_2 : cX0_image.data.toList.drop 47 = dktX0_image_2 := dk_seg dksX0_image_1 23 rfl rfl
theorem dX0_image_0 : decode cX0_image 0 = .ok (.iload_n 1, 1) := dk_27 (dk_at dksX0_image_0 0 rfl rfl)
theorem dX0_image_1 : decode cX0_image 1 = .ok (.iconst 0, 1) := dk_3 (dk_at dksX0_image_0 1 rfl rfl)
theorem dX0_image_2 : decode cX0_image 2 = .ok (.iconst 1, 1) := dk_4 (dk_at dksX0_image_0 2 rfl rfl)
theorem dX0_image_3 : decode cX0_image 3 = .ok (.invokestatic 41, 3) := dk_184 0 41 (dk_at dksX0_image_0 3 rfl rfl)
theorem dX0_image_6 : decode cX0_image 6 = .ok (.ifCond .ne 9, 3) := dk_154 0 9 (dk_at dksX0_image_0 6 rfl rfl)
theorem dX0_image_9 : decode cX0_image 9 = .ok (.aload_n 0, 1) := dk_42 (dk_at dksX0_image_0 9 rfl rfl)
theorem dX0_image_10 : decode cX0_image 10 = .ok (.iconst (-1), 1) := dk_2 (dk_at dksX0_image_0 10 rfl rfl)
theorem dX0_image_11 : decode cX0_image 11 = .ok (.invokevirtual 61, 3) := dk_182 0 61 (dk_at dksX0_image_0 11 rfl rfl)
theorem dX0_image_14 : decode cX0_image 14 = .ok (.ireturn, 1) := dk_172 (dk_at dksX0_image_0 14 rfl rfl)
theorem dX0_image_15 : decode cX0_image 15 = .ok (.aload_n 0, 1) := dk_42 (dk_at dksX0_image_0 15 rfl rfl)
theorem dX0_image_16 : decode cX0_image 16 = .ok (.getfield 64, 3) := dk_180 0 64 (dk_at dksX0_image_0 16 rfl rfl)
theorem dX0_image_19 : decode cX0_image 19 = .ok (.iload_n 1, 1) := dk_27 (dk_at dksX0_image_0 19 rfl rfl)
theorem dX0_image_20 : decode cX0_image 20 = .ok (.aaload, 1) := dk_50 (dk_at dksX0_image_0 20 rfl rfl)
theorem dX0_image_21 : decode cX0_image 21 = .ok (.ifnonnull 16, 3) := dk_199 0 16 (dk_at dksX0_image_0 21 rfl rfl)
theorem dX0_image_24 : decode cX0_image 24 = .ok (.aload_n 0, 1) := dk_42 (dk_at dksX0_image_1 0 rfl rfl)
theorem dX0_image_25 : decode cX0_image 25 = .ok (.getfield 64, 3) := dk_180 0 64 (dk_at dksX0_image_1 1 rfl rfl)
theorem dX0_image_28 : decode cX0_image 28 = .ok (.iload_n 1, 1) := dk_27 (dk_at dksX0_image_1 4 rfl rfl)
theorem dX0_image_29 : decode cX0_image 29 = .ok (.new 50, 3) := dk_187 0 50 (dk_at dksX0_image_1 5 rfl rfl)
theorem dX0_image_32 : decode cX0_image 32 = .ok (.dup, 1) := dk_89 (dk_at dksX0_image_1 8 rfl rfl)
theorem dX0_image_33 : decode cX0_image 33 = .ok (.invokespecial 68, 3) := dk_183 0 68 (dk_at dksX0_image_1 9 rfl rfl)
theorem dX0_image_36 : decode cX0_image 36 = .ok (.aastore, 1) := dk_83 (dk_at dksX0_image_1 12 rfl rfl)
theorem dX0_image_37 : decode cX0_image 37 = .ok (.aload_n 0, 1) := dk_42 (dk_at dksX0_image_1 13 rfl rfl)
theorem dX0_image_38 : decode cX0_image 38 = .ok (.getfield 64, 3) := dk_180 0 64 (dk_at dksX0_image_1 14 rfl rfl)
theorem dX0_image_41 : decode cX0_image 41 = .ok (.iload_n 1, 1) := dk_27 (dk_at dksX0_image_1 17 rfl rfl)
theorem dX0_image_42 : decode cX0_image 42 = .ok (.aaload, 1) := dk_50 (dk_at dksX0_image_1 18 rfl rfl)
theorem dX0_image_43 : decode cX0_image 43 = .ok (.aload_n 0, 1) := dk_42 (dk_at dksX0_image_1 19 rfl rfl)
theorem dX0_image_44 : decode cX0_image 44 = .ok (.getfield 45, 3) := dk_180 0 45 (dk_at dksX0_image_1 20 rfl rfl)
theorem dX0_image_47 : decode cX0_image 47 = .ok (.invokevirtual 72, 3) := dk_182 0 72 (dk_at dksX0_image_2 0 rfl rfl)
theorem dX0_image_50 : decode cX0_image 50 = .ok (.aload_n 0, 1) := dk_42 (dk_at dksX0_image_2 3 rfl rfl)
theorem dX0_image_51 : decode cX0_image 51 = .ok (.iconst 0, 1) := dk_3 (dk_at dksX0_image_2 4 rfl rfl)
theorem dX0_image_52 : decode cX0_image 52 = .ok (.invokevirtual 37, 3) := dk_182 0 37 (dk_at dksX0_image_2 5 rfl rfl)
theorem dX0_image_55 : decode cX0_image 55 = .ok (.ireturn, 1) := dk_172 (dk_at dksX0_image_2 8 rfl rfl)
abbrev cX0_in : ByteArray := prog_1_method_3_code
def yX0_in : MethodName := ⟨RX0, "in", "(III)Z"⟩
def dkwX0_in_0 : List UInt8 := [26, 27, 161, 0, 12, 26, 28, 163, 0, 7, 4, 167, 0, 4, 3, 172]
abbrev dktX0_in_0 : List UInt8 := dkwX0_in_0 ++ []
theorem dksX0_in_0 : cX0_in.data.toList.drop 0 = dktX0_in_0 := by decide +kernel
theorem dX0_in_0 : decode cX0_in 0 = .ok (.iload_n 0, 1) := dk_26 (dk_at dksX0_in_0 0 rfl rfl)
theorem dX0_in_1 : decode cX0_in 1 = .ok (.iload_n 1, 1) := dk_27 (dk_at dksX0_in_0 1 rfl rfl)
theorem dX0_in_2 : decode cX0_in 2 = .ok (.if_icmp .lt 12, 3) := dk_161 0 12 (dk_at dksX0_in_0 2 rfl rfl)
theorem dX0_in_5 : decode cX0_in 5 = .ok (.iload_n 0, 1) := dk_26 (dk_at dksX0_in_0 5 rfl rfl)
theorem dX0_in_6 : decode cX0_in 6 = .ok (.iload_n 2, 1) := dk_28 (dk_at dksX0_in_0 6 rfl rfl)
theorem dX0_in_7 : decode cX0_in 7 = .ok (.if_icmp .gt 7, 3) := dk_163 0 7 (dk_at dksX0_in_0 7 rfl rfl)
theorem dX0_in_10 : decode cX0_in 10 = .ok (.iconst 1, 1) := dk_4 (dk_at dksX0_in_0 10 rfl rfl)
theorem dX0_in_11 : decode cX0_in 11 = .ok (.goto 4, 3) := dk_167 0 4 (dk_at dksX0_in_0 11 rfl rfl)
theorem dX0_in_14 : decode cX0_in 14 = .ok (.iconst 0, 1) := dk_3 (dk_at dksX0_in_0 14 rfl rfl)
theorem dX0_in_15 : decode cX0_in 15 = .ok (.ireturn, 1) := dk_172 (dk_at dksX0_in_0 15 rfl rfl)
abbrev cX0_refuse : ByteArray := prog_1_method_1_code
def yX0_refuse : MethodName := ⟨RX0, "refuse", "(I)I"⟩
def dkwX0_refuse_0 : List UInt8 := [42, 27, 181, 0, 1, 42, 180, 0, 7, 27, 116, 92, 46, 4, 96, 79, 27, 172]
abbrev dktX0_refuse_0 : List UInt8 := dkwX0_refuse_0 ++ []
theorem dksX0_refuse_0 : cX0_refuse.data.toList.drop 0 = dktX0_refuse_0 := by decide +kernel
theorem dX0_refuse_0 : decode cX0_refuse 0 = .ok (.aload_n 0, 1) := dk_42 (dk_at dksX0_refuse_0 0 rfl rfl)
theorem dX0_refuse_1 : decode cX0_refuse 1 = .ok (.iload_n 1, 1) := dk_27 (dk_at dksX0_refuse_0 1 rfl rfl)
theorem dX0_refuse_2 : decode cX0_refuse 2 = .ok (.putfield 1, 3) := dk_181 0 1 (dk_at dksX0_refuse_0 2 rfl rfl)
theorem dX0_refuse_5 : decode cX0_refuse 5 = .ok (.aload_n 0, 1) := dk_42 (dk_at dksX0_refuse_0 5 rfl rfl)
theorem dX0_refuse_6 : decode cX0_refuse 6 = .ok (.getfield 7, 3) := dk_180 0 7 (dk_at dksX0_refuse_0 6 rfl rfl)
theorem dX0_refuse_9 : decode cX0_refuse 9 = .ok (.iload_n 1, 1) := dk_27 (dk_at dksX0_refuse_0 9 rfl rfl)
theorem dX0_refuse_10 : decode cX0_refuse 10 = .ok (.ineg, 1) := dk_116 (dk_at dksX0_refuse_0 10 rfl rfl)
theorem dX0_refuse_11 : decode cX0_refuse 11 = .ok (.dup2, 1) := dk_92 (dk_at dksX0_refuse_0 11 rfl rfl)
theorem dX0_refuse_12 : decode cX0_refuse 12 = .ok (.iaload, 1) := dk_46 (dk_at dksX0_refuse_0 12 rfl rfl)
theorem dX0_refuse_13 : decode cX0_refuse 13 = .ok (.iconst 1, 1) := dk_4 (dk_at dksX0_refuse_0 13 rfl rfl)
theorem dX0_refuse_14 : decode cX0_refuse 14 = .ok (.iadd, 1) := dk_96 (dk_at dksX0_refuse_0 14 rfl rfl)
theorem dX0_refuse_15 : decode cX0_refuse 15 = .ok (.iastore, 1) := dk_79 (dk_at dksX0_refuse_0 15 rfl rfl)
theorem dX0_refuse_16 : decode cX0_refuse 16 = .ok (.iload_n 1, 1) := dk_27 (dk_at dksX0_refuse_0 16 rfl rfl)
theorem dX0_refuse_17 : decode cX0_refuse 17 = .ok (.ireturn, 1) := dk_172 (dk_at dksX0_refuse_0 17 rfl rfl)
abbrev cX0_done : ByteArray := prog_1_method_2_code
def yX0_done : MethodName := ⟨RX0, "done", "(I)I"⟩
def dkwX0_done_0 : List UInt8 := [42, 3, 181, 0, 1, 27, 172]
abbrev dktX0_done_0 : List UInt8 := dkwX0_done_0 ++ []
theorem dksX0_done_0 : cX0_done.data.toList.drop 0 = dktX0_done_0 := by decide +kernel
theorem dX0_done_0 : decode cX0_done 0 = .ok (.aload_n 0, 1) := dk_42 (dk_at dksX0_done_0 0 rfl rfl)
theorem dX0_done_1 : decode cX0_done 1 = .ok (.iconst 0, 1) := dk_3 (dk_at dksX0_done_0 1 rfl rfl)
theorem dX0_done_2 : decode cX0_done 2 = .ok (.putfield 1, 3) := dk_181 0 1 (dk_at dksX0_done_0 2 rfl rfl)
theorem dX0_done_5 : decode cX0_done 5 = .ok (.iload_n 1, 1) := dk_27 (dk_at dksX0_done_0 5 rfl rfl)
theorem dX0_done_6 : decode cX0_done 6 = .ok (.ireturn, 1) := dk_172 (dk_at dksX0_done_0 6 rfl rfl)
abbrev cX0_back : ByteArray := prog_1_method_11_code
def yX0_back : MethodName := ⟨RX0, "back", "(I)I"⟩
def dkwX0_back_2 : List UInt8 := [182, 0, 76, 172]
abbrev dktX0_back_2 : List UInt8 := dkwX0_back_2 ++ []
def dkwX0_back_1 : List UInt8 := [42, 16, 254, 182, 0, 61, 172, 42, 180, 0, 45, 42, 180, 0, 64, 27, 50, 182, 0, 72, 42, 3]
abbrev dktX0_back_1 : List UInt8 := dkwX0_back_1 ++ dktX0_back_2
def dkwX0_back_0 : List UInt8 := [27, 3, 4, 184, 0, 41, 154, 0, 9, 42, 2, 182, 0, 61, 172, 42, 180, 0, 64, 27, 50, 199, 0, 10]
abbrev dktX0_back_0 : List UInt8 := dkwX0_back_0 ++ dktX0_back_1
theorem dksX0_back_0 : cX0_back.data.toList.drop 0 = dktX0_back_0 := by decide +kernel
theorem dksX0_back_1 : cX0_back.data.toList.drop 24 = dktX0_back_1 := dk_seg dksX0_back_0 24 rfl rfl
theorem dksX0_back_2 : cX0_back.data.toList.drop 46 = dktX0_back_2 := dk_seg dksX0_back_1 22 rfl rfl
theorem dX0_back_0 : decode cX0_back 0 = .ok (.iload_n 1, 1) := dk_27 (dk_at dksX0_back_0 0 rfl rfl)
theorem dX0_back_1 : decode cX0_back 1 = .ok (.iconst 0, 1) := dk_3 (dk_at dksX0_back_0 1 rfl rfl)
theorem dX0_back_2 : decode cX0_back 2 = .ok (.iconst 1, 1) := dk_4 (dk_at dksX0_back_0 2 rfl rfl)
theorem dX0_back_3 : decode cX0_back 3 = .ok (.invokestatic 41, 3) := dk_184 0 41 (dk_at dksX0_back_0 3 rfl rfl)
theorem dX0_back_6 : decode cX0_back 6 = .ok (.ifCond .ne 9, 3) := dk_154 0 9 (dk_at dksX0_back_0 6 rfl rfl)
theorem dX0_back_9 : decode cX0_back 9 = .ok (.aload_n 0, 1) := dk_42 (dk_at dksX0_back_0 9 rfl rfl)
theorem dX0_back_10 : decode cX0_back 10 = .ok (.iconst (-1), 1) := dk_2 (dk_at dksX0_back_0 10 rfl rfl)
theorem dX0_back_11 : decode cX0_back 11 = .ok (.invokevirtual 61, 3) := dk_182 0 61 (dk_at dksX0_back_0 11 rfl rfl)
theorem dX0_back_14 : decode cX0_back 14 = .ok (.ireturn, 1) := dk_172 (dk_at dksX0_back_0 14 rfl rfl)
theorem dX0_back_15 : decode cX0_back 15 = .ok (.aload_n 0, 1) := dk_42 (dk_at dksX0_back_0 15 rfl rfl)
theorem dX0_back_16 : decode cX0_back 16 = .ok (.getfield 64, 3) := dk_180 0 64 (dk_at dksX0_back_0 16 rfl rfl)
theorem dX0_back_19 : decode cX0_back 19 = .ok (.iload_n 1, 1) := dk_27 (dk_at dksX0_back_0 19 rfl rfl)
theorem dX0_back_20 : decode cX0_back 20 = .ok (.aaload, 1) := dk_50 (dk_at dksX0_back_0 20 rfl rfl)
theorem dX0_back_21 : decode cX0_back 21 = .ok (.ifnonnull 10, 3) := dk_199 0 10 (dk_at dksX0_back_0 21 rfl rfl)
theorem dX0_back_24 : decode cX0_back 24 = .ok (.aload_n 0, 1) := dk_42 (dk_at dksX0_back_1 0 rfl rfl)
theorem dX0_back_25 : decode cX0_back 25 = .ok (.bipush (-2), 2) := dk_16 254 (dk_at dksX0_back_1 1 rfl rfl)
theorem dX0_back_27 : decode cX0_back 27 = .ok (.invokevirtual 61, 3) := dk_182 0 61 (dk_at dksX0_back_1 3 rfl rfl)
theorem dX0_back_30 : decode cX0_back 30 = .ok (.ireturn, 1) := dk_172 (dk_at dksX0_back_1 6 rfl rfl)
theorem dX0_back_31 : decode cX0_back 31 = .ok (.aload_n 0, 1) := dk_42 (dk_at dksX0_back_1 7 rfl rfl)
theorem dX0_back_32 : decode cX0_back 32 = .ok (.getfield 45, 3) := dk_180 0 45 (dk_at dksX0_back_1 8 rfl rfl)
theorem dX0_back_35 : decode cX0_back 35 = .ok (.aload_n 0, 1) := dk_42 (dk_at dksX0_back_1 11 rfl rfl)
theorem dX0_back_36 : decode cX0_back 36 = .ok (.getfield 64, 3) := dk_180 0 64 (dk_at dksX0_back_1 12 rfl rfl)
theorem dX0_back_39 : decode cX0_back 39 = .ok (.iload_n 1, 1) := dk_27 (dk_at dksX0_back_1 15 rfl rfl)
theorem dX0_back_40 : decode cX0_back 40 = .ok (.aaload, 1) := dk_50 (dk_at dksX0_back_1 16 rfl rfl)
theorem dX0_back_41 : decode cX0_back 41 = .ok (.invokevirtual 72, 3) := dk_182 0 72 (dk_at dksX0_back_1 17 rfl rfl)
theorem dX0_back_44 : decode cX0_back 44 = .ok (.aload_n 0, 1) := dk_42 (dk_at dksX0_back_1 20 rfl rfl)
theorem dX0_back_45 : decode cX0_back 45 = .ok (.iconst 0, 1) := dk_3 (dk_at dksX0_back_1 21 rfl rfl)
theorem dX0_back_46 : decode cX0_back 46 = .ok (.invokevirtual 76, 3) := dk_182 0 76 (dk_at dksX0_back_2 0 rfl rfl)
theorem dX0_back_49 : decode cX0_back 49 = .ok (.ireturn, 1) := dk_172 (dk_at dksX0_back_2 3 rfl rfl)
abbrev cX0_told0 : ByteArray := prog_1_method_5_code
def yX0_told0 : MethodName := ⟨RX0, "told0", "(I)I"⟩
def dkwX0_told0_0 : List UInt8 := [42, 89, 180, 0, 34, 4, 96, 181, 0, 34, 42, 27, 182, 0, 37, 172]
abbrev dktX0_told0_0 : List UInt8 := dkwX0_told0_0 ++ []
theorem dksX0_told0_0 : cX0_told0.data.toList.drop 0 = dktX0_told0_0 := by decide +kernel
theorem dX0_told0_0 : decode cX0_told0 0 = .ok (.aload_n 0, 1) := dk_42 (dk_at dksX0_told0_0 0 rfl rfl)
theorem dX0_told0_1 : decode cX0_told0 1 = .ok (.dup, 1) := dk_89 (dk_at dksX0_told0_0 1 rfl rfl)
theorem dX0_told0_2 : decode cX0_told0 2 = .ok (.getfield 34, 3) := dk_180 0 34 (dk_at dksX0_told0_0 2 rfl rfl)
theorem dX0_told0_5 : decode cX0_told0 5 = .ok (.iconst 1, 1) := dk_4 (dk_at dksX0_told0_0 5 rfl rfl)
theorem dX0_told0_6 : decode cX0_told0 6 = .ok (.iadd, 1) := dk_96 (dk_at dksX0_told0_0 6 rfl rfl)
theorem dX0_told0_7 : decode cX0_told0 7 = .ok (.putfield 34, 3) := dk_181 0 34 (dk_at dksX0_told0_0 7 rfl rfl)
theorem dX0_told0_10 : decode cX0_told0 10 = .ok (.aload_n 0, 1) := dk_42 (dk_at dksX0_told0_0 10 rfl rfl)
theorem dX0_told0_11 : decode cX0_told0 11 = .ok (.iload_n 1, 1) := dk_27 (dk_at dksX0_told0_0 11 rfl rfl)
theorem dX0_told0_12 : decode cX0_told0 12 = .ok (.invokevirtual 37, 3) := dk_182 0 37 (dk_at dksX0_told0_0 12 rfl rfl)
theorem dX0_told0_15 : decode cX0_told0 15 = .ok (.ireturn, 1) := dk_172 (dk_at dksX0_told0_0 15 rfl rfl)
abbrev cX0_week : ByteArray := prog_1_method_13_code
def yX0_week : MethodName := ⟨RX0, "week", "(II)I"⟩
def dkwX0_week_1 : List UInt8 := [180, 0, 86, 27, 28, 182, 0, 89, 167, 0, 8, 42, 2, 182, 0, 61, 172]
abbrev dktX0_week_1 : List UInt8 := dkwX0_week_1 ++ []
def dkwX0_week_0 : List UInt8 := [27, 184, 0, 79, 153, 0, 31, 28, 2, 159, 0, 10, 28, 184, 0, 83, 153, 0, 19, 42, 42, 180, 0, 45]
abbrev dktX0_week_0 : List UInt8 := dkwX0_week_0 ++ dktX0_week_1
theorem dksX0_week_0 : cX0_week.data.toList.drop 0 = dktX0_week_0 := by decide +kernel
theorem dksX0_week_1 : cX0_week.data.toList.drop 24 = dktX0_week_1 := dk_seg dksX0_week_0 24 rfl rfl
theorem dX0_week_0 : decode cX0_week 0 = .ok (.iload_n 1, 1) := dk_27 (dk_at dksX0_week_0 0 rfl rfl)
theorem dX0_week_1 : decode cX0_week 1 = .ok (.invokestatic 79, 3) := dk_184 0 79 (dk_at dksX0_week_0 1 rfl rfl)
theorem dX0_week_4 : decode cX0_week 4 = .ok (.ifCond .eq 31, 3) := dk_153 0 31 (dk_at dksX0_week_0 4 rfl rfl)
theorem dX0_week_7 : decode cX0_week 7 = .ok (.iload_n 2, 1) := dk_28 (dk_at dksX0_week_0 7 rfl rfl)
theorem dX0_week_8 : decode cX0_week 8 = .ok (.iconst (-1), 1) := dk_2 (dk_at dksX0_week_0 8 rfl rfl)
theorem dX0_week_9 : decode cX0_week 9 = .ok (.if_icmp .eq 10, 3) := dk_159 0 10 (dk_at dksX0_week_0 9 rfl rfl)
theorem dX0_week_12 : decode cX0_week 12 = .ok (.iload_n 2, 1) := dk_28 (dk_at dksX0_week_0 12 rfl rfl)
theorem dX0_week_13 : decode cX0_week 13 = .ok (.invokestatic 83, 3) := dk_184 0 83 (dk_at dksX0_week_0 13 rfl rfl)
theorem dX0_week_16 : decode cX0_week 16 = .ok (.ifCond .eq 19, 3) := dk_153 0 19 (dk_at dksX0_week_0 16 rfl rfl)
theorem dX0_week_19 : decode cX0_week 19 = .ok (.aload_n 0, 1) := dk_42 (dk_at dksX0_week_0 19 rfl rfl)
theorem dX0_week_20 : decode cX0_week 20 = .ok (.aload_n 0, 1) := dk_42 (dk_at dksX0_week_0 20 rfl rfl)
theorem dX0_week_21 : decode cX0_week 21 = .ok (.getfield 45, 3) := dk_180 0 45 (dk_at dksX0_week_0 21 rfl rfl)
theorem dX0_week_24 : decode cX0_week 24 = .ok (.getfield 86, 3) := dk_180 0 86 (dk_at dksX0_week_1 0 rfl rfl)
theorem dX0_week_27 : decode cX0_week 27 = .ok (.iload_n 1, 1) := dk_27 (dk_at dksX0_week_1 3 rfl rfl)
theorem dX0_week_28 : decode cX0_week 28 = .ok (.iload_n 2, 1) := dk_28 (dk_at dksX0_week_1 4 rfl rfl)
theorem dX0_week_29 : decode cX0_week 29 = .ok (.invokevirtual 89, 3) := dk_182 0 89 (dk_at dksX0_week_1 5 rfl rfl)
theorem dX0_week_32 : decode cX0_week 32 = .ok (.goto 8, 3) := dk_167 0 8 (dk_at dksX0_week_1 8 rfl rfl)
theorem dX0_week_35 : decode cX0_week 35 = .ok (.aload_n 0, 1) := dk_42 (dk_at dksX0_week_1 11 rfl rfl)
theorem dX0_week_36 : decode cX0_week 36 = .ok (.iconst (-1), 1) := dk_2 (dk_at dksX0_week_1 12 rfl rfl)
theorem dX0_week_37 : decode cX0_week 37 = .ok (.invokevirtual 61, 3) := dk_182 0 61 (dk_at dksX0_week_1 13 rfl rfl)
theorem dX0_week_40 : decode cX0_week 40 = .ok (.ireturn, 1) := dk_172 (dk_at dksX0_week_1 16 rfl rfl)
abbrev cX0_isWeek : ByteArray := prog_1_method_8_code
def yX0_isWeek : MethodName := ⟨RX0, "isWeek", "(I)Z"⟩
def dkwX0_isWeek_0 : List UInt8 := [26, 3, 16, 31, 184, 0, 41, 172]
abbrev dktX0_isWeek_0 : List UInt8 := dkwX0_isWeek_0 ++ []
theorem dksX0_isWeek_0 : cX0_isWeek.data.toList.drop 0 = dktX0_isWeek_0 := by decide +kernel
theorem dX0_isWeek_0 : decode cX0_isWeek 0 = .ok (.iload_n 0, 1) := dk_26 (dk_at dksX0_isWeek_0 0 rfl rfl)
theorem dX0_isWeek_1 : decode cX0_isWeek 1 = .ok (.iconst 0, 1) := dk_3 (dk_at dksX0_isWeek_0 1 rfl rfl)
theorem dX0_isWeek_2 : decode cX0_isWeek 2 = .ok (.bipush 31, 2) := dk_16 31 (dk_at dksX0_isWeek_0 2 rfl rfl)
theorem dX0_isWeek_4 : decode cX0_isWeek 4 = .ok (.invokestatic 41, 3) := dk_184 0 41 (dk_at dksX0_isWeek_0 4 rfl rfl)
theorem dX0_isWeek_7 : decode cX0_isWeek 7 = .ok (.ireturn, 1) := dk_172 (dk_at dksX0_isWeek_0 7 rfl rfl)
abbrev cX0_isKeeper : ByteArray := prog_1_method_7_code
def yX0_isKeeper : MethodName := ⟨RX0, "isKeeper", "(I)Z"⟩
def dkwX0_isKeeper_0 : List UInt8 := [26, 3, 6, 184, 0, 41, 172]
abbrev dktX0_isKeeper_0 : List UInt8 := dkwX0_isKeeper_0 ++ []
theorem dksX0_isKeeper_0 : cX0_isKeeper.data.toList.drop 0 = dktX0_isKeeper_0 := by decide +kernel
theorem dX0_isKeeper_0 : decode cX0_isKeeper 0 = .ok (.iload_n 0, 1) := dk_26 (dk_at dksX0_isKeeper_0 0 rfl rfl)
theorem dX0_isKeeper_1 : decode cX0_isKeeper 1 = .ok (.iconst 0, 1) := dk_3 (dk_at dksX0_isKeeper_0 1 rfl rfl)
theorem dX0_isKeeper_2 : decode cX0_isKeeper 2 = .ok (.iconst 3, 1) := dk_6 (dk_at dksX0_isKeeper_0 2 rfl rfl)
theorem dX0_isKeeper_3 : decode cX0_isKeeper 3 = .ok (.invokestatic 41, 3) := dk_184 0 41 (dk_at dksX0_isKeeper_0 3 rfl rfl)
theorem dX0_isKeeper_6 : decode cX0_isKeeper 6 = .ok (.ireturn, 1) := dk_172 (dk_at dksX0_isKeeper_0 6 rfl rfl)
abbrev cX0_replaces : ByteArray := prog_1_method_12_code
def yX0_replaces : MethodName := ⟨RX0, "replaces", "([III)I"⟩
def dkwX0_replaces_0 : List UInt8 := [43, 28, 46, 54, 4, 43, 28, 29, 79, 42, 21, 4, 182, 0, 76, 172]
abbrev dktX0_replaces_0 : List UInt8 := dkwX0_replaces_0 ++ []
theorem dksX0_replaces_0 : cX0_replaces.data.toList.drop 0 = dktX0_replaces_0 := by decide +kernel
theorem dX0_replaces_0 : decode cX0_replaces 0 = .ok (.aload_n 1, 1) := dk_43 (dk_at dksX0_replaces_0 0 rfl rfl)
theorem dX0_replaces_1 : decode cX0_replaces 1 = .ok (.iload_n 2, 1) := dk_28 (dk_at dksX0_replaces_0 1 rfl rfl)
theorem dX0_replaces_2 : decode cX0_replaces 2 = .ok (.iaload, 1) := dk_46 (dk_at dksX0_replaces_0 2 rfl rfl)
theorem dX0_replaces_3 : decode cX0_replaces 3 = .ok (.istore 4, 2) := dk_54 4 (dk_at dksX0_replaces_0 3 rfl rfl)
theorem dX0_replaces_5 : decode cX0_replaces 5 = .ok (.aload_n 1, 1) := dk_43 (dk_at dksX0_replaces_0 5 rfl rfl)
theorem dX0_replaces_6 : decode cX0_replaces 6 = .ok (.iload_n 2, 1) := dk_28 (dk_at dksX0_replaces_0 6 rfl rfl)
theorem dX0_replaces_7 : decode cX0_replaces 7 = .ok (.iload_n 3, 1) := dk_29 (dk_at dksX0_replaces_0 7 rfl rfl)
theorem dX0_replaces_8 : decode cX0_replaces 8 = .ok (.iastore, 1) := dk_79 (dk_at dksX0_replaces_0 8 rfl rfl)
theorem dX0_replaces_9 : decode cX0_replaces 9 = .ok (.aload_n 0, 1) := dk_42 (dk_at dksX0_replaces_0 9 rfl rfl)
theorem dX0_replaces_10 : decode cX0_replaces 10 = .ok (.iload 4, 2) := dk_21 4 (dk_at dksX0_replaces_0 10 rfl rfl)
theorem dX0_replaces_12 : decode cX0_replaces 12 = .ok (.invokevirtual 76, 3) := dk_182 0 76 (dk_at dksX0_replaces_0 12 rfl rfl)
theorem dX0_replaces_15 : decode cX0_replaces 15 = .ok (.ireturn, 1) := dk_172 (dk_at dksX0_replaces_0 15 rfl rfl)
abbrev cX0_cut : ByteArray := prog_1_method_14_code
def yX0_cut : MethodName := ⟨RX0, "cut", "(II)I"⟩
def dkwX0_cut_1 : List UInt8 := [180, 0, 45, 180, 0, 96, 27, 28, 182, 0, 89, 167, 0, 8, 42, 2, 182, 0, 61, 172]
abbrev dktX0_cut_1 : List UInt8 := dkwX0_cut_1 ++ []
def dkwX0_cut_0 : List UInt8 := [27, 184, 0, 93, 153, 0, 34, 28, 2, 159, 0, 13, 28, 4, 16, 31, 184, 0, 41, 153, 0, 19, 42, 42]
abbrev dktX0_cut_0 : List UInt8 := dkwX0_cut_0 ++ dktX0_cut_1
theorem dksX0_cut_0 : cX0_cut.data.toList.drop 0 = dktX0_cut_0 := by decide +kernel
theorem dksX0_cut_1 : cX0_cut.data.toList.drop 24 = dktX0_cut_1 := dk_seg dksX0_cut_0 24 rfl rfl
theorem dX0_cut_0 : decode cX0_cut 0 = .ok (.iload_n 1, 1) := dk_27 (dk_at dksX0_cut_0 0 rfl rfl)
theorem dX0_cut_1 : decode cX0_cut 1 = .ok (.invokestatic 93, 3) := dk_184 0 93 (dk_at dksX0_cut_0 1 rfl rfl)
theorem dX0_cut_4 : decode cX0_cut 4 = .ok (.ifCond .eq 34, 3) := dk_153 0 34 (dk_at dksX0_cut_0 4 rfl rfl)
theorem dX0_cut_7 : decode cX0_cut 7 = .ok (.iload_n 2, 1) := dk_28 (dk_at dksX0_cut_0 7 rfl rfl)
theorem dX0_cut_8 : decode cX0_cut 8 = .ok (.iconst (-1), 1) := dk_2 (dk_at dksX0_cut_0 8 rfl rfl)
theorem dX0_cut_9 : decode cX0_cut 9 = .ok (.if_icmp .eq 13, 3) := dk_159 0 13 (dk_at dksX0_cut_0 9 rfl rfl)
theorem dX0_cut_12 : decode cX0_cut 12 = .ok (.iload_n 2, 1) := dk_28 (dk_at dksX0_cut_0 12 rfl rfl)
theorem dX0_cut_13 : decode cX0_cut 13 = .ok (.iconst 1, 1) := dk_4 (dk_at dksX0_cut_0 13 rfl rfl)
theorem dX0_cut_14 : decode cX0_cut 14 = .ok (.bipush 31, 2) := dk_16 31 (dk_at dksX0_cut_0 14 rfl rfl)
theorem dX0_cut_16 : decode cX0_cut 16 = .ok (.invokestatic 41, 3) := dk_184 0 41 (dk_at dksX0_cut_0 16 rfl rfl)
theorem dX0_cut_19 : decode cX0_cut 19 = .ok (.ifCond .eq 19, 3) := dk_153 0 19 (dk_at dksX0_cut_0 19 rfl rfl)
theorem dX0_cut_22 : decode cX0_cut 22 = .ok (.aload_n 0, 1) := dk_42 (dk_at dksX0_cut_0 22 rfl rfl)
theorem dX0_cut_23 : decode cX0_cut 23 = .ok (.aload_n 0, 1) := dk_42 (dk_at dksX0_cut_0 23 rfl rfl)
theorem dX0_cut_24 : decode cX0_cut 24 = .ok (.getfield 45, 3) := dk_180 0 45 (dk_at dksX0_cut_1 0 rfl rfl)
theorem dX0_cut_27 : decode cX0_cut 27 = .ok (.getfield 96, 3) := dk_180 0 96 (dk_at dksX0_cut_1 3 rfl rfl)
theorem dX0_cut_30 : decode cX0_cut 30 = .ok (.iload_n 1, 1) := dk_27 (dk_at dksX0_cut_1 6 rfl rfl)
theorem dX0_cut_31 : decode cX0_cut 31 = .ok (.iload_n 2, 1) := dk_28 (dk_at dksX0_cut_1 7 rfl rfl)
theorem dX0_cut_32 : decode cX0_cut 32 = .ok (.invokevirtual 89, 3) := dk_182 0 89 (dk_at dksX0_cut_1 8 rfl rfl)
theorem dX0_cut_35 : decode cX0_cut 35 = .ok (.goto 8, 3) := dk_167 0 8 (dk_at dksX0_cut_1 11 rfl rfl)
theorem dX0_cut_38 : decode cX0_cut 38 = .ok (.aload_n 0, 1) := dk_42 (dk_at dksX0_cut_1 14 rfl rfl)
theorem dX0_cut_39 : decode cX0_cut 39 = .ok (.iconst (-1), 1) := dk_2 (dk_at dksX0_cut_1 15 rfl rfl)
theorem dX0_cut_40 : decode cX0_cut 40 = .ok (.invokevirtual 61, 3) := dk_182 0 61 (dk_at dksX0_cut_1 16 rfl rfl)
theorem dX0_cut_43 : decode cX0_cut 43 = .ok (.ireturn, 1) := dk_172 (dk_at dksX0_cut_1 19 rfl rfl)
abbrev cX0_isThing : ByteArray := prog_1_method_6_code
def yX0_isThing : MethodName := ⟨RX0, "isThing", "(I)Z"⟩
def dkwX0_isThing_0 : List UInt8 := [26, 3, 8, 184, 0, 41, 172]
abbrev dktX0_isThing_0 : List UInt8 := dkwX0_isThing_0 ++ []
theorem dksX0_isThing_0 : cX0_isThing.data.toList.drop 0 = dktX0_isThing_0 := by decide +kernel
theorem dX0_isThing_0 : decode cX0_isThing 0 = .ok (.iload_n 0, 1) := dk_26 (dk_at dksX0_isThing_0 0 rfl rfl)
theorem dX0_isThing_1 : decode cX0_isThing 1 = .ok (.iconst 0, 1) := dk_3 (dk_at dksX0_isThing_0 1 rfl rfl)
theorem dX0_isThing_2 : decode cX0_isThing 2 = .ok (.iconst 5, 1) := dk_8 (dk_at dksX0_isThing_0 2 rfl rfl)
theorem dX0_isThing_3 : decode cX0_isThing 3 = .ok (.invokestatic 41, 3) := dk_184 0 41 (dk_at dksX0_isThing_0 3 rfl rfl)
theorem dX0_isThing_6 : decode cX0_isThing 6 = .ok (.ireturn, 1) := dk_172 (dk_at dksX0_isThing_0 6 rfl rfl)
abbrev cX0_shorter : ByteArray := prog_1_method_15_code
def yX0_shorter : MethodName := ⟨RX0, "shorter", "(II)I"⟩
def dkwX0_shorter_3 : List UInt8 := [42, 42, 180, 0, 45, 180, 0, 103, 182, 0, 76, 172]
abbrev dktX0_shorter_3 : List UInt8 := dkwX0_shorter_3 ++ []
def dkwX0_shorter_2 : List UInt8 := [180, 0, 103, 16, 6, 160, 0, 10, 42, 16, 251, 182, 0, 61, 172, 42, 180, 0, 45, 27, 28, 182, 0, 106]
abbrev dktX0_shorter_2 : List UInt8 := dkwX0_shorter_2 ++ dktX0_shorter_3
def dkwX0_shorter_1 : List UInt8 := [172, 42, 180, 0, 45, 27, 28, 182, 0, 99, 153, 0, 10, 42, 16, 253, 182, 0, 61, 172, 42, 180, 0, 45]
abbrev dktX0_shorter_1 : List UInt8 := dkwX0_shorter_1 ++ dktX0_shorter_2
def dkwX0_shorter_0 : List UInt8 := [27, 184, 0, 83, 153, 0, 15, 28, 184, 0, 83, 153, 0, 8, 27, 28, 160, 0, 9, 42, 2, 182, 0, 61]
abbrev dktX0_shorter_0 : List UInt8 := dkwX0_shorter_0 ++ dktX0_shorter_1
theorem dksX0_shorter_0 : cX0_shorter.data.toList.drop 0 = dktX0_shorter_0 := by decide +kernel
theorem dksX0_shorter_1 : cX0_shorter.data.toList.drop 24 = dktX0_shorter_1 := dk_seg dksX0_shorter_0 24 rfl rfl
theorem dksX0_shorter_2 : cX0_shorter.data.toList.drop 48 = dktX0_shorter_2 := dk_seg dksX0_shorter_1 24 rfl rfl
theorem dksX0_shorter_3 : cX0_shorter.data.toList.drop 72 = dktX0_shorter_3 := dk_seg dksX0_shorter_2 24 rfl rfl
theorem dX0_shorter_0 : decode cX0_shorter 0 = .ok (.iload_n 1, 1) := dk_27 (dk_at dksX0_shorter_0 0 rfl rfl)
theorem dX0_shorter_1 : decode cX0_shorter 1 = .ok (.invokestatic 83, 3) := dk_184 0 83 (dk_at dksX0_shorter_0 1 rfl rfl)
theorem dX0_shorter_4 : decode cX0_shorter 4 = .ok (.ifCond .eq 15, 3) := dk_153 0 15 (dk_at dksX0_shorter_0 4 rfl rfl)
theorem dX0_shorter_7 : decode cX0_shorter 7 = .ok (.iload_n 2, 1) := dk_28 (dk_at dksX0_shorter_0 7 rfl rfl)
theorem dX0_shorter_8 : decode cX0_shorter 8 = .ok (.invokestatic 83, 3) := dk_184 0 83 (dk_at dksX0_shorter_0 8 rfl rfl)
theorem dX0_shorter_11 : decode cX0_shorter 11 = .ok (.ifCond .eq 8, 3) := dk_153 0 8 (dk_at dksX0_shorter_0 11 rfl rfl)
theorem dX0_shorter_14 : decode cX0_shorter 14 = .ok (.iload_n 1, 1) := dk_27 (dk_at dksX0_shorter_0 14 rfl rfl)
theorem dX0_shorter_15 : decode cX0_shorter 15 = .ok (.iload_n 2, 1) := dk_28 (dk_at dksX0_shorter_0 15 rfl rfl)
theorem dX0_shorter_16 : decode cX0_shorter 16 = .ok (.if_icmp .ne 9, 3) := dk_160 0 9 (dk_at dksX0_shorter_0 16 rfl rfl)
theorem dX0_shorter_19 : decode cX0_shorter 19 = .ok (.aload_n 0, 1) := dk_42 (dk_at dksX0_shorter_0 19 rfl rfl)
theorem dX0_shorter_20 : decode cX0_shorter 20 = .ok (.iconst (-1), 1) := dk_2 (dk_at dksX0_shorter_0 20 rfl rfl)
theorem dX0_shorter_21 : decode cX0_shorter 21 = .ok (.invokevirtual 61, 3) := dk_182 0 61 (dk_at dksX0_shorter_0 21 rfl rfl)
theorem dX0_shorter_24 : decode cX0_shorter 24 = .ok (.ireturn, 1) := dk_172 (dk_at dksX0_shorter_1 0 rfl rfl)
theorem dX0_shorter_25 : decode cX0_shorter 25 = .ok (.aload_n 0, 1) := dk_42 (dk_at dksX0_shorter_1 1 rfl rfl)
theorem dX0_shorter_26 : decode cX0_shorter 26 = .ok (.getfield 45, 3) := dk_180 0 45 (dk_at dksX0_shorter_1 2 rfl rfl)
theorem dX0_shorter_29 : decode cX0_shorter 29 = .ok (.iload_n 1, 1) := dk_27 (dk_at dksX0_shorter_1 5 rfl rfl)
theorem dX0_shorter_30 : decode cX0_shorter 30 = .ok (.iload_n 2, 1) := dk_28 (dk_at dksX0_shorter_1 6 rfl rfl)
theorem dX0_shorter_31 : decode cX0_shorter 31 = .ok (.invokevirtual 99, 3) := dk_182 0 99 (dk_at dksX0_shorter_1 7 rfl rfl)
theorem dX0_shorter_34 : decode cX0_shorter 34 = .ok (.ifCond .eq 10, 3) := dk_153 0 10 (dk_at dksX0_shorter_1 10 rfl rfl)
theorem dX0_shorter_37 : decode cX0_shorter 37 = .ok (.aload_n 0, 1) := dk_42 (dk_at dksX0_shorter_1 13 rfl rfl)
theorem dX0_shorter_38 : decode cX0_shorter 38 = .ok (.bipush (-3), 2) := dk_16 253 (dk_at dksX0_shorter_1 14 rfl rfl)
theorem dX0_shorter_40 : decode cX0_shorter 40 = .ok (.invokevirtual 61, 3) := dk_182 0 61 (dk_at dksX0_shorter_1 16 rfl rfl)
theorem dX0_shorter_43 : decode cX0_shorter 43 = .ok (.ireturn, 1) := dk_172 (dk_at dksX0_shorter_1 19 rfl rfl)
theorem dX0_shorter_44 : decode cX0_shorter 44 = .ok (.aload_n 0, 1) := dk_42 (dk_at dksX0_shorter_1 20 rfl rfl)
theorem dX0_shorter_45 : decode cX0_shorter 45 = .ok (.getfield 45, 3) := dk_180 0 45 (dk_at dksX0_shorter_1 21 rfl rfl)
theorem dX0_shorter_48 : decode cX0_shorter 48 = .ok (.getfield 103, 3) := dk_180 0 103 (dk_at dksX0_shorter_2 0 rfl rfl)
theorem dX0_shorter_51 : decode cX0_shorter 51 = .ok (.bipush 6, 2) := dk_16 6 (dk_at dksX0_shorter_2 3 rfl rfl)
theorem dX0_shorter_53 : decode cX0_shorter 53 = .ok (.if_icmp .ne 10, 3) := dk_160 0 10 (dk_at dksX0_shorter_2 5 rfl rfl)
theorem dX0_shorter_56 : decode cX0_shorter 56 = .ok (.aload_n 0, 1) := dk_42 (dk_at dksX0_shorter_2 8 rfl rfl)
theorem dX0_shorter_57 : decode cX0_shorter 57 = .ok (.bipush (-5), 2) := dk_16 251 (dk_at dksX0_shorter_2 9 rfl rfl)
theorem dX0_shorter_59 : decode cX0_shorter 59 = .ok (.invokevirtual 61, 3) := dk_182 0 61 (dk_at dksX0_shorter_2 11 rfl rfl)
theorem dX0_shorter_62 : decode cX0_shorter 62 = .ok (.ireturn, 1) := dk_172 (dk_at dksX0_shorter_2 14 rfl rfl)
theorem dX0_shorter_63 : decode cX0_shorter 63 = .ok (.aload_n 0, 1) := dk_42 (dk_at dksX0_shorter_2 15 rfl rfl)
theorem dX0_shorter_64 : decode cX0_shorter 64 = .ok (.getfield 45, 3) := dk_180 0 45 (dk_at dksX0_shorter_2 16 rfl rfl)
theorem dX0_shorter_67 : decode cX0_shorter 67 = .ok (.iload_n 1, 1) := dk_27 (dk_at dksX0_shorter_2 19 rfl rfl)
theorem dX0_shorter_68 : decode cX0_shorter 68 = .ok (.iload_n 2, 1) := dk_28 (dk_at dksX0_shorter_2 20 rfl rfl)
theorem dX0_shorter_69 : decode cX0_shorter 69 = .ok (.invokevirtual 106, 3) := dk_182 0 106 (dk_at dksX0_shorter_2 21 rfl rfl)
theorem dX0_shorter_72 : decode cX0_shorter 72 = .ok (.aload_n 0, 1) := dk_42 (dk_at dksX0_shorter_3 0 rfl rfl)
theorem dX0_shorter_73 : decode cX0_shorter 73 = .ok (.aload_n 0, 1) := dk_42 (dk_at dksX0_shorter_3 1 rfl rfl)
theorem dX0_shorter_74 : decode cX0_shorter 74 = .ok (.getfield 45, 3) := dk_180 0 45 (dk_at dksX0_shorter_3 2 rfl rfl)
theorem dX0_shorter_77 : decode cX0_shorter 77 = .ok (.getfield 103, 3) := dk_180 0 103 (dk_at dksX0_shorter_3 5 rfl rfl)
theorem dX0_shorter_80 : decode cX0_shorter 80 = .ok (.invokevirtual 76, 3) := dk_182 0 76 (dk_at dksX0_shorter_3 8 rfl rfl)
theorem dX0_shorter_83 : decode cX0_shorter 83 = .ok (.ireturn, 1) := dk_172 (dk_at dksX0_shorter_3 11 rfl rfl)
abbrev cX0_entry : ByteArray := prog_1_method_17_code
def yX0_entry : MethodName := ⟨RX0, "entry", "(IIII)I"⟩
def dkwX0_entry_3 : List UInt8 := [182, 0, 76, 172]
abbrev dktX0_entry_3 : List UInt8 := dkwX0_entry_3 ++ []
def dkwX0_entry_2 : List UInt8 := [28, 29, 21, 4, 183, 0, 116, 182, 0, 119, 42, 42, 180, 0, 45, 180, 0, 49, 182, 0, 55, 4, 100]
abbrev dktX0_entry_2 : List UInt8 := dkwX0_entry_2 ++ dktX0_entry_3
def dkwX0_entry_1 : List UInt8 := [182, 0, 55, 16, 24, 160, 0, 10, 42, 16, 251, 182, 0, 61, 172, 42, 180, 0, 45, 187, 0, 114, 89, 27]
abbrev dktX0_entry_1 : List UInt8 := dkwX0_entry_1 ++ dktX0_entry_2
def dkwX0_entry_0 : List UInt8 := [27, 28, 29, 21, 4, 184, 0, 110, 154, 0, 9, 42, 2, 182, 0, 61, 172, 42, 180, 0, 45, 180, 0, 49]
abbrev dktX0_entry_0 : List UInt8 := dkwX0_entry_0 ++ dktX0_entry_1
theorem dksX0_entry_0 : cX0_entry.data.toList.drop 0 = dktX0_entry_0 := by decide +kernel
theorem dksX0_entry_1 : cX0_entry.data.toList.drop 24 = dktX0_entry_1 := dk_seg dksX0_entry_0 24 rfl rfl
theorem dksX0_entry_2 : cX0_entry.data.toList.drop 48 = dktX0_entry_2 := dk_seg dksX0_entry_1 24 rfl rfl
theorem dksX0_entry_3 : cX0_entry.data.toList.drop 71 = dktX0_entry_3 := dk_seg dksX0_entry_2 23 rfl rfl
theorem dX0_entry_0 : decode cX0_entry 0 = .ok (.iload_n 1, 1) := dk_27 (dk_at dksX0_entry_0 0 rfl rfl)
theorem dX0_entry_1 : decode cX0_entry 1 = .ok (.iload_n 2, 1) := dk_28 (dk_at dksX0_entry_0 1 rfl rfl)
theorem dX0_entry_2 : decode cX0_entry 2 = .ok (.iload_n 3, 1) := dk_29 (dk_at dksX0_entry_0 2 rfl rfl)
theorem dX0_entry_3 : decode cX0_entry 3 = .ok (.iload 4, 2) := dk_21 4 (dk_at dksX0_entry_0 3 rfl rfl)
theorem dX0_entry_5 : decode cX0_entry 5 = .ok (.invokestatic 110, 3) := dk_184 0 110 (dk_at dksX0_entry_0 5 rfl rfl)
theorem dX0_entry_8 : decode cX0_entry 8 = .ok (.ifCond .ne 9, 3) := dk_154 0 9 (dk_at dksX0_entry_0 8 rfl rfl)
theorem dX0_entry_11 : decode cX0_entry 11 = .ok (.aload_n 0, 1) := dk_42 (dk_at dksX0_entry_0 11 rfl rfl)
theorem dX0_entry_12 : decode cX0_entry 12 = .ok (.iconst (-1), 1) := dk_2 (dk_at dksX0_entry_0 12 rfl rfl)
theorem dX0_entry_13 : decode cX0_entry 13 = .ok (.invokevirtual 61, 3) := dk_182 0 61 (dk_at dksX0_entry_0 13 rfl rfl)
theorem dX0_entry_16 : decode cX0_entry 16 = .ok (.ireturn, 1) := dk_172 (dk_at dksX0_entry_0 16 rfl rfl)
theorem dX0_entry_17 : decode cX0_entry 17 = .ok (.aload_n 0, 1) := dk_42 (dk_at dksX0_entry_0 17 rfl rfl)
theorem dX0_entry_18 : decode cX0_entry 18 = .ok (.getfield 45, 3) := dk_180 0 45 (dk_at dksX0_entry_0 18 rfl rfl)
theorem dX0_entry_21 : decode cX0_entry 21 = .ok (.getfield 49, 3) := dk_180 0 49 (dk_at dksX0_entry_0 21 rfl rfl)
theorem dX0_entry_24 : decode cX0_entry 24 = .ok (.invokevirtual 55, 3) := dk_182 0 55 (dk_at dksX0_entry_1 0 rfl rfl)
theorem dX0_entry_27 : decode cX0_entry 27 = .ok (.bipush 24, 2) := dk_16 24 (dk_at dksX0_entry_1 3 rfl rfl)
theorem dX0_entry_29 : decode cX0_entry 29 = .ok (.if_icmp .ne 10, 3) := dk_160 0 10 (dk_at dksX0_entry_1 5 rfl rfl)
theorem dX0_entry_32 : decode cX0_entry 32 = .ok (.aload_n 0, 1) := dk_42 (dk_at dksX0_entry_1 8 rfl rfl)
theorem dX0_entry_33 : decode cX0_entry 33 = .ok (.bipush (-5), 2) := dk_16 251 (dk_at dksX0_entry_1 9 rfl rfl)
theorem dX0_entry_35 : decode cX0_entry 35 = .ok (.invokevirtual 61, 3) := dk_182 0 61 (dk_at dksX0_entry_1 11 rfl rfl)
theorem dX0_entry_38 : decode cX0_entry 38 = .ok (.ireturn, 1) := dk_172 (dk_at dksX0_entry_1 14 rfl rfl)
theorem dX0_entry_39 : decode cX0_entry 39 = .ok (.aload_n 0, 1) := dk_42 (dk_at dksX0_entry_1 15 rfl rfl)
theorem dX0_entry_40 : decode cX0_entry 40 = .ok (.getfield 45, 3) := dk_180 0 45 (dk_at dksX0_entry_1 16 rfl rfl)
theorem dX0_entry_43 : decode cX0_entry 43 = .ok (.new 114, 3) := dk_187 0 114 (dk_at dksX0_entry_1 19 rfl rfl)
theorem dX0_entry_46 : decode cX0_entry 46 = .ok (.dup, 1) := dk_89 (dk_at dksX0_entry_1 22 rfl rfl)
theorem dX0_entry_47 : decode cX0_entry 47 = .ok (.iload_n 1, 1) := dk_27 (dk_at dksX0_entry_1 23 rfl rfl)
theorem dX0_entry_48 : decode cX0_entry 48 = .ok (.iload_n 2, 1) := dk_28 (dk_at dksX0_entry_2 0 rfl rfl)
theorem dX0_entry_49 : decode cX0_entry 49 = .ok (.iload_n 3, 1) := dk_29 (dk_at dksX0_entry_2 1 rfl rfl)
theorem dX0_entry_50 : decode cX0_entry 50 = .ok (.iload 4, 2) := dk_21 4 (dk_at dksX0_entry_2 2 rfl rfl)
theorem dX0_entry_52 : decode cX0_entry 52 = .ok (.invokespecial 116, 3) := dk_183 0 116 (dk_at dksX0_entry_2 4 rfl rfl)
theorem dX0_entry_55 : decode cX0_entry 55 = .ok (.invokevirtual 119, 3) := dk_182 0 119 (dk_at dksX0_entry_2 7 rfl rfl)
theorem dX0_entry_58 : decode cX0_entry 58 = .ok (.aload_n 0, 1) := dk_42 (dk_at dksX0_entry_2 10 rfl rfl)
theorem dX0_entry_59 : decode cX0_entry 59 = .ok (.aload_n 0, 1) := dk_42 (dk_at dksX0_entry_2 11 rfl rfl)
theorem dX0_entry_60 : decode cX0_entry 60 = .ok (.getfield 45, 3) := dk_180 0 45 (dk_at dksX0_entry_2 12 rfl rfl)
theorem dX0_entry_63 : decode cX0_entry 63 = .ok (.getfield 49, 3) := dk_180 0 49 (dk_at dksX0_entry_2 15 rfl rfl)
theorem dX0_entry_66 : decode cX0_entry 66 = .ok (.invokevirtual 55, 3) := dk_182 0 55 (dk_at dksX0_entry_2 18 rfl rfl)
theorem dX0_entry_69 : decode cX0_entry 69 = .ok (.iconst 1, 1) := dk_4 (dk_at dksX0_entry_2 21 rfl rfl)
theorem dX0_entry_70 : decode cX0_entry 70 = .ok (.isub, 1) := dk_100 (dk_at dksX0_entry_2 22 rfl rfl)
theorem dX0_entry_71 : decode cX0_entry 71 = .ok (.invokevirtual 76, 3) := dk_182 0 76 (dk_at dksX0_entry_3 0 rfl rfl)
theorem dX0_entry_74 : decode cX0_entry 74 = .ok (.ireturn, 1) := dk_172 (dk_at dksX0_entry_3 3 rfl rfl)
abbrev cX0_canBe : ByteArray := prog_1_method_16_code
def yX0_canBe : MethodName := ⟨RX0, "canBe", "(IIII)Z"⟩
def dkwX0_canBe_1 : List UInt8 := [29, 3, 5, 184, 0, 41, 153, 0, 7, 4, 167, 0, 4, 3, 172]
abbrev dktX0_canBe_1 : List UInt8 := dkwX0_canBe_1 ++ []
def dkwX0_canBe_0 : List UInt8 := [26, 184, 0, 93, 153, 0, 33, 27, 184, 0, 79, 153, 0, 26, 28, 4, 16, 99, 184, 0, 41, 153, 0, 16]
abbrev dktX0_canBe_0 : List UInt8 := dkwX0_canBe_0 ++ dktX0_canBe_1
theorem dksX0_canBe_0 : cX0_canBe.data.toList.drop 0 = dktX0_canBe_0 := by decide +kernel
theorem dksX0_canBe_1 : cX0_canBe.data.toList.drop 24 = dktX0_canBe_1 := dk_seg dksX0_canBe_0 24 rfl rfl
theorem dX0_canBe_0 : decode cX0_canBe 0 = .ok (.iload_n 0, 1) := dk_26 (dk_at dksX0_canBe_0 0 rfl rfl)
theorem dX0_canBe_1 : decode cX0_canBe 1 = .ok (.invokestatic 93, 3) := dk_184 0 93 (dk_at dksX0_canBe_0 1 rfl rfl)
theorem dX0_canBe_4 : decode cX0_canBe 4 = .ok (.ifCond .eq 33, 3) := dk_153 0 33 (dk_at dksX0_canBe_0 4 rfl rfl)
theorem dX0_canBe_7 : decode cX0_canBe 7 = .ok (.iload_n 1, 1) := dk_27 (dk_at dksX0_canBe_0 7 rfl rfl)
theorem dX0_canBe_8 : decode cX0_canBe 8 = .ok (.invokestatic 79, 3) := dk_184 0 79 (dk_at dksX0_canBe_0 8 rfl rfl)
theorem dX0_canBe_11 : decode cX0_canBe 11 = .ok (.ifCond .eq 26, 3) := dk_153 0 26 (dk_at dksX0_canBe_0 11 rfl rfl)
theorem dX0_canBe_14 : decode cX0_canBe 14 = .ok (.iload_n 2, 1) := dk_28 (dk_at dksX0_canBe_0 14 rfl rfl)
theorem dX0_canBe_15 : decode cX0_canBe 15 = .ok (.iconst 1, 1) := dk_4 (dk_at dksX0_canBe_0 15 rfl rfl)
theorem dX0_canBe_16 : decode cX0_canBe 16 = .ok (.bipush 99, 2) := dk_16 99 (dk_at dksX0_canBe_0 16 rfl rfl)
theorem dX0_canBe_18 : decode cX0_canBe 18 = .ok (.invokestatic 41, 3) := dk_184 0 41 (dk_at dksX0_canBe_0 18 rfl rfl)
theorem dX0_canBe_21 : decode cX0_canBe 21 = .ok (.ifCond .eq 16, 3) := dk_153 0 16 (dk_at dksX0_canBe_0 21 rfl rfl)
theorem dX0_canBe_24 : decode cX0_canBe 24 = .ok (.iload_n 3, 1) := dk_29 (dk_at dksX0_canBe_1 0 rfl rfl)
theorem dX0_canBe_25 : decode cX0_canBe 25 = .ok (.iconst 0, 1) := dk_3 (dk_at dksX0_canBe_1 1 rfl rfl)
theorem dX0_canBe_26 : decode cX0_canBe 26 = .ok (.iconst 2, 1) := dk_5 (dk_at dksX0_canBe_1 2 rfl rfl)
theorem dX0_canBe_27 : decode cX0_canBe 27 = .ok (.invokestatic 41, 3) := dk_184 0 41 (dk_at dksX0_canBe_1 3 rfl rfl)
theorem dX0_canBe_30 : decode cX0_canBe 30 = .ok (.ifCond .eq 7, 3) := dk_153 0 7 (dk_at dksX0_canBe_1 6 rfl rfl)
theorem dX0_canBe_33 : decode cX0_canBe 33 = .ok (.iconst 1, 1) := dk_4 (dk_at dksX0_canBe_1 9 rfl rfl)
theorem dX0_canBe_34 : decode cX0_canBe 34 = .ok (.goto 4, 3) := dk_167 0 4 (dk_at dksX0_canBe_1 10 rfl rfl)
theorem dX0_canBe_37 : decode cX0_canBe 37 = .ok (.iconst 0, 1) := dk_3 (dk_at dksX0_canBe_1 13 rfl rfl)
theorem dX0_canBe_38 : decode cX0_canBe 38 = .ok (.ireturn, 1) := dk_172 (dk_at dksX0_canBe_1 14 rfl rfl)
abbrev cX0_counts : ByteArray := prog_1_method_18_code
def yX0_counts : MethodName := ⟨RX0, "counts", "(II)I"⟩
def dkwX0_counts_3 : List UInt8 := [172]
abbrev dktX0_counts_3 : List UInt8 := dkwX0_counts_3 ++ []
def dkwX0_counts_2 : List UInt8 := [28, 4, 160, 0, 7, 4, 167, 0, 4, 3, 84, 42, 29, 153, 0, 7, 4, 167, 0, 4, 3, 182, 0, 76]
abbrev dktX0_counts_2 : List UInt8 := dkwX0_counts_2 ++ dktX0_counts_3
def dkwX0_counts_1 : List UInt8 := [16, 254, 182, 0, 61, 172, 42, 180, 0, 45, 180, 0, 126, 27, 51, 62, 42, 180, 0, 45, 180, 0, 126, 27]
abbrev dktX0_counts_1 : List UInt8 := dkwX0_counts_1 ++ dktX0_counts_2
def dkwX0_counts_0 : List UInt8 := [28, 3, 4, 184, 0, 41, 154, 0, 9, 42, 2, 182, 0, 61, 172, 42, 27, 182, 0, 123, 154, 0, 10, 42]
abbrev dktX0_counts_0 : List UInt8 := dkwX0_counts_0 ++ dktX0_counts_1
theorem dksX0_counts_0 : cX0_counts.data.toList.drop 0 = dktX0_counts_0 := by decide +kernel
theorem dksX0_counts_1 : cX0_counts.data.toList.drop 24 = dktX0_counts_1 := dk_seg dksX0_counts_0 24 rfl rfl
theorem dksX0_counts_2 : cX0_counts.data.toList.drop 48 = dktX0_counts_2 := dk_seg dksX0_counts_1 24 rfl rfl
theorem dksX0_counts_3 : cX0_counts.data.toList.drop 72 = dktX0_counts_3 := dk_seg dksX0_counts_2 24 rfl rfl
theorem dX0_counts_0 : decode cX0_counts 0 = .ok (.iload_n 2, 1) := dk_28 (dk_at dksX0_counts_0 0 rfl rfl)
theorem dX0_counts_1 : decode cX0_counts 1 = .ok (.iconst 0, 1) := dk_3 (dk_at dksX0_counts_0 1 rfl rfl)
theorem dX0_counts_2 : decode cX0_counts 2 = .ok (.iconst 1, 1) := dk_4 (dk_at dksX0_counts_0 2 rfl rfl)
theorem dX0_counts_3 : decode cX0_counts 3 = .ok (.invokestatic 41, 3) := dk_184 0 41 (dk_at dksX0_counts_0 3 rfl rfl)
theorem dX0_counts_6 : decode cX0_counts 6 = .ok (.ifCond .ne 9, 3) := dk_154 0 9 (dk_at dksX0_counts_0 6 rfl rfl)
theorem dX0_counts_9 : decode cX0_counts 9 = .ok (.aload_n 0, 1) := dk_42 (dk_at dksX0_counts_0 9 rfl rfl)
theorem dX0_counts_10 : decode cX0_counts 10 = .ok (.iconst (-1), 1) := dk_2 (dk_at dksX0_counts_0 10 rfl rfl)
theorem dX0_counts_11 : decode cX0_counts 11 = .ok (.invokevirtual 61, 3) := dk_182 0 61 (dk_at dksX0_counts_0 11 rfl rfl)
theorem dX0_counts_14 : decode cX0_counts 14 = .ok (.ireturn, 1) := dk_172 (dk_at dksX0_counts_0 14 rfl rfl)
theorem dX0_counts_15 : decode cX0_counts 15 = .ok (.aload_n 0, 1) := dk_42 (dk_at dksX0_counts_0 15 rfl rfl)
theorem dX0_counts_16 : decode cX0_counts 16 = .ok (.iload_n 1, 1) := dk_27 (dk_at dksX0_counts_0 16 rfl rfl)
theorem dX0_counts_17 : decode cX0_counts 17 = .ok (.invokevirtual 123, 3) := dk_182 0 123 (dk_at dksX0_counts_0 17 rfl rfl)
theorem dX0_counts_20 : decode cX0_counts 20 = .ok (.ifCond .ne 10, 3) := dk_154 0 10 (dk_at dksX0_counts_0 20 rfl rfl)
theorem dX0_counts_23 : decode cX0_counts 23 = .ok (.aload_n 0, 1) := dk_42 (dk_at dksX0_counts_0 23 rfl rfl)
theorem dX0_counts_24 : decode cX0_counts 24 = .ok (.bipush (-2), 2) := dk_16 254 (dk_at dksX0_counts_1 0 rfl rfl)
theorem dX0_counts_26 : decode cX0_counts 26 = .ok (.invokevirtual 61, 3) := dk_182 0 61 (dk_at dksX0_counts_1 2 rfl rfl)
theorem dX0_counts_29 : decode cX0_counts 29 = .ok (.ireturn, 1) := dk_172 (dk_at dksX0_counts_1 5 rfl rfl)
theorem dX0_counts_30 : decode cX0_counts 30 = .ok (.aload_n 0, 1) := dk_42 (dk_at dksX0_counts_1 6 rfl rfl)
theorem dX0_counts_31 : decode cX0_counts 31 = .ok (.getfield 45, 3) := dk_180 0 45 (dk_at dksX0_counts_1 7 rfl rfl)
theorem dX0_counts_34 : decode cX0_counts 34 = .ok (.getfield 126, 3) := dk_180 0 126 (dk_at dksX0_counts_1 10 rfl rfl)
theorem dX0_counts_37 : decode cX0_counts 37 = .ok (.iload_n 1, 1) := dk_27 (dk_at dksX0_counts_1 13 rfl rfl)
theorem dX0_counts_38 : decode cX0_counts 38 = .ok (.baload, 1) := dk_51 (dk_at dksX0_counts_1 14 rfl rfl)
theorem dX0_counts_39 : decode cX0_counts 39 = .ok (.istore_n 3, 1) := dk_62 (dk_at dksX0_counts_1 15 rfl rfl)
theorem dX0_counts_40 : decode cX0_counts 40 = .ok (.aload_n 0, 1) := dk_42 (dk_at dksX0_counts_1 16 rfl rfl)
theorem dX0_counts_41 : decode cX0_counts 41 = .ok (.getfield 45, 3) := dk_180 0 45 (dk_at dksX0_counts_1 17 rfl rfl)
theorem dX0_counts_44 : decode cX0_counts 44 = .ok (.getfield 126, 3) := dk_180 0 126 (dk_at dksX0_counts_1 20 rfl rfl)
theorem dX0_counts_47 : decode cX0_counts 47 = .ok (.iload_n 1, 1) := dk_27 (dk_at dksX0_counts_1 23 rfl rfl)
theorem dX0_counts_48 : decode cX0_counts 48 = .ok (.iload_n 2, 1) := dk_28 (dk_at dksX0_counts_2 0 rfl rfl)
theorem dX0_counts_49 : decode cX0_counts 49 = .ok (.iconst 1, 1) := dk_4 (dk_at dksX0_counts_2 1 rfl rfl)
theorem dX0_counts_50 : decode cX0_counts 50 = .ok (.if_icmp .ne 7, 3) := dk_160 0 7 (dk_at dksX0_counts_2 2 rfl rfl)
theorem dX0_counts_53 : decode cX0_counts 53 = .ok (.iconst 1, 1) := dk_4 (dk_at dksX0_counts_2 5 rfl rfl)
theorem dX0_counts_54 : decode cX0_counts 54 = .ok (.goto 4, 3) := dk_167 0 4 (dk_at dksX0_counts_2 6 rfl rfl)
theorem dX0_counts_57 : decode cX0_counts 57 = .ok (.iconst 0, 1) := dk_3 (dk_at dksX0_counts_2 9 rfl rfl)
theorem dX0_counts_58 : decode cX0_counts 58 = .ok (.bastore, 1) := dk_84 (dk_at dksX0_counts_2 10 rfl rfl)
theorem dX0_counts_59 : decode cX0_counts 59 = .ok (.aload_n 0, 1) := dk_42 (dk_at dksX0_counts_2 11 rfl rfl)
theorem dX0_counts_60 : decode cX0_counts 60 = .ok (.iload_n 3, 1) := dk_29 (dk_at dksX0_counts_2 12 rfl rfl)
theorem dX0_counts_61 : decode cX0_counts 61 = .ok (.ifCond .eq 7, 3) := dk_153 0 7 (dk_at dksX0_counts_2 13 rfl rfl)
theorem dX0_counts_64 : decode cX0_counts 64 = .ok (.iconst 1, 1) := dk_4 (dk_at dksX0_counts_2 16 rfl rfl)
theorem dX0_counts_65 : decode cX0_counts 65 = .ok (.goto 4, 3) := dk_167 0 4 (dk_at dksX0_counts_2 17 rfl rfl)
theorem dX0_counts_68 : decode cX0_counts 68 = .ok (.iconst 0, 1) := dk_3 (dk_at dksX0_counts_2 20 rfl rfl)
theorem dX0_counts_69 : decode cX0_counts 69 = .ok (.invokevirtual 76, 3) := dk_182 0 76 (dk_at dksX0_counts_2 21 rfl rfl)
theorem dX0_counts_72 : decode cX0_counts 72 = .ok (.ireturn, 1) := dk_172 (dk_at dksX0_counts_3 0 rfl rfl)
abbrev cX0_isEntry : ByteArray := prog_1_method_9_code
def yX0_isEntry : MethodName := ⟨RX0, "isEntry", "(I)Z"⟩
def dkwX0_isEntry_0 : List UInt8 := [27, 3, 42, 180, 0, 45, 180, 0, 49, 182, 0, 55, 4, 100, 184, 0, 41, 172]
abbrev dktX0_isEntry_0 : List UInt8 := dkwX0_isEntry_0 ++ []
theorem dksX0_isEntry_0 : cX0_isEntry.data.toList.drop 0 = dktX0_isEntry_0 := by decide +kernel
theorem dX0_isEntry_0 : decode cX0_isEntry 0 = .ok (.iload_n 1, 1) := dk_27 (dk_at dksX0_isEntry_0 0 rfl rfl)
theorem dX0_isEntry_1 : decode cX0_isEntry 1 = .ok (.iconst 0, 1) := dk_3 (dk_at dksX0_isEntry_0 1 rfl rfl)
theorem dX0_isEntry_2 : decode cX0_isEntry 2 = .ok (.aload_n 0, 1) := dk_42 (dk_at dksX0_isEntry_0 2 rfl rfl)
theorem dX0_isEntry_3 : decode cX0_isEntry 3 = .ok (.getfield 45, 3) := dk_180 0 45 (dk_at dksX0_isEntry_0 3 rfl rfl)
theorem dX0_isEntry_6 : decode cX0_isEntry 6 = .ok (.getfield 49, 3) := dk_180 0 49 (dk_at dksX0_isEntry_0 6 rfl rfl)
theorem dX0_isEntry_9 : decode cX0_isEntry 9 = .ok (.invokevirtual 55, 3) := dk_182 0 55 (dk_at dksX0_isEntry_0 9 rfl rfl)
theorem dX0_isEntry_12 : decode cX0_isEntry 12 = .ok (.iconst 1, 1) := dk_4 (dk_at dksX0_isEntry_0 12 rfl rfl)
theorem dX0_isEntry_13 : decode cX0_isEntry 13 = .ok (.isub, 1) := dk_100 (dk_at dksX0_isEntry_0 13 rfl rfl)
theorem dX0_isEntry_14 : decode cX0_isEntry 14 = .ok (.invokestatic 41, 3) := dk_184 0 41 (dk_at dksX0_isEntry_0 14 rfl rfl)
theorem dX0_isEntry_17 : decode cX0_isEntry 17 = .ok (.ireturn, 1) := dk_172 (dk_at dksX0_isEntry_0 17 rfl rfl)
abbrev cX0_of : ByteArray := prog_1_method_19_code
def yX0_of : MethodName := ⟨RX0, "of", "(II)I"⟩
def dkwX0_of_5 : List UInt8 := [172]
abbrev dktX0_of_5 : List UInt8 := dkwX0_of_5 ++ []
def dkwX0_of_4 : List UInt8 := [180, 0, 126, 27, 51, 153, 0, 7, 4, 167, 0, 4, 3, 172, 42, 180, 0, 45, 45, 182, 0, 146, 172, 2]
abbrev dktX0_of_4 : List UInt8 := dkwX0_of_4 ++ dktX0_of_5
def dkwX0_of_3 : List UInt8 := [45, 180, 0, 134, 172, 45, 180, 0, 137, 172, 45, 180, 0, 140, 172, 45, 180, 0, 143, 172, 42, 180, 0, 45]
abbrev dktX0_of_3 : List UInt8 := dkwX0_of_3 ++ dktX0_of_4
def dkwX0_of_2 : List UInt8 := [170, 0, 0, 0, 0, 85, 0, 0, 0, 0, 0, 0, 0, 5, 0, 0, 0, 38, 0, 0, 0, 43, 0, 0, 0, 48, 0, 0, 0, 53, 0, 0, 0, 58, 0, 0, 0, 76]
abbrev dktX0_of_2 : List UInt8 := dkwX0_of_2 ++ dktX0_of_3
def dkwX0_of_1 : List UInt8 := [78, 28]
abbrev dktX0_of_1 : List UInt8 := dkwX0_of_1 ++ dktX0_of_2
def dkwX0_of_0 : List UInt8 := [42, 27, 182, 0, 123, 154, 0, 5, 2, 172, 42, 180, 0, 45, 180, 0, 49, 27, 182, 0, 130, 192, 0, 114]
abbrev dktX0_of_0 : List UInt8 := dkwX0_of_0 ++ dktX0_of_1
theorem dksX0_of_0 : cX0_of.data.toList.drop 0 = dktX0_of_0 := by decide +kernel
theorem dksX0_of_1 : cX0_of.data.toList.drop 24 = dktX0_of_1 := dk_seg dksX0_of_0 24 rfl rfl
theorem dksX0_of_2 : cX0_of.data.toList.drop 26 = dktX0_of_2 := dk_seg dksX0_of_1 2 rfl rfl
theorem dksX0_of_3 : cX0_of.data.toList.drop 64 = dktX0_of_3 := dk_seg dksX0_of_2 38 rfl rfl
theorem dksX0_of_4 : cX0_of.data.toList.drop 88 = dktX0_of_4 := dk_seg dksX0_of_3 24 rfl rfl
theorem dksX0_of_5 : cX0_of.data.toList.drop 112 = dktX0_of_5 := dk_seg dksX0_of_4 24 rfl rfl
theorem dX0_of_0 : decode cX0_of 0 = .ok (.aload_n 0, 1) := dk_42 (dk_at dksX0_of_0 0 rfl rfl)
theorem dX0_of_1 : decode cX0_of 1 = .ok (.iload_n 1, 1) := dk_27 (dk_at dksX0_of_0 1 rfl rfl)
theorem dX0_of_2 : decode cX0_of 2 = .ok (.invokevirtual 123, 3) := dk_182 0 123 (dk_at dksX0_of_0 2 rfl rfl)
theorem dX0_of_5 : decode cX0_of 5 = .ok (.ifCond .ne 5, 3) := dk_154 0 5 (dk_at dksX0_of_0 5 rfl rfl)
theorem dX0_of_8 : decode cX0_of 8 = .ok (.iconst (-1), 1) := dk_2 (dk_at dksX0_of_0 8 rfl rfl)
theorem dX0_of_9 : decode cX0_of 9 = .ok (.ireturn, 1) := dk_172 (dk_at dksX0_of_0 9 rfl rfl)
theorem dX0_of_10 : decode cX0_of 10 = .ok (.aload_n 0, 1) := dk_42 (dk_at dksX0_of_0 10 rfl rfl)
theorem dX0_of_11 : decode cX0_of 11 = .ok (.getfield 45, 3) := dk_180 0 45 (dk_at dksX0_of_0 11 rfl rfl)
theorem dX0_of_14 : decode cX0_of 14 = .ok (.getfield 49, 3) := dk_180 0 49 (dk_at dksX0_of_0 14 rfl rfl)
theorem dX0_of_17 : decode cX0_of 17 = .ok (.iload_n 1, 1) := dk_27 (dk_at dksX0_of_0 17 rfl rfl)
theorem dX0_of_18 : decode cX0_of 18 = .ok (.invokevirtual 130, 3) := dk_182 0 130 (dk_at dksX0_of_0 18 rfl rfl)
theorem dX0_of_21 : decode cX0_of 21 = .ok (.checkcast 114, 3) := dk_192 0 114 (dk_at dksX0_of_0 21 rfl rfl)
theorem dX0_of_24 : decode cX0_of 24 = .ok (.astore_n 3, 1) := dk_78 (dk_at dksX0_of_1 0 rfl rfl)
theorem dX0_of_25 : decode cX0_of 25 = .ok (.iload_n 2, 1) := dk_28 (dk_at dksX0_of_1 1 rfl rfl)
theorem dX0_of_26 : decode cX0_of 26 = .ok (.tableswitch 85 0 5 #[38, 43, 48, 53, 58, 76], 38) := by decide +kernel
theorem dX0_of_64 : decode cX0_of 64 = .ok (.aload_n 3, 1) := dk_45 (dk_at dksX0_of_3 0 rfl rfl)
theorem dX0_of_65 : decode cX0_of 65 = .ok (.getfield 134, 3) := dk_180 0 134 (dk_at dksX0_of_3 1 rfl rfl)
theorem dX0_of_68 : decode cX0_of 68 = .ok (.ireturn, 1) := dk_172 (dk_at dksX0_of_3 4 rfl rfl)
theorem dX0_of_69 : decode cX0_of 69 = .ok (.aload_n 3, 1) := dk_45 (dk_at dksX0_of_3 5 rfl rfl)
theorem dX0_of_70 : decode cX0_of 70 = .ok (.getfield 137, 3) := dk_180 0 137 (dk_at dksX0_of_3 6 rfl rfl)
theorem dX0_of_73 : decode cX0_of 73 = .ok (.ireturn, 1) := dk_172 (dk_at dksX0_of_3 9 rfl rfl)
theorem dX0_of_74 : decode cX0_of 74 = .ok (.aload_n 3, 1) := dk_45 (dk_at dksX0_of_3 10 rfl rfl)
theorem dX0_of_75 : decode cX0_of 75 = .ok (.getfield 140, 3) := dk_180 0 140 (dk_at dksX0_of_3 11 rfl rfl)
theorem dX0_of_78 : decode cX0_of 78 = .ok (.ireturn, 1) := dk_172 (dk_at dksX0_of_3 14 rfl rfl)
theorem dX0_of_79 : decode cX0_of 79 = .ok (.aload_n 3, 1) := dk_45 (dk_at dksX0_of_3 15 rfl rfl)
theorem dX0_of_80 : decode cX0_of 80 = .ok (.getfield 143, 3) := dk_180 0 143 (dk_at dksX0_of_3 16 rfl rfl)
theorem dX0_of_83 : decode cX0_of 83 = .ok (.ireturn, 1) := dk_172 (dk_at dksX0_of_3 19 rfl rfl)
theorem dX0_of_84 : decode cX0_of 84 = .ok (.aload_n 0, 1) := dk_42 (dk_at dksX0_of_3 20 rfl rfl)
theorem dX0_of_85 : decode cX0_of 85 = .ok (.getfield 45, 3) := dk_180 0 45 (dk_at dksX0_of_3 21 rfl rfl)
theorem dX0_of_88 : decode cX0_of 88 = .ok (.getfield 126, 3) := dk_180 0 126 (dk_at dksX0_of_4 0 rfl rfl)
theorem dX0_of_91 : decode cX0_of 91 = .ok (.iload_n 1, 1) := dk_27 (dk_at dksX0_of_4 3 rfl rfl)
theorem dX0_of_92 : decode cX0_of 92 = .ok (.baload, 1) := dk_51 (dk_at dksX0_of_4 4 rfl rfl)
theorem dX0_of_93 : decode cX0_of 93 = .ok (.ifCond .eq 7, 3) := dk_153 0 7 (dk_at dksX0_of_4 5 rfl rfl)
theorem dX0_of_96 : decode cX0_of 96 = .ok (.iconst 1, 1) := dk_4 (dk_at dksX0_of_4 8 rfl rfl)
theorem dX0_of_97 : decode cX0_of 97 = .ok (.goto 4, 3) := dk_167 0 4 (dk_at dksX0_of_4 9 rfl rfl)
theorem dX0_of_100 : decode cX0_of 100 = .ok (.iconst 0, 1) := dk_3 (dk_at dksX0_of_4 12 rfl rfl)
theorem dX0_of_101 : decode cX0_of 101 = .ok (.ireturn, 1) := dk_172 (dk_at dksX0_of_4 13 rfl rfl)
theorem dX0_of_102 : decode cX0_of 102 = .ok (.aload_n 0, 1) := dk_42 (dk_at dksX0_of_4 14 rfl rfl)
theorem dX0_of_103 : decode cX0_of 103 = .ok (.getfield 45, 3) := dk_180 0 45 (dk_at dksX0_of_4 15 rfl rfl)
theorem dX0_of_106 : decode cX0_of 106 = .ok (.aload_n 3, 1) := dk_45 (dk_at dksX0_of_4 18 rfl rfl)
theorem dX0_of_107 : decode cX0_of 107 = .ok (.invokevirtual 146, 3) := dk_182 0 146 (dk_at dksX0_of_4 19 rfl rfl)
theorem dX0_of_110 : decode cX0_of 110 = .ok (.ireturn, 1) := dk_172 (dk_at dksX0_of_4 22 rfl rfl)
theorem dX0_of_111 : decode cX0_of 111 = .ok (.iconst (-1), 1) := dk_2 (dk_at dksX0_of_4 23 rfl rfl)
theorem dX0_of_112 : decode cX0_of 112 = .ok (.ireturn, 1) := dk_172 (dk_at dksX0_of_5 0 rfl rfl)
abbrev cX0_feed : ByteArray := prog_1_method_20_code
def yX0_feed : MethodName := ⟨RX0, "feed", "(IIIII)I"⟩
def dkwX0_feed_2 : List UInt8 := [172]
abbrev dktX0_feed_2 : List UInt8 := dkwX0_feed_2 ++ []
def dkwX0_feed_1 : List UInt8 := [182, 0, 153, 42, 29, 182, 0, 153, 42, 21, 4, 182, 0, 153, 42, 21, 5, 182, 0, 153, 42, 180, 0, 150]
abbrev dktX0_feed_1 : List UInt8 := dkwX0_feed_1 ++ dktX0_feed_2
def dkwX0_feed_0 : List UInt8 := [42, 180, 0, 150, 16, 20, 96, 17, 1, 144, 164, 0, 5, 2, 172, 42, 27, 182, 0, 153, 42, 28]
abbrev dktX0_feed_0 : List UInt8 := dkwX0_feed_0 ++ dktX0_feed_1
theorem dksX0_feed_0 : cX0_feed.data.toList.drop 0 = dktX0_feed_0 := by decide +kernel
theorem dksX0_feed_1 : cX0_feed.data.toList.drop 22 = dktX0_feed_1 := dk_seg dksX0_feed_0 22 rfl rfl
theorem dksX0_feed_2 : cX0_feed.data.toList.drop 46 = dktX0_feed_2 := dk_seg dksX0_feed_1 24 rfl rfl
theorem dX0_feed_0 : decode cX0_feed 0 = .ok (.aload_n 0, 1) := dk_42 (dk_at dksX0_feed_0 0 rfl rfl)
theorem dX0_feed_1 : decode cX0_feed 1 = .ok (.getfield 150, 3) := dk_180 0 150 (dk_at dksX0_feed_0 1 rfl rfl)
theorem dX0_feed_4 : decode cX0_feed 4 = .ok (.bipush 20, 2) := dk_16 20 (dk_at dksX0_feed_0 4 rfl rfl)
theorem dX0_feed_6 : decode cX0_feed 6 = .ok (.iadd, 1) := dk_96 (dk_at dksX0_feed_0 6 rfl rfl)
theorem dX0_feed_7 : decode cX0_feed 7 = .ok (.sipush 400, 3) := dk_17 1 144 (dk_at dksX0_feed_0 7 rfl rfl)
theorem dX0_feed_10 : decode cX0_feed 10 = .ok (.if_icmp .le 5, 3) := dk_164 0 5 (dk_at dksX0_feed_0 10 rfl rfl)
theorem dX0_feed_13 : decode cX0_feed 13 = .ok (.iconst (-1), 1) := dk_2 (dk_at dksX0_feed_0 13 rfl rfl)
theorem dX0_feed_14 : decode cX0_feed 14 = .ok (.ireturn, 1) := dk_172 (dk_at dksX0_feed_0 14 rfl rfl)
theorem dX0_feed_15 : decode cX0_feed 15 = .ok (.aload_n 0, 1) := dk_42 (dk_at dksX0_feed_0 15 rfl rfl)
theorem dX0_feed_16 : decode cX0_feed 16 = .ok (.iload_n 1, 1) := dk_27 (dk_at dksX0_feed_0 16 rfl rfl)
theorem dX0_feed_17 : decode cX0_feed 17 = .ok (.invokevirtual 153, 3) := dk_182 0 153 (dk_at dksX0_feed_0 17 rfl rfl)
theorem dX0_feed_20 : decode cX0_feed 20 = .ok (.aload_n 0, 1) := dk_42 (dk_at dksX0_feed_0 20 rfl rfl)
theorem dX0_feed_21 : decode cX0_feed 21 = .ok (.iload_n 2, 1) := dk_28 (dk_at dksX0_feed_0 21 rfl rfl)
theorem dX0_feed_22 : decode cX0_feed 22 = .ok (.invokevirtual 153, 3) := dk_182 0 153 (dk_at dksX0_feed_1 0 rfl rfl)
theorem dX0_feed_25 : decode cX0_feed 25 = .ok (.aload_n 0, 1) := dk_42 (dk_at dksX0_feed_1 3 rfl rfl)
theorem dX0_feed_26 : decode cX0_feed 26 = .ok (.iload_n 3, 1) := dk_29 (dk_at dksX0_feed_1 4 rfl rfl)
theorem dX0_feed_27 : decode cX0_feed 27 = .ok (.invokevirtual 153, 3) := dk_182 0 153 (dk_at dksX0_feed_1 5 rfl rfl)
theorem dX0_feed_30 : decode cX0_feed 30 = .ok (.aload_n 0, 1) := dk_42 (dk_at dksX0_feed_1 8 rfl rfl)
theorem dX0_feed_31 : decode cX0_feed 31 = .ok (.iload 4, 2) := dk_21 4 (dk_at dksX0_feed_1 9 rfl rfl)
theorem dX0_feed_33 : decode cX0_feed 33 = .ok (.invokevirtual 153, 3) := dk_182 0 153 (dk_at dksX0_feed_1 11 rfl rfl)
theorem dX0_feed_36 : decode cX0_feed 36 = .ok (.aload_n 0, 1) := dk_42 (dk_at dksX0_feed_1 14 rfl rfl)
theorem dX0_feed_37 : decode cX0_feed 37 = .ok (.iload 5, 2) := dk_21 5 (dk_at dksX0_feed_1 15 rfl rfl)
theorem dX0_feed_39 : decode cX0_feed 39 = .ok (.invokevirtual 153, 3) := dk_182 0 153 (dk_at dksX0_feed_1 17 rfl rfl)
theorem dX0_feed_42 : decode cX0_feed 42 = .ok (.aload_n 0, 1) := dk_42 (dk_at dksX0_feed_1 20 rfl rfl)
theorem dX0_feed_43 : decode cX0_feed 43 = .ok (.getfield 150, 3) := dk_180 0 150 (dk_at dksX0_feed_1 21 rfl rfl)
theorem dX0_feed_46 : decode cX0_feed 46 = .ok (.ireturn, 1) := dk_172 (dk_at dksX0_feed_2 0 rfl rfl)
abbrev cX0_four : ByteArray := prog_1_method_21_code
def yX0_four : MethodName := ⟨RX0, "four", "(I)V"⟩
def dkwX0_four_1 : List UInt8 := [180, 0, 150, 4, 96, 181, 0, 150, 132, 2, 248, 167, 255, 226, 177]
abbrev dktX0_four_1 : List UInt8 := dkwX0_four_1 ++ []
def dkwX0_four_0 : List UInt8 := [16, 24, 61, 28, 155, 0, 32, 42, 180, 0, 156, 42, 180, 0, 150, 27, 28, 122, 145, 84, 42, 89]
abbrev dktX0_four_0 : List UInt8 := dkwX0_four_0 ++ dktX0_four_1
theorem dksX0_four_0 : cX0_four.data.toList.drop 0 = dktX0_four_0 := by decide +kernel
theorem dksX0_four_1 : cX0_four.data.toList.drop 22 = dktX0_four_1 := dk_seg dksX0_four_0 22 rfl rfl
theorem dX0_four_0 : decode cX0_four 0 = .ok (.bipush 24, 2) := dk_16 24 (dk_at dksX0_four_0 0 rfl rfl)
theorem dX0_four_2 : decode cX0_four 2 = .ok (.istore_n 2, 1) := dk_61 (dk_at dksX0_four_0 2 rfl rfl)
theorem dX0_four_3 : decode cX0_four 3 = .ok (.iload_n 2, 1) := dk_28 (dk_at dksX0_four_0 3 rfl rfl)
theorem dX0_four_4 : decode cX0_four 4 = .ok (.ifCond .lt 32, 3) := dk_155 0 32 (dk_at dksX0_four_0 4 rfl rfl)
theorem dX0_four_7 : decode cX0_four 7 = .ok (.aload_n 0, 1) := dk_42 (dk_at dksX0_four_0 7 rfl rfl)
theorem dX0_four_8 : decode cX0_four 8 = .ok (.getfield 156, 3) := dk_180 0 156 (dk_at dksX0_four_0 8 rfl rfl)
theorem dX0_four_11 : decode cX0_four 11 = .ok (.aload_n 0, 1) := dk_42 (dk_at dksX0_four_0 11 rfl rfl)
theorem dX0_four_12 : decode cX0_four 12 = .ok (.getfield 150, 3) := dk_180 0 150 (dk_at dksX0_four_0 12 rfl rfl)
theorem dX0_four_15 : decode cX0_four 15 = .ok (.iload_n 1, 1) := dk_27 (dk_at dksX0_four_0 15 rfl rfl)
theorem dX0_four_16 : decode cX0_four 16 = .ok (.iload_n 2, 1) := dk_28 (dk_at dksX0_four_0 16 rfl rfl)
theorem dX0_four_17 : decode cX0_four 17 = .ok (.ishr, 1) := dk_122 (dk_at dksX0_four_0 17 rfl rfl)
theorem dX0_four_18 : decode cX0_four 18 = .ok (.i2b, 1) := dk_145 (dk_at dksX0_four_0 18 rfl rfl)
theorem dX0_four_19 : decode cX0_four 19 = .ok (.bastore, 1) := dk_84 (dk_at dksX0_four_0 19 rfl rfl)
theorem dX0_four_20 : decode cX0_four 20 = .ok (.aload_n 0, 1) := dk_42 (dk_at dksX0_four_0 20 rfl rfl)
theorem dX0_four_21 : decode cX0_four 21 = .ok (.dup, 1) := dk_89 (dk_at dksX0_four_0 21 rfl rfl)
theorem dX0_four_22 : decode cX0_four 22 = .ok (.getfield 150, 3) := dk_180 0 150 (dk_at dksX0_four_1 0 rfl rfl)
theorem dX0_four_25 : decode cX0_four 25 = .ok (.iconst 1, 1) := dk_4 (dk_at dksX0_four_1 3 rfl rfl)
theorem dX0_four_26 : decode cX0_four 26 = .ok (.iadd, 1) := dk_96 (dk_at dksX0_four_1 4 rfl rfl)
theorem dX0_four_27 : decode cX0_four 27 = .ok (.putfield 150, 3) := dk_181 0 150 (dk_at dksX0_four_1 5 rfl rfl)
theorem dX0_four_30 : decode cX0_four 30 = .ok (.iinc 2 (-8), 3) := dk_132 2 248 (dk_at dksX0_four_1 8 rfl rfl)
theorem dX0_four_33 : decode cX0_four 33 = .ok (.goto (-30), 3) := dk_167 255 226 (dk_at dksX0_four_1 11 rfl rfl)
theorem dX0_four_36 : decode cX0_four 36 = .ok (.return_, 1) := dk_177 (dk_at dksX0_four_1 14 rfl rfl)
abbrev cX0_end : ByteArray := prog_1_method_22_code
def yX0_end : MethodName := ⟨RX0, "end", "(I)I"⟩
def dkwX0_end_0 : List UInt8 := [27, 155, 0, 11, 27, 42, 180, 0, 150, 164, 0, 5, 2, 172, 42, 27, 181, 0, 150, 27, 172]
abbrev dktX0_end_0 : List UInt8 := dkwX0_end_0 ++ []
theorem dksX0_end_0 : cX0_end.data.toList.drop 0 = dktX0_end_0 := by decide +kernel
theorem dX0_end_0 : decode cX0_end 0 = .ok (.iload_n 1, 1) := dk_27 (dk_at dksX0_end_0 0 rfl rfl)
theorem dX0_end_1 : decode cX0_end 1 = .ok (.ifCond .lt 11, 3) := dk_155 0 11 (dk_at dksX0_end_0 1 rfl rfl)
theorem dX0_end_4 : decode cX0_end 4 = .ok (.iload_n 1, 1) := dk_27 (dk_at dksX0_end_0 4 rfl rfl)
theorem dX0_end_5 : decode cX0_end 5 = .ok (.aload_n 0, 1) := dk_42 (dk_at dksX0_end_0 5 rfl rfl)
theorem dX0_end_6 : decode cX0_end 6 = .ok (.getfield 150, 3) := dk_180 0 150 (dk_at dksX0_end_0 6 rfl rfl)
theorem dX0_end_9 : decode cX0_end 9 = .ok (.if_icmp .le 5, 3) := dk_164 0 5 (dk_at dksX0_end_0 9 rfl rfl)
theorem dX0_end_12 : decode cX0_end 12 = .ok (.iconst (-1), 1) := dk_2 (dk_at dksX0_end_0 12 rfl rfl)
theorem dX0_end_13 : decode cX0_end 13 = .ok (.ireturn, 1) := dk_172 (dk_at dksX0_end_0 13 rfl rfl)
theorem dX0_end_14 : decode cX0_end 14 = .ok (.aload_n 0, 1) := dk_42 (dk_at dksX0_end_0 14 rfl rfl)
theorem dX0_end_15 : decode cX0_end 15 = .ok (.iload_n 1, 1) := dk_27 (dk_at dksX0_end_0 15 rfl rfl)
theorem dX0_end_16 : decode cX0_end 16 = .ok (.putfield 150, 3) := dk_181 0 150 (dk_at dksX0_end_0 16 rfl rfl)
theorem dX0_end_19 : decode cX0_end 19 = .ok (.iload_n 1, 1) := dk_27 (dk_at dksX0_end_0 19 rfl rfl)
theorem dX0_end_20 : decode cX0_end 20 = .ok (.ireturn, 1) := dk_172 (dk_at dksX0_end_0 20 rfl rfl)
abbrev cX0_row : ByteArray := prog_1_method_23_code
def yX0_row : MethodName := ⟨RX0, "row", "()I"⟩
def dkwX0_row_8 : List UInt8 := [167, 255, 107, 42, 28, 182, 0, 76, 172]
abbrev dktX0_row_8 : List UInt8 := dkwX0_row_8 ++ []
def dkwX0_row_7 : List UInt8 := [96, 61, 42, 89, 180, 0, 160, 21, 4, 153, 0, 7, 3, 167, 0, 4, 4, 96, 181, 0, 160, 132, 3, 4]
abbrev dktX0_row_7 : List UInt8 := dkwX0_row_7 ++ dktX0_row_8
def dkwX0_row_6 : List UInt8 := [180, 0, 156, 29, 6, 96, 51, 183, 0, 116, 182, 0, 119, 28, 21, 4, 153, 0, 7, 4, 167, 0, 4, 3]
abbrev dktX0_row_6 : List UInt8 := dkwX0_row_6 ++ dktX0_row_7
def dkwX0_row_5 : List UInt8 := [89, 42, 180, 0, 156, 29, 51, 42, 180, 0, 156, 29, 4, 96, 51, 42, 180, 0, 156, 29, 5, 96, 51, 42]
abbrev dktX0_row_5 : List UInt8 := dkwX0_row_5 ++ dktX0_row_6
def dkwX0_row_4 : List UInt8 := [16, 24, 162, 0, 7, 4, 167, 0, 4, 3, 54, 4, 21, 4, 153, 0, 47, 42, 180, 0, 45, 187, 0, 114]
abbrev dktX0_row_4 : List UInt8 := dkwX0_row_4 ++ dktX0_row_5
def dkwX0_row_3 : List UInt8 := [180, 0, 156, 29, 6, 96, 51, 184, 0, 110, 153, 0, 22, 42, 180, 0, 45, 180, 0, 49, 182, 0, 55]
abbrev dktX0_row_3 : List UInt8 := dkwX0_row_3 ++ dktX0_row_4
def dkwX0_row_2 : List UInt8 := [180, 0, 156, 29, 51, 42, 180, 0, 156, 29, 4, 96, 51, 42, 180, 0, 156, 29, 5, 96, 51, 42]
abbrev dktX0_row_2 : List UInt8 := dkwX0_row_2 ++ dktX0_row_3
def dkwX0_row_1 : List UInt8 := [27, 7, 112, 154, 0, 7, 3, 167, 0, 4, 4, 181, 0, 160, 3, 62, 29, 7, 96, 27, 163, 0, 148, 42]
abbrev dktX0_row_1 : List UInt8 := dkwX0_row_1 ++ dktX0_row_2
def dkwX0_row_0 : List UInt8 := [42, 180, 0, 150, 60, 42, 3, 181, 0, 150, 27, 154, 0, 10, 42, 16, 250, 182, 0, 61, 172, 3, 61, 42]
abbrev dktX0_row_0 : List UInt8 := dkwX0_row_0 ++ dktX0_row_1
theorem dksX0_row_0 : cX0_row.data.toList.drop 0 = dktX0_row_0 := by decide +kernel
theorem dksX0_row_1 : cX0_row.data.toList.drop 24 = dktX0_row_1 := dk_seg dksX0_row_0 24 rfl rfl
theorem dksX0_row_2 : cX0_row.data.toList.drop 48 = dktX0_row_2 := dk_seg dksX0_row_1 24 rfl rfl
theorem dksX0_row_3 : cX0_row.data.toList.drop 70 = dktX0_row_3 := dk_seg dksX0_row_2 22 rfl rfl
theorem dksX0_row_4 : cX0_row.data.toList.drop 93 = dktX0_row_4 := dk_seg dksX0_row_3 23 rfl rfl
theorem dksX0_row_5 : cX0_row.data.toList.drop 117 = dktX0_row_5 := dk_seg dksX0_row_4 24 rfl rfl
theorem dksX0_row_6 : cX0_row.data.toList.drop 141 = dktX0_row_6 := dk_seg dksX0_row_5 24 rfl rfl
theorem dksX0_row_7 : cX0_row.data.toList.drop 165 = dktX0_row_7 := dk_seg dksX0_row_6 24 rfl rfl
theorem dksX0_row_8 : cX0_row.data.toList.drop 189 = dktX0_row_8 := dk_seg dksX0_row_7 24 rfl rfl
theorem dX0_row_0 : decode cX0_row 0 = .ok (.aload_n 0, 1) := dk_42 (dk_at dksX0_row_0 0 rfl rfl)
theorem dX0_row_1 : decode cX0_row 1 = .ok (.getfield 150, 3) := dk_180 0 150 (dk_at dksX0_row_0 1 rfl rfl)
theorem dX0_row_4 : decode cX0_row 4 = .ok (.istore_n 1, 1) := dk_60 (dk_at dksX0_row_0 4 rfl rfl)
theorem dX0_row_5 : decode cX0_row 5 = .ok (.aload_n 0, 1) := dk_42 (dk_at dksX0_row_0 5 rfl rfl)
theorem dX0_row_6 : decode cX0_row 6 = .ok (.iconst 0, 1) := dk_3 (dk_at dksX0_row_0 6 rfl rfl)
theorem dX0_row_7 : decode cX0_row 7 = .ok (.putfield 150, 3) := dk_181 0 150 (dk_at dksX0_row_0 7 rfl rfl)
theorem dX0_row_10 : decode cX0_row 10 = .ok (.iload_n 1, 1) := dk_27 (dk_at dksX0_row_0 10 rfl rfl)
theorem dX0_row_11 : decode cX0_row 11 = .ok (.ifCond .ne 10, 3) := dk_154 0 10 (dk_at dksX0_row_0 11 rfl rfl)
theorem dX0_row_14 : decode cX0_row 14 = .ok (.aload_n 0, 1) := dk_42 (dk_at dksX0_row_0 14 rfl rfl)
theorem dX0_row_15 : decode cX0_row 15 = .ok (.bipush (-6), 2) := dk_16 250 (dk_at dksX0_row_0 15 rfl rfl)
theorem dX0_row_17 : decode cX0_row 17 = .ok (.invokevirtual 61, 3) := dk_182 0 61 (dk_at dksX0_row_0 17 rfl rfl)
theorem dX0_row_20 : decode cX0_row 20 = .ok (.ireturn, 1) := dk_172 (dk_at dksX0_row_0 20 rfl rfl)
theorem dX0_row_21 : decode cX0_row 21 = .ok (.iconst 0, 1) := dk_3 (dk_at dksX0_row_0 21 rfl rfl)
theorem dX0_row_22 : decode cX0_row 22 = .ok (.istore_n 2, 1) := dk_61 (dk_at dksX0_row_0 22 rfl rfl)
theorem dX0_row_23 : decode cX0_row 23 = .ok (.aload_n 0, 1) := dk_42 (dk_at dksX0_row_0 23 rfl rfl)
theorem dX0_row_24 : decode cX0_row 24 = .ok (.iload_n 1, 1) := dk_27 (dk_at dksX0_row_1 0 rfl rfl)
theorem dX0_row_25 : decode cX0_row 25 = .ok (.iconst 4, 1) := dk_7 (dk_at dksX0_row_1 1 rfl rfl)
theorem dX0_row_26 : decode cX0_row 26 = .ok (.irem, 1) := dk_112 (dk_at dksX0_row_1 2 rfl rfl)
theorem dX0_row_27 : decode cX0_row 27 = .ok (.ifCond .ne 7, 3) := dk_154 0 7 (dk_at dksX0_row_1 3 rfl rfl)
theorem dX0_row_30 : decode cX0_row 30 = .ok (.iconst 0, 1) := dk_3 (dk_at dksX0_row_1 6 rfl rfl)
theorem dX0_row_31 : decode cX0_row 31 = .ok (.goto 4, 3) := dk_167 0 4 (dk_at dksX0_row_1 7 rfl rfl)
theorem dX0_row_34 : decode cX0_row 34 = .ok (.iconst 1, 1) := dk_4 (dk_at dksX0_row_1 10 rfl rfl)
theorem dX0_row_35 : decode cX0_row 35 = .ok (.putfield 160, 3) := dk_181 0 160 (dk_at dksX0_row_1 11 rfl rfl)
theorem dX0_row_38 : decode cX0_row 38 = .ok (.iconst 0, 1) := dk_3 (dk_at dksX0_row_1 14 rfl rfl)
theorem dX0_row_39 : decode cX0_row 39 = .ok (.istore_n 3, 1) := dk_62 (dk_at dksX0_row_1 15 rfl rfl)
theorem dX0_row_40 : decode cX0_row 40 = .ok (.iload_n 3, 1) := dk_29 (dk_at dksX0_row_1 16 rfl rfl)
theorem dX0_row_41 : decode cX0_row 41 = .ok (.iconst 4, 1) := dk_7 (dk_at dksX0_row_1 17 rfl rfl)
theorem dX0_row_42 : decode cX0_row 42 = .ok (.iadd, 1) := dk_96 (dk_at dksX0_row_1 18 rfl rfl)
theorem dX0_row_43 : decode cX0_row 43 = .ok (.iload_n 1, 1) := dk_27 (dk_at dksX0_row_1 19 rfl rfl)
theorem dX0_row_44 : decode cX0_row 44 = .ok (.if_icmp .gt 148, 3) := dk_163 0 148 (dk_at dksX0_row_1 20 rfl rfl)
theorem dX0_row_47 : decode cX0_row 47 = .ok (.aload_n 0, 1) := dk_42 (dk_at dksX0_row_1 23 rfl rfl)
theorem dX0_row_48 : decode cX0_row 48 = .ok (.getfield 156, 3) := dk_180 0 156 (dk_at dksX0_row_2 0 rfl rfl)
theorem dX0_row_51 : decode cX0_row 51 = .ok (.iload_n 3, 1) := dk_29 (dk_at dksX0_row_2 3 rfl rfl)
theorem dX0_row_52 : decode cX0_row 52 = .ok (.baload, 1) := dk_51 (dk_at dksX0_row_2 4 rfl rfl)
theorem dX0_row_53 : decode cX0_row 53 = .ok (.aload_n 0, 1) := dk_42 (dk_at dksX0_row_2 5 rfl rfl)
theorem dX0_row_54 : decode cX0_row 54 = .ok (.getfield 156, 3) := dk_180 0 156 (dk_at dksX0_row_2 6 rfl rfl)
theorem dX0_row_57 : decode cX0_row 57 = .ok (.iload_n 3, 1) := dk_29 (dk_at dksX0_row_2 9 rfl rfl)
theorem dX0_row_58 : decode cX0_row 58 = .ok (.iconst 1, 1) := dk_4 (dk_at dksX0_row_2 10 rfl rfl)
theorem dX0_row_59 : decode cX0_row 59 = .ok (.iadd, 1) := dk_96 (dk_at dksX0_row_2 11 rfl rfl)
theorem dX0_row_60 : decode cX0_row 60 = .ok (.baload, 1) := dk_51 (dk_at dksX0_row_2 12 rfl rfl)
theorem dX0_row_61 : decode cX0_row 61 = .ok (.aload_n 0, 1) := dk_42 (dk_at dksX0_row_2 13 rfl rfl)
theorem dX0_row_62 : decode cX0_row 62 = .ok (.getfield 156, 3) := dk_180 0 156 (dk_at dksX0_row_2 14 rfl rfl)
theorem dX0_row_65 : decode cX0_row 65 = .ok (.iload_n 3, 1) := dk_29 (dk_at dksX0_row_2 17 rfl rfl)
theorem dX0_row_66 : decode cX0_row 66 = .ok (.iconst 2, 1) := dk_5 (dk_at dksX0_row_2 18 rfl rfl)
theorem dX0_row_67 : decode cX0_row 67 = .ok (.iadd, 1) := dk_96 (dk_at dksX0_row_2 19 rfl rfl)
theorem dX0_row_68 : decode cX0_row 68 = .ok (.baload, 1) := dk_51 (dk_at dksX0_row_2 20 rfl rfl)
theorem dX0_row_69 : decode cX0_row 69 = .ok (.aload_n 0, 1) := dk_42 (dk_at dksX0_row_2 21 rfl rfl)
theorem dX0_row_70 : decode cX0_row 70 = .ok (.getfield 156, 3) := dk_180 0 156 (dk_at dksX0_row_3 0 rfl rfl)
theorem dX0_row_73 : decode cX0_row 73 = .ok (.iload_n 3, 1) := dk_29 (dk_at dksX0_row_3 3 rfl rfl)
theorem dX0_row_74 : decode cX0_row 74 = .ok (.iconst 3, 1) := dk_6 (dk_at dksX0_row_3 4 rfl rfl)
theorem dX0_row_75 : decode cX0_row 75 = .ok (.iadd, 1) := dk_96 (dk_at dksX0_row_3 5 rfl rfl)
theorem dX0_row_76 : decode cX0_row 76 = .ok (.baload, 1) := dk_51 (dk_at dksX0_row_3 6 rfl rfl)
theorem dX0_row_77 : decode cX0_row 77 = .ok (.invokestatic 110, 3) := dk_184 0 110 (dk_at dksX0_row_3 7 rfl rfl)
theorem dX0_row_80 : decode cX0_row 80 = .ok (.ifCond .eq 22, 3) := dk_153 0 22 (dk_at dksX0_row_3 10 rfl rfl)
theorem dX0_row_83 : decode cX0_row 83 = .ok (.aload_n 0, 1) := dk_42 (dk_at dksX0_row_3 13 rfl rfl)
theorem dX0_row_84 : decode cX0_row 84 = .ok (.getfield 45, 3) := dk_180 0 45 (dk_at dksX0_row_3 14 rfl rfl)
theorem dX0_row_87 : decode cX0_row 87 = .ok (.getfield 49, 3) := dk_180 0 49 (dk_at dksX0_row_3 17 rfl rfl)
theorem dX0_row_90 : decode cX0_row 90 = .ok (.invokevirtual 55, 3) := dk_182 0 55 (dk_at dksX0_row_3 20 rfl rfl)
theorem dX0_row_93 : decode cX0_row 93 = .ok (.bipush 24, 2) := dk_16 24 (dk_at dksX0_row_4 0 rfl rfl)
theorem dX0_row_95 : decode cX0_row 95 = .ok (.if_icmp .ge 7, 3) := dk_162 0 7 (dk_at dksX0_row_4 2 rfl rfl)
theorem dX0_row_98 : decode cX0_row 98 = .ok (.iconst 1, 1) := dk_4 (dk_at dksX0_row_4 5 rfl rfl)
theorem dX0_row_99 : decode cX0_row 99 = .ok (.goto 4, 3) := dk_167 0 4 (dk_at dksX0_row_4 6 rfl rfl)
theorem dX0_row_102 : decode cX0_row 102 = .ok (.iconst 0, 1) := dk_3 (dk_at dksX0_row_4 9 rfl rfl)
theorem dX0_row_103 : decode cX0_row 103 = .ok (.istore 4, 2) := dk_54 4 (dk_at dksX0_row_4 10 rfl rfl)
theorem dX0_row_105 : decode cX0_row 105 = .ok (.iload 4, 2) := dk_21 4 (dk_at dksX0_row_4 12 rfl rfl)
theorem dX0_row_107 : decode cX0_row 107 = .ok (.ifCond .eq 47, 3) := dk_153 0 47 (dk_at dksX0_row_4 14 rfl rfl)
theorem dX0_row_110 : decode cX0_row 110 = .ok (.aload_n 0, 1) := dk_42 (dk_at dksX0_row_4 17 rfl rfl)
theorem dX0_row_111 : decode cX0_row 111 = .ok (.getfield 45, 3) := dk_180 0 45 (dk_at dksX0_row_4 18 rfl rfl)
theorem dX0_row_114 : decode cX0_row 114 = .ok (.new 114, 3) := dk_187 0 114 (dk_at dksX0_row_4 21 rfl rfl)
theorem dX0_row_117 : decode cX0_row 117 = .ok (.dup, 1) := dk_89 (dk_at dksX0_row_5 0 rfl rfl)
theorem dX0_row_118 : decode cX0_row 118 = .ok (.aload_n 0, 1) := dk_42 (dk_at dksX0_row_5 1 rfl rfl)
theorem dX0_row_119 : decode cX0_row 119 = .ok (.getfield 156, 3) := dk_180 0 156 (dk_at dksX0_row_5 2 rfl rfl)
theorem dX0_row_122 : decode cX0_row 122 = .ok (.iload_n 3, 1) := dk_29 (dk_at dksX0_row_5 5 rfl rfl)
theorem dX0_row_123 : decode cX0_row 123 = .ok (.baload, 1) := dk_51 (dk_at dksX0_row_5 6 rfl rfl)
theorem dX0_row_124 : decode cX0_row 124 = .ok (.aload_n 0, 1) := dk_42 (dk_at dksX0_row_5 7 rfl rfl)
theorem dX0_row_125 : decode cX0_row 125 = .ok (.getfield 156, 3) := dk_180 0 156 (dk_at dksX0_row_5 8 rfl rfl)
theorem dX0_row_128 : decode cX0_row 128 = .ok (.iload_n 3, 1) := dk_29 (dk_at dksX0_row_5 11 rfl rfl)
theorem dX0_row_129 : decode cX0_row 129 = .ok (.iconst 1, 1) := dk_4 (dk_at dksX0_row_5 12 rfl rfl)
theorem dX0_row_130 : decode cX0_row 130 = .ok (.iadd, 1) := dk_96 (dk_at dksX0_row_5 13 rfl rfl)
theorem dX0_row_131 : decode cX0_row 131 = .ok (.baload, 1) := dk_51 (dk_at dksX0_row_5 14 rfl rfl)
theorem dX0_row_132 : decode cX0_row 132 = .ok (.aload_n 0, 1) := dk_42 (dk_at dksX0_row_5 15 rfl rfl)
theorem dX0_row_133 : decode cX0_row 133 = .ok (.getfield 156, 3) := dk_180 0 156 (dk_at dksX0_row_5 16 rfl rfl)
theorem dX0_row_136 : decode cX0_row 136 = .ok (.iload_n 3, 1) := dk_29 (dk_at dksX0_row_5 19 rfl rfl)
theorem dX0_row_137 : decode cX0_row 137 = .ok (.iconst 2, 1) := dk_5 (dk_at dksX0_row_5 20 rfl rfl)
theorem dX0_row_138 : decode cX0_row 138 = .ok (.iadd, 1) := dk_96 (dk_at dksX0_row_5 21 rfl rfl)
theorem dX0_row_139 : decode cX0_row 139 = .ok (.baload, 1) := dk_51 (dk_at dksX0_row_5 22 rfl rfl)
theorem dX0_row_140 : decode cX0_row 140 = .ok (.aload_n 0, 1) := dk_42 (dk_at dksX0_row_5 23 rfl rfl)
theorem dX0_row_141 : decode cX0_row 141 = .ok (.getfield 156, 3) := dk_180 0 156 (dk_at dksX0_row_6 0 rfl rfl)
theorem dX0_row_144 : decode cX0_row 144 = .ok (.iload_n 3, 1) := dk_29 (dk_at dksX0_row_6 3 rfl rfl)
theorem dX0_row_145 : decode cX0_row 145 = .ok (.iconst 3, 1) := dk_6 (dk_at dksX0_row_6 4 rfl rfl)
theorem dX0_row_146 : decode cX0_row 146 = .ok (.iadd, 1) := dk_96 (dk_at dksX0_row_6 5 rfl rfl)
theorem dX0_row_147 : decode cX0_row 147 = .ok (.baload, 1) := dk_51 (dk_at dksX0_row_6 6 rfl rfl)
theorem dX0_row_148 : decode cX0_row 148 = .ok (.invokespecial 116, 3) := dk_183 0 116 (dk_at dksX0_row_6 7 rfl rfl)
theorem dX0_row_151 : decode cX0_row 151 = .ok (.invokevirtual 119, 3) := dk_182 0 119 (dk_at dksX0_row_6 10 rfl rfl)
theorem dX0_row_154 : decode cX0_row 154 = .ok (.iload_n 2, 1) := dk_28 (dk_at dksX0_row_6 13 rfl rfl)
theorem dX0_row_155 : decode cX0_row 155 = .ok (.iload 4, 2) := dk_21 4 (dk_at dksX0_row_6 14 rfl rfl)
theorem dX0_row_157 : decode cX0_row 157 = .ok (.ifCond .eq 7, 3) := dk_153 0 7 (dk_at dksX0_row_6 16 rfl rfl)
theorem dX0_row_160 : decode cX0_row 160 = .ok (.iconst 1, 1) := dk_4 (dk_at dksX0_row_6 19 rfl rfl)
theorem dX0_row_161 : decode cX0_row 161 = .ok (.goto 4, 3) := dk_167 0 4 (dk_at dksX0_row_6 20 rfl rfl)
theorem dX0_row_164 : decode cX0_row 164 = .ok (.iconst 0, 1) := dk_3 (dk_at dksX0_row_6 23 rfl rfl)
theorem dX0_row_165 : decode cX0_row 165 = .ok (.iadd, 1) := dk_96 (dk_at dksX0_row_7 0 rfl rfl)
theorem dX0_row_166 : decode cX0_row 166 = .ok (.istore_n 2, 1) := dk_61 (dk_at dksX0_row_7 1 rfl rfl)
theorem dX0_row_167 : decode cX0_row 167 = .ok (.aload_n 0, 1) := dk_42 (dk_at dksX0_row_7 2 rfl rfl)
theorem dX0_row_168 : decode cX0_row 168 = .ok (.dup, 1) := dk_89 (dk_at dksX0_row_7 3 rfl rfl)
theorem dX0_row_169 : decode cX0_row 169 = .ok (.getfield 160, 3) := dk_180 0 160 (dk_at dksX0_row_7 4 rfl rfl)
theorem dX0_row_172 : decode cX0_row 172 = .ok (.iload 4, 2) := dk_21 4 (dk_at dksX0_row_7 7 rfl rfl)
theorem dX0_row_174 : decode cX0_row 174 = .ok (.ifCond .eq 7, 3) := dk_153 0 7 (dk_at dksX0_row_7 9 rfl rfl)
theorem dX0_row_177 : decode cX0_row 177 = .ok (.iconst 0, 1) := dk_3 (dk_at dksX0_row_7 12 rfl rfl)
theorem dX0_row_178 : decode cX0_row 178 = .ok (.goto 4, 3) := dk_167 0 4 (dk_at dksX0_row_7 13 rfl rfl)
theorem dX0_row_181 : decode cX0_row 181 = .ok (.iconst 1, 1) := dk_4 (dk_at dksX0_row_7 16 rfl rfl)
theorem dX0_row_182 : decode cX0_row 182 = .ok (.iadd, 1) := dk_96 (dk_at dksX0_row_7 17 rfl rfl)
theorem dX0_row_183 : decode cX0_row 183 = .ok (.putfield 160, 3) := dk_181 0 160 (dk_at dksX0_row_7 18 rfl rfl)
theorem dX0_row_186 : decode cX0_row 186 = .ok (.iinc 3 4, 3) := dk_132 3 4 (dk_at dksX0_row_7 21 rfl rfl)
theorem dX0_row_189 : decode cX0_row 189 = .ok (.goto (-149), 3) := dk_167 255 107 (dk_at dksX0_row_8 0 rfl rfl)
theorem dX0_row_192 : decode cX0_row 192 = .ok (.aload_n 0, 1) := dk_42 (dk_at dksX0_row_8 3 rfl rfl)
theorem dX0_row_193 : decode cX0_row 193 = .ok (.iload_n 2, 1) := dk_28 (dk_at dksX0_row_8 4 rfl rfl)
theorem dX0_row_194 : decode cX0_row 194 = .ok (.invokevirtual 76, 3) := dk_182 0 76 (dk_at dksX0_row_8 5 rfl rfl)
theorem dX0_row_197 : decode cX0_row 197 = .ok (.ireturn, 1) := dk_172 (dk_at dksX0_row_8 8 rfl rfl)
abbrev cX0_blurred : ByteArray := prog_1_method_24_code
def yX0_blurred : MethodName := ⟨RX0, "blurred", "()I"⟩
theorem dX0_blurred_0 : decode cX0_blurred 0 = .ok (.aload_n 0, 1) := by decide +kernel
theorem dX0_blurred_1 : decode cX0_blurred 1 = .ok (.getfield 160, 3) := by decide +kernel
theorem dX0_blurred_4 : decode cX0_blurred 4 = .ok (.ireturn, 1) := by decide +kernel
abbrev cX0_book : ByteArray := prog_1_method_25_code
def yX0_book : MethodName := ⟨RX0, "book", "()I"⟩
def dkwX0_book_4 : List UInt8 := [44, 180, 0, 179, 182, 0, 55, 182, 0, 76, 172]
abbrev dktX0_book_4 : List UInt8 := dkwX0_book_4 ++ []
def dkwX0_book_3 : List UInt8 := [180, 0, 179, 29, 182, 0, 130, 192, 0, 182, 42, 180, 0, 45, 182, 0, 184, 132, 3, 1, 167, 255, 224, 42]
abbrev dktX0_book_3 : List UInt8 := dkwX0_book_3 ++ dktX0_book_4
def dkwX0_book_2 : List UInt8 := [182, 0, 61, 172, 42, 2, 181, 0, 176, 3, 62, 29, 44, 180, 0, 179, 182, 0, 55, 162, 0, 27, 44]
abbrev dktX0_book_2 : List UInt8 := dkwX0_book_2 ++ dktX0_book_3
def dkwX0_book_1 : List UInt8 := [183, 0, 165, 77, 44, 182, 0, 168, 167, 0, 19, 78, 42, 45, 180, 0, 173, 181, 0, 176, 42, 16, 250]
abbrev dktX0_book_1 : List UInt8 := dkwX0_book_1 ++ dktX0_book_2
def dkwX0_book_0 : List UInt8 := [42, 180, 0, 150, 60, 42, 3, 181, 0, 150, 187, 0, 163, 89, 42, 180, 0, 156, 27, 42, 180, 0, 45]
abbrev dktX0_book_0 : List UInt8 := dkwX0_book_0 ++ dktX0_book_1
theorem dksX0_book_0 : cX0_book.data.toList.drop 0 = dktX0_book_0 := by decide +kernel
theorem dksX0_book_1 : cX0_book.data.toList.drop 23 = dktX0_book_1 := dk_seg dksX0_book_0 23 rfl rfl
theorem dksX0_book_2 : cX0_book.data.toList.drop 46 = dktX0_book_2 := dk_seg dksX0_book_1 23 rfl rfl
theorem dksX0_book_3 : cX0_book.data.toList.drop 69 = dktX0_book_3 := dk_seg dksX0_book_2 23 rfl rfl
theorem dksX0_book_4 : cX0_book.data.toList.drop 93 = dktX0_book_4 := dk_seg dksX0_book_3 24 rfl rfl
theorem dX0_book_0 : decode cX0_book 0 = .ok (.aload_n 0, 1) := dk_42 (dk_at dksX0_book_0 0 rfl rfl)
theorem dX0_book_1 : decode cX0_book 1 = .ok (.getfield 150, 3) := dk_180 0 150 (dk_at dksX0_book_0 1 rfl rfl)
theorem dX0_book_4 : decode cX0_book 4 = .ok (.istore_n 1, 1) := dk_60 (dk_at dksX0_book_0 4 rfl rfl)
theorem dX0_book_5 : decode cX0_book 5 = .ok (.aload_n 0, 1) := dk_42 (dk_at dksX0_book_0 5 rfl rfl)
theorem dX0_book_6 : decode cX0_book 6 = .ok (.iconst 0, 1) := dk_3 (dk_at dksX0_book_0 6 rfl rfl)
theorem dX0_book_7 : decode cX0_book 7 = .ok (.putfield 150, 3) := dk_181 0 150 (dk_at dksX0_book_0 7 rfl rfl)
theorem dX0_book_10 : decode cX0_book 10 = .ok (.new 163, 3) := dk_187 0 163 (dk_at dksX0_book_0 10 rfl rfl)
theorem dX0_book_13 : decode cX0_book 13 = .ok (.dup, 1) := dk_89 (dk_at dksX0_book_0 13 rfl rfl)
theorem dX0_book_14 : decode cX0_book 14 = .ok (.aload_n 0, 1) := dk_42 (dk_at dksX0_book_0 14 rfl rfl)
theorem dX0_book_15 : decode cX0_book 15 = .ok (.getfield 156, 3) := dk_180 0 156 (dk_at dksX0_book_0 15 rfl rfl)
theorem dX0_book_18 : decode cX0_book 18 = .ok (.iload_n 1, 1) := dk_27 (dk_at dksX0_book_0 18 rfl rfl)
theorem dX0_book_19 : decode cX0_book 19 = .ok (.aload_n 0, 1) := dk_42 (dk_at dksX0_book_0 19 rfl rfl)
theorem dX0_book_20 : decode cX0_book 20 = .ok (.getfield 45, 3) := dk_180 0 45 (dk_at dksX0_book_0 20 rfl rfl)
theorem dX0_book_23 : decode cX0_book 23 = .ok (.invokespecial 165, 3) := dk_183 0 165 (dk_at dksX0_book_1 0 rfl rfl)
theorem dX0_book_26 : decode cX0_book 26 = .ok (.astore_n 2, 1) := dk_77 (dk_at dksX0_book_1 3 rfl rfl)
theorem dX0_book_27 : decode cX0_book 27 = .ok (.aload_n 2, 1) := dk_44 (dk_at dksX0_book_1 4 rfl rfl)
theorem dX0_book_28 : decode cX0_book 28 = .ok (.invokevirtual 168, 3) := dk_182 0 168 (dk_at dksX0_book_1 5 rfl rfl)
theorem dX0_book_31 : decode cX0_book 31 = .ok (.goto 19, 3) := dk_167 0 19 (dk_at dksX0_book_1 8 rfl rfl)
theorem dX0_book_34 : decode cX0_book 34 = .ok (.astore_n 3, 1) := dk_78 (dk_at dksX0_book_1 11 rfl rfl)
theorem dX0_book_35 : decode cX0_book 35 = .ok (.aload_n 0, 1) := dk_42 (dk_at dksX0_book_1 12 rfl rfl)
theorem dX0_book_36 : decode cX0_book 36 = .ok (.aload_n 3, 1) := dk_45 (dk_at dksX0_book_1 13 rfl rfl)
theorem dX0_book_37 : decode cX0_book 37 = .ok (.getfield 173, 3) := dk_180 0 173 (dk_at dksX0_book_1 14 rfl rfl)
theorem dX0_book_40 : decode cX0_book 40 = .ok (.putfield 176, 3) := dk_181 0 176 (dk_at dksX0_book_1 17 rfl rfl)
theorem dX0_book_43 : decode cX0_book 43 = .ok (.aload_n 0, 1) := dk_42 (dk_at dksX0_book_1 20 rfl rfl)
theorem dX0_book_44 : decode cX0_book 44 = .ok (.bipush (-6), 2) := dk_16 250 (dk_at dksX0_book_1 21 rfl rfl)
theorem dX0_book_46 : decode cX0_book 46 = .ok (.invokevirtual 61, 3) := dk_182 0 61 (dk_at dksX0_book_2 0 rfl rfl)
theorem dX0_book_49 : decode cX0_book 49 = .ok (.ireturn, 1) := dk_172 (dk_at dksX0_book_2 3 rfl rfl)
theorem dX0_book_50 : decode cX0_book 50 = .ok (.aload_n 0, 1) := dk_42 (dk_at dksX0_book_2 4 rfl rfl)
theorem dX0_book_51 : decode cX0_book 51 = .ok (.iconst (-1), 1) := dk_2 (dk_at dksX0_book_2 5 rfl rfl)
theorem dX0_book_52 : decode cX0_book 52 = .ok (.putfield 176, 3) := dk_181 0 176 (dk_at dksX0_book_2 6 rfl rfl)
theorem dX0_book_55 : decode cX0_book 55 = .ok (.iconst 0, 1) := dk_3 (dk_at dksX0_book_2 9 rfl rfl)
theorem dX0_book_56 : decode cX0_book 56 = .ok (.istore_n 3, 1) := dk_62 (dk_at dksX0_book_2 10 rfl rfl)
theorem dX0_book_57 : decode cX0_book 57 = .ok (.iload_n 3, 1) := dk_29 (dk_at dksX0_book_2 11 rfl rfl)
theorem dX0_book_58 : decode cX0_book 58 = .ok (.aload_n 2, 1) := dk_44 (dk_at dksX0_book_2 12 rfl rfl)
theorem dX0_book_59 : decode cX0_book 59 = .ok (.getfield 179, 3) := dk_180 0 179 (dk_at dksX0_book_2 13 rfl rfl)
theorem dX0_book_62 : decode cX0_book 62 = .ok (.invokevirtual 55, 3) := dk_182 0 55 (dk_at dksX0_book_2 16 rfl rfl)
theorem dX0_book_65 : decode cX0_book 65 = .ok (.if_icmp .ge 27, 3) := dk_162 0 27 (dk_at dksX0_book_2 19 rfl rfl)
theorem dX0_book_68 : decode cX0_book 68 = .ok (.aload_n 2, 1) := dk_44 (dk_at dksX0_book_2 22 rfl rfl)
theorem dX0_book_69 : decode cX0_book 69 = .ok (.getfield 179, 3) := dk_180 0 179 (dk_at dksX0_book_3 0 rfl rfl)
theorem dX0_book_72 : decode cX0_book 72 = .ok (.iload_n 3, 1) := dk_29 (dk_at dksX0_book_3 3 rfl rfl)
theorem dX0_book_73 : decode cX0_book 73 = .ok (.invokevirtual 130, 3) := dk_182 0 130 (dk_at dksX0_book_3 4 rfl rfl)
theorem dX0_book_76 : decode cX0_book 76 = .ok (.checkcast 182, 3) := dk_192 0 182 (dk_at dksX0_book_3 7 rfl rfl)
theorem dX0_book_79 : decode cX0_book 79 = .ok (.aload_n 0, 1) := dk_42 (dk_at dksX0_book_3 10 rfl rfl)
theorem dX0_book_80 : decode cX0_book 80 = .ok (.getfield 45, 3) := dk_180 0 45 (dk_at dksX0_book_3 11 rfl rfl)
theorem dX0_book_83 : decode cX0_book 83 = .ok (.invokevirtual 184, 3) := dk_182 0 184 (dk_at dksX0_book_3 14 rfl rfl)
theorem dX0_book_86 : decode cX0_book 86 = .ok (.iinc 3 1, 3) := dk_132 3 1 (dk_at dksX0_book_3 17 rfl rfl)
theorem dX0_book_89 : decode cX0_book 89 = .ok (.goto (-32), 3) := dk_167 255 224 (dk_at dksX0_book_3 20 rfl rfl)
theorem dX0_book_92 : decode cX0_book 92 = .ok (.aload_n 0, 1) := dk_42 (dk_at dksX0_book_3 23 rfl rfl)
theorem dX0_book_93 : decode cX0_book 93 = .ok (.aload_n 2, 1) := dk_44 (dk_at dksX0_book_4 0 rfl rfl)
theorem dX0_book_94 : decode cX0_book 94 = .ok (.getfield 179, 3) := dk_180 0 179 (dk_at dksX0_book_4 1 rfl rfl)
theorem dX0_book_97 : decode cX0_book 97 = .ok (.invokevirtual 55, 3) := dk_182 0 55 (dk_at dksX0_book_4 4 rfl rfl)
theorem dX0_book_100 : decode cX0_book 100 = .ok (.invokevirtual 76, 3) := dk_182 0 76 (dk_at dksX0_book_4 7 rfl rfl)
theorem dX0_book_103 : decode cX0_book 103 = .ok (.ireturn, 1) := dk_172 (dk_at dksX0_book_4 10 rfl rfl)
abbrev cX0_fault : ByteArray := prog_1_method_26_code
def yX0_fault : MethodName := ⟨RX0, "fault", "()I"⟩
theorem dX0_fault_0 : decode cX0_fault 0 = .ok (.aload_n 0, 1) := by decide +kernel
theorem dX0_fault_1 : decode cX0_fault 1 = .ok (.getfield 176, 3) := by decide +kernel
theorem dX0_fault_4 : decode cX0_fault 4 = .ok (.ireturn, 1) := by decide +kernel
abbrev cX0_init : ByteArray := prog_1_method_27_code
def yX0_init : MethodName := ⟨RX0, "<init>", "()V"⟩
def dkwX0_init_9 : List UInt8 := [183, 0, 116, 83, 132, 1, 1, 167, 255, 225, 177]
abbrev dktX0_init_9 : List UInt8 := dkwX0_init_9 ++ []
def dkwX0_init_8 : List UInt8 := [17, 1, 44, 162, 0, 30, 42, 180, 0, 203, 27, 187, 0, 114, 89, 3, 3, 27, 6, 108, 27, 6, 112]
abbrev dktX0_init_8 : List UInt8 := dkwX0_init_8 ++ dktX0_init_9
def dkwX0_init_7 : List UInt8 := [42, 183, 0, 227, 181, 0, 228, 42, 187, 0, 232, 89, 42, 183, 0, 234, 181, 0, 235, 6, 60, 27]
abbrev dktX0_init_7 : List UInt8 := dkwX0_init_7 ++ dktX0_init_8
def dkwX0_init_6 : List UInt8 := [183, 0, 190, 181, 0, 216, 42, 16, 16, 188, 10, 181, 0, 219, 42, 2, 181, 0, 222, 42, 187, 0, 225, 89]
abbrev dktX0_init_6 : List UInt8 := dkwX0_init_6 ++ dktX0_init_7
def dkwX0_init_5 : List UInt8 := [183, 0, 190, 181, 0, 210, 42, 187, 0, 16, 89, 183, 0, 190, 181, 0, 213, 42, 187, 0, 16, 89]
abbrev dktX0_init_5 : List UInt8 := dkwX0_init_5 ++ dktX0_init_6
def dkwX0_init_4 : List UInt8 := [189, 0, 114, 181, 0, 203, 42, 187, 0, 16, 89, 183, 0, 190, 181, 0, 207, 42, 187, 0, 16, 89]
abbrev dktX0_init_4 : List UInt8 := dkwX0_init_4 ++ dktX0_init_5
def dkwX0_init_3 : List UInt8 := [89, 42, 183, 0, 193, 181, 0, 196, 42, 187, 0, 191, 89, 42, 183, 0, 193, 181, 0, 200, 42, 17, 1, 44]
abbrev dktX0_init_3 : List UInt8 := dkwX0_init_3 ++ dktX0_init_4
def dkwX0_init_2 : List UInt8 := [189, 0, 50, 181, 0, 64, 42, 17, 1, 144, 188, 8, 181, 0, 156, 42, 2, 181, 0, 176, 42, 187, 0, 191]
abbrev dktX0_init_2 : List UInt8 := dkwX0_init_2 ++ dktX0_init_3
def dkwX0_init_1 : List UInt8 := [187, 0, 16, 89, 183, 0, 190, 181, 0, 27, 42, 187, 0, 50, 89, 183, 0, 68, 181, 0, 45, 42, 5]
abbrev dktX0_init_1 : List UInt8 := dkwX0_init_1 ++ dktX0_init_2
def dkwX0_init_0 : List UInt8 := [42, 183, 0, 187, 42, 16, 7, 188, 10, 181, 0, 7, 42, 187, 0, 16, 89, 183, 0, 190, 181, 0, 11, 42]
abbrev dktX0_init_0 : List UInt8 := dkwX0_init_0 ++ dktX0_init_1
theorem dksX0_init_0 : cX0_init.data.toList.drop 0 = dktX0_init_0 := by decide +kernel
theorem dksX0_init_1 : cX0_init.data.toList.drop 24 = dktX0_init_1 := dk_seg dksX0_init_0 24 rfl rfl
theorem dksX0_init_2 : cX0_init.data.toList.drop 47 = dktX0_init_2 := dk_seg dksX0_init_1 23 rfl rfl
theorem dksX0_init_3 : cX0_init.data.toList.drop 71 = dktX0_init_3 := dk_seg dksX0_init_2 24 rfl rfl
theorem dksX0_init_4 : cX0_init.data.toList.drop 95 = dktX0_init_4 := dk_seg dksX0_init_3 24 rfl rfl
theorem dksX0_init_5 : cX0_init.data.toList.drop 117 = dktX0_init_5 := dk_seg dksX0_init_4 22 rfl rfl
theorem dksX0_init_6 : cX0_init.data.toList.drop 139 = dktX0_init_6 := dk_seg dksX0_init_5 22 rfl rfl
theorem dksX0_init_7 : cX0_init.data.toList.drop 163 = dktX0_init_7 := dk_seg dksX0_init_6 24 rfl rfl
theorem dksX0_init_8 : cX0_init.data.toList.drop 185 = dktX0_init_8 := dk_seg dksX0_init_7 22 rfl rfl
theorem dksX0_init_9 : cX0_init.data.toList.drop 208 = dktX0_init_9 := dk_seg dksX0_init_8 23 rfl rfl
theorem dX0_init_0 : decode cX0_init 0 = .ok (.aload_n 0, 1) := dk_42 (dk_at dksX0_init_0 0 rfl rfl)
theorem dX0_init_1 : decode cX0_init 1 = .ok (.invokespecial 187, 3) := dk_183 0 187 (dk_at dksX0_init_0 1 rfl rfl)
theorem dX0_init_4 : decode cX0_init 4 = .ok (.aload_n 0, 1) := dk_42 (dk_at dksX0_init_0 4 rfl rfl)
theorem dX0_init_5 : decode cX0_init 5 = .ok (.bipush 7, 2) := dk_16 7 (dk_at dksX0_init_0 5 rfl rfl)
theorem dX0_init_7 : decode cX0_init 7 = .ok (.newarray .int, 2) := dk_188_10 (dk_at dksX0_init_0 7 rfl rfl)
theorem dX0_init_9 : decode cX0_init 9 = .ok (.putfield 7, 3) := dk_181 0 7 (dk_at dksX0_init_0 9 rfl rfl)
theorem dX0_init_12 : decode cX0_init 12 = .ok (.aload_n 0, 1) := dk_42 (dk_at dksX0_init_0 12 rfl rfl)
theorem dX0_init_13 : decode cX0_init 13 = .ok (.new 16, 3) := dk_187 0 16 (dk_at dksX0_init_0 13 rfl rfl)
theorem dX0_init_16 : decode cX0_init 16 = .ok (.dup, 1) := dk_89 (dk_at dksX0_init_0 16 rfl rfl)
theorem dX0_init_17 : decode cX0_init 17 = .ok (.invokespecial 190, 3) := dk_183 0 190 (dk_at dksX0_init_0 17 rfl rfl)
theorem dX0_init_20 : decode cX0_init 20 = .ok (.putfield 11, 3) := dk_181 0 11 (dk_at dksX0_init_0 20 rfl rfl)
theorem dX0_init_23 : decode cX0_init 23 = .ok (.aload_n 0, 1) := dk_42 (dk_at dksX0_init_0 23 rfl rfl)
theorem dX0_init_24 : decode cX0_init 24 = .ok (.new 16, 3) := dk_187 0 16 (dk_at dksX0_init_1 0 rfl rfl)
theorem dX0_init_27 : decode cX0_init 27 = .ok (.dup, 1) := dk_89 (dk_at dksX0_init_1 3 rfl rfl)
theorem dX0_init_28 : decode cX0_init 28 = .ok (.invokespecial 190, 3) := dk_183 0 190 (dk_at dksX0_init_1 4 rfl rfl)
theorem dX0_init_31 : decode cX0_init 31 = .ok (.putfield 27, 3) := dk_181 0 27 (dk_at dksX0_init_1 7 rfl rfl)
theorem dX0_init_34 : decode cX0_init 34 = .ok (.aload_n 0, 1) := dk_42 (dk_at dksX0_init_1 10 rfl rfl)
theorem dX0_init_35 : decode cX0_init 35 = .ok (.new 50, 3) := dk_187 0 50 (dk_at dksX0_init_1 11 rfl rfl)
theorem dX0_init_38 : decode cX0_init 38 = .ok (.dup, 1) := dk_89 (dk_at dksX0_init_1 14 rfl rfl)
theorem dX0_init_39 : decode cX0_init 39 = .ok (.invokespecial 68, 3) := dk_183 0 68 (dk_at dksX0_init_1 15 rfl rfl)
theorem dX0_init_42 : decode cX0_init 42 = .ok (.putfield 45, 3) := dk_181 0 45 (dk_at dksX0_init_1 18 rfl rfl)
theorem dX0_init_45 : decode cX0_init 45 = .ok (.aload_n 0, 1) := dk_42 (dk_at dksX0_init_1 21 rfl rfl)
theorem dX0_init_46 : decode cX0_init 46 = .ok (.iconst 2, 1) := dk_5 (dk_at dksX0_init_1 22 rfl rfl)
theorem dX0_init_47 : decode cX0_init 47 = .ok (.anewarray 50, 3) := dk_189 0 50 (dk_at dksX0_init_2 0 rfl rfl)
theorem dX0_init_50 : decode cX0_init 50 = .ok (.putfield 64, 3) := dk_181 0 64 (dk_at dksX0_init_2 3 rfl rfl)
theorem dX0_init_53 : decode cX0_init 53 = .ok (.aload_n 0, 1) := dk_42 (dk_at dksX0_init_2 6 rfl rfl)
theorem dX0_init_54 : decode cX0_init 54 = .ok (.sipush 400, 3) := dk_17 1 144 (dk_at dksX0_init_2 7 rfl rfl)
theorem dX0_init_57 : decode cX0_init 57 = .ok (.newarray .byte, 2) := dk_188_8 (dk_at dksX0_init_2 10 rfl rfl)
theorem dX0_init_59 : decode cX0_init 59 = .ok (.putfield 156, 3) := dk_181 0 156 (dk_at dksX0_init_2 12 rfl rfl)
theorem dX0_init_62 : decode cX0_init 62 = .ok (.aload_n 0, 1) := dk_42 (dk_at dksX0_init_2 15 rfl rfl)
theorem dX0_init_63 : decode cX0_init 63 = .ok (.iconst (-1), 1) := dk_2 (dk_at dksX0_init_2 16 rfl rfl)
theorem dX0_init_64 : decode cX0_init 64 = .ok (.putfield 176, 3) := dk_181 0 176 (dk_at dksX0_init_2 17 rfl rfl)
theorem dX0_init_67 : decode cX0_init 67 = .ok (.aload_n 0, 1) := dk_42 (dk_at dksX0_init_2 20 rfl rfl)
theorem dX0_init_68 : decode cX0_init 68 = .ok (.new 191, 3) := dk_187 0 191 (dk_at dksX0_init_2 21 rfl rfl)
theorem dX0_init_71 : decode cX0_init 71 = .ok (.dup, 1) := dk_89 (dk_at dksX0_init_3 0 rfl rfl)
theorem dX0_init_72 : decode cX0_init 72 = .ok (.aload_n 0, 1) := dk_42 (dk_at dksX0_init_3 1 rfl rfl)
theorem dX0_init_73 : decode cX0_init 73 = .ok (.invokespecial 193, 3) := dk_183 0 193 (dk_at dksX0_init_3 2 rfl rfl)
theorem dX0_init_76 : decode cX0_init 76 = .ok (.putfield 196, 3) := dk_181 0 196 (dk_at dksX0_init_3 5 rfl rfl)
theorem dX0_init_79 : decode cX0_init 79 = .ok (.aload_n 0, 1) := dk_42 (dk_at dksX0_init_3 8 rfl rfl)
theorem dX0_init_80 : decode cX0_init 80 = .ok (.new 191, 3) := dk_187 0 191 (dk_at dksX0_init_3 9 rfl rfl)
theorem dX0_init_83 : decode cX0_init 83 = .ok (.dup, 1) := dk_89 (dk_at dksX0_init_3 12 rfl rfl)
theorem dX0_init_84 : decode cX0_init 84 = .ok (.aload_n 0, 1) := dk_42 (dk_at dksX0_init_3 13 rfl rfl)
theorem dX0_init_85 : decode cX0_init 85 = .ok (.invokespecial 193, 3) := dk_183 0 193 (dk_at dksX0_init_3 14 rfl rfl)
theorem dX0_init_88 : decode cX0_init 88 = .ok (.putfield 200, 3) := dk_181 0 200 (dk_at dksX0_init_3 17 rfl rfl)
theorem dX0_init_91 : decode cX0_init 91 = .ok (.aload_n 0, 1) := dk_42 (dk_at dksX0_init_3 20 rfl rfl)
theorem dX0_init_92 : decode cX0_init 92 = .ok (.sipush 300, 3) := dk_17 1 44 (dk_at dksX0_init_3 21 rfl rfl)
theorem dX0_init_95 : decode cX0_init 95 = .ok (.anewarray 114, 3) := dk_189 0 114 (dk_at dksX0_init_4 0 rfl rfl)
theorem dX0_init_98 : decode cX0_init 98 = .ok (.putfield 203, 3) := dk_181 0 203 (dk_at dksX0_init_4 3 rfl rfl)
theorem dX0_init_101 : decode cX0_init 101 = .ok (.aload_n 0, 1) := dk_42 (dk_at dksX0_init_4 6 rfl rfl)
theorem dX0_init_102 : decode cX0_init 102 = .ok (.new 16, 3) := dk_187 0 16 (dk_at dksX0_init_4 7 rfl rfl)
theorem dX0_init_105 : decode cX0_init 105 = .ok (.dup, 1) := dk_89 (dk_at dksX0_init_4 10 rfl rfl)
theorem dX0_init_106 : decode cX0_init 106 = .ok (.invokespecial 190, 3) := dk_183 0 190 (dk_at dksX0_init_4 11 rfl rfl)
theorem dX0_init_109 : decode cX0_init 109 = .ok (.putfield 207, 3) := dk_181 0 207 (dk_at dksX0_init_4 14 rfl rfl)
theorem dX0_init_112 : decode cX0_init 112 = .ok (.aload_n 0, 1) := dk_42 (dk_at dksX0_init_4 17 rfl rfl)
theorem dX0_init_113 : decode cX0_init 113 = .ok (.new 16, 3) := dk_187 0 16 (dk_at dksX0_init_4 18 rfl rfl)
theorem dX0_init_116 : decode cX0_init 116 = .ok (.dup, 1) := dk_89 (dk_at dksX0_init_4 21 rfl rfl)
theorem dX0_init_117 : decode cX0_init 117 = .ok (.invokespecial 190, 3) := dk_183 0 190 (dk_at dksX0_init_5 0 rfl rfl)
theorem dX0_init_120 : decode cX0_init 120 = .ok (.putfield 210, 3) := dk_181 0 210 (dk_at dksX0_init_5 3 rfl rfl)
theorem dX0_init_123 : decode cX0_init 123 = .ok (.aload_n 0, 1) := dk_42 (dk_at dksX0_init_5 6 rfl rfl)
theorem dX0_init_124 : decode cX0_init 124 = .ok (.new 16, 3) := dk_187 0 16 (dk_at dksX0_init_5 7 rfl rfl)
theorem dX0_init_127 : decode cX0_init 127 = .ok (.dup, 1) := dk_89 (dk_at dksX0_init_5 10 rfl rfl)
theorem dX0_init_128 : decode cX0_init 128 = .ok (.invokespecial 190, 3) := dk_183 0 190 (dk_at dksX0_init_5 11 rfl rfl)
theorem dX0_init_131 : decode cX0_init 131 = .ok (.putfield 213, 3) := dk_181 0 213 (dk_at dksX0_init_5 14 rfl rfl)
theorem dX0_init_134 : decode cX0_init 134 = .ok (.aload_n 0, 1) := dk_42 (dk_at dksX0_init_5 17 rfl rfl)
theorem dX0_init_135 : decode cX0_init 135 = .ok (.new 16, 3) := dk_187 0 16 (dk_at dksX0_init_5 18 rfl rfl)
theorem dX0_init_138 : decode cX0_init 138 = .ok (.dup, 1) := dk_89 (dk_at dksX0_init_5 21 rfl rfl)
theorem dX0_init_139 : decode cX0_init 139 = .ok (.invokespecial 190, 3) := dk_183 0 190 (dk_at dksX0_init_6 0 rfl rfl)
theorem dX0_init_142 : decode cX0_init 142 = .ok (.putfield 216, 3) := dk_181 0 216 (dk_at dksX0_init_6 3 rfl rfl)
theorem dX0_init_145 : decode cX0_init 145 = .ok (.aload_n 0, 1) := dk_42 (dk_at dksX0_init_6 6 rfl rfl)
theorem dX0_init_146 : decode cX0_init 146 = .ok (.bipush 16, 2) := dk_16 16 (dk_at dksX0_init_6 7 rfl rfl)
theorem dX0_init_148 : decode cX0_init 148 = .ok (.newarray .int, 2) := dk_188_10 (dk_at dksX0_init_6 9 rfl rfl)
theorem dX0_init_150 : decode cX0_init 150 = .ok (.putfield 219, 3) := dk_181 0 219 (dk_at dksX0_init_6 11 rfl rfl)
theorem dX0_init_153 : decode cX0_init 153 = .ok (.aload_n 0, 1) := dk_42 (dk_at dksX0_init_6 14 rfl rfl)
theorem dX0_init_154 : decode cX0_init 154 = .ok (.iconst (-1), 1) := dk_2 (dk_at dksX0_init_6 15 rfl rfl)
theorem dX0_init_155 : decode cX0_init 155 = .ok (.putfield 222, 3) := dk_181 0 222 (dk_at dksX0_init_6 16 rfl rfl)
theorem dX0_init_158 : decode cX0_init 158 = .ok (.aload_n 0, 1) := dk_42 (dk_at dksX0_init_6 19 rfl rfl)
theorem dX0_init_159 : decode cX0_init 159 = .ok (.new 225, 3) := dk_187 0 225 (dk_at dksX0_init_6 20 rfl rfl)
theorem dX0_init_162 : decode cX0_init 162 = .ok (.dup, 1) := dk_89 (dk_at dksX0_init_6 23 rfl rfl)
theorem dX0_init_163 : decode cX0_init 163 = .ok (.aload_n 0, 1) := dk_42 (dk_at dksX0_init_7 0 rfl rfl)
theorem dX0_init_164 : decode cX0_init 164 = .ok (.invokespecial 227, 3) := dk_183 0 227 (dk_at dksX0_init_7 1 rfl rfl)
theorem dX0_init_167 : decode cX0_init 167 = .ok (.putfield 228, 3) := dk_181 0 228 (dk_at dksX0_init_7 4 rfl rfl)
theorem dX0_init_170 : decode cX0_init 170 = .ok (.aload_n 0, 1) := dk_42 (dk_at dksX0_init_7 7 rfl rfl)
theorem dX0_init_171 : decode cX0_init 171 = .ok (.new 232, 3) := dk_187 0 232 (dk_at dksX0_init_7 8 rfl rfl)
theorem dX0_init_174 : decode cX0_init 174 = .ok (.dup, 1) := dk_89 (dk_at dksX0_init_7 11 rfl rfl)
theorem dX0_init_175 : decode cX0_init 175 = .ok (.aload_n 0, 1) := dk_42 (dk_at dksX0_init_7 12 rfl rfl)
theorem dX0_init_176 : decode cX0_init 176 = .ok (.invokespecial 234, 3) := dk_183 0 234 (dk_at dksX0_init_7 13 rfl rfl)
theorem dX0_init_179 : decode cX0_init 179 = .ok (.putfield 235, 3) := dk_181 0 235 (dk_at dksX0_init_7 16 rfl rfl)
theorem dX0_init_182 : decode cX0_init 182 = .ok (.iconst 3, 1) := dk_6 (dk_at dksX0_init_7 19 rfl rfl)
theorem dX0_init_183 : decode cX0_init 183 = .ok (.istore_n 1, 1) := dk_60 (dk_at dksX0_init_7 20 rfl rfl)
theorem dX0_init_184 : decode cX0_init 184 = .ok (.iload_n 1, 1) := dk_27 (dk_at dksX0_init_7 21 rfl rfl)
theorem dX0_init_185 : decode cX0_init 185 = .ok (.sipush 300, 3) := dk_17 1 44 (dk_at dksX0_init_8 0 rfl rfl)
theorem dX0_init_188 : decode cX0_init 188 = .ok (.if_icmp .ge 30, 3) := dk_162 0 30 (dk_at dksX0_init_8 3 rfl rfl)
theorem dX0_init_191 : decode cX0_init 191 = .ok (.aload_n 0, 1) := dk_42 (dk_at dksX0_init_8 6 rfl rfl)
theorem dX0_init_192 : decode cX0_init 192 = .ok (.getfield 203, 3) := dk_180 0 203 (dk_at dksX0_init_8 7 rfl rfl)
theorem dX0_init_195 : decode cX0_init 195 = .ok (.iload_n 1, 1) := dk_27 (dk_at dksX0_init_8 10 rfl rfl)
theorem dX0_init_196 : decode cX0_init 196 = .ok (.new 114, 3) := dk_187 0 114 (dk_at dksX0_init_8 11 rfl rfl)
theorem dX0_init_199 : decode cX0_init 199 = .ok (.dup, 1) := dk_89 (dk_at dksX0_init_8 14 rfl rfl)
theorem dX0_init_200 : decode cX0_init 200 = .ok (.iconst 0, 1) := dk_3 (dk_at dksX0_init_8 15 rfl rfl)
theorem dX0_init_201 : decode cX0_init 201 = .ok (.iconst 0, 1) := dk_3 (dk_at dksX0_init_8 16 rfl rfl)
theorem dX0_init_202 : decode cX0_init 202 = .ok (.iload_n 1, 1) := dk_27 (dk_at dksX0_init_8 17 rfl rfl)
theorem dX0_init_203 : decode cX0_init 203 = .ok (.iconst 3, 1) := dk_6 (dk_at dksX0_init_8 18 rfl rfl)
theorem dX0_init_204 : decode cX0_init 204 = .ok (.idiv, 1) := dk_108 (dk_at dksX0_init_8 19 rfl rfl)
theorem dX0_init_205 : decode cX0_init 205 = .ok (.iload_n 1, 1) := dk_27 (dk_at dksX0_init_8 20 rfl rfl)
theorem dX0_init_206 : decode cX0_init 206 = .ok (.iconst 3, 1) := dk_6 (dk_at dksX0_init_8 21 rfl rfl)
theorem dX0_init_207 : decode cX0_init 207 = .ok (.irem, 1) := dk_112 (dk_at dksX0_init_8 22 rfl rfl)
theorem dX0_init_208 : decode cX0_init 208 = .ok (.invokespecial 116, 3) := dk_183 0 116 (dk_at dksX0_init_9 0 rfl rfl)
theorem dX0_init_211 : decode cX0_init 211 = .ok (.aastore, 1) := dk_83 (dk_at dksX0_init_9 3 rfl rfl)
theorem dX0_init_212 : decode cX0_init 212 = .ok (.iinc 1 1, 3) := dk_132 1 1 (dk_at dksX0_init_9 4 rfl rfl)
theorem dX0_init_215 : decode cX0_init 215 = .ok (.goto (-31), 3) := dk_167 255 225 (dk_at dksX0_init_9 7 rfl rfl)
theorem dX0_init_218 : decode cX0_init 218 = .ok (.return_, 1) := dk_177 (dk_at dksX0_init_9 10 rfl rfl)
abbrev cX0_fits : ByteArray := prog_1_method_30_code
def yX0_fits : MethodName := ⟨RX0, "fits", "()I"⟩
def dkwX0_fits_0 : List UInt8 := [42, 180, 0, 196, 182, 0, 243, 153, 0, 7, 4, 167, 0, 4, 3, 172]
abbrev dktX0_fits_0 : List UInt8 := dkwX0_fits_0 ++ []
theorem dksX0_fits_0 : cX0_fits.data.toList.drop 0 = dktX0_fits_0 := by decide +kernel
theorem dX0_fits_0 : decode cX0_fits 0 = .ok (.aload_n 0, 1) := dk_42 (dk_at dksX0_fits_0 0 rfl rfl)
theorem dX0_fits_1 : decode cX0_fits 1 = .ok (.getfield 196, 3) := dk_180 0 196 (dk_at dksX0_fits_0 1 rfl rfl)
theorem dX0_fits_4 : decode cX0_fits 4 = .ok (.invokevirtual 243, 3) := dk_182 0 243 (dk_at dksX0_fits_0 4 rfl rfl)
theorem dX0_fits_7 : decode cX0_fits 7 = .ok (.ifCond .eq 7, 3) := dk_153 0 7 (dk_at dksX0_fits_0 7 rfl rfl)
theorem dX0_fits_10 : decode cX0_fits 10 = .ok (.iconst 1, 1) := dk_4 (dk_at dksX0_fits_0 10 rfl rfl)
theorem dX0_fits_11 : decode cX0_fits 11 = .ok (.goto 4, 3) := dk_167 0 4 (dk_at dksX0_fits_0 11 rfl rfl)
theorem dX0_fits_14 : decode cX0_fits 14 = .ok (.iconst 0, 1) := dk_3 (dk_at dksX0_fits_0 14 rfl rfl)
theorem dX0_fits_15 : decode cX0_fits 15 = .ok (.ireturn, 1) := dk_172 (dk_at dksX0_fits_0 15 rfl rfl)
abbrev cX0_counted : ByteArray := prog_1_method_28_code
def yX0_counted : MethodName := ⟨RX0, "counted", "()I"⟩
def dkwX0_counted_2 : List UInt8 := [172]
abbrev dktX0_counted_2 : List UInt8 := dkwX0_counted_2 ++ []
def dkwX0_counted_1 : List UInt8 := [180, 0, 126, 28, 51, 153, 0, 9, 4, 28, 120, 167, 0, 4, 3, 128, 60, 132, 2, 1, 167, 255, 217, 27]
abbrev dktX0_counted_1 : List UInt8 := dkwX0_counted_1 ++ dktX0_counted_2
def dkwX0_counted_0 : List UInt8 := [3, 60, 3, 61, 28, 42, 180, 0, 45, 180, 0, 49, 182, 0, 55, 162, 0, 31, 27, 42, 180, 0, 45]
abbrev dktX0_counted_0 : List UInt8 := dkwX0_counted_0 ++ dktX0_counted_1
theorem dksX0_counted_0 : cX0_counted.data.toList.drop 0 = dktX0_counted_0 := by decide +kernel
theorem dksX0_counted_1 : cX0_counted.data.toList.drop 23 = dktX0_counted_1 := dk_seg dksX0_counted_0 23 rfl rfl
theorem dksX0_counted_2 : cX0_counted.data.toList.drop 47 = dktX0_counted_2 := dk_seg dksX0_counted_1 24 rfl rfl
theorem dX0_counted_0 : decode cX0_counted 0 = .ok (.iconst 0, 1) := dk_3 (dk_at dksX0_counted_0 0 rfl rfl)
theorem dX0_counted_1 : decode cX0_counted 1 = .ok (.istore_n 1, 1) := dk_60 (dk_at dksX0_counted_0 1 rfl rfl)
theorem dX0_counted_2 : decode cX0_counted 2 = .ok (.iconst 0, 1) := dk_3 (dk_at dksX0_counted_0 2 rfl rfl)
theorem dX0_counted_3 : decode cX0_counted 3 = .ok (.istore_n 2, 1) := dk_61 (dk_at dksX0_counted_0 3 rfl rfl)
theorem dX0_counted_4 : decode cX0_counted 4 = .ok (.iload_n 2, 1) := dk_28 (dk_at dksX0_counted_0 4 rfl rfl)
theorem dX0_counted_5 : decode cX0_counted 5 = .ok (.aload_n 0, 1) := dk_42 (dk_at dksX0_counted_0 5 rfl rfl)
theorem dX0_counted_6 : decode cX0_counted 6 = .ok (.getfield 45, 3) := dk_180 0 45 (dk_at dksX0_counted_0 6 rfl rfl)
theorem dX0_counted_9 : decode cX0_counted 9 = .ok (.getfield 49, 3) := dk_180 0 49 (dk_at dksX0_counted_0 9 rfl rfl)
theorem dX0_counted_12 : decode cX0_counted 12 = .ok (.invokevirtual 55, 3) := dk_182 0 55 (dk_at dksX0_counted_0 12 rfl rfl)
theorem dX0_counted_15 : decode cX0_counted 15 = .ok (.if_icmp .ge 31, 3) := dk_162 0 31 (dk_at dksX0_counted_0 15 rfl rfl)
theorem dX0_counted_18 : decode cX0_counted 18 = .ok (.iload_n 1, 1) := dk_27 (dk_at dksX0_counted_0 18 rfl rfl)
theorem dX0_counted_19 : decode cX0_counted 19 = .ok (.aload_n 0, 1) := dk_42 (dk_at dksX0_counted_0 19 rfl rfl)
theorem dX0_counted_20 : decode cX0_counted 20 = .ok (.getfield 45, 3) := dk_180 0 45 (dk_at dksX0_counted_0 20 rfl rfl)
theorem dX0_counted_23 : decode cX0_counted 23 = .ok (.getfield 126, 3) := dk_180 0 126 (dk_at dksX0_counted_1 0 rfl rfl)
theorem dX0_counted_26 : decode cX0_counted 26 = .ok (.iload_n 2, 1) := dk_28 (dk_at dksX0_counted_1 3 rfl rfl)
theorem dX0_counted_27 : decode cX0_counted 27 = .ok (.baload, 1) := dk_51 (dk_at dksX0_counted_1 4 rfl rfl)
theorem dX0_counted_28 : decode cX0_counted 28 = .ok (.ifCond .eq 9, 3) := dk_153 0 9 (dk_at dksX0_counted_1 5 rfl rfl)
theorem dX0_counted_31 : decode cX0_counted 31 = .ok (.iconst 1, 1) := dk_4 (dk_at dksX0_counted_1 8 rfl rfl)
theorem dX0_counted_32 : decode cX0_counted 32 = .ok (.iload_n 2, 1) := dk_28 (dk_at dksX0_counted_1 9 rfl rfl)
theorem dX0_counted_33 : decode cX0_counted 33 = .ok (.ishl, 1) := dk_120 (dk_at dksX0_counted_1 10 rfl rfl)
theorem dX0_counted_34 : decode cX0_counted 34 = .ok (.goto 4, 3) := dk_167 0 4 (dk_at dksX0_counted_1 11 rfl rfl)
theorem dX0_counted_37 : decode cX0_counted 37 = .ok (.iconst 0, 1) := dk_3 (dk_at dksX0_counted_1 14 rfl rfl)
theorem dX0_counted_38 : decode cX0_counted 38 = .ok (.ior, 1) := dk_128 (dk_at dksX0_counted_1 15 rfl rfl)
theorem dX0_counted_39 : decode cX0_counted 39 = .ok (.istore_n 1, 1) := dk_60 (dk_at dksX0_counted_1 16 rfl rfl)
theorem dX0_counted_40 : decode cX0_counted 40 = .ok (.iinc 2 1, 3) := dk_132 2 1 (dk_at dksX0_counted_1 17 rfl rfl)
theorem dX0_counted_43 : decode cX0_counted 43 = .ok (.goto (-39), 3) := dk_167 255 217 (dk_at dksX0_counted_1 20 rfl rfl)
theorem dX0_counted_46 : decode cX0_counted 46 = .ok (.iload_n 1, 1) := dk_27 (dk_at dksX0_counted_1 23 rfl rfl)
theorem dX0_counted_47 : decode cX0_counted 47 = .ok (.ireturn, 1) := dk_172 (dk_at dksX0_counted_2 0 rfl rfl)
abbrev cX0_between : ByteArray := prog_1_method_32_code
def yX0_between : MethodName := ⟨RX0, "between", "(III)I"⟩
def dkwX0_between_8 : List UInt8 := [182, 1, 9, 172]
abbrev dktX0_between_8 : List UInt8 := dkwX0_between_8 ++ []
def dkwX0_between_7 : List UInt8 := [180, 1, 5, 21, 4, 50, 19, 1, 4, 42, 180, 0, 196, 180, 1, 0, 21, 4, 50, 19, 1, 8]
abbrev dktX0_between_7 : List UInt8 := dkwX0_between_7 ++ dktX0_between_8
def dkwX0_between_6 : List UInt8 := [180, 0, 196, 180, 1, 5, 21, 4, 50, 19, 1, 8, 182, 1, 9, 167, 0, 33, 42, 42, 180, 0, 196]
abbrev dktX0_between_6 : List UInt8 := dkwX0_between_6 ++ dktX0_between_7
def dkwX0_between_5 : List UInt8 := [167, 0, 4, 2, 172, 29, 154, 0, 36, 42, 42, 180, 0, 196, 180, 1, 0, 21, 4, 50, 19, 1, 4, 42]
abbrev dktX0_between_5 : List UInt8 := dkwX0_between_5 ++ dktX0_between_6
def dkwX0_between_4 : List UInt8 := [167, 0, 4, 3, 172, 42, 180, 0, 196, 180, 0, 250, 21, 4, 51, 154, 0, 13, 29, 154, 0, 7, 3]
abbrev dktX0_between_4 : List UInt8 := dkwX0_between_4 ++ dktX0_between_5
def dkwX0_between_3 : List UInt8 := [180, 0, 250, 21, 4, 51, 153, 0, 20, 42, 180, 0, 196, 180, 0, 253, 21, 4, 51, 154, 0, 7, 4]
abbrev dktX0_between_3 : List UInt8 := dkwX0_between_3 ++ dktX0_between_4
def dkwX0_between_2 : List UInt8 := [27, 104, 28, 96, 167, 0, 9, 16, 16, 28, 104, 27, 96, 54, 4, 29, 4, 164, 0, 35, 42, 180, 0, 196]
abbrev dktX0_between_2 : List UInt8 := dkwX0_between_2 ++ dktX0_between_3
def dkwX0_between_1 : List UInt8 := [153, 0, 13, 42, 180, 0, 196, 182, 0, 243, 154, 0, 6, 16, 254, 172, 29, 5, 112, 154, 0, 12, 16, 16]
abbrev dktX0_between_1 : List UInt8 := dkwX0_between_1 ++ dktX0_between_2
def dkwX0_between_0 : List UInt8 := [42, 27, 182, 0, 247, 153, 0, 30, 42, 28, 182, 0, 247, 153, 0, 22, 29, 3, 6, 184, 0, 41]
abbrev dktX0_between_0 : List UInt8 := dkwX0_between_0 ++ dktX0_between_1
theorem dksX0_between_0 : cX0_between.data.toList.drop 0 = dktX0_between_0 := by decide +kernel
theorem dksX0_between_1 : cX0_between.data.toList.drop 22 = dktX0_between_1 := dk_seg dksX0_between_0 22 rfl rfl
theorem dksX0_between_2 : cX0_between.data.toList.drop 46 = dktX0_between_2 := dk_seg dksX0_between_1 24 rfl rfl
theorem dksX0_between_3 : cX0_between.data.toList.drop 70 = dktX0_between_3 := dk_seg dksX0_between_2 24 rfl rfl
theorem dksX0_between_4 : cX0_between.data.toList.drop 93 = dktX0_between_4 := dk_seg dksX0_between_3 23 rfl rfl
theorem dksX0_between_5 : cX0_between.data.toList.drop 116 = dktX0_between_5 := dk_seg dksX0_between_4 23 rfl rfl
theorem dksX0_between_6 : cX0_between.data.toList.drop 140 = dktX0_between_6 := dk_seg dksX0_between_5 24 rfl rfl
theorem dksX0_between_7 : cX0_between.data.toList.drop 163 = dktX0_between_7 := dk_seg dksX0_between_6 23 rfl rfl
theorem dksX0_between_8 : cX0_between.data.toList.drop 185 = dktX0_between_8 := dk_seg dksX0_between_7 22 rfl rfl
theorem dX0_between_0 : decode cX0_between 0 = .ok (.aload_n 0, 1) := dk_42 (dk_at dksX0_between_0 0 rfl rfl)
theorem dX0_between_1 : decode cX0_between 1 = .ok (.iload_n 1, 1) := dk_27 (dk_at dksX0_between_0 1 rfl rfl)
theorem dX0_between_2 : decode cX0_between 2 = .ok (.invokevirtual 247, 3) := dk_182 0 247 (dk_at dksX0_between_0 2 rfl rfl)
theorem dX0_between_5 : decode cX0_between 5 = .ok (.ifCond .eq 30, 3) := dk_153 0 30 (dk_at dksX0_between_0 5 rfl rfl)
theorem dX0_between_8 : decode cX0_between 8 = .ok (.aload_n 0, 1) := dk_42 (dk_at dksX0_between_0 8 rfl rfl)
theorem dX0_between_9 : decode cX0_between 9 = .ok (.iload_n 2, 1) := dk_28 (dk_at dksX0_between_0 9 rfl rfl)
theorem dX0_between_10 : decode cX0_between 10 = .ok (.invokevirtual 247, 3) := dk_182 0 247 (dk_at dksX0_between_0 10 rfl rfl)
theorem dX0_between_13 : decode cX0_between 13 = .ok (.ifCond .eq 22, 3) := dk_153 0 22 (dk_at dksX0_between_0 13 rfl rfl)
theorem dX0_between_16 : decode cX0_between 16 = .ok (.iload_n 3, 1) := dk_29 (dk_at dksX0_between_0 16 rfl rfl)
theorem dX0_between_17 : decode cX0_between 17 = .ok (.iconst 0, 1) := dk_3 (dk_at dksX0_between_0 17 rfl rfl)
theorem dX0_between_18 : decode cX0_between 18 = .ok (.iconst 3, 1) := dk_6 (dk_at dksX0_between_0 18 rfl rfl)
theorem dX0_between_19 : decode cX0_between 19 = .ok (.invokestatic 41, 3) := dk_184 0 41 (dk_at dksX0_between_0 19 rfl rfl)
theorem dX0_between_22 : decode cX0_between 22 = .ok (.ifCond .eq 13, 3) := dk_153 0 13 (dk_at dksX0_between_1 0 rfl rfl)
theorem dX0_between_25 : decode cX0_between 25 = .ok (.aload_n 0, 1) := dk_42 (dk_at dksX0_between_1 3 rfl rfl)
theorem dX0_between_26 : decode cX0_between 26 = .ok (.getfield 196, 3) := dk_180 0 196 (dk_at dksX0_between_1 4 rfl rfl)
theorem dX0_between_29 : decode cX0_between 29 = .ok (.invokevirtual 243, 3) := dk_182 0 243 (dk_at dksX0_between_1 7 rfl rfl)
theorem dX0_between_32 : decode cX0_between 32 = .ok (.ifCond .ne 6, 3) := dk_154 0 6 (dk_at dksX0_between_1 10 rfl rfl)
theorem dX0_between_35 : decode cX0_between 35 = .ok (.bipush (-2), 2) := dk_16 254 (dk_at dksX0_between_1 13 rfl rfl)
theorem dX0_between_37 : decode cX0_between 37 = .ok (.ireturn, 1) := dk_172 (dk_at dksX0_between_1 15 rfl rfl)
theorem dX0_between_38 : decode cX0_between 38 = .ok (.iload_n 3, 1) := dk_29 (dk_at dksX0_between_1 16 rfl rfl)
theorem dX0_between_39 : decode cX0_between 39 = .ok (.iconst 2, 1) := dk_5 (dk_at dksX0_between_1 17 rfl rfl)
theorem dX0_between_40 : decode cX0_between 40 = .ok (.irem, 1) := dk_112 (dk_at dksX0_between_1 18 rfl rfl)
theorem dX0_between_41 : decode cX0_between 41 = .ok (.ifCond .ne 12, 3) := dk_154 0 12 (dk_at dksX0_between_1 19 rfl rfl)
theorem dX0_between_44 : decode cX0_between 44 = .ok (.bipush 16, 2) := dk_16 16 (dk_at dksX0_between_1 22 rfl rfl)
theorem dX0_between_46 : decode cX0_between 46 = .ok (.iload_n 1, 1) := dk_27 (dk_at dksX0_between_2 0 rfl rfl)
theorem dX0_between_47 : decode cX0_between 47 = .ok (.imul, 1) := dk_104 (dk_at dksX0_between_2 1 rfl rfl)
theorem dX0_between_48 : decode cX0_between 48 = .ok (.iload_n 2, 1) := dk_28 (dk_at dksX0_between_2 2 rfl rfl)
theorem dX0_between_49 : decode cX0_between 49 = .ok (.iadd, 1) := dk_96 (dk_at dksX0_between_2 3 rfl rfl)
theorem dX0_between_50 : decode cX0_between 50 = .ok (.goto 9, 3) := dk_167 0 9 (dk_at dksX0_between_2 4 rfl rfl)
theorem dX0_between_53 : decode cX0_between 53 = .ok (.bipush 16, 2) := dk_16 16 (dk_at dksX0_between_2 7 rfl rfl)
theorem dX0_between_55 : decode cX0_between 55 = .ok (.iload_n 2, 1) := dk_28 (dk_at dksX0_between_2 9 rfl rfl)
theorem dX0_between_56 : decode cX0_between 56 = .ok (.imul, 1) := dk_104 (dk_at dksX0_between_2 10 rfl rfl)
theorem dX0_between_57 : decode cX0_between 57 = .ok (.iload_n 1, 1) := dk_27 (dk_at dksX0_between_2 11 rfl rfl)
theorem dX0_between_58 : decode cX0_between 58 = .ok (.iadd, 1) := dk_96 (dk_at dksX0_between_2 12 rfl rfl)
theorem dX0_between_59 : decode cX0_between 59 = .ok (.istore 4, 2) := dk_54 4 (dk_at dksX0_between_2 13 rfl rfl)
theorem dX0_between_61 : decode cX0_between 61 = .ok (.iload_n 3, 1) := dk_29 (dk_at dksX0_between_2 15 rfl rfl)
theorem dX0_between_62 : decode cX0_between 62 = .ok (.iconst 1, 1) := dk_4 (dk_at dksX0_between_2 16 rfl rfl)
theorem dX0_between_63 : decode cX0_between 63 = .ok (.if_icmp .le 35, 3) := dk_164 0 35 (dk_at dksX0_between_2 17 rfl rfl)
theorem dX0_between_66 : decode cX0_between 66 = .ok (.aload_n 0, 1) := dk_42 (dk_at dksX0_between_2 20 rfl rfl)
theorem dX0_between_67 : decode cX0_between 67 = .ok (.getfield 196, 3) := dk_180 0 196 (dk_at dksX0_between_2 21 rfl rfl)
theorem dX0_between_70 : decode cX0_between 70 = .ok (.getfield 250, 3) := dk_180 0 250 (dk_at dksX0_between_3 0 rfl rfl)
theorem dX0_between_73 : decode cX0_between 73 = .ok (.iload 4, 2) := dk_21 4 (dk_at dksX0_between_3 3 rfl rfl)
theorem dX0_between_75 : decode cX0_between 75 = .ok (.baload, 1) := dk_51 (dk_at dksX0_between_3 5 rfl rfl)
theorem dX0_between_76 : decode cX0_between 76 = .ok (.ifCond .eq 20, 3) := dk_153 0 20 (dk_at dksX0_between_3 6 rfl rfl)
theorem dX0_between_79 : decode cX0_between 79 = .ok (.aload_n 0, 1) := dk_42 (dk_at dksX0_between_3 9 rfl rfl)
theorem dX0_between_80 : decode cX0_between 80 = .ok (.getfield 196, 3) := dk_180 0 196 (dk_at dksX0_between_3 10 rfl rfl)
theorem dX0_between_83 : decode cX0_between 83 = .ok (.getfield 253, 3) := dk_180 0 253 (dk_at dksX0_between_3 13 rfl rfl)
theorem dX0_between_86 : decode cX0_between 86 = .ok (.iload 4, 2) := dk_21 4 (dk_at dksX0_between_3 16 rfl rfl)
theorem dX0_between_88 : decode cX0_between 88 = .ok (.baload, 1) := dk_51 (dk_at dksX0_between_3 18 rfl rfl)
theorem dX0_between_89 : decode cX0_between 89 = .ok (.ifCond .ne 7, 3) := dk_154 0 7 (dk_at dksX0_between_3 19 rfl rfl)
theorem dX0_between_92 : decode cX0_between 92 = .ok (.iconst 1, 1) := dk_4 (dk_at dksX0_between_3 22 rfl rfl)
theorem dX0_between_93 : decode cX0_between 93 = .ok (.goto 4, 3) := dk_167 0 4 (dk_at dksX0_between_4 0 rfl rfl)
theorem dX0_between_96 : decode cX0_between 96 = .ok (.iconst 0, 1) := dk_3 (dk_at dksX0_between_4 3 rfl rfl)
theorem dX0_between_97 : decode cX0_between 97 = .ok (.ireturn, 1) := dk_172 (dk_at dksX0_between_4 4 rfl rfl)
theorem dX0_between_98 : decode cX0_between 98 = .ok (.aload_n 0, 1) := dk_42 (dk_at dksX0_between_4 5 rfl rfl)
theorem dX0_between_99 : decode cX0_between 99 = .ok (.getfield 196, 3) := dk_180 0 196 (dk_at dksX0_between_4 6 rfl rfl)
theorem dX0_between_102 : decode cX0_between 102 = .ok (.getfield 250, 3) := dk_180 0 250 (dk_at dksX0_between_4 9 rfl rfl)
theorem dX0_between_105 : decode cX0_between 105 = .ok (.iload 4, 2) := dk_21 4 (dk_at dksX0_between_4 12 rfl rfl)
theorem dX0_between_107 : decode cX0_between 107 = .ok (.baload, 1) := dk_51 (dk_at dksX0_between_4 14 rfl rfl)
theorem dX0_between_108 : decode cX0_between 108 = .ok (.ifCond .ne 13, 3) := dk_154 0 13 (dk_at dksX0_between_4 15 rfl rfl)
theorem dX0_between_111 : decode cX0_between 111 = .ok (.iload_n 3, 1) := dk_29 (dk_at dksX0_between_4 18 rfl rfl)
theorem dX0_between_112 : decode cX0_between 112 = .ok (.ifCond .ne 7, 3) := dk_154 0 7 (dk_at dksX0_between_4 19 rfl rfl)
theorem dX0_between_115 : decode cX0_between 115 = .ok (.iconst 0, 1) := dk_3 (dk_at dksX0_between_4 22 rfl rfl)
theorem dX0_between_116 : decode cX0_between 116 = .ok (.goto 4, 3) := dk_167 0 4 (dk_at dksX0_between_5 0 rfl rfl)
theorem dX0_between_119 : decode cX0_between 119 = .ok (.iconst (-1), 1) := dk_2 (dk_at dksX0_between_5 3 rfl rfl)
theorem dX0_between_120 : decode cX0_between 120 = .ok (.ireturn, 1) := dk_172 (dk_at dksX0_between_5 4 rfl rfl)
theorem dX0_between_121 : decode cX0_between 121 = .ok (.iload_n 3, 1) := dk_29 (dk_at dksX0_between_5 5 rfl rfl)
theorem dX0_between_122 : decode cX0_between 122 = .ok (.ifCond .ne 36, 3) := dk_154 0 36 (dk_at dksX0_between_5 6 rfl rfl)
theorem dX0_between_125 : decode cX0_between 125 = .ok (.aload_n 0, 1) := dk_42 (dk_at dksX0_between_5 9 rfl rfl)
theorem dX0_between_126 : decode cX0_between 126 = .ok (.aload_n 0, 1) := dk_42 (dk_at dksX0_between_5 10 rfl rfl)
theorem dX0_between_127 : decode cX0_between 127 = .ok (.getfield 196, 3) := dk_180 0 196 (dk_at dksX0_between_5 11 rfl rfl)
theorem dX0_between_130 : decode cX0_between 130 = .ok (.getfield 256, 3) := dk_180 1 0 (dk_at dksX0_between_5 14 rfl rfl)
theorem dX0_between_133 : decode cX0_between 133 = .ok (.iload 4, 2) := dk_21 4 (dk_at dksX0_between_5 17 rfl rfl)
theorem dX0_between_135 : decode cX0_between 135 = .ok (.aaload, 1) := dk_50 (dk_at dksX0_between_5 19 rfl rfl)
theorem dX0_between_136 : decode cX0_between 136 = .ok (.ldc_w 260, 3) := dk_19 1 4 (dk_at dksX0_between_5 20 rfl rfl)
theorem dX0_between_139 : decode cX0_between 139 = .ok (.aload_n 0, 1) := dk_42 (dk_at dksX0_between_5 23 rfl rfl)
theorem dX0_between_140 : decode cX0_between 140 = .ok (.getfield 196, 3) := dk_180 0 196 (dk_at dksX0_between_6 0 rfl rfl)
theorem dX0_between_143 : decode cX0_between 143 = .ok (.getfield 261, 3) := dk_180 1 5 (dk_at dksX0_between_6 3 rfl rfl)
theorem dX0_between_146 : decode cX0_between 146 = .ok (.iload 4, 2) := dk_21 4 (dk_at dksX0_between_6 6 rfl rfl)
theorem dX0_between_148 : decode cX0_between 148 = .ok (.aaload, 1) := dk_50 (dk_at dksX0_between_6 8 rfl rfl)
theorem dX0_between_149 : decode cX0_between 149 = .ok (.ldc_w 264, 3) := dk_19 1 8 (dk_at dksX0_between_6 9 rfl rfl)
theorem dX0_between_152 : decode cX0_between 152 = .ok (.invokevirtual 265, 3) := dk_182 1 9 (dk_at dksX0_between_6 12 rfl rfl)
theorem dX0_between_155 : decode cX0_between 155 = .ok (.goto 33, 3) := dk_167 0 33 (dk_at dksX0_between_6 15 rfl rfl)
theorem dX0_between_158 : decode cX0_between 158 = .ok (.aload_n 0, 1) := dk_42 (dk_at dksX0_between_6 18 rfl rfl)
theorem dX0_between_159 : decode cX0_between 159 = .ok (.aload_n 0, 1) := dk_42 (dk_at dksX0_between_6 19 rfl rfl)
theorem dX0_between_160 : decode cX0_between 160 = .ok (.getfield 196, 3) := dk_180 0 196 (dk_at dksX0_between_6 20 rfl rfl)
theorem dX0_between_163 : decode cX0_between 163 = .ok (.getfield 261, 3) := dk_180 1 5 (dk_at dksX0_between_7 0 rfl rfl)
theorem dX0_between_166 : decode cX0_between 166 = .ok (.iload 4, 2) := dk_21 4 (dk_at dksX0_between_7 3 rfl rfl)
theorem dX0_between_168 : decode cX0_between 168 = .ok (.aaload, 1) := dk_50 (dk_at dksX0_between_7 5 rfl rfl)
theorem dX0_between_169 : decode cX0_between 169 = .ok (.ldc_w 260, 3) := dk_19 1 4 (dk_at dksX0_between_7 6 rfl rfl)
theorem dX0_between_172 : decode cX0_between 172 = .ok (.aload_n 0, 1) := dk_42 (dk_at dksX0_between_7 9 rfl rfl)
theorem dX0_between_173 : decode cX0_between 173 = .ok (.getfield 196, 3) := dk_180 0 196 (dk_at dksX0_between_7 10 rfl rfl)
theorem dX0_between_176 : decode cX0_between 176 = .ok (.getfield 256, 3) := dk_180 1 0 (dk_at dksX0_between_7 13 rfl rfl)
theorem dX0_between_179 : decode cX0_between 179 = .ok (.iload 4, 2) := dk_21 4 (dk_at dksX0_between_7 16 rfl rfl)
theorem dX0_between_181 : decode cX0_between 181 = .ok (.aaload, 1) := dk_50 (dk_at dksX0_between_7 18 rfl rfl)
theorem dX0_between_182 : decode cX0_between 182 = .ok (.ldc_w 264, 3) := dk_19 1 8 (dk_at dksX0_between_7 19 rfl rfl)
theorem dX0_between_185 : decode cX0_between 185 = .ok (.invokevirtual 265, 3) := dk_182 1 9 (dk_at dksX0_between_8 0 rfl rfl)
theorem dX0_between_188 : decode cX0_between 188 = .ok (.ireturn, 1) := dk_172 (dk_at dksX0_between_8 3 rfl rfl)
abbrev cX0_isLength : ByteArray := prog_1_method_31_code
def yX0_isLength : MethodName := ⟨RX0, "isLength", "(I)Z"⟩
def dkwX0_isLength_1 : List UInt8 := [180, 0, 45, 180, 0, 96, 27, 16, 6, 100, 46, 2, 159, 0, 7, 4, 167, 0, 4, 3, 172]
abbrev dktX0_isLength_1 : List UInt8 := dkwX0_isLength_1 ++ []
def dkwX0_isLength_0 : List UInt8 := [27, 3, 16, 15, 184, 0, 41, 153, 0, 34, 27, 16, 6, 16, 11, 184, 0, 41, 153, 0, 19, 42]
abbrev dktX0_isLength_0 : List UInt8 := dkwX0_isLength_0 ++ dktX0_isLength_1
theorem dksX0_isLength_0 : cX0_isLength.data.toList.drop 0 = dktX0_isLength_0 := by decide +kernel
theorem dksX0_isLength_1 : cX0_isLength.data.toList.drop 22 = dktX0_isLength_1 := dk_seg dksX0_isLength_0 22 rfl rfl
theorem dX0_isLength_0 : decode cX0_isLength 0 = .ok (.iload_n 1, 1) := dk_27 (dk_at dksX0_isLength_0 0 rfl rfl)
theorem dX0_isLength_1 : decode cX0_isLength 1 = .ok (.iconst 0, 1) := dk_3 (dk_at dksX0_isLength_0 1 rfl rfl)
theorem dX0_isLength_2 : decode cX0_isLength 2 = .ok (.bipush 15, 2) := dk_16 15 (dk_at dksX0_isLength_0 2 rfl rfl)
theorem dX0_isLength_4 : decode cX0_isLength 4 = .ok (.invokestatic 41, 3) := dk_184 0 41 (dk_at dksX0_isLength_0 4 rfl rfl)
theorem dX0_isLength_7 : decode cX0_isLength 7 = .ok (.ifCond .eq 34, 3) := dk_153 0 34 (dk_at dksX0_isLength_0 7 rfl rfl)
theorem dX0_isLength_10 : decode cX0_isLength 10 = .ok (.iload_n 1, 1) := dk_27 (dk_at dksX0_isLength_0 10 rfl rfl)
theorem dX0_isLength_11 : decode cX0_isLength 11 = .ok (.bipush 6, 2) := dk_16 6 (dk_at dksX0_isLength_0 11 rfl rfl)
theorem dX0_isLength_13 : decode cX0_isLength 13 = .ok (.bipush 11, 2) := dk_16 11 (dk_at dksX0_isLength_0 13 rfl rfl)
theorem dX0_isLength_15 : decode cX0_isLength 15 = .ok (.invokestatic 41, 3) := dk_184 0 41 (dk_at dksX0_isLength_0 15 rfl rfl)
theorem dX0_isLength_18 : decode cX0_isLength 18 = .ok (.ifCond .eq 19, 3) := dk_153 0 19 (dk_at dksX0_isLength_0 18 rfl rfl)
theorem dX0_isLength_21 : decode cX0_isLength 21 = .ok (.aload_n 0, 1) := dk_42 (dk_at dksX0_isLength_0 21 rfl rfl)
theorem dX0_isLength_22 : decode cX0_isLength 22 = .ok (.getfield 45, 3) := dk_180 0 45 (dk_at dksX0_isLength_1 0 rfl rfl)
theorem dX0_isLength_25 : decode cX0_isLength 25 = .ok (.getfield 96, 3) := dk_180 0 96 (dk_at dksX0_isLength_1 3 rfl rfl)
theorem dX0_isLength_28 : decode cX0_isLength 28 = .ok (.iload_n 1, 1) := dk_27 (dk_at dksX0_isLength_1 6 rfl rfl)
theorem dX0_isLength_29 : decode cX0_isLength 29 = .ok (.bipush 6, 2) := dk_16 6 (dk_at dksX0_isLength_1 7 rfl rfl)
theorem dX0_isLength_31 : decode cX0_isLength 31 = .ok (.isub, 1) := dk_100 (dk_at dksX0_isLength_1 9 rfl rfl)
theorem dX0_isLength_32 : decode cX0_isLength 32 = .ok (.iaload, 1) := dk_46 (dk_at dksX0_isLength_1 10 rfl rfl)
theorem dX0_isLength_33 : decode cX0_isLength 33 = .ok (.iconst (-1), 1) := dk_2 (dk_at dksX0_isLength_1 11 rfl rfl)
theorem dX0_isLength_34 : decode cX0_isLength 34 = .ok (.if_icmp .eq 7, 3) := dk_159 0 7 (dk_at dksX0_isLength_1 12 rfl rfl)
theorem dX0_isLength_37 : decode cX0_isLength 37 = .ok (.iconst 1, 1) := dk_4 (dk_at dksX0_isLength_1 15 rfl rfl)
theorem dX0_isLength_38 : decode cX0_isLength 38 = .ok (.goto 4, 3) := dk_167 0 4 (dk_at dksX0_isLength_1 16 rfl rfl)
theorem dX0_isLength_41 : decode cX0_isLength 41 = .ok (.iconst 0, 1) := dk_3 (dk_at dksX0_isLength_1 19 rfl rfl)
theorem dX0_isLength_42 : decode cX0_isLength 42 = .ok (.ireturn, 1) := dk_172 (dk_at dksX0_isLength_1 20 rfl rfl)
abbrev cX0_quotient : ByteArray := prog_1_method_4_code
def yX0_quotient : MethodName := ⟨RX0, "quotient", "(LWeekFoot$Big;ILWeekFoot$Big;I)I"⟩
def dkwX0_quotient_4 : List UInt8 := [172]
abbrev dktX0_quotient_4 : List UInt8 := dkwX0_quotient_4 ++ []
def dkwX0_quotient_3 : List UInt8 := [182, 0, 30, 158, 0, 12, 21, 7, 4, 100, 54, 6, 167, 0, 7, 21, 7, 54, 5, 167, 255, 189, 21, 5]
abbrev dktX0_quotient_3 : List UInt8 := dkwX0_quotient_3 ++ dktX0_quotient_4
def dkwX0_quotient_2 : List UInt8 := [180, 0, 27, 45, 182, 0, 15, 42, 180, 0, 27, 21, 7, 182, 0, 21, 42, 180, 0, 27, 42, 180, 0, 11]
abbrev dktX0_quotient_2 : List UInt8 := dkwX0_quotient_2 ++ dktX0_quotient_3
def dkwX0_quotient_1 : List UInt8 := [21, 5, 21, 6, 162, 0, 66, 21, 5, 133, 21, 6, 133, 97, 10, 97, 20, 0, 25, 109, 136, 54, 7, 42]
abbrev dktX0_quotient_1 : List UInt8 := dkwX0_quotient_1 ++ dktX0_quotient_2
def dkwX0_quotient_0 : List UInt8 := [42, 180, 0, 11, 43, 182, 0, 15, 42, 180, 0, 11, 28, 182, 0, 21, 3, 54, 5, 21, 4, 54, 6]
abbrev dktX0_quotient_0 : List UInt8 := dkwX0_quotient_0 ++ dktX0_quotient_1
theorem dksX0_quotient_0 : cX0_quotient.data.toList.drop 0 = dktX0_quotient_0 := by decide +kernel
theorem dksX0_quotient_1 : cX0_quotient.data.toList.drop 23 = dktX0_quotient_1 := dk_seg dksX0_quotient_0 23 rfl rfl
theorem dksX0_quotient_2 : cX0_quotient.data.toList.drop 47 = dktX0_quotient_2 := dk_seg dksX0_quotient_1 24 rfl rfl
theorem dksX0_quotient_3 : cX0_quotient.data.toList.drop 71 = dktX0_quotient_3 := dk_seg dksX0_quotient_2 24 rfl rfl
theorem dksX0_quotient_4 : cX0_quotient.data.toList.drop 95 = dktX0_quotient_4 := dk_seg dksX0_quotient_3 24 rfl rfl
theorem dX0_quotient_0 : decode cX0_quotient 0 = .ok (.aload_n 0, 1) := dk_42 (dk_at dksX0_quotient_0 0 rfl rfl)
theorem dX0_quotient_1 : decode cX0_quotient 1 = .ok (.getfield 11, 3) := dk_180 0 11 (dk_at dksX0_quotient_0 1 rfl rfl)
theorem dX0_quotient_4 : decode cX0_quotient 4 = .ok (.aload_n 1, 1) := dk_43 (dk_at dksX0_quotient_0 4 rfl rfl)
theorem dX0_quotient_5 : decode cX0_quotient 5 = .ok (.invokevirtual 15, 3) := dk_182 0 15 (dk_at dksX0_quotient_0 5 rfl rfl)
theorem dX0_quotient_8 : decode cX0_quotient 8 = .ok (.aload_n 0, 1) := dk_42 (dk_at dksX0_quotient_0 8 rfl rfl)
theorem dX0_quotient_9 : decode cX0_quotient 9 = .ok (.getfield 11, 3) := dk_180 0 11 (dk_at dksX0_quotient_0 9 rfl rfl)
theorem dX0_quotient_12 : decode cX0_quotient 12 = .ok (.iload_n 2, 1) := dk_28 (dk_at dksX0_quotient_0 12 rfl rfl)
theorem dX0_quotient_13 : decode cX0_quotient 13 = .ok (.invokevirtual 21, 3) := dk_182 0 21 (dk_at dksX0_quotient_0 13 rfl rfl)
theorem dX0_quotient_16 : decode cX0_quotient 16 = .ok (.iconst 0, 1) := dk_3 (dk_at dksX0_quotient_0 16 rfl rfl)
theorem dX0_quotient_17 : decode cX0_quotient 17 = .ok (.istore 5, 2) := dk_54 5 (dk_at dksX0_quotient_0 17 rfl rfl)
theorem dX0_quotient_19 : decode cX0_quotient 19 = .ok (.iload 4, 2) := dk_21 4 (dk_at dksX0_quotient_0 19 rfl rfl)
theorem dX0_quotient_21 : decode cX0_quotient 21 = .ok (.istore 6, 2) := dk_54 6 (dk_at dksX0_quotient_0 21 rfl rfl)
theorem dX0_quotient_23 : decode cX0_quotient 23 = .ok (.iload 5, 2) := dk_21 5 (dk_at dksX0_quotient_1 0 rfl rfl)
theorem dX0_quotient_25 : decode cX0_quotient 25 = .ok (.iload 6, 2) := dk_21 6 (dk_at dksX0_quotient_1 2 rfl rfl)
theorem dX0_quotient_27 : decode cX0_quotient 27 = .ok (.if_icmp .ge 66, 3) := dk_162 0 66 (dk_at dksX0_quotient_1 4 rfl rfl)
theorem dX0_quotient_30 : decode cX0_quotient 30 = .ok (.iload 5, 2) := dk_21 5 (dk_at dksX0_quotient_1 7 rfl rfl)
theorem dX0_quotient_32 : decode cX0_quotient 32 = .ok (.i2l, 1) := dk_133 (dk_at dksX0_quotient_1 9 rfl rfl)
theorem dX0_quotient_33 : decode cX0_quotient 33 = .ok (.iload 6, 2) := dk_21 6 (dk_at dksX0_quotient_1 10 rfl rfl)
theorem dX0_quotient_35 : decode cX0_quotient 35 = .ok (.i2l, 1) := dk_133 (dk_at dksX0_quotient_1 12 rfl rfl)
theorem dX0_quotient_36 : decode cX0_quotient 36 = .ok (.ladd, 1) := dk_97 (dk_at dksX0_quotient_1 13 rfl rfl)
theorem dX0_quotient_37 : decode cX0_quotient 37 = .ok (.lconst 1, 1) := dk_10 (dk_at dksX0_quotient_1 14 rfl rfl)
theorem dX0_quotient_38 : decode cX0_quotient 38 = .ok (.ladd, 1) := dk_97 (dk_at dksX0_quotient_1 15 rfl rfl)
theorem dX0_quotient_39 : decode cX0_quotient 39 = .ok (.ldc2_w 25, 3) := dk_20 0 25 (dk_at dksX0_quotient_1 16 rfl rfl)
theorem dX0_quotient_42 : decode cX0_quotient 42 = .ok (.ldiv, 1) := dk_109 (dk_at dksX0_quotient_1 19 rfl rfl)
theorem dX0_quotient_43 : decode cX0_quotient 43 = .ok (.l2i, 1) := dk_136 (dk_at dksX0_quotient_1 20 rfl rfl)
theorem dX0_quotient_44 : decode cX0_quotient 44 = .ok (.istore 7, 2) := dk_54 7 (dk_at dksX0_quotient_1 21 rfl rfl)
theorem dX0_quotient_46 : decode cX0_quotient 46 = .ok (.aload_n 0, 1) := dk_42 (dk_at dksX0_quotient_1 23 rfl rfl)
theorem dX0_quotient_47 : decode cX0_quotient 47 = .ok (.getfield 27, 3) := dk_180 0 27 (dk_at dksX0_quotient_2 0 rfl rfl)
theorem dX0_quotient_50 : decode cX0_quotient 50 = .ok (.aload_n 3, 1) := dk_45 (dk_at dksX0_quotient_2 3 rfl rfl)
theorem dX0_quotient_51 : decode cX0_quotient 51 = .ok (.invokevirtual 15, 3) := dk_182 0 15 (dk_at dksX0_quotient_2 4 rfl rfl)
theorem dX0_quotient_54 : decode cX0_quotient 54 = .ok (.aload_n 0, 1) := dk_42 (dk_at dksX0_quotient_2 7 rfl rfl)
theorem dX0_quotient_55 : decode cX0_quotient 55 = .ok (.getfield 27, 3) := dk_180 0 27 (dk_at dksX0_quotient_2 8 rfl rfl)
theorem dX0_quotient_58 : decode cX0_quotient 58 = .ok (.iload 7, 2) := dk_21 7 (dk_at dksX0_quotient_2 11 rfl rfl)
theorem dX0_quotient_60 : decode cX0_quotient 60 = .ok (.invokevirtual 21, 3) := dk_182 0 21 (dk_at dksX0_quotient_2 13 rfl rfl)
theorem dX0_quotient_63 : decode cX0_quotient 63 = .ok (.aload_n 0, 1) := dk_42 (dk_at dksX0_quotient_2 16 rfl rfl)
theorem dX0_quotient_64 : decode cX0_quotient 64 = .ok (.getfield 27, 3) := dk_180 0 27 (dk_at dksX0_quotient_2 17 rfl rfl)
theorem dX0_quotient_67 : decode cX0_quotient 67 = .ok (.aload_n 0, 1) := dk_42 (dk_at dksX0_quotient_2 20 rfl rfl)
theorem dX0_quotient_68 : decode cX0_quotient 68 = .ok (.getfield 11, 3) := dk_180 0 11 (dk_at dksX0_quotient_2 21 rfl rfl)
theorem dX0_quotient_71 : decode cX0_quotient 71 = .ok (.invokevirtual 30, 3) := dk_182 0 30 (dk_at dksX0_quotient_3 0 rfl rfl)
theorem dX0_quotient_74 : decode cX0_quotient 74 = .ok (.ifCond .le 12, 3) := dk_158 0 12 (dk_at dksX0_quotient_3 3 rfl rfl)
theorem dX0_quotient_77 : decode cX0_quotient 77 = .ok (.iload 7, 2) := dk_21 7 (dk_at dksX0_quotient_3 6 rfl rfl)
theorem dX0_quotient_79 : decode cX0_quotient 79 = .ok (.iconst 1, 1) := dk_4 (dk_at dksX0_quotient_3 8 rfl rfl)
theorem dX0_quotient_80 : decode cX0_quotient 80 = .ok (.isub, 1) := dk_100 (dk_at dksX0_quotient_3 9 rfl rfl)
theorem dX0_quotient_81 : decode cX0_quotient 81 = .ok (.istore 6, 2) := dk_54 6 (dk_at dksX0_quotient_3 10 rfl rfl)
theorem dX0_quotient_83 : decode cX0_quotient 83 = .ok (.goto 7, 3) := dk_167 0 7 (dk_at dksX0_quotient_3 12 rfl rfl)
theorem dX0_quotient_86 : decode cX0_quotient 86 = .ok (.iload 7, 2) := dk_21 7 (dk_at dksX0_quotient_3 15 rfl rfl)
theorem dX0_quotient_88 : decode cX0_quotient 88 = .ok (.istore 5, 2) := dk_54 5 (dk_at dksX0_quotient_3 17 rfl rfl)
theorem dX0_quotient_90 : decode cX0_quotient 90 = .ok (.goto (-67), 3) := dk_167 255 189 (dk_at dksX0_quotient_3 19 rfl rfl)
theorem dX0_quotient_93 : decode cX0_quotient 93 = .ok (.iload 5, 2) := dk_21 5 (dk_at dksX0_quotient_3 22 rfl rfl)
theorem dX0_quotient_95 : decode cX0_quotient 95 = .ok (.ireturn, 1) := dk_172 (dk_at dksX0_quotient_4 0 rfl rfl)
abbrev cX0_sure : ByteArray := prog_1_method_33_code
def yX0_sure : MethodName := ⟨RX0, "sure", "(II)I"⟩
def dkwX0_sure_3 : List UInt8 := [29, 4, 160, 0, 13, 21, 4, 4, 160, 0, 7, 6, 167, 0, 4, 3, 172]
abbrev dktX0_sure_3 : List UInt8 := dkwX0_sure_3 ++ []
def dkwX0_sure_2 : List UInt8 := [182, 1, 13, 54, 4, 29, 5, 160, 0, 7, 4, 167, 0, 29, 21, 4, 5, 160, 0, 7, 5, 167, 0, 19]
abbrev dktX0_sure_2 : List UInt8 := dkwX0_sure_2 ++ dktX0_sure_3
def dkwX0_sure_1 : List UInt8 := [154, 0, 6, 16, 254, 172, 42, 180, 0, 196, 27, 28, 182, 1, 13, 62, 42, 180, 0, 196, 28, 27]
abbrev dktX0_sure_1 : List UInt8 := dkwX0_sure_1 ++ dktX0_sure_2
def dkwX0_sure_0 : List UInt8 := [42, 27, 182, 0, 247, 153, 0, 21, 42, 28, 182, 0, 247, 153, 0, 13, 42, 180, 0, 196, 182, 0, 243]
abbrev dktX0_sure_0 : List UInt8 := dkwX0_sure_0 ++ dktX0_sure_1
theorem dksX0_sure_0 : cX0_sure.data.toList.drop 0 = dktX0_sure_0 := by decide +kernel
theorem dksX0_sure_1 : cX0_sure.data.toList.drop 23 = dktX0_sure_1 := dk_seg dksX0_sure_0 23 rfl rfl
theorem dksX0_sure_2 : cX0_sure.data.toList.drop 45 = dktX0_sure_2 := dk_seg dksX0_sure_1 22 rfl rfl
theorem dksX0_sure_3 : cX0_sure.data.toList.drop 69 = dktX0_sure_3 := dk_seg dksX0_sure_2 24 rfl rfl
theorem dX0_sure_0 : decode cX0_sure 0 = .ok (.aload_n 0, 1) := dk_42 (dk_at dksX0_sure_0 0 rfl rfl)
theorem dX0_sure_1 : decode cX0_sure 1 = .ok (.iload_n 1, 1) := dk_27 (dk_at dksX0_sure_0 1 rfl rfl)
theorem dX0_sure_2 : decode cX0_sure 2 = .ok (.invokevirtual 247, 3) := dk_182 0 247 (dk_at dksX0_sure_0 2 rfl rfl)
theorem dX0_sure_5 : decode cX0_sure 5 = .ok (.ifCond .eq 21, 3) := dk_153 0 21 (dk_at dksX0_sure_0 5 rfl rfl)
theorem dX0_sure_8 : decode cX0_sure 8 = .ok (.aload_n 0, 1) := dk_42 (dk_at dksX0_sure_0 8 rfl rfl)
theorem dX0_sure_9 : decode cX0_sure 9 = .ok (.iload_n 2, 1) := dk_28 (dk_at dksX0_sure_0 9 rfl rfl)
theorem dX0_sure_10 : decode cX0_sure 10 = .ok (.invokevirtual 247, 3) := dk_182 0 247 (dk_at dksX0_sure_0 10 rfl rfl)
theorem dX0_sure_13 : decode cX0_sure 13 = .ok (.ifCond .eq 13, 3) := dk_153 0 13 (dk_at dksX0_sure_0 13 rfl rfl)
theorem dX0_sure_16 : decode cX0_sure 16 = .ok (.aload_n 0, 1) := dk_42 (dk_at dksX0_sure_0 16 rfl rfl)
theorem dX0_sure_17 : decode cX0_sure 17 = .ok (.getfield 196, 3) := dk_180 0 196 (dk_at dksX0_sure_0 17 rfl rfl)
theorem dX0_sure_20 : decode cX0_sure 20 = .ok (.invokevirtual 243, 3) := dk_182 0 243 (dk_at dksX0_sure_0 20 rfl rfl)
theorem dX0_sure_23 : decode cX0_sure 23 = .ok (.ifCond .ne 6, 3) := dk_154 0 6 (dk_at dksX0_sure_1 0 rfl rfl)
theorem dX0_sure_26 : decode cX0_sure 26 = .ok (.bipush (-2), 2) := dk_16 254 (dk_at dksX0_sure_1 3 rfl rfl)
theorem dX0_sure_28 : decode cX0_sure 28 = .ok (.ireturn, 1) := dk_172 (dk_at dksX0_sure_1 5 rfl rfl)
theorem dX0_sure_29 : decode cX0_sure 29 = .ok (.aload_n 0, 1) := dk_42 (dk_at dksX0_sure_1 6 rfl rfl)
theorem dX0_sure_30 : decode cX0_sure 30 = .ok (.getfield 196, 3) := dk_180 0 196 (dk_at dksX0_sure_1 7 rfl rfl)
theorem dX0_sure_33 : decode cX0_sure 33 = .ok (.iload_n 1, 1) := dk_27 (dk_at dksX0_sure_1 10 rfl rfl)
theorem dX0_sure_34 : decode cX0_sure 34 = .ok (.iload_n 2, 1) := dk_28 (dk_at dksX0_sure_1 11 rfl rfl)
theorem dX0_sure_35 : decode cX0_sure 35 = .ok (.invokevirtual 269, 3) := dk_182 1 13 (dk_at dksX0_sure_1 12 rfl rfl)
theorem dX0_sure_38 : decode cX0_sure 38 = .ok (.istore_n 3, 1) := dk_62 (dk_at dksX0_sure_1 15 rfl rfl)
theorem dX0_sure_39 : decode cX0_sure 39 = .ok (.aload_n 0, 1) := dk_42 (dk_at dksX0_sure_1 16 rfl rfl)
theorem dX0_sure_40 : decode cX0_sure 40 = .ok (.getfield 196, 3) := dk_180 0 196 (dk_at dksX0_sure_1 17 rfl rfl)
theorem dX0_sure_43 : decode cX0_sure 43 = .ok (.iload_n 2, 1) := dk_28 (dk_at dksX0_sure_1 20 rfl rfl)
theorem dX0_sure_44 : decode cX0_sure 44 = .ok (.iload_n 1, 1) := dk_27 (dk_at dksX0_sure_1 21 rfl rfl)
theorem dX0_sure_45 : decode cX0_sure 45 = .ok (.invokevirtual 269, 3) := dk_182 1 13 (dk_at dksX0_sure_2 0 rfl rfl)
theorem dX0_sure_48 : decode cX0_sure 48 = .ok (.istore 4, 2) := dk_54 4 (dk_at dksX0_sure_2 3 rfl rfl)
theorem dX0_sure_50 : decode cX0_sure 50 = .ok (.iload_n 3, 1) := dk_29 (dk_at dksX0_sure_2 5 rfl rfl)
theorem dX0_sure_51 : decode cX0_sure 51 = .ok (.iconst 2, 1) := dk_5 (dk_at dksX0_sure_2 6 rfl rfl)
theorem dX0_sure_52 : decode cX0_sure 52 = .ok (.if_icmp .ne 7, 3) := dk_160 0 7 (dk_at dksX0_sure_2 7 rfl rfl)
theorem dX0_sure_55 : decode cX0_sure 55 = .ok (.iconst 1, 1) := dk_4 (dk_at dksX0_sure_2 10 rfl rfl)
theorem dX0_sure_56 : decode cX0_sure 56 = .ok (.goto 29, 3) := dk_167 0 29 (dk_at dksX0_sure_2 11 rfl rfl)
theorem dX0_sure_59 : decode cX0_sure 59 = .ok (.iload 4, 2) := dk_21 4 (dk_at dksX0_sure_2 14 rfl rfl)
theorem dX0_sure_61 : decode cX0_sure 61 = .ok (.iconst 2, 1) := dk_5 (dk_at dksX0_sure_2 16 rfl rfl)
theorem dX0_sure_62 : decode cX0_sure 62 = .ok (.if_icmp .ne 7, 3) := dk_160 0 7 (dk_at dksX0_sure_2 17 rfl rfl)
theorem dX0_sure_65 : decode cX0_sure 65 = .ok (.iconst 2, 1) := dk_5 (dk_at dksX0_sure_2 20 rfl rfl)
theorem dX0_sure_66 : decode cX0_sure 66 = .ok (.goto 19, 3) := dk_167 0 19 (dk_at dksX0_sure_2 21 rfl rfl)
theorem dX0_sure_69 : decode cX0_sure 69 = .ok (.iload_n 3, 1) := dk_29 (dk_at dksX0_sure_3 0 rfl rfl)
theorem dX0_sure_70 : decode cX0_sure 70 = .ok (.iconst 1, 1) := dk_4 (dk_at dksX0_sure_3 1 rfl rfl)
theorem dX0_sure_71 : decode cX0_sure 71 = .ok (.if_icmp .ne 13, 3) := dk_160 0 13 (dk_at dksX0_sure_3 2 rfl rfl)
theorem dX0_sure_74 : decode cX0_sure 74 = .ok (.iload 4, 2) := dk_21 4 (dk_at dksX0_sure_3 5 rfl rfl)
theorem dX0_sure_76 : decode cX0_sure 76 = .ok (.iconst 1, 1) := dk_4 (dk_at dksX0_sure_3 7 rfl rfl)
theorem dX0_sure_77 : decode cX0_sure 77 = .ok (.if_icmp .ne 7, 3) := dk_160 0 7 (dk_at dksX0_sure_3 8 rfl rfl)
theorem dX0_sure_80 : decode cX0_sure 80 = .ok (.iconst 3, 1) := dk_6 (dk_at dksX0_sure_3 11 rfl rfl)
theorem dX0_sure_81 : decode cX0_sure 81 = .ok (.goto 4, 3) := dk_167 0 4 (dk_at dksX0_sure_3 12 rfl rfl)
theorem dX0_sure_84 : decode cX0_sure 84 = .ok (.iconst 0, 1) := dk_3 (dk_at dksX0_sure_3 15 rfl rfl)
theorem dX0_sure_85 : decode cX0_sure 85 = .ok (.ireturn, 1) := dk_172 (dk_at dksX0_sure_3 16 rfl rfl)
abbrev cX0_feet : ByteArray := prog_1_method_34_code
def yX0_feet : MethodName := ⟨RX0, "feet", "(III)I"⟩
def dkwX0_feet_10 : List UInt8 := [184, 1, 17, 172]
abbrev dktX0_feet_10 : List UInt8 := dkwX0_feet_10 ++ []
def dkwX0_feet_9 : List UInt8 := [180, 0, 196, 180, 1, 5, 21, 5, 50, 182, 0, 30, 154, 0, 10, 21, 6, 4, 100, 167, 0, 5, 21, 6]
abbrev dktX0_feet_9 : List UInt8 := dkwX0_feet_9 ++ dktX0_feet_10
def dkwX0_feet_8 : List UInt8 := [182, 0, 21, 17, 7, 208, 42, 180, 0, 196, 180, 0, 253, 21, 5, 51, 153, 0, 30, 42, 180, 0, 27, 42]
abbrev dktX0_feet_8 : List UInt8 := dkwX0_feet_8 ++ dktX0_feet_9
def dkwX0_feet_7 : List UInt8 := [180, 0, 27, 42, 180, 0, 196, 180, 1, 0, 21, 5, 50, 182, 0, 15, 42, 180, 0, 27, 21, 6]
abbrev dktX0_feet_7 : List UInt8 := dkwX0_feet_7 ++ dktX0_feet_8
def dkwX0_feet_6 : List UInt8 := [21, 5, 50, 4, 42, 180, 0, 196, 180, 1, 0, 21, 5, 50, 17, 7, 209, 182, 1, 9, 54, 6, 42]
abbrev dktX0_feet_6 : List UInt8 := dkwX0_feet_6 ++ dktX0_feet_7
def dkwX0_feet_5 : List UInt8 := [180, 0, 196, 180, 1, 5, 21, 5, 50, 17, 7, 208, 182, 1, 9, 172, 42, 42, 180, 0, 196, 180, 1, 5]
abbrev dktX0_feet_5 : List UInt8 := dkwX0_feet_5 ++ dktX0_feet_6
def dkwX0_feet_4 : List UInt8 := [3, 167, 0, 4, 2, 172, 29, 154, 0, 32, 42, 42, 180, 0, 196, 180, 1, 0, 21, 5, 50, 4, 42]
abbrev dktX0_feet_4 : List UInt8 := dkwX0_feet_4 ++ dktX0_feet_5
def dkwX0_feet_3 : List UInt8 := [21, 4, 104, 27, 96, 54, 5, 42, 180, 0, 196, 180, 0, 250, 21, 5, 51, 154, 0, 13, 29, 154, 0, 7]
abbrev dktX0_feet_3 : List UInt8 := dkwX0_feet_3 ++ dktX0_feet_4
def dkwX0_feet_2 : List UInt8 := [172, 16, 12, 28, 96, 54, 4, 29, 154, 0, 13, 16, 16, 27, 104, 21, 4, 96, 167, 0, 10, 16, 16]
abbrev dktX0_feet_2 : List UInt8 := dkwX0_feet_2 ++ dktX0_feet_3
def dkwX0_feet_1 : List UInt8 := [153, 0, 22, 29, 3, 4, 184, 0, 41, 153, 0, 13, 42, 180, 0, 196, 182, 0, 243, 154, 0, 6, 16, 254]
abbrev dktX0_feet_1 : List UInt8 := dkwX0_feet_1 ++ dktX0_feet_2
def dkwX0_feet_0 : List UInt8 := [27, 3, 16, 11, 184, 0, 41, 153, 0, 37, 42, 27, 182, 0, 247, 153, 0, 29, 28, 184, 0, 83]
abbrev dktX0_feet_0 : List UInt8 := dkwX0_feet_0 ++ dktX0_feet_1
theorem dksX0_feet_0 : cX0_feet.data.toList.drop 0 = dktX0_feet_0 := by decide +kernel
theorem dksX0_feet_1 : cX0_feet.data.toList.drop 22 = dktX0_feet_1 := dk_seg dksX0_feet_0 22 rfl rfl
theorem dksX0_feet_2 : cX0_feet.data.toList.drop 46 = dktX0_feet_2 := dk_seg dksX0_feet_1 24 rfl rfl
theorem dksX0_feet_3 : cX0_feet.data.toList.drop 69 = dktX0_feet_3 := dk_seg dksX0_feet_2 23 rfl rfl
theorem dksX0_feet_4 : cX0_feet.data.toList.drop 93 = dktX0_feet_4 := dk_seg dksX0_feet_3 24 rfl rfl
theorem dksX0_feet_5 : cX0_feet.data.toList.drop 116 = dktX0_feet_5 := dk_seg dksX0_feet_4 23 rfl rfl
theorem dksX0_feet_6 : cX0_feet.data.toList.drop 140 = dktX0_feet_6 := dk_seg dksX0_feet_5 24 rfl rfl
theorem dksX0_feet_7 : cX0_feet.data.toList.drop 163 = dktX0_feet_7 := dk_seg dksX0_feet_6 23 rfl rfl
theorem dksX0_feet_8 : cX0_feet.data.toList.drop 185 = dktX0_feet_8 := dk_seg dksX0_feet_7 22 rfl rfl
theorem dksX0_feet_9 : cX0_feet.data.toList.drop 209 = dktX0_feet_9 := dk_seg dksX0_feet_8 24 rfl rfl
theorem dksX0_feet_10 : cX0_feet.data.toList.drop 233 = dktX0_feet_10 := dk_seg dksX0_feet_9 24 rfl rfl
theorem dX0_feet_0 : decode cX0_feet 0 = .ok (.iload_n 1, 1) := dk_27 (dk_at dksX0_feet_0 0 rfl rfl)
theorem dX0_feet_1 : decode cX0_feet 1 = .ok (.iconst 0, 1) := dk_3 (dk_at dksX0_feet_0 1 rfl rfl)
theorem dX0_feet_2 : decode cX0_feet 2 = .ok (.bipush 11, 2) := dk_16 11 (dk_at dksX0_feet_0 2 rfl rfl)
theorem dX0_feet_4 : decode cX0_feet 4 = .ok (.invokestatic 41, 3) := dk_184 0 41 (dk_at dksX0_feet_0 4 rfl rfl)
theorem dX0_feet_7 : decode cX0_feet 7 = .ok (.ifCond .eq 37, 3) := dk_153 0 37 (dk_at dksX0_feet_0 7 rfl rfl)
theorem dX0_feet_10 : decode cX0_feet 10 = .ok (.aload_n 0, 1) := dk_42 (dk_at dksX0_feet_0 10 rfl rfl)
theorem dX0_feet_11 : decode cX0_feet 11 = .ok (.iload_n 1, 1) := dk_27 (dk_at dksX0_feet_0 11 rfl rfl)
theorem dX0_feet_12 : decode cX0_feet 12 = .ok (.invokevirtual 247, 3) := dk_182 0 247 (dk_at dksX0_feet_0 12 rfl rfl)
theorem dX0_feet_15 : decode cX0_feet 15 = .ok (.ifCond .eq 29, 3) := dk_153 0 29 (dk_at dksX0_feet_0 15 rfl rfl)
theorem dX0_feet_18 : decode cX0_feet 18 = .ok (.iload_n 2, 1) := dk_28 (dk_at dksX0_feet_0 18 rfl rfl)
theorem dX0_feet_19 : decode cX0_feet 19 = .ok (.invokestatic 83, 3) := dk_184 0 83 (dk_at dksX0_feet_0 19 rfl rfl)
theorem dX0_feet_22 : decode cX0_feet 22 = .ok (.ifCond .eq 22, 3) := dk_153 0 22 (dk_at dksX0_feet_1 0 rfl rfl)
theorem dX0_feet_25 : decode cX0_feet 25 = .ok (.iload_n 3, 1) := dk_29 (dk_at dksX0_feet_1 3 rfl rfl)
theorem dX0_feet_26 : decode cX0_feet 26 = .ok (.iconst 0, 1) := dk_3 (dk_at dksX0_feet_1 4 rfl rfl)
theorem dX0_feet_27 : decode cX0_feet 27 = .ok (.iconst 1, 1) := dk_4 (dk_at dksX0_feet_1 5 rfl rfl)
theorem dX0_feet_28 : decode cX0_feet 28 = .ok (.invokestatic 41, 3) := dk_184 0 41 (dk_at dksX0_feet_1 6 rfl rfl)
theorem dX0_feet_31 : decode cX0_feet 31 = .ok (.ifCond .eq 13, 3) := dk_153 0 13 (dk_at dksX0_feet_1 9 rfl rfl)
theorem dX0_feet_34 : decode cX0_feet 34 = .ok (.aload_n 0, 1) := dk_42 (dk_at dksX0_feet_1 12 rfl rfl)
theorem dX0_feet_35 : decode cX0_feet 35 = .ok (.getfield 196, 3) := dk_180 0 196 (dk_at dksX0_feet_1 13 rfl rfl)
theorem dX0_feet_38 : decode cX0_feet 38 = .ok (.invokevirtual 243, 3) := dk_182 0 243 (dk_at dksX0_feet_1 16 rfl rfl)
theorem dX0_feet_41 : decode cX0_feet 41 = .ok (.ifCond .ne 6, 3) := dk_154 0 6 (dk_at dksX0_feet_1 19 rfl rfl)
theorem dX0_feet_44 : decode cX0_feet 44 = .ok (.bipush (-2), 2) := dk_16 254 (dk_at dksX0_feet_1 22 rfl rfl)
theorem dX0_feet_46 : decode cX0_feet 46 = .ok (.ireturn, 1) := dk_172 (dk_at dksX0_feet_2 0 rfl rfl)
theorem dX0_feet_47 : decode cX0_feet 47 = .ok (.bipush 12, 2) := dk_16 12 (dk_at dksX0_feet_2 1 rfl rfl)
theorem dX0_feet_49 : decode cX0_feet 49 = .ok (.iload_n 2, 1) := dk_28 (dk_at dksX0_feet_2 3 rfl rfl)
theorem dX0_feet_50 : decode cX0_feet 50 = .ok (.iadd, 1) := dk_96 (dk_at dksX0_feet_2 4 rfl rfl)
theorem dX0_feet_51 : decode cX0_feet 51 = .ok (.istore 4, 2) := dk_54 4 (dk_at dksX0_feet_2 5 rfl rfl)
theorem dX0_feet_53 : decode cX0_feet 53 = .ok (.iload_n 3, 1) := dk_29 (dk_at dksX0_feet_2 7 rfl rfl)
theorem dX0_feet_54 : decode cX0_feet 54 = .ok (.ifCond .ne 13, 3) := dk_154 0 13 (dk_at dksX0_feet_2 8 rfl rfl)
theorem dX0_feet_57 : decode cX0_feet 57 = .ok (.bipush 16, 2) := dk_16 16 (dk_at dksX0_feet_2 11 rfl rfl)
theorem dX0_feet_59 : decode cX0_feet 59 = .ok (.iload_n 1, 1) := dk_27 (dk_at dksX0_feet_2 13 rfl rfl)
theorem dX0_feet_60 : decode cX0_feet 60 = .ok (.imul, 1) := dk_104 (dk_at dksX0_feet_2 14 rfl rfl)
theorem dX0_feet_61 : decode cX0_feet 61 = .ok (.iload 4, 2) := dk_21 4 (dk_at dksX0_feet_2 15 rfl rfl)
theorem dX0_feet_63 : decode cX0_feet 63 = .ok (.iadd, 1) := dk_96 (dk_at dksX0_feet_2 17 rfl rfl)
theorem dX0_feet_64 : decode cX0_feet 64 = .ok (.goto 10, 3) := dk_167 0 10 (dk_at dksX0_feet_2 18 rfl rfl)
theorem dX0_feet_67 : decode cX0_feet 67 = .ok (.bipush 16, 2) := dk_16 16 (dk_at dksX0_feet_2 21 rfl rfl)
theorem dX0_feet_69 : decode cX0_feet 69 = .ok (.iload 4, 2) := dk_21 4 (dk_at dksX0_feet_3 0 rfl rfl)
theorem dX0_feet_71 : decode cX0_feet 71 = .ok (.imul, 1) := dk_104 (dk_at dksX0_feet_3 2 rfl rfl)
theorem dX0_feet_72 : decode cX0_feet 72 = .ok (.iload_n 1, 1) := dk_27 (dk_at dksX0_feet_3 3 rfl rfl)
theorem dX0_feet_73 : decode cX0_feet 73 = .ok (.iadd, 1) := dk_96 (dk_at dksX0_feet_3 4 rfl rfl)
theorem dX0_feet_74 : decode cX0_feet 74 = .ok (.istore 5, 2) := dk_54 5 (dk_at dksX0_feet_3 5 rfl rfl)
theorem dX0_feet_76 : decode cX0_feet 76 = .ok (.aload_n 0, 1) := dk_42 (dk_at dksX0_feet_3 7 rfl rfl)
theorem dX0_feet_77 : decode cX0_feet 77 = .ok (.getfield 196, 3) := dk_180 0 196 (dk_at dksX0_feet_3 8 rfl rfl)
theorem dX0_feet_80 : decode cX0_feet 80 = .ok (.getfield 250, 3) := dk_180 0 250 (dk_at dksX0_feet_3 11 rfl rfl)
theorem dX0_feet_83 : decode cX0_feet 83 = .ok (.iload 5, 2) := dk_21 5 (dk_at dksX0_feet_3 14 rfl rfl)
theorem dX0_feet_85 : decode cX0_feet 85 = .ok (.baload, 1) := dk_51 (dk_at dksX0_feet_3 16 rfl rfl)
theorem dX0_feet_86 : decode cX0_feet 86 = .ok (.ifCond .ne 13, 3) := dk_154 0 13 (dk_at dksX0_feet_3 17 rfl rfl)
theorem dX0_feet_89 : decode cX0_feet 89 = .ok (.iload_n 3, 1) := dk_29 (dk_at dksX0_feet_3 20 rfl rfl)
theorem dX0_feet_90 : decode cX0_feet 90 = .ok (.ifCond .ne 7, 3) := dk_154 0 7 (dk_at dksX0_feet_3 21 rfl rfl)
theorem dX0_feet_93 : decode cX0_feet 93 = .ok (.iconst 0, 1) := dk_3 (dk_at dksX0_feet_4 0 rfl rfl)
theorem dX0_feet_94 : decode cX0_feet 94 = .ok (.goto 4, 3) := dk_167 0 4 (dk_at dksX0_feet_4 1 rfl rfl)
theorem dX0_feet_97 : decode cX0_feet 97 = .ok (.iconst (-1), 1) := dk_2 (dk_at dksX0_feet_4 4 rfl rfl)
theorem dX0_feet_98 : decode cX0_feet 98 = .ok (.ireturn, 1) := dk_172 (dk_at dksX0_feet_4 5 rfl rfl)
theorem dX0_feet_99 : decode cX0_feet 99 = .ok (.iload_n 3, 1) := dk_29 (dk_at dksX0_feet_4 6 rfl rfl)
theorem dX0_feet_100 : decode cX0_feet 100 = .ok (.ifCond .ne 32, 3) := dk_154 0 32 (dk_at dksX0_feet_4 7 rfl rfl)
theorem dX0_feet_103 : decode cX0_feet 103 = .ok (.aload_n 0, 1) := dk_42 (dk_at dksX0_feet_4 10 rfl rfl)
theorem dX0_feet_104 : decode cX0_feet 104 = .ok (.aload_n 0, 1) := dk_42 (dk_at dksX0_feet_4 11 rfl rfl)
theorem dX0_feet_105 : decode cX0_feet 105 = .ok (.getfield 196, 3) := dk_180 0 196 (dk_at dksX0_feet_4 12 rfl rfl)
theorem dX0_feet_108 : decode cX0_feet 108 = .ok (.getfield 256, 3) := dk_180 1 0 (dk_at dksX0_feet_4 15 rfl rfl)
theorem dX0_feet_111 : decode cX0_feet 111 = .ok (.iload 5, 2) := dk_21 5 (dk_at dksX0_feet_4 18 rfl rfl)
theorem dX0_feet_113 : decode cX0_feet 113 = .ok (.aaload, 1) := dk_50 (dk_at dksX0_feet_4 20 rfl rfl)
theorem dX0_feet_114 : decode cX0_feet 114 = .ok (.iconst 1, 1) := dk_4 (dk_at dksX0_feet_4 21 rfl rfl)
theorem dX0_feet_115 : decode cX0_feet 115 = .ok (.aload_n 0, 1) := dk_42 (dk_at dksX0_feet_4 22 rfl rfl)
theorem dX0_feet_116 : decode cX0_feet 116 = .ok (.getfield 196, 3) := dk_180 0 196 (dk_at dksX0_feet_5 0 rfl rfl)
theorem dX0_feet_119 : decode cX0_feet 119 = .ok (.getfield 261, 3) := dk_180 1 5 (dk_at dksX0_feet_5 3 rfl rfl)
theorem dX0_feet_122 : decode cX0_feet 122 = .ok (.iload 5, 2) := dk_21 5 (dk_at dksX0_feet_5 6 rfl rfl)
theorem dX0_feet_124 : decode cX0_feet 124 = .ok (.aaload, 1) := dk_50 (dk_at dksX0_feet_5 8 rfl rfl)
theorem dX0_feet_125 : decode cX0_feet 125 = .ok (.sipush 2000, 3) := dk_17 7 208 (dk_at dksX0_feet_5 9 rfl rfl)
theorem dX0_feet_128 : decode cX0_feet 128 = .ok (.invokevirtual 265, 3) := dk_182 1 9 (dk_at dksX0_feet_5 12 rfl rfl)
theorem dX0_feet_131 : decode cX0_feet 131 = .ok (.ireturn, 1) := dk_172 (dk_at dksX0_feet_5 15 rfl rfl)
theorem dX0_feet_132 : decode cX0_feet 132 = .ok (.aload_n 0, 1) := dk_42 (dk_at dksX0_feet_5 16 rfl rfl)
theorem dX0_feet_133 : decode cX0_feet 133 = .ok (.aload_n 0, 1) := dk_42 (dk_at dksX0_feet_5 17 rfl rfl)
theorem dX0_feet_134 : decode cX0_feet 134 = .ok (.getfield 196, 3) := dk_180 0 196 (dk_at dksX0_feet_5 18 rfl rfl)
theorem dX0_feet_137 : decode cX0_feet 137 = .ok (.getfield 261, 3) := dk_180 1 5 (dk_at dksX0_feet_5 21 rfl rfl)
theorem dX0_feet_140 : decode cX0_feet 140 = .ok (.iload 5, 2) := dk_21 5 (dk_at dksX0_feet_6 0 rfl rfl)
theorem dX0_feet_142 : decode cX0_feet 142 = .ok (.aaload, 1) := dk_50 (dk_at dksX0_feet_6 2 rfl rfl)
theorem dX0_feet_143 : decode cX0_feet 143 = .ok (.iconst 1, 1) := dk_4 (dk_at dksX0_feet_6 3 rfl rfl)
theorem dX0_feet_144 : decode cX0_feet 144 = .ok (.aload_n 0, 1) := dk_42 (dk_at dksX0_feet_6 4 rfl rfl)
theorem dX0_feet_145 : decode cX0_feet 145 = .ok (.getfield 196, 3) := dk_180 0 196 (dk_at dksX0_feet_6 5 rfl rfl)
theorem dX0_feet_148 : decode cX0_feet 148 = .ok (.getfield 256, 3) := dk_180 1 0 (dk_at dksX0_feet_6 8 rfl rfl)
theorem dX0_feet_151 : decode cX0_feet 151 = .ok (.iload 5, 2) := dk_21 5 (dk_at dksX0_feet_6 11 rfl rfl)
theorem dX0_feet_153 : decode cX0_feet 153 = .ok (.aaload, 1) := dk_50 (dk_at dksX0_feet_6 13 rfl rfl)
theorem dX0_feet_154 : decode cX0_feet 154 = .ok (.sipush 2001, 3) := dk_17 7 209 (dk_at dksX0_feet_6 14 rfl rfl)
theorem dX0_feet_157 : decode cX0_feet 157 = .ok (.invokevirtual 265, 3) := dk_182 1 9 (dk_at dksX0_feet_6 17 rfl rfl)
theorem dX0_feet_160 : decode cX0_feet 160 = .ok (.istore 6, 2) := dk_54 6 (dk_at dksX0_feet_6 20 rfl rfl)
theorem dX0_feet_162 : decode cX0_feet 162 = .ok (.aload_n 0, 1) := dk_42 (dk_at dksX0_feet_6 22 rfl rfl)
theorem dX0_feet_163 : decode cX0_feet 163 = .ok (.getfield 27, 3) := dk_180 0 27 (dk_at dksX0_feet_7 0 rfl rfl)
theorem dX0_feet_166 : decode cX0_feet 166 = .ok (.aload_n 0, 1) := dk_42 (dk_at dksX0_feet_7 3 rfl rfl)
theorem dX0_feet_167 : decode cX0_feet 167 = .ok (.getfield 196, 3) := dk_180 0 196 (dk_at dksX0_feet_7 4 rfl rfl)
theorem dX0_feet_170 : decode cX0_feet 170 = .ok (.getfield 256, 3) := dk_180 1 0 (dk_at dksX0_feet_7 7 rfl rfl)
theorem dX0_feet_173 : decode cX0_feet 173 = .ok (.iload 5, 2) := dk_21 5 (dk_at dksX0_feet_7 10 rfl rfl)
theorem dX0_feet_175 : decode cX0_feet 175 = .ok (.aaload, 1) := dk_50 (dk_at dksX0_feet_7 12 rfl rfl)
theorem dX0_feet_176 : decode cX0_feet 176 = .ok (.invokevirtual 15, 3) := dk_182 0 15 (dk_at dksX0_feet_7 13 rfl rfl)
theorem dX0_feet_179 : decode cX0_feet 179 = .ok (.aload_n 0, 1) := dk_42 (dk_at dksX0_feet_7 16 rfl rfl)
theorem dX0_feet_180 : decode cX0_feet 180 = .ok (.getfield 27, 3) := dk_180 0 27 (dk_at dksX0_feet_7 17 rfl rfl)
theorem dX0_feet_183 : decode cX0_feet 183 = .ok (.iload 6, 2) := dk_21 6 (dk_at dksX0_feet_7 20 rfl rfl)
theorem dX0_feet_185 : decode cX0_feet 185 = .ok (.invokevirtual 21, 3) := dk_182 0 21 (dk_at dksX0_feet_8 0 rfl rfl)
theorem dX0_feet_188 : decode cX0_feet 188 = .ok (.sipush 2000, 3) := dk_17 7 208 (dk_at dksX0_feet_8 3 rfl rfl)
theorem dX0_feet_191 : decode cX0_feet 191 = .ok (.aload_n 0, 1) := dk_42 (dk_at dksX0_feet_8 6 rfl rfl)
theorem dX0_feet_192 : decode cX0_feet 192 = .ok (.getfield 196, 3) := dk_180 0 196 (dk_at dksX0_feet_8 7 rfl rfl)
theorem dX0_feet_195 : decode cX0_feet 195 = .ok (.getfield 253, 3) := dk_180 0 253 (dk_at dksX0_feet_8 10 rfl rfl)
theorem dX0_feet_198 : decode cX0_feet 198 = .ok (.iload 5, 2) := dk_21 5 (dk_at dksX0_feet_8 13 rfl rfl)
theorem dX0_feet_200 : decode cX0_feet 200 = .ok (.baload, 1) := dk_51 (dk_at dksX0_feet_8 15 rfl rfl)
theorem dX0_feet_201 : decode cX0_feet 201 = .ok (.ifCond .eq 30, 3) := dk_153 0 30 (dk_at dksX0_feet_8 16 rfl rfl)
theorem dX0_feet_204 : decode cX0_feet 204 = .ok (.aload_n 0, 1) := dk_42 (dk_at dksX0_feet_8 19 rfl rfl)
theorem dX0_feet_205 : decode cX0_feet 205 = .ok (.getfield 27, 3) := dk_180 0 27 (dk_at dksX0_feet_8 20 rfl rfl)
theorem dX0_feet_208 : decode cX0_feet 208 = .ok (.aload_n 0, 1) := dk_42 (dk_at dksX0_feet_8 23 rfl rfl)
theorem dX0_feet_209 : decode cX0_feet 209 = .ok (.getfield 196, 3) := dk_180 0 196 (dk_at dksX0_feet_9 0 rfl rfl)
theorem dX0_feet_212 : decode cX0_feet 212 = .ok (.getfield 261, 3) := dk_180 1 5 (dk_at dksX0_feet_9 3 rfl rfl)
theorem dX0_feet_215 : decode cX0_feet 215 = .ok (.iload 5, 2) := dk_21 5 (dk_at dksX0_feet_9 6 rfl rfl)
theorem dX0_feet_217 : decode cX0_feet 217 = .ok (.aaload, 1) := dk_50 (dk_at dksX0_feet_9 8 rfl rfl)
theorem dX0_feet_218 : decode cX0_feet 218 = .ok (.invokevirtual 30, 3) := dk_182 0 30 (dk_at dksX0_feet_9 9 rfl rfl)
theorem dX0_feet_221 : decode cX0_feet 221 = .ok (.ifCond .ne 10, 3) := dk_154 0 10 (dk_at dksX0_feet_9 12 rfl rfl)
theorem dX0_feet_224 : decode cX0_feet 224 = .ok (.iload 6, 2) := dk_21 6 (dk_at dksX0_feet_9 15 rfl rfl)
theorem dX0_feet_226 : decode cX0_feet 226 = .ok (.iconst 1, 1) := dk_4 (dk_at dksX0_feet_9 17 rfl rfl)
theorem dX0_feet_227 : decode cX0_feet 227 = .ok (.isub, 1) := dk_100 (dk_at dksX0_feet_9 18 rfl rfl)
theorem dX0_feet_228 : decode cX0_feet 228 = .ok (.goto 5, 3) := dk_167 0 5 (dk_at dksX0_feet_9 19 rfl rfl)
theorem dX0_feet_231 : decode cX0_feet 231 = .ok (.iload 6, 2) := dk_21 6 (dk_at dksX0_feet_9 22 rfl rfl)
theorem dX0_feet_233 : decode cX0_feet 233 = .ok (.invokestatic 273, 3) := dk_184 1 17 (dk_at dksX0_feet_10 0 rfl rfl)
theorem dX0_feet_236 : decode cX0_feet 236 = .ok (.ireturn, 1) := dk_172 (dk_at dksX0_feet_10 3 rfl rfl)
abbrev cX0_part : ByteArray := prog_1_method_37_code
def yX0_part : MethodName := ⟨RX0, "part", "(III)J"⟩
def dkwX0_part_4 : List UInt8 := [184, 1, 22, 55, 9, 29, 154, 0, 11, 22, 5, 22, 9, 109, 167, 0, 8, 22, 7, 22, 9, 109, 173]
abbrev dktX0_part_4 : List UInt8 := dkwX0_part_4 ++ []
def dkwX0_part_3 : List UInt8 := [184, 1, 36, 55, 5, 42, 180, 0, 196, 180, 1, 5, 21, 4, 50, 184, 1, 36, 55, 7, 22, 5, 22, 7]
abbrev dktX0_part_3 : List UInt8 := dkwX0_part_3 ++ dktX0_part_4
def dkwX0_part_2 : List UInt8 := [154, 0, 5, 9, 173, 16, 16, 27, 104, 28, 96, 54, 4, 42, 180, 0, 196, 180, 1, 0, 21, 4, 50]
abbrev dktX0_part_2 : List UInt8 := dkwX0_part_2 ++ dktX0_part_3
def dkwX0_part_1 : List UInt8 := [153, 0, 13, 42, 180, 0, 196, 182, 0, 243, 154, 0, 7, 20, 1, 31, 173, 42, 27, 28, 182, 1, 33]
abbrev dktX0_part_1 : List UInt8 := dkwX0_part_1 ++ dktX0_part_2
def dkwX0_part_0 : List UInt8 := [42, 27, 182, 0, 247, 153, 0, 30, 42, 28, 182, 0, 247, 153, 0, 22, 29, 3, 4, 184, 0, 41]
abbrev dktX0_part_0 : List UInt8 := dkwX0_part_0 ++ dktX0_part_1
theorem dksX0_part_0 : cX0_part.data.toList.drop 0 = dktX0_part_0 := by decide +kernel
theorem dksX0_part_1 : cX0_part.data.toList.drop 22 = dktX0_part_1 := dk_seg dksX0_part_0 22 rfl rfl
theorem dksX0_part_2 : cX0_part.data.toList.drop 45 = dktX0_part_2 := dk_seg dksX0_part_1 23 rfl rfl
theorem dksX0_part_3 : cX0_part.data.toList.drop 68 = dktX0_part_3 := dk_seg dksX0_part_2 23 rfl rfl
theorem dksX0_part_4 : cX0_part.data.toList.drop 92 = dktX0_part_4 := dk_seg dksX0_part_3 24 rfl rfl
theorem dX0_part_0 : decode cX0_part 0 = .ok (.aload_n 0, 1) := dk_42 (dk_at dksX0_part_0 0 rfl rfl)
theorem dX0_part_1 : decode cX0_part 1 = .ok (.iload_n 1, 1) := dk_27 (dk_at dksX0_part_0 1 rfl rfl)
theorem dX0_part_2 : decode cX0_part 2 = .ok (.invokevirtual 247, 3) := dk_182 0 247 (dk_at dksX0_part_0 2 rfl rfl)
theorem dX0_part_5 : decode cX0_part 5 = .ok (.ifCond .eq 30, 3) := dk_153 0 30 (dk_at dksX0_part_0 5 rfl rfl)
theorem dX0_part_8 : decode cX0_part 8 = .ok (.aload_n 0, 1) := dk_42 (dk_at dksX0_part_0 8 rfl rfl)
theorem dX0_part_9 : decode cX0_part 9 = .ok (.iload_n 2, 1) := dk_28 (dk_at dksX0_part_0 9 rfl rfl)
theorem dX0_part_10 : decode cX0_part 10 = .ok (.invokevirtual 247, 3) := dk_182 0 247 (dk_at dksX0_part_0 10 rfl rfl)
theorem dX0_part_13 : decode cX0_part 13 = .ok (.ifCond .eq 22, 3) := dk_153 0 22 (dk_at dksX0_part_0 13 rfl rfl)
theorem dX0_part_16 : decode cX0_part 16 = .ok (.iload_n 3, 1) := dk_29 (dk_at dksX0_part_0 16 rfl rfl)
theorem dX0_part_17 : decode cX0_part 17 = .ok (.iconst 0, 1) := dk_3 (dk_at dksX0_part_0 17 rfl rfl)
theorem dX0_part_18 : decode cX0_part 18 = .ok (.iconst 1, 1) := dk_4 (dk_at dksX0_part_0 18 rfl rfl)
theorem dX0_part_19 : decode cX0_part 19 = .ok (.invokestatic 41, 3) := dk_184 0 41 (dk_at dksX0_part_0 19 rfl rfl)
theorem dX0_part_22 : decode cX0_part 22 = .ok (.ifCond .eq 13, 3) := dk_153 0 13 (dk_at dksX0_part_1 0 rfl rfl)
theorem dX0_part_25 : decode cX0_part 25 = .ok (.aload_n 0, 1) := dk_42 (dk_at dksX0_part_1 3 rfl rfl)
theorem dX0_part_26 : decode cX0_part 26 = .ok (.getfield 196, 3) := dk_180 0 196 (dk_at dksX0_part_1 4 rfl rfl)
theorem dX0_part_29 : decode cX0_part 29 = .ok (.invokevirtual 243, 3) := dk_182 0 243 (dk_at dksX0_part_1 7 rfl rfl)
theorem dX0_part_32 : decode cX0_part 32 = .ok (.ifCond .ne 7, 3) := dk_154 0 7 (dk_at dksX0_part_1 10 rfl rfl)
theorem dX0_part_35 : decode cX0_part 35 = .ok (.ldc2_w 287, 3) := dk_20 1 31 (dk_at dksX0_part_1 13 rfl rfl)
theorem dX0_part_38 : decode cX0_part 38 = .ok (.lreturn, 1) := dk_173 (dk_at dksX0_part_1 16 rfl rfl)
theorem dX0_part_39 : decode cX0_part 39 = .ok (.aload_n 0, 1) := dk_42 (dk_at dksX0_part_1 17 rfl rfl)
theorem dX0_part_40 : decode cX0_part 40 = .ok (.iload_n 1, 1) := dk_27 (dk_at dksX0_part_1 18 rfl rfl)
theorem dX0_part_41 : decode cX0_part 41 = .ok (.iload_n 2, 1) := dk_28 (dk_at dksX0_part_1 19 rfl rfl)
theorem dX0_part_42 : decode cX0_part 42 = .ok (.invokevirtual 289, 3) := dk_182 1 33 (dk_at dksX0_part_1 20 rfl rfl)
theorem dX0_part_45 : decode cX0_part 45 = .ok (.ifCond .ne 5, 3) := dk_154 0 5 (dk_at dksX0_part_2 0 rfl rfl)
theorem dX0_part_48 : decode cX0_part 48 = .ok (.lconst 0, 1) := dk_9 (dk_at dksX0_part_2 3 rfl rfl)
theorem dX0_part_49 : decode cX0_part 49 = .ok (.lreturn, 1) := dk_173 (dk_at dksX0_part_2 4 rfl rfl)
theorem dX0_part_50 : decode cX0_part 50 = .ok (.bipush 16, 2) := dk_16 16 (dk_at dksX0_part_2 5 rfl rfl)
theorem dX0_part_52 : decode cX0_part 52 = .ok (.iload_n 1, 1) := dk_27 (dk_at dksX0_part_2 7 rfl rfl)
theorem dX0_part_53 : decode cX0_part 53 = .ok (.imul, 1) := dk_104 (dk_at dksX0_part_2 8 rfl rfl)
theorem dX0_part_54 : decode cX0_part 54 = .ok (.iload_n 2, 1) := dk_28 (dk_at dksX0_part_2 9 rfl rfl)
theorem dX0_part_55 : decode cX0_part 55 = .ok (.iadd, 1) := dk_96 (dk_at dksX0_part_2 10 rfl rfl)
theorem dX0_part_56 : decode cX0_part 56 = .ok (.istore 4, 2) := dk_54 4 (dk_at dksX0_part_2 11 rfl rfl)
theorem dX0_part_58 : decode cX0_part 58 = .ok (.aload_n 0, 1) := dk_42 (dk_at dksX0_part_2 13 rfl rfl)
theorem dX0_part_59 : decode cX0_part 59 = .ok (.getfield 196, 3) := dk_180 0 196 (dk_at dksX0_part_2 14 rfl rfl)
theorem dX0_part_62 : decode cX0_part 62 = .ok (.getfield 256, 3) := dk_180 1 0 (dk_at dksX0_part_2 17 rfl rfl)
theorem dX0_part_65 : decode cX0_part 65 = .ok (.iload 4, 2) := dk_21 4 (dk_at dksX0_part_2 20 rfl rfl)
theorem dX0_part_67 : decode cX0_part 67 = .ok (.aaload, 1) := dk_50 (dk_at dksX0_part_2 22 rfl rfl)
theorem dX0_part_68 : decode cX0_part 68 = .ok (.invokestatic 292, 3) := dk_184 1 36 (dk_at dksX0_part_3 0 rfl rfl)
theorem dX0_part_71 : decode cX0_part 71 = .ok (.lstore 5, 2) := dk_55 5 (dk_at dksX0_part_3 3 rfl rfl)
theorem dX0_part_73 : decode cX0_part 73 = .ok (.aload_n 0, 1) := dk_42 (dk_at dksX0_part_3 5 rfl rfl)
theorem dX0_part_74 : decode cX0_part 74 = .ok (.getfield 196, 3) := dk_180 0 196 (dk_at dksX0_part_3 6 rfl rfl)
theorem dX0_part_77 : decode cX0_part 77 = .ok (.getfield 261, 3) := dk_180 1 5 (dk_at dksX0_part_3 9 rfl rfl)
theorem dX0_part_80 : decode cX0_part 80 = .ok (.iload 4, 2) := dk_21 4 (dk_at dksX0_part_3 12 rfl rfl)
theorem dX0_part_82 : decode cX0_part 82 = .ok (.aaload, 1) := dk_50 (dk_at dksX0_part_3 14 rfl rfl)
theorem dX0_part_83 : decode cX0_part 83 = .ok (.invokestatic 292, 3) := dk_184 1 36 (dk_at dksX0_part_3 15 rfl rfl)
theorem dX0_part_86 : decode cX0_part 86 = .ok (.lstore 7, 2) := dk_55 7 (dk_at dksX0_part_3 18 rfl rfl)
theorem dX0_part_88 : decode cX0_part 88 = .ok (.lload 5, 2) := dk_22 5 (dk_at dksX0_part_3 20 rfl rfl)
theorem dX0_part_90 : decode cX0_part 90 = .ok (.lload 7, 2) := dk_22 7 (dk_at dksX0_part_3 22 rfl rfl)
theorem dX0_part_92 : decode cX0_part 92 = .ok (.invokestatic 278, 3) := dk_184 1 22 (dk_at dksX0_part_4 0 rfl rfl)
theorem dX0_part_95 : decode cX0_part 95 = .ok (.lstore 9, 2) := dk_55 9 (dk_at dksX0_part_4 3 rfl rfl)
theorem dX0_part_97 : decode cX0_part 97 = .ok (.iload_n 3, 1) := dk_29 (dk_at dksX0_part_4 5 rfl rfl)
theorem dX0_part_98 : decode cX0_part 98 = .ok (.ifCond .ne 11, 3) := dk_154 0 11 (dk_at dksX0_part_4 6 rfl rfl)
theorem dX0_part_101 : decode cX0_part 101 = .ok (.lload 5, 2) := dk_22 5 (dk_at dksX0_part_4 9 rfl rfl)
theorem dX0_part_103 : decode cX0_part 103 = .ok (.lload 9, 2) := dk_22 9 (dk_at dksX0_part_4 11 rfl rfl)
theorem dX0_part_105 : decode cX0_part 105 = .ok (.ldiv, 1) := dk_109 (dk_at dksX0_part_4 13 rfl rfl)
theorem dX0_part_106 : decode cX0_part 106 = .ok (.goto 8, 3) := dk_167 0 8 (dk_at dksX0_part_4 14 rfl rfl)
theorem dX0_part_109 : decode cX0_part 109 = .ok (.lload 7, 2) := dk_22 7 (dk_at dksX0_part_4 17 rfl rfl)
theorem dX0_part_111 : decode cX0_part 111 = .ok (.lload 9, 2) := dk_22 9 (dk_at dksX0_part_4 19 rfl rfl)
theorem dX0_part_113 : decode cX0_part 113 = .ok (.ldiv, 1) := dk_109 (dk_at dksX0_part_4 21 rfl rfl)
theorem dX0_part_114 : decode cX0_part 114 = .ok (.lreturn, 1) := dk_173 (dk_at dksX0_part_4 22 rfl rfl)
abbrev cX0_isSame : ByteArray := prog_1_method_38_code
def yX0_isSame : MethodName := ⟨RX0, "isSame", "(II)Z"⟩
def dkwX0_isSame_4 : List UInt8 := [182, 1, 40, 42, 180, 0, 11, 42, 180, 0, 27, 182, 0, 30, 154, 0, 7, 4, 167, 0, 4, 3, 172]
abbrev dktX0_isSame_4 : List UInt8 := dkwX0_isSame_4 ++ []
def dkwX0_isSame_3 : List UInt8 := [180, 0, 27, 42, 180, 0, 196, 180, 1, 5, 29, 50, 42, 180, 0, 196, 180, 1, 5, 21, 4, 50]
abbrev dktX0_isSame_3 : List UInt8 := dkwX0_isSame_3 ++ dktX0_isSame_4
def dkwX0_isSame_2 : List UInt8 := [180, 0, 196, 180, 1, 0, 29, 50, 42, 180, 0, 196, 180, 1, 0, 21, 4, 50, 182, 1, 40, 42]
abbrev dktX0_isSame_2 : List UInt8 := dkwX0_isSame_2 ++ dktX0_isSame_3
def dkwX0_isSame_1 : List UInt8 := [153, 0, 16, 42, 180, 0, 196, 180, 0, 250, 21, 4, 51, 154, 0, 5, 3, 172, 42, 180, 0, 11, 42]
abbrev dktX0_isSame_1 : List UInt8 := dkwX0_isSame_1 ++ dktX0_isSame_2
def dkwX0_isSame_0 : List UInt8 := [16, 16, 27, 104, 28, 96, 62, 16, 16, 28, 104, 27, 96, 54, 4, 42, 180, 0, 196, 180, 0, 250, 29, 51]
abbrev dktX0_isSame_0 : List UInt8 := dkwX0_isSame_0 ++ dktX0_isSame_1
theorem dksX0_isSame_0 : cX0_isSame.data.toList.drop 0 = dktX0_isSame_0 := by decide +kernel
theorem dksX0_isSame_1 : cX0_isSame.data.toList.drop 24 = dktX0_isSame_1 := dk_seg dksX0_isSame_0 24 rfl rfl
theorem dksX0_isSame_2 : cX0_isSame.data.toList.drop 47 = dktX0_isSame_2 := dk_seg dksX0_isSame_1 23 rfl rfl
theorem dksX0_isSame_3 : cX0_isSame.data.toList.drop 69 = dktX0_isSame_3 := dk_seg dksX0_isSame_2 22 rfl rfl
theorem dksX0_isSame_4 : cX0_isSame.data.toList.drop 91 = dktX0_isSame_4 := dk_seg dksX0_isSame_3 22 rfl rfl
theorem dX0_isSame_0 : decode cX0_isSame 0 = .ok (.bipush 16, 2) := dk_16 16 (dk_at dksX0_isSame_0 0 rfl rfl)
theorem dX0_isSame_2 : decode cX0_isSame 2 = .ok (.iload_n 1, 1) := dk_27 (dk_at dksX0_isSame_0 2 rfl rfl)
theorem dX0_isSame_3 : decode cX0_isSame 3 = .ok (.imul, 1) := dk_104 (dk_at dksX0_isSame_0 3 rfl rfl)
theorem dX0_isSame_4 : decode cX0_isSame 4 = .ok (.iload_n 2, 1) := dk_28 (dk_at dksX0_isSame_0 4 rfl rfl)
theorem dX0_isSame_5 : decode cX0_isSame 5 = .ok (.iadd, 1) := dk_96 (dk_at dksX0_isSame_0 5 rfl rfl)
theorem dX0_isSame_6 : decode cX0_isSame 6 = .ok (.istore_n 3, 1) := dk_62 (dk_at dksX0_isSame_0 6 rfl rfl)
theorem dX0_isSame_7 : decode cX0_isSame 7 = .ok (.bipush 16, 2) := dk_16 16 (dk_at dksX0_isSame_0 7 rfl rfl)
theorem dX0_isSame_9 : decode cX0_isSame 9 = .ok (.iload_n 2, 1) := dk_28 (dk_at dksX0_isSame_0 9 rfl rfl)
theorem dX0_isSame_10 : decode cX0_isSame 10 = .ok (.imul, 1) := dk_104 (dk_at dksX0_isSame_0 10 rfl rfl)
theorem dX0_isSame_11 : decode cX0_isSame 11 = .ok (.iload_n 1, 1) := dk_27 (dk_at dksX0_isSame_0 11 rfl rfl)
theorem dX0_isSame_12 : decode cX0_isSame 12 = .ok (.iadd, 1) := dk_96 (dk_at dksX0_isSame_0 12 rfl rfl)
theorem dX0_isSame_13 : decode cX0_isSame 13 = .ok (.istore 4, 2) := dk_54 4 (dk_at dksX0_isSame_0 13 rfl rfl)
theorem dX0_isSame_15 : decode cX0_isSame 15 = .ok (.aload_n 0, 1) := dk_42 (dk_at dksX0_isSame_0 15 rfl rfl)
theorem dX0_isSame_16 : decode cX0_isSame 16 = .ok (.getfield 196, 3) := dk_180 0 196 (dk_at dksX0_isSame_0 16 rfl rfl)
theorem dX0_isSame_19 : decode cX0_isSame 19 = .ok (.getfield 250, 3) := dk_180 0 250 (dk_at dksX0_isSame_0 19 rfl rfl)
theorem dX0_isSame_22 : decode cX0_isSame 22 = .ok (.iload_n 3, 1) := dk_29 (dk_at dksX0_isSame_0 22 rfl rfl)
theorem dX0_isSame_23 : decode cX0_isSame 23 = .ok (.baload, 1) := dk_51 (dk_at dksX0_isSame_0 23 rfl rfl)
theorem dX0_isSame_24 : decode cX0_isSame 24 = .ok (.ifCond .eq 16, 3) := dk_153 0 16 (dk_at dksX0_isSame_1 0 rfl rfl)
theorem dX0_isSame_27 : decode cX0_isSame 27 = .ok (.aload_n 0, 1) := dk_42 (dk_at dksX0_isSame_1 3 rfl rfl)
theorem dX0_isSame_28 : decode cX0_isSame 28 = .ok (.getfield 196, 3) := dk_180 0 196 (dk_at dksX0_isSame_1 4 rfl rfl)
theorem dX0_isSame_31 : decode cX0_isSame 31 = .ok (.getfield 250, 3) := dk_180 0 250 (dk_at dksX0_isSame_1 7 rfl rfl)
theorem dX0_isSame_34 : decode cX0_isSame 34 = .ok (.iload 4, 2) := dk_21 4 (dk_at dksX0_isSame_1 10 rfl rfl)
theorem dX0_isSame_36 : decode cX0_isSame 36 = .ok (.baload, 1) := dk_51 (dk_at dksX0_isSame_1 12 rfl rfl)
theorem dX0_isSame_37 : decode cX0_isSame 37 = .ok (.ifCond .ne 5, 3) := dk_154 0 5 (dk_at dksX0_isSame_1 13 rfl rfl)
theorem dX0_isSame_40 : decode cX0_isSame 40 = .ok (.iconst 0, 1) := dk_3 (dk_at dksX0_isSame_1 16 rfl rfl)
theorem dX0_isSame_41 : decode cX0_isSame 41 = .ok (.ireturn, 1) := dk_172 (dk_at dksX0_isSame_1 17 rfl rfl)
theorem dX0_isSame_42 : decode cX0_isSame 42 = .ok (.aload_n 0, 1) := dk_42 (dk_at dksX0_isSame_1 18 rfl rfl)
theorem dX0_isSame_43 : decode cX0_isSame 43 = .ok (.getfield 11, 3) := dk_180 0 11 (dk_at dksX0_isSame_1 19 rfl rfl)
theorem dX0_isSame_46 : decode cX0_isSame 46 = .ok (.aload_n 0, 1) := dk_42 (dk_at dksX0_isSame_1 22 rfl rfl)
theorem dX0_isSame_47 : decode cX0_isSame 47 = .ok (.getfield 196, 3) := dk_180 0 196 (dk_at dksX0_isSame_2 0 rfl rfl)
theorem dX0_isSame_50 : decode cX0_isSame 50 = .ok (.getfield 256, 3) := dk_180 1 0 (dk_at dksX0_isSame_2 3 rfl rfl)
theorem dX0_isSame_53 : decode cX0_isSame 53 = .ok (.iload_n 3, 1) := dk_29 (dk_at dksX0_isSame_2 6 rfl rfl)
theorem dX0_isSame_54 : decode cX0_isSame 54 = .ok (.aaload, 1) := dk_50 (dk_at dksX0_isSame_2 7 rfl rfl)
theorem dX0_isSame_55 : decode cX0_isSame 55 = .ok (.aload_n 0, 1) := dk_42 (dk_at dksX0_isSame_2 8 rfl rfl)
theorem dX0_isSame_56 : decode cX0_isSame 56 = .ok (.getfield 196, 3) := dk_180 0 196 (dk_at dksX0_isSame_2 9 rfl rfl)
theorem dX0_isSame_59 : decode cX0_isSame 59 = .ok (.getfield 256, 3) := dk_180 1 0 (dk_at dksX0_isSame_2 12 rfl rfl)
theorem dX0_isSame_62 : decode cX0_isSame 62 = .ok (.iload 4, 2) := dk_21 4 (dk_at dksX0_isSame_2 15 rfl rfl)
theorem dX0_isSame_64 : decode cX0_isSame 64 = .ok (.aaload, 1) := dk_50 (dk_at dksX0_isSame_2 17 rfl rfl)
theorem dX0_isSame_65 : decode cX0_isSame 65 = .ok (.invokevirtual 296, 3) := dk_182 1 40 (dk_at dksX0_isSame_2 18 rfl rfl)
theorem dX0_isSame_68 : decode cX0_isSame 68 = .ok (.aload_n 0, 1) := dk_42 (dk_at dksX0_isSame_2 21 rfl rfl)
theorem dX0_isSame_69 : decode cX0_isSame 69 = .ok (.getfield 27, 3) := dk_180 0 27 (dk_at dksX0_isSame_3 0 rfl rfl)
theorem dX0_isSame_72 : decode cX0_isSame 72 = .ok (.aload_n 0, 1) := dk_42 (dk_at dksX0_isSame_3 3 rfl rfl)
theorem dX0_isSame_73 : decode cX0_isSame 73 = .ok (.getfield 196, 3) := dk_180 0 196 (dk_at dksX0_isSame_3 4 rfl rfl)
theorem dX0_isSame_76 : decode cX0_isSame 76 = .ok (.getfield 261, 3) := dk_180 1 5 (dk_at dksX0_isSame_3 7 rfl rfl)
theorem dX0_isSame_79 : decode cX0_isSame 79 = .ok (.iload_n 3, 1) := dk_29 (dk_at dksX0_isSame_3 10 rfl rfl)
theorem dX0_isSame_80 : decode cX0_isSame 80 = .ok (.aaload, 1) := dk_50 (dk_at dksX0_isSame_3 11 rfl rfl)
theorem dX0_isSame_81 : decode cX0_isSame 81 = .ok (.aload_n 0, 1) := dk_42 (dk_at dksX0_isSame_3 12 rfl rfl)
theorem dX0_isSame_82 : decode cX0_isSame 82 = .ok (.getfield 196, 3) := dk_180 0 196 (dk_at dksX0_isSame_3 13 rfl rfl)
theorem dX0_isSame_85 : decode cX0_isSame 85 = .ok (.getfield 261, 3) := dk_180 1 5 (dk_at dksX0_isSame_3 16 rfl rfl)
theorem dX0_isSame_88 : decode cX0_isSame 88 = .ok (.iload 4, 2) := dk_21 4 (dk_at dksX0_isSame_3 19 rfl rfl)
theorem dX0_isSame_90 : decode cX0_isSame 90 = .ok (.aaload, 1) := dk_50 (dk_at dksX0_isSame_3 21 rfl rfl)
theorem dX0_isSame_91 : decode cX0_isSame 91 = .ok (.invokevirtual 296, 3) := dk_182 1 40 (dk_at dksX0_isSame_4 0 rfl rfl)
theorem dX0_isSame_94 : decode cX0_isSame 94 = .ok (.aload_n 0, 1) := dk_42 (dk_at dksX0_isSame_4 3 rfl rfl)
theorem dX0_isSame_95 : decode cX0_isSame 95 = .ok (.getfield 11, 3) := dk_180 0 11 (dk_at dksX0_isSame_4 4 rfl rfl)
theorem dX0_isSame_98 : decode cX0_isSame 98 = .ok (.aload_n 0, 1) := dk_42 (dk_at dksX0_isSame_4 7 rfl rfl)
theorem dX0_isSame_99 : decode cX0_isSame 99 = .ok (.getfield 27, 3) := dk_180 0 27 (dk_at dksX0_isSame_4 8 rfl rfl)
theorem dX0_isSame_102 : decode cX0_isSame 102 = .ok (.invokevirtual 30, 3) := dk_182 0 30 (dk_at dksX0_isSame_4 11 rfl rfl)
theorem dX0_isSame_105 : decode cX0_isSame 105 = .ok (.ifCond .ne 7, 3) := dk_154 0 7 (dk_at dksX0_isSame_4 14 rfl rfl)
theorem dX0_isSame_108 : decode cX0_isSame 108 = .ok (.iconst 1, 1) := dk_4 (dk_at dksX0_isSame_4 17 rfl rfl)
theorem dX0_isSame_109 : decode cX0_isSame 109 = .ok (.goto 4, 3) := dk_167 0 4 (dk_at dksX0_isSame_4 18 rfl rfl)
theorem dX0_isSame_112 : decode cX0_isSame 112 = .ok (.iconst 0, 1) := dk_3 (dk_at dksX0_isSame_4 21 rfl rfl)
theorem dX0_isSame_113 : decode cX0_isSame 113 = .ok (.ireturn, 1) := dk_172 (dk_at dksX0_isSame_4 22 rfl rfl)
abbrev cX0_whole : ByteArray := prog_1_method_36_code
def yX0_whole : MethodName := ⟨RX0, "whole", "(LWeekFoot$Big;)J"⟩
def dkwX0_whole_1 : List UInt8 := [46, 133, 20, 1, 29, 105, 20, 1, 29, 105, 97, 173]
abbrev dktX0_whole_1 : List UInt8 := dkwX0_whole_1 ++ []
def dkwX0_whole_0 : List UInt8 := [42, 180, 1, 26, 3, 46, 133, 42, 180, 1, 26, 4, 46, 133, 20, 1, 29, 105, 97, 42, 180, 1, 26, 5]
abbrev dktX0_whole_0 : List UInt8 := dkwX0_whole_0 ++ dktX0_whole_1
theorem dksX0_whole_0 : cX0_whole.data.toList.drop 0 = dktX0_whole_0 := by decide +kernel
theorem dksX0_whole_1 : cX0_whole.data.toList.drop 24 = dktX0_whole_1 := dk_seg dksX0_whole_0 24 rfl rfl
theorem dX0_whole_0 : decode cX0_whole 0 = .ok (.aload_n 0, 1) := dk_42 (dk_at dksX0_whole_0 0 rfl rfl)
theorem dX0_whole_1 : decode cX0_whole 1 = .ok (.getfield 282, 3) := dk_180 1 26 (dk_at dksX0_whole_0 1 rfl rfl)
theorem dX0_whole_4 : decode cX0_whole 4 = .ok (.iconst 0, 1) := dk_3 (dk_at dksX0_whole_0 4 rfl rfl)
theorem dX0_whole_5 : decode cX0_whole 5 = .ok (.iaload, 1) := dk_46 (dk_at dksX0_whole_0 5 rfl rfl)
theorem dX0_whole_6 : decode cX0_whole 6 = .ok (.i2l, 1) := dk_133 (dk_at dksX0_whole_0 6 rfl rfl)
theorem dX0_whole_7 : decode cX0_whole 7 = .ok (.aload_n 0, 1) := dk_42 (dk_at dksX0_whole_0 7 rfl rfl)
theorem dX0_whole_8 : decode cX0_whole 8 = .ok (.getfield 282, 3) := dk_180 1 26 (dk_at dksX0_whole_0 8 rfl rfl)
theorem dX0_whole_11 : decode cX0_whole 11 = .ok (.iconst 1, 1) := dk_4 (dk_at dksX0_whole_0 11 rfl rfl)
theorem dX0_whole_12 : decode cX0_whole 12 = .ok (.iaload, 1) := dk_46 (dk_at dksX0_whole_0 12 rfl rfl)
theorem dX0_whole_13 : decode cX0_whole 13 = .ok (.i2l, 1) := dk_133 (dk_at dksX0_whole_0 13 rfl rfl)
theorem dX0_whole_14 : decode cX0_whole 14 = .ok (.ldc2_w 285, 3) := dk_20 1 29 (dk_at dksX0_whole_0 14 rfl rfl)
theorem dX0_whole_17 : decode cX0_whole 17 = .ok (.lmul, 1) := dk_105 (dk_at dksX0_whole_0 17 rfl rfl)
theorem dX0_whole_18 : decode cX0_whole 18 = .ok (.ladd, 1) := dk_97 (dk_at dksX0_whole_0 18 rfl rfl)
theorem dX0_whole_19 : decode cX0_whole 19 = .ok (.aload_n 0, 1) := dk_42 (dk_at dksX0_whole_0 19 rfl rfl)
theorem dX0_whole_20 : decode cX0_whole 20 = .ok (.getfield 282, 3) := dk_180 1 26 (dk_at dksX0_whole_0 20 rfl rfl)
theorem dX0_whole_23 : decode cX0_whole 23 = .ok (.iconst 2, 1) := dk_5 (dk_at dksX0_whole_0 23 rfl rfl)
theorem dX0_whole_24 : decode cX0_whole 24 = .ok (.iaload, 1) := dk_46 (dk_at dksX0_whole_1 0 rfl rfl)
theorem dX0_whole_25 : decode cX0_whole 25 = .ok (.i2l, 1) := dk_133 (dk_at dksX0_whole_1 1 rfl rfl)
theorem dX0_whole_26 : decode cX0_whole 26 = .ok (.ldc2_w 285, 3) := dk_20 1 29 (dk_at dksX0_whole_1 2 rfl rfl)
theorem dX0_whole_29 : decode cX0_whole 29 = .ok (.lmul, 1) := dk_105 (dk_at dksX0_whole_1 5 rfl rfl)
theorem dX0_whole_30 : decode cX0_whole 30 = .ok (.ldc2_w 285, 3) := dk_20 1 29 (dk_at dksX0_whole_1 6 rfl rfl)
theorem dX0_whole_33 : decode cX0_whole 33 = .ok (.lmul, 1) := dk_105 (dk_at dksX0_whole_1 9 rfl rfl)
theorem dX0_whole_34 : decode cX0_whole 34 = .ok (.ladd, 1) := dk_97 (dk_at dksX0_whole_1 10 rfl rfl)
theorem dX0_whole_35 : decode cX0_whole 35 = .ok (.lreturn, 1) := dk_173 (dk_at dksX0_whole_1 11 rfl rfl)
abbrev cX0_common : ByteArray := prog_1_method_35_code
def yX0_common : MethodName := ⟨RX0, "common", "(JJ)J"⟩
def dkwX0_common_0 : List UInt8 := [32, 9, 148, 154, 0, 7, 30, 167, 0, 10, 32, 30, 32, 113, 184, 1, 22, 173]
abbrev dktX0_common_0 : List UInt8 := dkwX0_common_0 ++ []
theorem dksX0_common_0 : cX0_common.data.toList.drop 0 = dktX0_common_0 := by decide +kernel
theorem dX0_common_0 : decode cX0_common 0 = .ok (.lload_n 2, 1) := dk_32 (dk_at dksX0_common_0 0 rfl rfl)
theorem dX0_common_1 : decode cX0_common 1 = .ok (.lconst 0, 1) := dk_9 (dk_at dksX0_common_0 1 rfl rfl)
theorem dX0_common_2 : decode cX0_common 2 = .ok (.lcmp, 1) := dk_148 (dk_at dksX0_common_0 2 rfl rfl)
theorem dX0_common_3 : decode cX0_common 3 = .ok (.ifCond .ne 7, 3) := dk_154 0 7 (dk_at dksX0_common_0 3 rfl rfl)
theorem dX0_common_6 : decode cX0_common 6 = .ok (.lload_n 0, 1) := dk_30 (dk_at dksX0_common_0 6 rfl rfl)
theorem dX0_common_7 : decode cX0_common 7 = .ok (.goto 10, 3) := dk_167 0 10 (dk_at dksX0_common_0 7 rfl rfl)
theorem dX0_common_10 : decode cX0_common 10 = .ok (.lload_n 2, 1) := dk_32 (dk_at dksX0_common_0 10 rfl rfl)
theorem dX0_common_11 : decode cX0_common 11 = .ok (.lload_n 0, 1) := dk_30 (dk_at dksX0_common_0 11 rfl rfl)
theorem dX0_common_12 : decode cX0_common 12 = .ok (.lload_n 2, 1) := dk_32 (dk_at dksX0_common_0 12 rfl rfl)
theorem dX0_common_13 : decode cX0_common 13 = .ok (.lrem, 1) := dk_113 (dk_at dksX0_common_0 13 rfl rfl)
theorem dX0_common_14 : decode cX0_common 14 = .ok (.invokestatic 278, 3) := dk_184 1 22 (dk_at dksX0_common_0 14 rfl rfl)
theorem dX0_common_17 : decode cX0_common 17 = .ok (.lreturn, 1) := dk_173 (dk_at dksX0_common_0 17 rfl rfl)
abbrev cX0_lay : ByteArray := prog_1_method_42_code
def yX0_lay : MethodName := ⟨RX0, "lay", "(IIIII)I"⟩
def dkwX0_lay_10 : List UInt8 := [182, 1, 60, 172]
abbrev dktX0_lay_10 : List UInt8 := dkwX0_lay_10 ++ []
def dkwX0_lay_9 : List UInt8 := [180, 0, 210, 42, 180, 0, 11, 182, 0, 15, 132, 7, 1, 167, 255, 133, 42, 21, 5, 17, 23, 112]
abbrev dktX0_lay_9 : List UInt8 := dkwX0_lay_9 ++ dktX0_lay_10
def dkwX0_lay_8 : List UInt8 := [180, 0, 11, 182, 0, 15, 42, 180, 0, 11, 42, 180, 0, 210, 42, 180, 0, 216, 182, 1, 40, 42]
abbrev dktX0_lay_8 : List UInt8 := dkwX0_lay_8 ++ dktX0_lay_9
def dkwX0_lay_7 : List UInt8 := [180, 0, 210, 182, 1, 40, 42, 180, 0, 11, 42, 180, 0, 27, 184, 1, 57, 42, 180, 0, 207, 42]
abbrev dktX0_lay_7 : List UInt8 := dkwX0_lay_7 ++ dktX0_lay_8
def dkwX0_lay_6 : List UInt8 := [42, 180, 0, 11, 42, 180, 0, 207, 42, 180, 0, 216, 182, 1, 40, 42, 180, 0, 27, 42, 180, 0, 213, 42]
abbrev dktX0_lay_6 : List UInt8 := dkwX0_lay_6 ++ dktX0_lay_7
def dkwX0_lay_5 : List UInt8 := [42, 25, 6, 21, 7, 46, 21, 4, 21, 5, 182, 1, 54, 154, 0, 11, 21, 5, 4, 160, 0, 83, 2, 172]
abbrev dktX0_lay_5 : List UInt8 := dkwX0_lay_5 ++ dktX0_lay_6
def dkwX0_lay_4 : List UInt8 := [181, 1, 44, 3, 54, 7, 21, 7, 6, 162, 0, 123, 25, 6, 21, 7, 46, 2, 160, 0, 6, 167, 0, 105]
abbrev dktX0_lay_4 : List UInt8 := dkwX0_lay_4 ++ dktX0_lay_5
def dkwX0_lay_3 : List UInt8 := [5, 29, 79, 58, 6, 42, 180, 0, 207, 3, 182, 1, 51, 42, 180, 0, 210, 4, 182, 1, 51, 42, 3]
abbrev dktX0_lay_3 : List UInt8 := dkwX0_lay_3 ++ dktX0_lay_4
def dkwX0_lay_2 : List UInt8 := [180, 0, 196, 182, 0, 243, 154, 0, 6, 16, 254, 172, 6, 188, 10, 89, 3, 27, 79, 89, 4, 28, 79, 89]
abbrev dktX0_lay_2 : List UInt8 := dkwX0_lay_2 ++ dktX0_lay_3
def dkwX0_lay_1 : List UInt8 := [159, 0, 13, 42, 29, 21, 4, 182, 1, 48, 153, 0, 23, 21, 5, 3, 4, 184, 0, 41, 153, 0, 13, 42]
abbrev dktX0_lay_1 : List UInt8 := dkwX0_lay_1 ++ dktX0_lay_2
def dkwX0_lay_0 : List UInt8 := [42, 27, 21, 4, 182, 1, 48, 153, 0, 48, 42, 28, 21, 4, 182, 1, 48, 153, 0, 38, 29, 2]
abbrev dktX0_lay_0 : List UInt8 := dkwX0_lay_0 ++ dktX0_lay_1
theorem dksX0_lay_0 : cX0_lay.data.toList.drop 0 = dktX0_lay_0 := by decide +kernel
theorem dksX0_lay_1 : cX0_lay.data.toList.drop 22 = dktX0_lay_1 := dk_seg dksX0_lay_0 22 rfl rfl
theorem dksX0_lay_2 : cX0_lay.data.toList.drop 46 = dktX0_lay_2 := dk_seg dksX0_lay_1 24 rfl rfl
theorem dksX0_lay_3 : cX0_lay.data.toList.drop 70 = dktX0_lay_3 := dk_seg dksX0_lay_2 24 rfl rfl
theorem dksX0_lay_4 : cX0_lay.data.toList.drop 93 = dktX0_lay_4 := dk_seg dksX0_lay_3 23 rfl rfl
theorem dksX0_lay_5 : cX0_lay.data.toList.drop 117 = dktX0_lay_5 := dk_seg dksX0_lay_4 24 rfl rfl
theorem dksX0_lay_6 : cX0_lay.data.toList.drop 141 = dktX0_lay_6 := dk_seg dksX0_lay_5 24 rfl rfl
theorem dksX0_lay_7 : cX0_lay.data.toList.drop 165 = dktX0_lay_7 := dk_seg dksX0_lay_6 24 rfl rfl
theorem dksX0_lay_8 : cX0_lay.data.toList.drop 187 = dktX0_lay_8 := dk_seg dksX0_lay_7 22 rfl rfl
theorem dksX0_lay_9 : cX0_lay.data.toList.drop 209 = dktX0_lay_9 := dk_seg dksX0_lay_8 22 rfl rfl
theorem dksX0_lay_10 : cX0_lay.data.toList.drop 231 = dktX0_lay_10 := dk_seg dksX0_lay_9 22 rfl rfl
theorem dX0_lay_0 : decode cX0_lay 0 = .ok (.aload_n 0, 1) := dk_42 (dk_at dksX0_lay_0 0 rfl rfl)
theorem dX0_lay_1 : decode cX0_lay 1 = .ok (.iload_n 1, 1) := dk_27 (dk_at dksX0_lay_0 1 rfl rfl)
theorem dX0_lay_2 : decode cX0_lay 2 = .ok (.iload 4, 2) := dk_21 4 (dk_at dksX0_lay_0 2 rfl rfl)
theorem dX0_lay_4 : decode cX0_lay 4 = .ok (.invokevirtual 304, 3) := dk_182 1 48 (dk_at dksX0_lay_0 4 rfl rfl)
theorem dX0_lay_7 : decode cX0_lay 7 = .ok (.ifCond .eq 48, 3) := dk_153 0 48 (dk_at dksX0_lay_0 7 rfl rfl)
theorem dX0_lay_10 : decode cX0_lay 10 = .ok (.aload_n 0, 1) := dk_42 (dk_at dksX0_lay_0 10 rfl rfl)
theorem dX0_lay_11 : decode cX0_lay 11 = .ok (.iload_n 2, 1) := dk_28 (dk_at dksX0_lay_0 11 rfl rfl)
theorem dX0_lay_12 : decode cX0_lay 12 = .ok (.iload 4, 2) := dk_21 4 (dk_at dksX0_lay_0 12 rfl rfl)
theorem dX0_lay_14 : decode cX0_lay 14 = .ok (.invokevirtual 304, 3) := dk_182 1 48 (dk_at dksX0_lay_0 14 rfl rfl)
theorem dX0_lay_17 : decode cX0_lay 17 = .ok (.ifCond .eq 38, 3) := dk_153 0 38 (dk_at dksX0_lay_0 17 rfl rfl)
theorem dX0_lay_20 : decode cX0_lay 20 = .ok (.iload_n 3, 1) := dk_29 (dk_at dksX0_lay_0 20 rfl rfl)
theorem dX0_lay_21 : decode cX0_lay 21 = .ok (.iconst (-1), 1) := dk_2 (dk_at dksX0_lay_0 21 rfl rfl)
theorem dX0_lay_22 : decode cX0_lay 22 = .ok (.if_icmp .eq 13, 3) := dk_159 0 13 (dk_at dksX0_lay_1 0 rfl rfl)
theorem dX0_lay_25 : decode cX0_lay 25 = .ok (.aload_n 0, 1) := dk_42 (dk_at dksX0_lay_1 3 rfl rfl)
theorem dX0_lay_26 : decode cX0_lay 26 = .ok (.iload_n 3, 1) := dk_29 (dk_at dksX0_lay_1 4 rfl rfl)
theorem dX0_lay_27 : decode cX0_lay 27 = .ok (.iload 4, 2) := dk_21 4 (dk_at dksX0_lay_1 5 rfl rfl)
theorem dX0_lay_29 : decode cX0_lay 29 = .ok (.invokevirtual 304, 3) := dk_182 1 48 (dk_at dksX0_lay_1 7 rfl rfl)
theorem dX0_lay_32 : decode cX0_lay 32 = .ok (.ifCond .eq 23, 3) := dk_153 0 23 (dk_at dksX0_lay_1 10 rfl rfl)
theorem dX0_lay_35 : decode cX0_lay 35 = .ok (.iload 5, 2) := dk_21 5 (dk_at dksX0_lay_1 13 rfl rfl)
theorem dX0_lay_37 : decode cX0_lay 37 = .ok (.iconst 0, 1) := dk_3 (dk_at dksX0_lay_1 15 rfl rfl)
theorem dX0_lay_38 : decode cX0_lay 38 = .ok (.iconst 1, 1) := dk_4 (dk_at dksX0_lay_1 16 rfl rfl)
theorem dX0_lay_39 : decode cX0_lay 39 = .ok (.invokestatic 41, 3) := dk_184 0 41 (dk_at dksX0_lay_1 17 rfl rfl)
theorem dX0_lay_42 : decode cX0_lay 42 = .ok (.ifCond .eq 13, 3) := dk_153 0 13 (dk_at dksX0_lay_1 20 rfl rfl)
theorem dX0_lay_45 : decode cX0_lay 45 = .ok (.aload_n 0, 1) := dk_42 (dk_at dksX0_lay_1 23 rfl rfl)
theorem dX0_lay_46 : decode cX0_lay 46 = .ok (.getfield 196, 3) := dk_180 0 196 (dk_at dksX0_lay_2 0 rfl rfl)
theorem dX0_lay_49 : decode cX0_lay 49 = .ok (.invokevirtual 243, 3) := dk_182 0 243 (dk_at dksX0_lay_2 3 rfl rfl)
theorem dX0_lay_52 : decode cX0_lay 52 = .ok (.ifCond .ne 6, 3) := dk_154 0 6 (dk_at dksX0_lay_2 6 rfl rfl)
theorem dX0_lay_55 : decode cX0_lay 55 = .ok (.bipush (-2), 2) := dk_16 254 (dk_at dksX0_lay_2 9 rfl rfl)
theorem dX0_lay_57 : decode cX0_lay 57 = .ok (.ireturn, 1) := dk_172 (dk_at dksX0_lay_2 11 rfl rfl)
theorem dX0_lay_58 : decode cX0_lay 58 = .ok (.iconst 3, 1) := dk_6 (dk_at dksX0_lay_2 12 rfl rfl)
theorem dX0_lay_59 : decode cX0_lay 59 = .ok (.newarray .int, 2) := dk_188_10 (dk_at dksX0_lay_2 13 rfl rfl)
theorem dX0_lay_61 : decode cX0_lay 61 = .ok (.dup, 1) := dk_89 (dk_at dksX0_lay_2 15 rfl rfl)
theorem dX0_lay_62 : decode cX0_lay 62 = .ok (.iconst 0, 1) := dk_3 (dk_at dksX0_lay_2 16 rfl rfl)
theorem dX0_lay_63 : decode cX0_lay 63 = .ok (.iload_n 1, 1) := dk_27 (dk_at dksX0_lay_2 17 rfl rfl)
theorem dX0_lay_64 : decode cX0_lay 64 = .ok (.iastore, 1) := dk_79 (dk_at dksX0_lay_2 18 rfl rfl)
theorem dX0_lay_65 : decode cX0_lay 65 = .ok (.dup, 1) := dk_89 (dk_at dksX0_lay_2 19 rfl rfl)
theorem dX0_lay_66 : decode cX0_lay 66 = .ok (.iconst 1, 1) := dk_4 (dk_at dksX0_lay_2 20 rfl rfl)
theorem dX0_lay_67 : decode cX0_lay 67 = .ok (.iload_n 2, 1) := dk_28 (dk_at dksX0_lay_2 21 rfl rfl)
theorem dX0_lay_68 : decode cX0_lay 68 = .ok (.iastore, 1) := dk_79 (dk_at dksX0_lay_2 22 rfl rfl)
theorem dX0_lay_69 : decode cX0_lay 69 = .ok (.dup, 1) := dk_89 (dk_at dksX0_lay_2 23 rfl rfl)
theorem dX0_lay_70 : decode cX0_lay 70 = .ok (.iconst 2, 1) := dk_5 (dk_at dksX0_lay_3 0 rfl rfl)
theorem dX0_lay_71 : decode cX0_lay 71 = .ok (.iload_n 3, 1) := dk_29 (dk_at dksX0_lay_3 1 rfl rfl)
theorem dX0_lay_72 : decode cX0_lay 72 = .ok (.iastore, 1) := dk_79 (dk_at dksX0_lay_3 2 rfl rfl)
theorem dX0_lay_73 : decode cX0_lay 73 = .ok (.astore 6, 2) := dk_58 6 (dk_at dksX0_lay_3 3 rfl rfl)
theorem dX0_lay_75 : decode cX0_lay 75 = .ok (.aload_n 0, 1) := dk_42 (dk_at dksX0_lay_3 5 rfl rfl)
theorem dX0_lay_76 : decode cX0_lay 76 = .ok (.getfield 207, 3) := dk_180 0 207 (dk_at dksX0_lay_3 6 rfl rfl)
theorem dX0_lay_79 : decode cX0_lay 79 = .ok (.iconst 0, 1) := dk_3 (dk_at dksX0_lay_3 9 rfl rfl)
theorem dX0_lay_80 : decode cX0_lay 80 = .ok (.invokevirtual 307, 3) := dk_182 1 51 (dk_at dksX0_lay_3 10 rfl rfl)
theorem dX0_lay_83 : decode cX0_lay 83 = .ok (.aload_n 0, 1) := dk_42 (dk_at dksX0_lay_3 13 rfl rfl)
theorem dX0_lay_84 : decode cX0_lay 84 = .ok (.getfield 210, 3) := dk_180 0 210 (dk_at dksX0_lay_3 14 rfl rfl)
theorem dX0_lay_87 : decode cX0_lay 87 = .ok (.iconst 1, 1) := dk_4 (dk_at dksX0_lay_3 17 rfl rfl)
theorem dX0_lay_88 : decode cX0_lay 88 = .ok (.invokevirtual 307, 3) := dk_182 1 51 (dk_at dksX0_lay_3 18 rfl rfl)
theorem dX0_lay_91 : decode cX0_lay 91 = .ok (.aload_n 0, 1) := dk_42 (dk_at dksX0_lay_3 21 rfl rfl)
theorem dX0_lay_92 : decode cX0_lay 92 = .ok (.iconst 0, 1) := dk_3 (dk_at dksX0_lay_3 22 rfl rfl)
theorem dX0_lay_93 : decode cX0_lay 93 = .ok (.putfield 300, 3) := dk_181 1 44 (dk_at dksX0_lay_4 0 rfl rfl)
theorem dX0_lay_96 : decode cX0_lay 96 = .ok (.iconst 0, 1) := dk_3 (dk_at dksX0_lay_4 3 rfl rfl)
theorem dX0_lay_97 : decode cX0_lay 97 = .ok (.istore 7, 2) := dk_54 7 (dk_at dksX0_lay_4 4 rfl rfl)
theorem dX0_lay_99 : decode cX0_lay 99 = .ok (.iload 7, 2) := dk_21 7 (dk_at dksX0_lay_4 6 rfl rfl)
theorem dX0_lay_101 : decode cX0_lay 101 = .ok (.iconst 3, 1) := dk_6 (dk_at dksX0_lay_4 8 rfl rfl)
theorem dX0_lay_102 : decode cX0_lay 102 = .ok (.if_icmp .ge 123, 3) := dk_162 0 123 (dk_at dksX0_lay_4 9 rfl rfl)
theorem dX0_lay_105 : decode cX0_lay 105 = .ok (.aload 6, 2) := dk_25 6 (dk_at dksX0_lay_4 12 rfl rfl)
theorem dX0_lay_107 : decode cX0_lay 107 = .ok (.iload 7, 2) := dk_21 7 (dk_at dksX0_lay_4 14 rfl rfl)
theorem dX0_lay_109 : decode cX0_lay 109 = .ok (.iaload, 1) := dk_46 (dk_at dksX0_lay_4 16 rfl rfl)
theorem dX0_lay_110 : decode cX0_lay 110 = .ok (.iconst (-1), 1) := dk_2 (dk_at dksX0_lay_4 17 rfl rfl)
theorem dX0_lay_111 : decode cX0_lay 111 = .ok (.if_icmp .ne 6, 3) := dk_160 0 6 (dk_at dksX0_lay_4 18 rfl rfl)
theorem dX0_lay_114 : decode cX0_lay 114 = .ok (.goto 105, 3) := dk_167 0 105 (dk_at dksX0_lay_4 21 rfl rfl)
theorem dX0_lay_117 : decode cX0_lay 117 = .ok (.aload_n 0, 1) := dk_42 (dk_at dksX0_lay_5 0 rfl rfl)
theorem dX0_lay_118 : decode cX0_lay 118 = .ok (.aload 6, 2) := dk_25 6 (dk_at dksX0_lay_5 1 rfl rfl)
theorem dX0_lay_120 : decode cX0_lay 120 = .ok (.iload 7, 2) := dk_21 7 (dk_at dksX0_lay_5 3 rfl rfl)
theorem dX0_lay_122 : decode cX0_lay 122 = .ok (.iaload, 1) := dk_46 (dk_at dksX0_lay_5 5 rfl rfl)
theorem dX0_lay_123 : decode cX0_lay 123 = .ok (.iload 4, 2) := dk_21 4 (dk_at dksX0_lay_5 6 rfl rfl)
theorem dX0_lay_125 : decode cX0_lay 125 = .ok (.iload 5, 2) := dk_21 5 (dk_at dksX0_lay_5 8 rfl rfl)
theorem dX0_lay_127 : decode cX0_lay 127 = .ok (.invokevirtual 310, 3) := dk_182 1 54 (dk_at dksX0_lay_5 10 rfl rfl)
theorem dX0_lay_130 : decode cX0_lay 130 = .ok (.ifCond .ne 11, 3) := dk_154 0 11 (dk_at dksX0_lay_5 13 rfl rfl)
theorem dX0_lay_133 : decode cX0_lay 133 = .ok (.iload 5, 2) := dk_21 5 (dk_at dksX0_lay_5 16 rfl rfl)
theorem dX0_lay_135 : decode cX0_lay 135 = .ok (.iconst 1, 1) := dk_4 (dk_at dksX0_lay_5 18 rfl rfl)
theorem dX0_lay_136 : decode cX0_lay 136 = .ok (.if_icmp .ne 83, 3) := dk_160 0 83 (dk_at dksX0_lay_5 19 rfl rfl)
theorem dX0_lay_139 : decode cX0_lay 139 = .ok (.iconst (-1), 1) := dk_2 (dk_at dksX0_lay_5 22 rfl rfl)
theorem dX0_lay_140 : decode cX0_lay 140 = .ok (.ireturn, 1) := dk_172 (dk_at dksX0_lay_5 23 rfl rfl)
theorem dX0_lay_141 : decode cX0_lay 141 = .ok (.aload_n 0, 1) := dk_42 (dk_at dksX0_lay_6 0 rfl rfl)
theorem dX0_lay_142 : decode cX0_lay 142 = .ok (.getfield 11, 3) := dk_180 0 11 (dk_at dksX0_lay_6 1 rfl rfl)
theorem dX0_lay_145 : decode cX0_lay 145 = .ok (.aload_n 0, 1) := dk_42 (dk_at dksX0_lay_6 4 rfl rfl)
theorem dX0_lay_146 : decode cX0_lay 146 = .ok (.getfield 207, 3) := dk_180 0 207 (dk_at dksX0_lay_6 5 rfl rfl)
theorem dX0_lay_149 : decode cX0_lay 149 = .ok (.aload_n 0, 1) := dk_42 (dk_at dksX0_lay_6 8 rfl rfl)
theorem dX0_lay_150 : decode cX0_lay 150 = .ok (.getfield 216, 3) := dk_180 0 216 (dk_at dksX0_lay_6 9 rfl rfl)
theorem dX0_lay_153 : decode cX0_lay 153 = .ok (.invokevirtual 296, 3) := dk_182 1 40 (dk_at dksX0_lay_6 12 rfl rfl)
theorem dX0_lay_156 : decode cX0_lay 156 = .ok (.aload_n 0, 1) := dk_42 (dk_at dksX0_lay_6 15 rfl rfl)
theorem dX0_lay_157 : decode cX0_lay 157 = .ok (.getfield 27, 3) := dk_180 0 27 (dk_at dksX0_lay_6 16 rfl rfl)
theorem dX0_lay_160 : decode cX0_lay 160 = .ok (.aload_n 0, 1) := dk_42 (dk_at dksX0_lay_6 19 rfl rfl)
theorem dX0_lay_161 : decode cX0_lay 161 = .ok (.getfield 213, 3) := dk_180 0 213 (dk_at dksX0_lay_6 20 rfl rfl)
theorem dX0_lay_164 : decode cX0_lay 164 = .ok (.aload_n 0, 1) := dk_42 (dk_at dksX0_lay_6 23 rfl rfl)
theorem dX0_lay_165 : decode cX0_lay 165 = .ok (.getfield 210, 3) := dk_180 0 210 (dk_at dksX0_lay_7 0 rfl rfl)
theorem dX0_lay_168 : decode cX0_lay 168 = .ok (.invokevirtual 296, 3) := dk_182 1 40 (dk_at dksX0_lay_7 3 rfl rfl)
theorem dX0_lay_171 : decode cX0_lay 171 = .ok (.aload_n 0, 1) := dk_42 (dk_at dksX0_lay_7 6 rfl rfl)
theorem dX0_lay_172 : decode cX0_lay 172 = .ok (.getfield 11, 3) := dk_180 0 11 (dk_at dksX0_lay_7 7 rfl rfl)
theorem dX0_lay_175 : decode cX0_lay 175 = .ok (.aload_n 0, 1) := dk_42 (dk_at dksX0_lay_7 10 rfl rfl)
theorem dX0_lay_176 : decode cX0_lay 176 = .ok (.getfield 27, 3) := dk_180 0 27 (dk_at dksX0_lay_7 11 rfl rfl)
theorem dX0_lay_179 : decode cX0_lay 179 = .ok (.invokestatic 313, 3) := dk_184 1 57 (dk_at dksX0_lay_7 14 rfl rfl)
theorem dX0_lay_182 : decode cX0_lay 182 = .ok (.aload_n 0, 1) := dk_42 (dk_at dksX0_lay_7 17 rfl rfl)
theorem dX0_lay_183 : decode cX0_lay 183 = .ok (.getfield 207, 3) := dk_180 0 207 (dk_at dksX0_lay_7 18 rfl rfl)
theorem dX0_lay_186 : decode cX0_lay 186 = .ok (.aload_n 0, 1) := dk_42 (dk_at dksX0_lay_7 21 rfl rfl)
theorem dX0_lay_187 : decode cX0_lay 187 = .ok (.getfield 11, 3) := dk_180 0 11 (dk_at dksX0_lay_8 0 rfl rfl)
theorem dX0_lay_190 : decode cX0_lay 190 = .ok (.invokevirtual 15, 3) := dk_182 0 15 (dk_at dksX0_lay_8 3 rfl rfl)
theorem dX0_lay_193 : decode cX0_lay 193 = .ok (.aload_n 0, 1) := dk_42 (dk_at dksX0_lay_8 6 rfl rfl)
theorem dX0_lay_194 : decode cX0_lay 194 = .ok (.getfield 11, 3) := dk_180 0 11 (dk_at dksX0_lay_8 7 rfl rfl)
theorem dX0_lay_197 : decode cX0_lay 197 = .ok (.aload_n 0, 1) := dk_42 (dk_at dksX0_lay_8 10 rfl rfl)
theorem dX0_lay_198 : decode cX0_lay 198 = .ok (.getfield 210, 3) := dk_180 0 210 (dk_at dksX0_lay_8 11 rfl rfl)
theorem dX0_lay_201 : decode cX0_lay 201 = .ok (.aload_n 0, 1) := dk_42 (dk_at dksX0_lay_8 14 rfl rfl)
theorem dX0_lay_202 : decode cX0_lay 202 = .ok (.getfield 216, 3) := dk_180 0 216 (dk_at dksX0_lay_8 15 rfl rfl)
theorem dX0_lay_205 : decode cX0_lay 205 = .ok (.invokevirtual 296, 3) := dk_182 1 40 (dk_at dksX0_lay_8 18 rfl rfl)
theorem dX0_lay_208 : decode cX0_lay 208 = .ok (.aload_n 0, 1) := dk_42 (dk_at dksX0_lay_8 21 rfl rfl)
theorem dX0_lay_209 : decode cX0_lay 209 = .ok (.getfield 210, 3) := dk_180 0 210 (dk_at dksX0_lay_9 0 rfl rfl)
theorem dX0_lay_212 : decode cX0_lay 212 = .ok (.aload_n 0, 1) := dk_42 (dk_at dksX0_lay_9 3 rfl rfl)
theorem dX0_lay_213 : decode cX0_lay 213 = .ok (.getfield 11, 3) := dk_180 0 11 (dk_at dksX0_lay_9 4 rfl rfl)
theorem dX0_lay_216 : decode cX0_lay 216 = .ok (.invokevirtual 15, 3) := dk_182 0 15 (dk_at dksX0_lay_9 7 rfl rfl)
theorem dX0_lay_219 : decode cX0_lay 219 = .ok (.iinc 7 1, 3) := dk_132 7 1 (dk_at dksX0_lay_9 10 rfl rfl)
theorem dX0_lay_222 : decode cX0_lay 222 = .ok (.goto (-123), 3) := dk_167 255 133 (dk_at dksX0_lay_9 13 rfl rfl)
theorem dX0_lay_225 : decode cX0_lay 225 = .ok (.aload_n 0, 1) := dk_42 (dk_at dksX0_lay_9 16 rfl rfl)
theorem dX0_lay_226 : decode cX0_lay 226 = .ok (.iload 5, 2) := dk_21 5 (dk_at dksX0_lay_9 17 rfl rfl)
theorem dX0_lay_228 : decode cX0_lay 228 = .ok (.sipush 6000, 3) := dk_17 23 112 (dk_at dksX0_lay_9 19 rfl rfl)
theorem dX0_lay_231 : decode cX0_lay 231 = .ok (.invokevirtual 316, 3) := dk_182 1 60 (dk_at dksX0_lay_10 0 rfl rfl)
theorem dX0_lay_234 : decode cX0_lay 234 = .ok (.ireturn, 1) := dk_172 (dk_at dksX0_lay_10 3 rfl rfl)
abbrev cX0_isFoot : ByteArray := prog_1_method_41_code
def yX0_isFoot : MethodName := ⟨RX0, "isFoot", "(II)Z"⟩
def dkwX0_isFoot_1 : List UInt8 := [153, 0, 7, 4, 167, 0, 4, 3, 172]
abbrev dktX0_isFoot_1 : List UInt8 := dkwX0_isFoot_1 ++ []
def dkwX0_isFoot_0 : List UInt8 := [27, 3, 16, 11, 184, 0, 41, 153, 0, 22, 42, 27, 182, 0, 247, 153, 0, 14, 28, 184, 0, 83]
abbrev dktX0_isFoot_0 : List UInt8 := dkwX0_isFoot_0 ++ dktX0_isFoot_1
theorem dksX0_isFoot_0 : cX0_isFoot.data.toList.drop 0 = dktX0_isFoot_0 := by decide +kernel
theorem dksX0_isFoot_1 : cX0_isFoot.data.toList.drop 22 = dktX0_isFoot_1 := dk_seg dksX0_isFoot_0 22 rfl rfl
theorem dX0_isFoot_0 : decode cX0_isFoot 0 = .ok (.iload_n 1, 1) := dk_27 (dk_at dksX0_isFoot_0 0 rfl rfl)
theorem dX0_isFoot_1 : decode cX0_isFoot 1 = .ok (.iconst 0, 1) := dk_3 (dk_at dksX0_isFoot_0 1 rfl rfl)
theorem dX0_isFoot_2 : decode cX0_isFoot 2 = .ok (.bipush 11, 2) := dk_16 11 (dk_at dksX0_isFoot_0 2 rfl rfl)
theorem dX0_isFoot_4 : decode cX0_isFoot 4 = .ok (.invokestatic 41, 3) := dk_184 0 41 (dk_at dksX0_isFoot_0 4 rfl rfl)
theorem dX0_isFoot_7 : decode cX0_isFoot 7 = .ok (.ifCond .eq 22, 3) := dk_153 0 22 (dk_at dksX0_isFoot_0 7 rfl rfl)
theorem dX0_isFoot_10 : decode cX0_isFoot 10 = .ok (.aload_n 0, 1) := dk_42 (dk_at dksX0_isFoot_0 10 rfl rfl)
theorem dX0_isFoot_11 : decode cX0_isFoot 11 = .ok (.iload_n 1, 1) := dk_27 (dk_at dksX0_isFoot_0 11 rfl rfl)
theorem dX0_isFoot_12 : decode cX0_isFoot 12 = .ok (.invokevirtual 247, 3) := dk_182 0 247 (dk_at dksX0_isFoot_0 12 rfl rfl)
theorem dX0_isFoot_15 : decode cX0_isFoot 15 = .ok (.ifCond .eq 14, 3) := dk_153 0 14 (dk_at dksX0_isFoot_0 15 rfl rfl)
theorem dX0_isFoot_18 : decode cX0_isFoot 18 = .ok (.iload_n 2, 1) := dk_28 (dk_at dksX0_isFoot_0 18 rfl rfl)
theorem dX0_isFoot_19 : decode cX0_isFoot 19 = .ok (.invokestatic 83, 3) := dk_184 0 83 (dk_at dksX0_isFoot_0 19 rfl rfl)
theorem dX0_isFoot_22 : decode cX0_isFoot 22 = .ok (.ifCond .eq 7, 3) := dk_153 0 7 (dk_at dksX0_isFoot_1 0 rfl rfl)
theorem dX0_isFoot_25 : decode cX0_isFoot 25 = .ok (.iconst 1, 1) := dk_4 (dk_at dksX0_isFoot_1 3 rfl rfl)
theorem dX0_isFoot_26 : decode cX0_isFoot 26 = .ok (.goto 4, 3) := dk_167 0 4 (dk_at dksX0_isFoot_1 4 rfl rfl)
theorem dX0_isFoot_29 : decode cX0_isFoot 29 = .ok (.iconst 0, 1) := dk_3 (dk_at dksX0_isFoot_1 7 rfl rfl)
theorem dX0_isFoot_30 : decode cX0_isFoot 30 = .ok (.ireturn, 1) := dk_172 (dk_at dksX0_isFoot_1 8 rfl rfl)
abbrev cX0_end_2 : ByteArray := prog_1_method_39_code
def yX0_end_2 : MethodName := ⟨RX0, "end", "(III)Z"⟩
def dkwX0_end_2_5 : List UInt8 := [42, 180, 0, 196, 180, 0, 253, 21, 5, 51, 153, 0, 7, 4, 167, 0, 4, 3, 181, 1, 44, 4, 172]
abbrev dktX0_end_2_5 : List UInt8 := dkwX0_end_2_5 ++ []
def dkwX0_end_2_4 : List UInt8 := [167, 0, 13, 42, 180, 0, 196, 180, 1, 0, 21, 5, 50, 182, 0, 15, 42, 42, 180, 1, 44, 154, 0, 16]
abbrev dktX0_end_2_4 : List UInt8 := dkwX0_end_2_4 ++ dktX0_end_2_5
def dkwX0_end_2_3 : List UInt8 := [21, 5, 50, 182, 0, 15, 42, 180, 0, 216, 29, 154, 0, 16, 42, 180, 0, 196, 180, 1, 5, 21, 5, 50]
abbrev dktX0_end_2_3 : List UInt8 := dkwX0_end_2_3 ++ dktX0_end_2_4
def dkwX0_end_2_2 : List UInt8 := [29, 154, 0, 16, 42, 180, 0, 196, 180, 1, 0, 21, 5, 50, 167, 0, 13, 42, 180, 0, 196, 180, 1, 5]
abbrev dktX0_end_2_2 : List UInt8 := dkwX0_end_2_2 ++ dktX0_end_2_3
def dkwX0_end_2_1 : List UInt8 := [104, 27, 96, 54, 5, 42, 180, 0, 196, 180, 0, 250, 21, 5, 51, 154, 0, 5, 3, 172, 42, 180, 0, 213]
abbrev dktX0_end_2_1 : List UInt8 := dkwX0_end_2_1 ++ dktX0_end_2_2
def dkwX0_end_2_0 : List UInt8 := [16, 12, 28, 96, 54, 4, 29, 154, 0, 13, 16, 16, 27, 104, 21, 4, 96, 167, 0, 10, 16, 16, 21, 4]
abbrev dktX0_end_2_0 : List UInt8 := dkwX0_end_2_0 ++ dktX0_end_2_1
theorem dksX0_end_2_0 : cX0_end_2.data.toList.drop 0 = dktX0_end_2_0 := by decide +kernel
theorem dksX0_end_2_1 : cX0_end_2.data.toList.drop 24 = dktX0_end_2_1 := dk_seg dksX0_end_2_0 24 rfl rfl
theorem dksX0_end_2_2 : cX0_end_2.data.toList.drop 48 = dktX0_end_2_2 := dk_seg dksX0_end_2_1 24 rfl rfl
theorem dksX0_end_2_3 : cX0_end_2.data.toList.drop 72 = dktX0_end_2_3 := dk_seg dksX0_end_2_2 24 rfl rfl
theorem dksX0_end_2_4 : cX0_end_2.data.toList.drop 96 = dktX0_end_2_4 := dk_seg dksX0_end_2_3 24 rfl rfl
theorem dksX0_end_2_5 : cX0_end_2.data.toList.drop 120 = dktX0_end_2_5 := dk_seg dksX0_end_2_4 24 rfl rfl
theorem dX0_end_2_0 : decode cX0_end_2 0 = .ok (.bipush 12, 2) := dk_16 12 (dk_at dksX0_end_2_0 0 rfl rfl)
theorem dX0_end_2_2 : decode cX0_end_2 2 = .ok (.iload_n 2, 1) := dk_28 (dk_at dksX0_end_2_0 2 rfl rfl)
theorem dX0_end_2_3 : decode cX0_end_2 3 = .ok (.iadd, 1) := dk_96 (dk_at dksX0_end_2_0 3 rfl rfl)
theorem dX0_end_2_4 : decode cX0_end_2 4 = .ok (.istore 4, 2) := dk_54 4 (dk_at dksX0_end_2_0 4 rfl rfl)
theorem dX0_end_2_6 : decode cX0_end_2 6 = .ok (.iload_n 3, 1) := dk_29 (dk_at dksX0_end_2_0 6 rfl rfl)
theorem dX0_end_2_7 : decode cX0_end_2 7 = .ok (.ifCond .ne 13, 3) := dk_154 0 13 (dk_at dksX0_end_2_0 7 rfl rfl)
theorem dX0_end_2_10 : decode cX0_end_2 10 = .ok (.bipush 16, 2) := dk_16 16 (dk_at dksX0_end_2_0 10 rfl rfl)
theorem dX0_end_2_12 : decode cX0_end_2 12 = .ok (.iload_n 1, 1) := dk_27 (dk_at dksX0_end_2_0 12 rfl rfl)
theorem dX0_end_2_13 : decode cX0_end_2 13 = .ok (.imul, 1) := dk_104 (dk_at dksX0_end_2_0 13 rfl rfl)
theorem dX0_end_2_14 : decode cX0_end_2 14 = .ok (.iload 4, 2) := dk_21 4 (dk_at dksX0_end_2_0 14 rfl rfl)
theorem dX0_end_2_16 : decode cX0_end_2 16 = .ok (.iadd, 1) := dk_96 (dk_at dksX0_end_2_0 16 rfl rfl)
theorem dX0_end_2_17 : decode cX0_end_2 17 = .ok (.goto 10, 3) := dk_167 0 10 (dk_at dksX0_end_2_0 17 rfl rfl)
theorem dX0_end_2_20 : decode cX0_end_2 20 = .ok (.bipush 16, 2) := dk_16 16 (dk_at dksX0_end_2_0 20 rfl rfl)
theorem dX0_end_2_22 : decode cX0_end_2 22 = .ok (.iload 4, 2) := dk_21 4 (dk_at dksX0_end_2_0 22 rfl rfl)
theorem dX0_end_2_24 : decode cX0_end_2 24 = .ok (.imul, 1) := dk_104 (dk_at dksX0_end_2_1 0 rfl rfl)
theorem dX0_end_2_25 : decode cX0_end_2 25 = .ok (.iload_n 1, 1) := dk_27 (dk_at dksX0_end_2_1 1 rfl rfl)
theorem dX0_end_2_26 : decode cX0_end_2 26 = .ok (.iadd, 1) := dk_96 (dk_at dksX0_end_2_1 2 rfl rfl)
theorem dX0_end_2_27 : decode cX0_end_2 27 = .ok (.istore 5, 2) := dk_54 5 (dk_at dksX0_end_2_1 3 rfl rfl)
theorem dX0_end_2_29 : decode cX0_end_2 29 = .ok (.aload_n 0, 1) := dk_42 (dk_at dksX0_end_2_1 5 rfl rfl)
theorem dX0_end_2_30 : decode cX0_end_2 30 = .ok (.getfield 196, 3) := dk_180 0 196 (dk_at dksX0_end_2_1 6 rfl rfl)
theorem dX0_end_2_33 : decode cX0_end_2 33 = .ok (.getfield 250, 3) := dk_180 0 250 (dk_at dksX0_end_2_1 9 rfl rfl)
theorem dX0_end_2_36 : decode cX0_end_2 36 = .ok (.iload 5, 2) := dk_21 5 (dk_at dksX0_end_2_1 12 rfl rfl)
theorem dX0_end_2_38 : decode cX0_end_2 38 = .ok (.baload, 1) := dk_51 (dk_at dksX0_end_2_1 14 rfl rfl)
theorem dX0_end_2_39 : decode cX0_end_2 39 = .ok (.ifCond .ne 5, 3) := dk_154 0 5 (dk_at dksX0_end_2_1 15 rfl rfl)
theorem dX0_end_2_42 : decode cX0_end_2 42 = .ok (.iconst 0, 1) := dk_3 (dk_at dksX0_end_2_1 18 rfl rfl)
theorem dX0_end_2_43 : decode cX0_end_2 43 = .ok (.ireturn, 1) := dk_172 (dk_at dksX0_end_2_1 19 rfl rfl)
theorem dX0_end_2_44 : decode cX0_end_2 44 = .ok (.aload_n 0, 1) := dk_42 (dk_at dksX0_end_2_1 20 rfl rfl)
theorem dX0_end_2_45 : decode cX0_end_2 45 = .ok (.getfield 213, 3) := dk_180 0 213 (dk_at dksX0_end_2_1 21 rfl rfl)
theorem dX0_end_2_48 : decode cX0_end_2 48 = .ok (.iload_n 3, 1) := dk_29 (dk_at dksX0_end_2_2 0 rfl rfl)
theorem dX0_end_2_49 : decode cX0_end_2 49 = .ok (.ifCond .ne 16, 3) := dk_154 0 16 (dk_at dksX0_end_2_2 1 rfl rfl)
theorem dX0_end_2_52 : decode cX0_end_2 52 = .ok (.aload_n 0, 1) := dk_42 (dk_at dksX0_end_2_2 4 rfl rfl)
theorem dX0_end_2_53 : decode cX0_end_2 53 = .ok (.getfield 196, 3) := dk_180 0 196 (dk_at dksX0_end_2_2 5 rfl rfl)
theorem dX0_end_2_56 : decode cX0_end_2 56 = .ok (.getfield 256, 3) := dk_180 1 0 (dk_at dksX0_end_2_2 8 rfl rfl)
theorem dX0_end_2_59 : decode cX0_end_2 59 = .ok (.iload 5, 2) := dk_21 5 (dk_at dksX0_end_2_2 11 rfl rfl)
theorem dX0_end_2_61 : decode cX0_end_2 61 = .ok (.aaload, 1) := dk_50 (dk_at dksX0_end_2_2 13 rfl rfl)
theorem dX0_end_2_62 : decode cX0_end_2 62 = .ok (.goto 13, 3) := dk_167 0 13 (dk_at dksX0_end_2_2 14 rfl rfl)
theorem dX0_end_2_65 : decode cX0_end_2 65 = .ok (.aload_n 0, 1) := dk_42 (dk_at dksX0_end_2_2 17 rfl rfl)
theorem dX0_end_2_66 : decode cX0_end_2 66 = .ok (.getfield 196, 3) := dk_180 0 196 (dk_at dksX0_end_2_2 18 rfl rfl)
theorem dX0_end_2_69 : decode cX0_end_2 69 = .ok (.getfield 261, 3) := dk_180 1 5 (dk_at dksX0_end_2_2 21 rfl rfl)
theorem dX0_end_2_72 : decode cX0_end_2 72 = .ok (.iload 5, 2) := dk_21 5 (dk_at dksX0_end_2_3 0 rfl rfl)
theorem dX0_end_2_74 : decode cX0_end_2 74 = .ok (.aaload, 1) := dk_50 (dk_at dksX0_end_2_3 2 rfl rfl)
theorem dX0_end_2_75 : decode cX0_end_2 75 = .ok (.invokevirtual 15, 3) := dk_182 0 15 (dk_at dksX0_end_2_3 3 rfl rfl)
theorem dX0_end_2_78 : decode cX0_end_2 78 = .ok (.aload_n 0, 1) := dk_42 (dk_at dksX0_end_2_3 6 rfl rfl)
theorem dX0_end_2_79 : decode cX0_end_2 79 = .ok (.getfield 216, 3) := dk_180 0 216 (dk_at dksX0_end_2_3 7 rfl rfl)
theorem dX0_end_2_82 : decode cX0_end_2 82 = .ok (.iload_n 3, 1) := dk_29 (dk_at dksX0_end_2_3 10 rfl rfl)
theorem dX0_end_2_83 : decode cX0_end_2 83 = .ok (.ifCond .ne 16, 3) := dk_154 0 16 (dk_at dksX0_end_2_3 11 rfl rfl)
theorem dX0_end_2_86 : decode cX0_end_2 86 = .ok (.aload_n 0, 1) := dk_42 (dk_at dksX0_end_2_3 14 rfl rfl)
theorem dX0_end_2_87 : decode cX0_end_2 87 = .ok (.getfield 196, 3) := dk_180 0 196 (dk_at dksX0_end_2_3 15 rfl rfl)
theorem dX0_end_2_90 : decode cX0_end_2 90 = .ok (.getfield 261, 3) := dk_180 1 5 (dk_at dksX0_end_2_3 18 rfl rfl)
theorem dX0_end_2_93 : decode cX0_end_2 93 = .ok (.iload 5, 2) := dk_21 5 (dk_at dksX0_end_2_3 21 rfl rfl)
theorem dX0_end_2_95 : decode cX0_end_2 95 = .ok (.aaload, 1) := dk_50 (dk_at dksX0_end_2_3 23 rfl rfl)
theorem dX0_end_2_96 : decode cX0_end_2 96 = .ok (.goto 13, 3) := dk_167 0 13 (dk_at dksX0_end_2_4 0 rfl rfl)
theorem dX0_end_2_99 : decode cX0_end_2 99 = .ok (.aload_n 0, 1) := dk_42 (dk_at dksX0_end_2_4 3 rfl rfl)
theorem dX0_end_2_100 : decode cX0_end_2 100 = .ok (.getfield 196, 3) := dk_180 0 196 (dk_at dksX0_end_2_4 4 rfl rfl)
theorem dX0_end_2_103 : decode cX0_end_2 103 = .ok (.getfield 256, 3) := dk_180 1 0 (dk_at dksX0_end_2_4 7 rfl rfl)
theorem dX0_end_2_106 : decode cX0_end_2 106 = .ok (.iload 5, 2) := dk_21 5 (dk_at dksX0_end_2_4 10 rfl rfl)
theorem dX0_end_2_108 : decode cX0_end_2 108 = .ok (.aaload, 1) := dk_50 (dk_at dksX0_end_2_4 12 rfl rfl)
theorem dX0_end_2_109 : decode cX0_end_2 109 = .ok (.invokevirtual 15, 3) := dk_182 0 15 (dk_at dksX0_end_2_4 13 rfl rfl)
theorem dX0_end_2_112 : decode cX0_end_2 112 = .ok (.aload_n 0, 1) := dk_42 (dk_at dksX0_end_2_4 16 rfl rfl)
theorem dX0_end_2_113 : decode cX0_end_2 113 = .ok (.aload_n 0, 1) := dk_42 (dk_at dksX0_end_2_4 17 rfl rfl)
theorem dX0_end_2_114 : decode cX0_end_2 114 = .ok (.getfield 300, 3) := dk_180 1 44 (dk_at dksX0_end_2_4 18 rfl rfl)
theorem dX0_end_2_117 : decode cX0_end_2 117 = .ok (.ifCond .ne 16, 3) := dk_154 0 16 (dk_at dksX0_end_2_4 21 rfl rfl)
theorem dX0_end_2_120 : decode cX0_end_2 120 = .ok (.aload_n 0, 1) := dk_42 (dk_at dksX0_end_2_5 0 rfl rfl)
theorem dX0_end_2_121 : decode cX0_end_2 121 = .ok (.getfield 196, 3) := dk_180 0 196 (dk_at dksX0_end_2_5 1 rfl rfl)
theorem dX0_end_2_124 : decode cX0_end_2 124 = .ok (.getfield 253, 3) := dk_180 0 253 (dk_at dksX0_end_2_5 4 rfl rfl)
theorem dX0_end_2_127 : decode cX0_end_2 127 = .ok (.iload 5, 2) := dk_21 5 (dk_at dksX0_end_2_5 7 rfl rfl)
theorem dX0_end_2_129 : decode cX0_end_2 129 = .ok (.baload, 1) := dk_51 (dk_at dksX0_end_2_5 9 rfl rfl)
theorem dX0_end_2_130 : decode cX0_end_2 130 = .ok (.ifCond .eq 7, 3) := dk_153 0 7 (dk_at dksX0_end_2_5 10 rfl rfl)
theorem dX0_end_2_133 : decode cX0_end_2 133 = .ok (.iconst 1, 1) := dk_4 (dk_at dksX0_end_2_5 13 rfl rfl)
theorem dX0_end_2_134 : decode cX0_end_2 134 = .ok (.goto 4, 3) := dk_167 0 4 (dk_at dksX0_end_2_5 14 rfl rfl)
theorem dX0_end_2_137 : decode cX0_end_2 137 = .ok (.iconst 0, 1) := dk_3 (dk_at dksX0_end_2_5 17 rfl rfl)
theorem dX0_end_2_138 : decode cX0_end_2 138 = .ok (.putfield 300, 3) := dk_181 1 44 (dk_at dksX0_end_2_5 18 rfl rfl)
theorem dX0_end_2_141 : decode cX0_end_2 141 = .ok (.iconst 1, 1) := dk_4 (dk_at dksX0_end_2_5 21 rfl rfl)
theorem dX0_end_2_142 : decode cX0_end_2 142 = .ok (.ireturn, 1) := dk_172 (dk_at dksX0_end_2_5 22 rfl rfl)
abbrev cX0_plus : ByteArray := prog_1_method_43_code
def yX0_plus : MethodName := ⟨RX0, "plus", "(LWeekFoot$Big;LWeekFoot$Big;)V"⟩
def dkwX0_plus_2 : List UInt8 := [28, 19, 1, 62, 104, 100, 79, 132, 3, 1, 167, 255, 202, 177]
abbrev dktX0_plus_2 : List UInt8 := dkwX0_plus_2 ++ []
def dkwX0_plus_1 : List UInt8 := [96, 54, 4, 21, 4, 19, 1, 62, 161, 0, 7, 4, 167, 0, 4, 3, 61, 42, 180, 1, 26, 29, 21, 4]
abbrev dktX0_plus_1 : List UInt8 := dkwX0_plus_1 ++ dktX0_plus_2
def dkwX0_plus_0 : List UInt8 := [3, 61, 3, 62, 29, 16, 7, 162, 0, 54, 42, 180, 1, 26, 29, 46, 43, 180, 1, 26, 29, 46, 96, 28]
abbrev dktX0_plus_0 : List UInt8 := dkwX0_plus_0 ++ dktX0_plus_1
theorem dksX0_plus_0 : cX0_plus.data.toList.drop 0 = dktX0_plus_0 := by decide +kernel
theorem dksX0_plus_1 : cX0_plus.data.toList.drop 24 = dktX0_plus_1 := dk_seg dksX0_plus_0 24 rfl rfl
theorem dksX0_plus_2 : cX0_plus.data.toList.drop 48 = dktX0_plus_2 := dk_seg dksX0_plus_1 24 rfl rfl
theorem dX0_plus_0 : decode cX0_plus 0 = .ok (.iconst 0, 1) := dk_3 (dk_at dksX0_plus_0 0 rfl rfl)
theorem dX0_plus_1 : decode cX0_plus 1 = .ok (.istore_n 2, 1) := dk_61 (dk_at dksX0_plus_0 1 rfl rfl)
theorem dX0_plus_2 : decode cX0_plus 2 = .ok (.iconst 0, 1) := dk_3 (dk_at dksX0_plus_0 2 rfl rfl)
theorem dX0_plus_3 : decode cX0_plus 3 = .ok (.istore_n 3, 1) := dk_62 (dk_at dksX0_plus_0 3 rfl rfl)
theorem dX0_plus_4 : decode cX0_plus 4 = .ok (.iload_n 3, 1) := dk_29 (dk_at dksX0_plus_0 4 rfl rfl)
theorem dX0_plus_5 : decode cX0_plus 5 = .ok (.bipush 7, 2) := dk_16 7 (dk_at dksX0_plus_0 5 rfl rfl)
theorem dX0_plus_7 : decode cX0_plus 7 = .ok (.if_icmp .ge 54, 3) := dk_162 0 54 (dk_at dksX0_plus_0 7 rfl rfl)
theorem dX0_plus_10 : decode cX0_plus 10 = .ok (.aload_n 0, 1) := dk_42 (dk_at dksX0_plus_0 10 rfl rfl)
theorem dX0_plus_11 : decode cX0_plus 11 = .ok (.getfield 282, 3) := dk_180 1 26 (dk_at dksX0_plus_0 11 rfl rfl)
theorem dX0_plus_14 : decode cX0_plus 14 = .ok (.iload_n 3, 1) := dk_29 (dk_at dksX0_plus_0 14 rfl rfl)
theorem dX0_plus_15 : decode cX0_plus 15 = .ok (.iaload, 1) := dk_46 (dk_at dksX0_plus_0 15 rfl rfl)
theorem dX0_plus_16 : decode cX0_plus 16 = .ok (.aload_n 1, 1) := dk_43 (dk_at dksX0_plus_0 16 rfl rfl)
theorem dX0_plus_17 : decode cX0_plus 17 = .ok (.getfield 282, 3) := dk_180 1 26 (dk_at dksX0_plus_0 17 rfl rfl)
theorem dX0_plus_20 : decode cX0_plus 20 = .ok (.iload_n 3, 1) := dk_29 (dk_at dksX0_plus_0 20 rfl rfl)
theorem dX0_plus_21 : decode cX0_plus 21 = .ok (.iaload, 1) := dk_46 (dk_at dksX0_plus_0 21 rfl rfl)
theorem dX0_plus_22 : decode cX0_plus 22 = .ok (.iadd, 1) := dk_96 (dk_at dksX0_plus_0 22 rfl rfl)
theorem dX0_plus_23 : decode cX0_plus 23 = .ok (.iload_n 2, 1) := dk_28 (dk_at dksX0_plus_0 23 rfl rfl)
theorem dX0_plus_24 : decode cX0_plus 24 = .ok (.iadd, 1) := dk_96 (dk_at dksX0_plus_1 0 rfl rfl)
theorem dX0_plus_25 : decode cX0_plus 25 = .ok (.istore 4, 2) := dk_54 4 (dk_at dksX0_plus_1 1 rfl rfl)
theorem dX0_plus_27 : decode cX0_plus 27 = .ok (.iload 4, 2) := dk_21 4 (dk_at dksX0_plus_1 3 rfl rfl)
theorem dX0_plus_29 : decode cX0_plus 29 = .ok (.ldc_w 318, 3) := dk_19 1 62 (dk_at dksX0_plus_1 5 rfl rfl)
theorem dX0_plus_32 : decode cX0_plus 32 = .ok (.if_icmp .lt 7, 3) := dk_161 0 7 (dk_at dksX0_plus_1 8 rfl rfl)
theorem dX0_plus_35 : decode cX0_plus 35 = .ok (.iconst 1, 1) := dk_4 (dk_at dksX0_plus_1 11 rfl rfl)
theorem dX0_plus_36 : decode cX0_plus 36 = .ok (.goto 4, 3) := dk_167 0 4 (dk_at dksX0_plus_1 12 rfl rfl)
theorem dX0_plus_39 : decode cX0_plus 39 = .ok (.iconst 0, 1) := dk_3 (dk_at dksX0_plus_1 15 rfl rfl)
theorem dX0_plus_40 : decode cX0_plus 40 = .ok (.istore_n 2, 1) := dk_61 (dk_at dksX0_plus_1 16 rfl rfl)
theorem dX0_plus_41 : decode cX0_plus 41 = .ok (.aload_n 0, 1) := dk_42 (dk_at dksX0_plus_1 17 rfl rfl)
theorem dX0_plus_42 : decode cX0_plus 42 = .ok (.getfield 282, 3) := dk_180 1 26 (dk_at dksX0_plus_1 18 rfl rfl)
theorem dX0_plus_45 : decode cX0_plus 45 = .ok (.iload_n 3, 1) := dk_29 (dk_at dksX0_plus_1 21 rfl rfl)
theorem dX0_plus_46 : decode cX0_plus 46 = .ok (.iload 4, 2) := dk_21 4 (dk_at dksX0_plus_1 22 rfl rfl)
theorem dX0_plus_48 : decode cX0_plus 48 = .ok (.iload_n 2, 1) := dk_28 (dk_at dksX0_plus_2 0 rfl rfl)
theorem dX0_plus_49 : decode cX0_plus 49 = .ok (.ldc_w 318, 3) := dk_19 1 62 (dk_at dksX0_plus_2 1 rfl rfl)
theorem dX0_plus_52 : decode cX0_plus 52 = .ok (.imul, 1) := dk_104 (dk_at dksX0_plus_2 4 rfl rfl)
theorem dX0_plus_53 : decode cX0_plus 53 = .ok (.isub, 1) := dk_100 (dk_at dksX0_plus_2 5 rfl rfl)
theorem dX0_plus_54 : decode cX0_plus 54 = .ok (.iastore, 1) := dk_79 (dk_at dksX0_plus_2 6 rfl rfl)
theorem dX0_plus_55 : decode cX0_plus 55 = .ok (.iinc 3 1, 3) := dk_132 3 1 (dk_at dksX0_plus_2 7 rfl rfl)
theorem dX0_plus_58 : decode cX0_plus 58 = .ok (.goto (-54), 3) := dk_167 255 202 (dk_at dksX0_plus_2 10 rfl rfl)
theorem dX0_plus_61 : decode cX0_plus 61 = .ok (.return_, 1) := dk_177 (dk_at dksX0_plus_2 13 rfl rfl)
abbrev cX0_cuts : ByteArray := prog_1_method_40_code
def yX0_cuts : MethodName := ⟨RX0, "cuts", "(II)I"⟩
def dkwX0_cuts_3 : List UInt8 := [184, 1, 17, 172]
abbrev dktX0_cuts_3 : List UInt8 := dkwX0_cuts_3 ++ []
def dkwX0_cuts_2 : List UInt8 := [153, 0, 23, 42, 180, 0, 27, 42, 180, 0, 207, 182, 0, 30, 154, 0, 9, 29, 4, 100, 167, 0, 4, 29]
abbrev dktX0_cuts_2 : List UInt8 := dkwX0_cuts_2 ++ dktX0_cuts_3
def dkwX0_cuts_1 : List UInt8 := [180, 0, 210, 182, 0, 15, 42, 180, 0, 27, 29, 182, 0, 21, 28, 27, 4, 160, 0, 30, 42, 180, 1, 44]
abbrev dktX0_cuts_1 : List UInt8 := dkwX0_cuts_1 ++ dktX0_cuts_2
def dkwX0_cuts_0 : List UInt8 := [42, 42, 180, 0, 207, 4, 42, 180, 0, 210, 28, 4, 96, 182, 1, 9, 62, 42, 180, 0, 27, 42]
abbrev dktX0_cuts_0 : List UInt8 := dkwX0_cuts_0 ++ dktX0_cuts_1
theorem dksX0_cuts_0 : cX0_cuts.data.toList.drop 0 = dktX0_cuts_0 := by decide +kernel
theorem dksX0_cuts_1 : cX0_cuts.data.toList.drop 22 = dktX0_cuts_1 := dk_seg dksX0_cuts_0 22 rfl rfl
theorem dksX0_cuts_2 : cX0_cuts.data.toList.drop 46 = dktX0_cuts_2 := dk_seg dksX0_cuts_1 24 rfl rfl
theorem dksX0_cuts_3 : cX0_cuts.data.toList.drop 70 = dktX0_cuts_3 := dk_seg dksX0_cuts_2 24 rfl rfl
theorem dX0_cuts_0 : decode cX0_cuts 0 = .ok (.aload_n 0, 1) := dk_42 (dk_at dksX0_cuts_0 0 rfl rfl)
theorem dX0_cuts_1 : decode cX0_cuts 1 = .ok (.aload_n 0, 1) := dk_42 (dk_at dksX0_cuts_0 1 rfl rfl)
theorem dX0_cuts_2 : decode cX0_cuts 2 = .ok (.getfield 207, 3) := dk_180 0 207 (dk_at dksX0_cuts_0 2 rfl rfl)
theorem dX0_cuts_5 : decode cX0_cuts 5 = .ok (.iconst 1, 1) := dk_4 (dk_at dksX0_cuts_0 5 rfl rfl)
theorem dX0_cuts_6 : decode cX0_cuts 6 = .ok (.aload_n 0, 1) := dk_42 (dk_at dksX0_cuts_0 6 rfl rfl)
theorem dX0_cuts_7 : decode cX0_cuts 7 = .ok (.getfield 210, 3) := dk_180 0 210 (dk_at dksX0_cuts_0 7 rfl rfl)
theorem dX0_cuts_10 : decode cX0_cuts 10 = .ok (.iload_n 2, 1) := dk_28 (dk_at dksX0_cuts_0 10 rfl rfl)
theorem dX0_cuts_11 : decode cX0_cuts 11 = .ok (.iconst 1, 1) := dk_4 (dk_at dksX0_cuts_0 11 rfl rfl)
theorem dX0_cuts_12 : decode cX0_cuts 12 = .ok (.iadd, 1) := dk_96 (dk_at dksX0_cuts_0 12 rfl rfl)
theorem dX0_cuts_13 : decode cX0_cuts 13 = .ok (.invokevirtual 265, 3) := dk_182 1 9 (dk_at dksX0_cuts_0 13 rfl rfl)
theorem dX0_cuts_16 : decode cX0_cuts 16 = .ok (.istore_n 3, 1) := dk_62 (dk_at dksX0_cuts_0 16 rfl rfl)
theorem dX0_cuts_17 : decode cX0_cuts 17 = .ok (.aload_n 0, 1) := dk_42 (dk_at dksX0_cuts_0 17 rfl rfl)
theorem dX0_cuts_18 : decode cX0_cuts 18 = .ok (.getfield 27, 3) := dk_180 0 27 (dk_at dksX0_cuts_0 18 rfl rfl)
theorem dX0_cuts_21 : decode cX0_cuts 21 = .ok (.aload_n 0, 1) := dk_42 (dk_at dksX0_cuts_0 21 rfl rfl)
theorem dX0_cuts_22 : decode cX0_cuts 22 = .ok (.getfield 210, 3) := dk_180 0 210 (dk_at dksX0_cuts_1 0 rfl rfl)
theorem dX0_cuts_25 : decode cX0_cuts 25 = .ok (.invokevirtual 15, 3) := dk_182 0 15 (dk_at dksX0_cuts_1 3 rfl rfl)
theorem dX0_cuts_28 : decode cX0_cuts 28 = .ok (.aload_n 0, 1) := dk_42 (dk_at dksX0_cuts_1 6 rfl rfl)
theorem dX0_cuts_29 : decode cX0_cuts 29 = .ok (.getfield 27, 3) := dk_180 0 27 (dk_at dksX0_cuts_1 7 rfl rfl)
theorem dX0_cuts_32 : decode cX0_cuts 32 = .ok (.iload_n 3, 1) := dk_29 (dk_at dksX0_cuts_1 10 rfl rfl)
theorem dX0_cuts_33 : decode cX0_cuts 33 = .ok (.invokevirtual 21, 3) := dk_182 0 21 (dk_at dksX0_cuts_1 11 rfl rfl)
theorem dX0_cuts_36 : decode cX0_cuts 36 = .ok (.iload_n 2, 1) := dk_28 (dk_at dksX0_cuts_1 14 rfl rfl)
theorem dX0_cuts_37 : decode cX0_cuts 37 = .ok (.iload_n 1, 1) := dk_27 (dk_at dksX0_cuts_1 15 rfl rfl)
theorem dX0_cuts_38 : decode cX0_cuts 38 = .ok (.iconst 1, 1) := dk_4 (dk_at dksX0_cuts_1 16 rfl rfl)
theorem dX0_cuts_39 : decode cX0_cuts 39 = .ok (.if_icmp .ne 30, 3) := dk_160 0 30 (dk_at dksX0_cuts_1 17 rfl rfl)
theorem dX0_cuts_42 : decode cX0_cuts 42 = .ok (.aload_n 0, 1) := dk_42 (dk_at dksX0_cuts_1 20 rfl rfl)
theorem dX0_cuts_43 : decode cX0_cuts 43 = .ok (.getfield 300, 3) := dk_180 1 44 (dk_at dksX0_cuts_1 21 rfl rfl)
theorem dX0_cuts_46 : decode cX0_cuts 46 = .ok (.ifCond .eq 23, 3) := dk_153 0 23 (dk_at dksX0_cuts_2 0 rfl rfl)
theorem dX0_cuts_49 : decode cX0_cuts 49 = .ok (.aload_n 0, 1) := dk_42 (dk_at dksX0_cuts_2 3 rfl rfl)
theorem dX0_cuts_50 : decode cX0_cuts 50 = .ok (.getfield 27, 3) := dk_180 0 27 (dk_at dksX0_cuts_2 4 rfl rfl)
theorem dX0_cuts_53 : decode cX0_cuts 53 = .ok (.aload_n 0, 1) := dk_42 (dk_at dksX0_cuts_2 7 rfl rfl)
theorem dX0_cuts_54 : decode cX0_cuts 54 = .ok (.getfield 207, 3) := dk_180 0 207 (dk_at dksX0_cuts_2 8 rfl rfl)
theorem dX0_cuts_57 : decode cX0_cuts 57 = .ok (.invokevirtual 30, 3) := dk_182 0 30 (dk_at dksX0_cuts_2 11 rfl rfl)
theorem dX0_cuts_60 : decode cX0_cuts 60 = .ok (.ifCond .ne 9, 3) := dk_154 0 9 (dk_at dksX0_cuts_2 14 rfl rfl)
theorem dX0_cuts_63 : decode cX0_cuts 63 = .ok (.iload_n 3, 1) := dk_29 (dk_at dksX0_cuts_2 17 rfl rfl)
theorem dX0_cuts_64 : decode cX0_cuts 64 = .ok (.iconst 1, 1) := dk_4 (dk_at dksX0_cuts_2 18 rfl rfl)
theorem dX0_cuts_65 : decode cX0_cuts 65 = .ok (.isub, 1) := dk_100 (dk_at dksX0_cuts_2 19 rfl rfl)
theorem dX0_cuts_66 : decode cX0_cuts 66 = .ok (.goto 4, 3) := dk_167 0 4 (dk_at dksX0_cuts_2 20 rfl rfl)
theorem dX0_cuts_69 : decode cX0_cuts 69 = .ok (.iload_n 3, 1) := dk_29 (dk_at dksX0_cuts_2 23 rfl rfl)
theorem dX0_cuts_70 : decode cX0_cuts 70 = .ok (.invokestatic 273, 3) := dk_184 1 17 (dk_at dksX0_cuts_3 0 rfl rfl)
theorem dX0_cuts_73 : decode cX0_cuts 73 = .ok (.ireturn, 1) := dk_172 (dk_at dksX0_cuts_3 3 rfl rfl)
abbrev cX0_area : ByteArray := prog_1_method_44_code
def yX0_area : MethodName := ⟨RX0, "area", "(IIII)I"⟩
def dkwX0_area_7 : List UInt8 := [182, 0, 15, 42, 21, 4, 19, 1, 63, 182, 1, 60, 172]
abbrev dktX0_area_7 : List UInt8 := dkwX0_area_7 ++ []
def dkwX0_area_6 : List UInt8 := [180, 0, 11, 42, 180, 0, 210, 42, 180, 0, 216, 182, 1, 40, 42, 180, 0, 210, 42, 180, 0, 11]
abbrev dktX0_area_6 : List UInt8 := dkwX0_area_6 ++ dktX0_area_7
def dkwX0_area_5 : List UInt8 := [180, 0, 207, 42, 180, 0, 213, 182, 1, 40, 42, 180, 0, 207, 42, 180, 0, 11, 182, 0, 15, 42]
abbrev dktX0_area_5 : List UInt8 := dkwX0_area_5 ++ dktX0_area_6
def dkwX0_area_4 : List UInt8 := [21, 4, 182, 1, 54, 154, 0, 14, 21, 4, 154, 0, 7, 3, 167, 0, 4, 2, 172, 42, 180, 0, 11, 42]
abbrev dktX0_area_4 : List UInt8 := dkwX0_area_4 ++ dktX0_area_5
def dkwX0_area_3 : List UInt8 := [180, 0, 207, 42, 180, 0, 213, 182, 0, 15, 42, 180, 0, 210, 42, 180, 0, 216, 182, 0, 15, 42, 28, 29]
abbrev dktX0_area_3 : List UInt8 := dkwX0_area_3 ++ dktX0_area_4
def dkwX0_area_2 : List UInt8 := [42, 27, 29, 21, 4, 182, 1, 54, 154, 0, 14, 21, 4, 154, 0, 7, 3, 167, 0, 4, 2, 172, 42]
abbrev dktX0_area_2 : List UInt8 := dkwX0_area_2 ++ dktX0_area_3
def dkwX0_area_1 : List UInt8 := [184, 0, 41, 153, 0, 13, 42, 180, 0, 196, 182, 0, 243, 154, 0, 6, 16, 254, 172, 42, 3, 181, 1, 44]
abbrev dktX0_area_1 : List UInt8 := dkwX0_area_1 ++ dktX0_area_2
def dkwX0_area_0 : List UInt8 := [42, 27, 29, 182, 1, 48, 153, 0, 32, 42, 28, 29, 182, 1, 48, 153, 0, 23, 21, 4, 3, 4]
abbrev dktX0_area_0 : List UInt8 := dkwX0_area_0 ++ dktX0_area_1
theorem dksX0_area_0 : cX0_area.data.toList.drop 0 = dktX0_area_0 := by decide +kernel
theorem dksX0_area_1 : cX0_area.data.toList.drop 22 = dktX0_area_1 := dk_seg dksX0_area_0 22 rfl rfl
theorem dksX0_area_2 : cX0_area.data.toList.drop 46 = dktX0_area_2 := dk_seg dksX0_area_1 24 rfl rfl
theorem dksX0_area_3 : cX0_area.data.toList.drop 69 = dktX0_area_3 := dk_seg dksX0_area_2 23 rfl rfl
theorem dksX0_area_4 : cX0_area.data.toList.drop 93 = dktX0_area_4 := dk_seg dksX0_area_3 24 rfl rfl
theorem dksX0_area_5 : cX0_area.data.toList.drop 117 = dktX0_area_5 := dk_seg dksX0_area_4 24 rfl rfl
theorem dksX0_area_6 : cX0_area.data.toList.drop 139 = dktX0_area_6 := dk_seg dksX0_area_5 22 rfl rfl
theorem dksX0_area_7 : cX0_area.data.toList.drop 161 = dktX0_area_7 := dk_seg dksX0_area_6 22 rfl rfl
theorem dX0_area_0 : decode cX0_area 0 = .ok (.aload_n 0, 1) := dk_42 (dk_at dksX0_area_0 0 rfl rfl)
theorem dX0_area_1 : decode cX0_area 1 = .ok (.iload_n 1, 1) := dk_27 (dk_at dksX0_area_0 1 rfl rfl)
theorem dX0_area_2 : decode cX0_area 2 = .ok (.iload_n 3, 1) := dk_29 (dk_at dksX0_area_0 2 rfl rfl)
theorem dX0_area_3 : decode cX0_area 3 = .ok (.invokevirtual 304, 3) := dk_182 1 48 (dk_at dksX0_area_0 3 rfl rfl)
theorem dX0_area_6 : decode cX0_area 6 = .ok (.ifCond .eq 32, 3) := dk_153 0 32 (dk_at dksX0_area_0 6 rfl rfl)
theorem dX0_area_9 : decode cX0_area 9 = .ok (.aload_n 0, 1) := dk_42 (dk_at dksX0_area_0 9 rfl rfl)
theorem dX0_area_10 : decode cX0_area 10 = .ok (.iload_n 2, 1) := dk_28 (dk_at dksX0_area_0 10 rfl rfl)
theorem dX0_area_11 : decode cX0_area 11 = .ok (.iload_n 3, 1) := dk_29 (dk_at dksX0_area_0 11 rfl rfl)
theorem dX0_area_12 : decode cX0_area 12 = .ok (.invokevirtual 304, 3) := dk_182 1 48 (dk_at dksX0_area_0 12 rfl rfl)
theorem dX0_area_15 : decode cX0_area 15 = .ok (.ifCond .eq 23, 3) := dk_153 0 23 (dk_at dksX0_area_0 15 rfl rfl)
theorem dX0_area_18 : decode cX0_area 18 = .ok (.iload 4, 2) := dk_21 4 (dk_at dksX0_area_0 18 rfl rfl)
theorem dX0_area_20 : decode cX0_area 20 = .ok (.iconst 0, 1) := dk_3 (dk_at dksX0_area_0 20 rfl rfl)
theorem dX0_area_21 : decode cX0_area 21 = .ok (.iconst 1, 1) := dk_4 (dk_at dksX0_area_0 21 rfl rfl)
theorem dX0_area_22 : decode cX0_area 22 = .ok (.invokestatic 41, 3) := dk_184 0 41 (dk_at dksX0_area_1 0 rfl rfl)
theorem dX0_area_25 : decode cX0_area 25 = .ok (.ifCond .eq 13, 3) := dk_153 0 13 (dk_at dksX0_area_1 3 rfl rfl)
theorem dX0_area_28 : decode cX0_area 28 = .ok (.aload_n 0, 1) := dk_42 (dk_at dksX0_area_1 6 rfl rfl)
theorem dX0_area_29 : decode cX0_area 29 = .ok (.getfield 196, 3) := dk_180 0 196 (dk_at dksX0_area_1 7 rfl rfl)
theorem dX0_area_32 : decode cX0_area 32 = .ok (.invokevirtual 243, 3) := dk_182 0 243 (dk_at dksX0_area_1 10 rfl rfl)
theorem dX0_area_35 : decode cX0_area 35 = .ok (.ifCond .ne 6, 3) := dk_154 0 6 (dk_at dksX0_area_1 13 rfl rfl)
theorem dX0_area_38 : decode cX0_area 38 = .ok (.bipush (-2), 2) := dk_16 254 (dk_at dksX0_area_1 16 rfl rfl)
theorem dX0_area_40 : decode cX0_area 40 = .ok (.ireturn, 1) := dk_172 (dk_at dksX0_area_1 18 rfl rfl)
theorem dX0_area_41 : decode cX0_area 41 = .ok (.aload_n 0, 1) := dk_42 (dk_at dksX0_area_1 19 rfl rfl)
theorem dX0_area_42 : decode cX0_area 42 = .ok (.iconst 0, 1) := dk_3 (dk_at dksX0_area_1 20 rfl rfl)
theorem dX0_area_43 : decode cX0_area 43 = .ok (.putfield 300, 3) := dk_181 1 44 (dk_at dksX0_area_1 21 rfl rfl)
theorem dX0_area_46 : decode cX0_area 46 = .ok (.aload_n 0, 1) := dk_42 (dk_at dksX0_area_2 0 rfl rfl)
theorem dX0_area_47 : decode cX0_area 47 = .ok (.iload_n 1, 1) := dk_27 (dk_at dksX0_area_2 1 rfl rfl)
theorem dX0_area_48 : decode cX0_area 48 = .ok (.iload_n 3, 1) := dk_29 (dk_at dksX0_area_2 2 rfl rfl)
theorem dX0_area_49 : decode cX0_area 49 = .ok (.iload 4, 2) := dk_21 4 (dk_at dksX0_area_2 3 rfl rfl)
theorem dX0_area_51 : decode cX0_area 51 = .ok (.invokevirtual 310, 3) := dk_182 1 54 (dk_at dksX0_area_2 5 rfl rfl)
theorem dX0_area_54 : decode cX0_area 54 = .ok (.ifCond .ne 14, 3) := dk_154 0 14 (dk_at dksX0_area_2 8 rfl rfl)
theorem dX0_area_57 : decode cX0_area 57 = .ok (.iload 4, 2) := dk_21 4 (dk_at dksX0_area_2 11 rfl rfl)
theorem dX0_area_59 : decode cX0_area 59 = .ok (.ifCond .ne 7, 3) := dk_154 0 7 (dk_at dksX0_area_2 13 rfl rfl)
theorem dX0_area_62 : decode cX0_area 62 = .ok (.iconst 0, 1) := dk_3 (dk_at dksX0_area_2 16 rfl rfl)
theorem dX0_area_63 : decode cX0_area 63 = .ok (.goto 4, 3) := dk_167 0 4 (dk_at dksX0_area_2 17 rfl rfl)
theorem dX0_area_66 : decode cX0_area 66 = .ok (.iconst (-1), 1) := dk_2 (dk_at dksX0_area_2 20 rfl rfl)
theorem dX0_area_67 : decode cX0_area 67 = .ok (.ireturn, 1) := dk_172 (dk_at dksX0_area_2 21 rfl rfl)
theorem dX0_area_68 : decode cX0_area 68 = .ok (.aload_n 0, 1) := dk_42 (dk_at dksX0_area_2 22 rfl rfl)
theorem dX0_area_69 : decode cX0_area 69 = .ok (.getfield 207, 3) := dk_180 0 207 (dk_at dksX0_area_3 0 rfl rfl)
theorem dX0_area_72 : decode cX0_area 72 = .ok (.aload_n 0, 1) := dk_42 (dk_at dksX0_area_3 3 rfl rfl)
theorem dX0_area_73 : decode cX0_area 73 = .ok (.getfield 213, 3) := dk_180 0 213 (dk_at dksX0_area_3 4 rfl rfl)
theorem dX0_area_76 : decode cX0_area 76 = .ok (.invokevirtual 15, 3) := dk_182 0 15 (dk_at dksX0_area_3 7 rfl rfl)
theorem dX0_area_79 : decode cX0_area 79 = .ok (.aload_n 0, 1) := dk_42 (dk_at dksX0_area_3 10 rfl rfl)
theorem dX0_area_80 : decode cX0_area 80 = .ok (.getfield 210, 3) := dk_180 0 210 (dk_at dksX0_area_3 11 rfl rfl)
theorem dX0_area_83 : decode cX0_area 83 = .ok (.aload_n 0, 1) := dk_42 (dk_at dksX0_area_3 14 rfl rfl)
theorem dX0_area_84 : decode cX0_area 84 = .ok (.getfield 216, 3) := dk_180 0 216 (dk_at dksX0_area_3 15 rfl rfl)
theorem dX0_area_87 : decode cX0_area 87 = .ok (.invokevirtual 15, 3) := dk_182 0 15 (dk_at dksX0_area_3 18 rfl rfl)
theorem dX0_area_90 : decode cX0_area 90 = .ok (.aload_n 0, 1) := dk_42 (dk_at dksX0_area_3 21 rfl rfl)
theorem dX0_area_91 : decode cX0_area 91 = .ok (.iload_n 2, 1) := dk_28 (dk_at dksX0_area_3 22 rfl rfl)
theorem dX0_area_92 : decode cX0_area 92 = .ok (.iload_n 3, 1) := dk_29 (dk_at dksX0_area_3 23 rfl rfl)
theorem dX0_area_93 : decode cX0_area 93 = .ok (.iload 4, 2) := dk_21 4 (dk_at dksX0_area_4 0 rfl rfl)
theorem dX0_area_95 : decode cX0_area 95 = .ok (.invokevirtual 310, 3) := dk_182 1 54 (dk_at dksX0_area_4 2 rfl rfl)
theorem dX0_area_98 : decode cX0_area 98 = .ok (.ifCond .ne 14, 3) := dk_154 0 14 (dk_at dksX0_area_4 5 rfl rfl)
theorem dX0_area_101 : decode cX0_area 101 = .ok (.iload 4, 2) := dk_21 4 (dk_at dksX0_area_4 8 rfl rfl)
theorem dX0_area_103 : decode cX0_area 103 = .ok (.ifCond .ne 7, 3) := dk_154 0 7 (dk_at dksX0_area_4 10 rfl rfl)
theorem dX0_area_106 : decode cX0_area 106 = .ok (.iconst 0, 1) := dk_3 (dk_at dksX0_area_4 13 rfl rfl)
theorem dX0_area_107 : decode cX0_area 107 = .ok (.goto 4, 3) := dk_167 0 4 (dk_at dksX0_area_4 14 rfl rfl)
theorem dX0_area_110 : decode cX0_area 110 = .ok (.iconst (-1), 1) := dk_2 (dk_at dksX0_area_4 17 rfl rfl)
theorem dX0_area_111 : decode cX0_area 111 = .ok (.ireturn, 1) := dk_172 (dk_at dksX0_area_4 18 rfl rfl)
theorem dX0_area_112 : decode cX0_area 112 = .ok (.aload_n 0, 1) := dk_42 (dk_at dksX0_area_4 19 rfl rfl)
theorem dX0_area_113 : decode cX0_area 113 = .ok (.getfield 11, 3) := dk_180 0 11 (dk_at dksX0_area_4 20 rfl rfl)
theorem dX0_area_116 : decode cX0_area 116 = .ok (.aload_n 0, 1) := dk_42 (dk_at dksX0_area_4 23 rfl rfl)
theorem dX0_area_117 : decode cX0_area 117 = .ok (.getfield 207, 3) := dk_180 0 207 (dk_at dksX0_area_5 0 rfl rfl)
theorem dX0_area_120 : decode cX0_area 120 = .ok (.aload_n 0, 1) := dk_42 (dk_at dksX0_area_5 3 rfl rfl)
theorem dX0_area_121 : decode cX0_area 121 = .ok (.getfield 213, 3) := dk_180 0 213 (dk_at dksX0_area_5 4 rfl rfl)
theorem dX0_area_124 : decode cX0_area 124 = .ok (.invokevirtual 296, 3) := dk_182 1 40 (dk_at dksX0_area_5 7 rfl rfl)
theorem dX0_area_127 : decode cX0_area 127 = .ok (.aload_n 0, 1) := dk_42 (dk_at dksX0_area_5 10 rfl rfl)
theorem dX0_area_128 : decode cX0_area 128 = .ok (.getfield 207, 3) := dk_180 0 207 (dk_at dksX0_area_5 11 rfl rfl)
theorem dX0_area_131 : decode cX0_area 131 = .ok (.aload_n 0, 1) := dk_42 (dk_at dksX0_area_5 14 rfl rfl)
theorem dX0_area_132 : decode cX0_area 132 = .ok (.getfield 11, 3) := dk_180 0 11 (dk_at dksX0_area_5 15 rfl rfl)
theorem dX0_area_135 : decode cX0_area 135 = .ok (.invokevirtual 15, 3) := dk_182 0 15 (dk_at dksX0_area_5 18 rfl rfl)
theorem dX0_area_138 : decode cX0_area 138 = .ok (.aload_n 0, 1) := dk_42 (dk_at dksX0_area_5 21 rfl rfl)
theorem dX0_area_139 : decode cX0_area 139 = .ok (.getfield 11, 3) := dk_180 0 11 (dk_at dksX0_area_6 0 rfl rfl)
theorem dX0_area_142 : decode cX0_area 142 = .ok (.aload_n 0, 1) := dk_42 (dk_at dksX0_area_6 3 rfl rfl)
theorem dX0_area_143 : decode cX0_area 143 = .ok (.getfield 210, 3) := dk_180 0 210 (dk_at dksX0_area_6 4 rfl rfl)
theorem dX0_area_146 : decode cX0_area 146 = .ok (.aload_n 0, 1) := dk_42 (dk_at dksX0_area_6 7 rfl rfl)
theorem dX0_area_147 : decode cX0_area 147 = .ok (.getfield 216, 3) := dk_180 0 216 (dk_at dksX0_area_6 8 rfl rfl)
theorem dX0_area_150 : decode cX0_area 150 = .ok (.invokevirtual 296, 3) := dk_182 1 40 (dk_at dksX0_area_6 11 rfl rfl)
theorem dX0_area_153 : decode cX0_area 153 = .ok (.aload_n 0, 1) := dk_42 (dk_at dksX0_area_6 14 rfl rfl)
theorem dX0_area_154 : decode cX0_area 154 = .ok (.getfield 210, 3) := dk_180 0 210 (dk_at dksX0_area_6 15 rfl rfl)
theorem dX0_area_157 : decode cX0_area 157 = .ok (.aload_n 0, 1) := dk_42 (dk_at dksX0_area_6 18 rfl rfl)
theorem dX0_area_158 : decode cX0_area 158 = .ok (.getfield 11, 3) := dk_180 0 11 (dk_at dksX0_area_6 19 rfl rfl)
theorem dX0_area_161 : decode cX0_area 161 = .ok (.invokevirtual 15, 3) := dk_182 0 15 (dk_at dksX0_area_7 0 rfl rfl)
theorem dX0_area_164 : decode cX0_area 164 = .ok (.aload_n 0, 1) := dk_42 (dk_at dksX0_area_7 3 rfl rfl)
theorem dX0_area_165 : decode cX0_area 165 = .ok (.iload 4, 2) := dk_21 4 (dk_at dksX0_area_7 4 rfl rfl)
theorem dX0_area_167 : decode cX0_area 167 = .ok (.ldc_w 319, 3) := dk_19 1 63 (dk_at dksX0_area_7 6 rfl rfl)
theorem dX0_area_170 : decode cX0_area 170 = .ok (.invokevirtual 316, 3) := dk_182 1 60 (dk_at dksX0_area_7 9 rfl rfl)
theorem dX0_area_173 : decode cX0_area 173 = .ok (.ireturn, 1) := dk_172 (dk_at dksX0_area_7 12 rfl rfl)
abbrev cX0_would : ByteArray := prog_1_method_49_code
def yX0_would : MethodName := ⟨RX0, "would", "(IIII)I"⟩
def dkwX0_would_3 : List UInt8 := [153, 0, 7, 4, 167, 0, 4, 5, 172]
abbrev dktX0_would_3 : List UInt8 := dkwX0_would_3 ++ []
def dkwX0_would_2 : List UInt8 := [25, 5, 27, 28, 182, 1, 76, 154, 0, 7, 3, 167, 0, 19, 42, 25, 5, 27, 28, 182, 1, 80]
abbrev dktX0_would_2 : List UInt8 := dkwX0_would_2 ++ dktX0_would_3
def dkwX0_would_1 : List UInt8 := [182, 0, 243, 154, 0, 6, 16, 254, 172, 42, 180, 0, 203, 6, 29, 104, 21, 4, 96, 50, 58, 5, 42]
abbrev dktX0_would_1 : List UInt8 := dkwX0_would_1 ++ dktX0_would_2
def dkwX0_would_0 : List UInt8 := [42, 27, 28, 182, 1, 48, 153, 0, 22, 29, 21, 4, 184, 1, 73, 153, 0, 13, 42, 180, 0, 196]
abbrev dktX0_would_0 : List UInt8 := dkwX0_would_0 ++ dktX0_would_1
theorem dksX0_would_0 : cX0_would.data.toList.drop 0 = dktX0_would_0 := by decide +kernel
theorem dksX0_would_1 : cX0_would.data.toList.drop 22 = dktX0_would_1 := dk_seg dksX0_would_0 22 rfl rfl
theorem dksX0_would_2 : cX0_would.data.toList.drop 45 = dktX0_would_2 := dk_seg dksX0_would_1 23 rfl rfl
theorem dksX0_would_3 : cX0_would.data.toList.drop 67 = dktX0_would_3 := dk_seg dksX0_would_2 22 rfl rfl
theorem dX0_would_0 : decode cX0_would 0 = .ok (.aload_n 0, 1) := dk_42 (dk_at dksX0_would_0 0 rfl rfl)
theorem dX0_would_1 : decode cX0_would 1 = .ok (.iload_n 1, 1) := dk_27 (dk_at dksX0_would_0 1 rfl rfl)
theorem dX0_would_2 : decode cX0_would 2 = .ok (.iload_n 2, 1) := dk_28 (dk_at dksX0_would_0 2 rfl rfl)
theorem dX0_would_3 : decode cX0_would 3 = .ok (.invokevirtual 304, 3) := dk_182 1 48 (dk_at dksX0_would_0 3 rfl rfl)
theorem dX0_would_6 : decode cX0_would 6 = .ok (.ifCond .eq 22, 3) := dk_153 0 22 (dk_at dksX0_would_0 6 rfl rfl)
theorem dX0_would_9 : decode cX0_would 9 = .ok (.iload_n 3, 1) := dk_29 (dk_at dksX0_would_0 9 rfl rfl)
theorem dX0_would_10 : decode cX0_would 10 = .ok (.iload 4, 2) := dk_21 4 (dk_at dksX0_would_0 10 rfl rfl)
theorem dX0_would_12 : decode cX0_would 12 = .ok (.invokestatic 329, 3) := dk_184 1 73 (dk_at dksX0_would_0 12 rfl rfl)
theorem dX0_would_15 : decode cX0_would 15 = .ok (.ifCond .eq 13, 3) := dk_153 0 13 (dk_at dksX0_would_0 15 rfl rfl)
theorem dX0_would_18 : decode cX0_would 18 = .ok (.aload_n 0, 1) := dk_42 (dk_at dksX0_would_0 18 rfl rfl)
theorem dX0_would_19 : decode cX0_would 19 = .ok (.getfield 196, 3) := dk_180 0 196 (dk_at dksX0_would_0 19 rfl rfl)
theorem dX0_would_22 : decode cX0_would 22 = .ok (.invokevirtual 243, 3) := dk_182 0 243 (dk_at dksX0_would_1 0 rfl rfl)
theorem dX0_would_25 : decode cX0_would 25 = .ok (.ifCond .ne 6, 3) := dk_154 0 6 (dk_at dksX0_would_1 3 rfl rfl)
theorem dX0_would_28 : decode cX0_would 28 = .ok (.bipush (-2), 2) := dk_16 254 (dk_at dksX0_would_1 6 rfl rfl)
theorem dX0_would_30 : decode cX0_would 30 = .ok (.ireturn, 1) := dk_172 (dk_at dksX0_would_1 8 rfl rfl)
theorem dX0_would_31 : decode cX0_would 31 = .ok (.aload_n 0, 1) := dk_42 (dk_at dksX0_would_1 9 rfl rfl)
theorem dX0_would_32 : decode cX0_would 32 = .ok (.getfield 203, 3) := dk_180 0 203 (dk_at dksX0_would_1 10 rfl rfl)
theorem dX0_would_35 : decode cX0_would 35 = .ok (.iconst 3, 1) := dk_6 (dk_at dksX0_would_1 13 rfl rfl)
theorem dX0_would_36 : decode cX0_would 36 = .ok (.iload_n 3, 1) := dk_29 (dk_at dksX0_would_1 14 rfl rfl)
theorem dX0_would_37 : decode cX0_would 37 = .ok (.imul, 1) := dk_104 (dk_at dksX0_would_1 15 rfl rfl)
theorem dX0_would_38 : decode cX0_would 38 = .ok (.iload 4, 2) := dk_21 4 (dk_at dksX0_would_1 16 rfl rfl)
theorem dX0_would_40 : decode cX0_would 40 = .ok (.iadd, 1) := dk_96 (dk_at dksX0_would_1 18 rfl rfl)
theorem dX0_would_41 : decode cX0_would 41 = .ok (.aaload, 1) := dk_50 (dk_at dksX0_would_1 19 rfl rfl)
theorem dX0_would_42 : decode cX0_would 42 = .ok (.astore 5, 2) := dk_58 5 (dk_at dksX0_would_1 20 rfl rfl)
theorem dX0_would_44 : decode cX0_would 44 = .ok (.aload_n 0, 1) := dk_42 (dk_at dksX0_would_1 22 rfl rfl)
theorem dX0_would_45 : decode cX0_would 45 = .ok (.aload 5, 2) := dk_25 5 (dk_at dksX0_would_2 0 rfl rfl)
theorem dX0_would_47 : decode cX0_would 47 = .ok (.iload_n 1, 1) := dk_27 (dk_at dksX0_would_2 2 rfl rfl)
theorem dX0_would_48 : decode cX0_would 48 = .ok (.iload_n 2, 1) := dk_28 (dk_at dksX0_would_2 3 rfl rfl)
theorem dX0_would_49 : decode cX0_would 49 = .ok (.invokevirtual 332, 3) := dk_182 1 76 (dk_at dksX0_would_2 4 rfl rfl)
theorem dX0_would_52 : decode cX0_would 52 = .ok (.ifCond .ne 7, 3) := dk_154 0 7 (dk_at dksX0_would_2 7 rfl rfl)
theorem dX0_would_55 : decode cX0_would 55 = .ok (.iconst 0, 1) := dk_3 (dk_at dksX0_would_2 10 rfl rfl)
theorem dX0_would_56 : decode cX0_would 56 = .ok (.goto 19, 3) := dk_167 0 19 (dk_at dksX0_would_2 11 rfl rfl)
theorem dX0_would_59 : decode cX0_would 59 = .ok (.aload_n 0, 1) := dk_42 (dk_at dksX0_would_2 14 rfl rfl)
theorem dX0_would_60 : decode cX0_would 60 = .ok (.aload 5, 2) := dk_25 5 (dk_at dksX0_would_2 15 rfl rfl)
theorem dX0_would_62 : decode cX0_would 62 = .ok (.iload_n 1, 1) := dk_27 (dk_at dksX0_would_2 17 rfl rfl)
theorem dX0_would_63 : decode cX0_would 63 = .ok (.iload_n 2, 1) := dk_28 (dk_at dksX0_would_2 18 rfl rfl)
theorem dX0_would_64 : decode cX0_would 64 = .ok (.invokevirtual 336, 3) := dk_182 1 80 (dk_at dksX0_would_2 19 rfl rfl)
theorem dX0_would_67 : decode cX0_would 67 = .ok (.ifCond .eq 7, 3) := dk_153 0 7 (dk_at dksX0_would_3 0 rfl rfl)
theorem dX0_would_70 : decode cX0_would 70 = .ok (.iconst 1, 1) := dk_4 (dk_at dksX0_would_3 3 rfl rfl)
theorem dX0_would_71 : decode cX0_would 71 = .ok (.goto 4, 3) := dk_167 0 4 (dk_at dksX0_would_3 4 rfl rfl)
theorem dX0_would_74 : decode cX0_would 74 = .ok (.iconst 2, 1) := dk_5 (dk_at dksX0_would_3 7 rfl rfl)
theorem dX0_would_75 : decode cX0_would 75 = .ok (.ireturn, 1) := dk_172 (dk_at dksX0_would_3 8 rfl rfl)
abbrev cX0_isNumber : ByteArray := prog_1_method_48_code
def yX0_isNumber : MethodName := ⟨RX0, "isNumber", "(II)Z"⟩
def dkwX0_isNumber_1 : List UInt8 := [172]
abbrev dktX0_isNumber_1 : List UInt8 := dkwX0_isNumber_1 ++ []
def dkwX0_isNumber_0 : List UInt8 := [26, 4, 16, 99, 184, 0, 41, 153, 0, 16, 27, 3, 5, 184, 0, 41, 153, 0, 7, 4, 167, 0, 4, 3]
abbrev dktX0_isNumber_0 : List UInt8 := dkwX0_isNumber_0 ++ dktX0_isNumber_1
theorem dksX0_isNumber_0 : cX0_isNumber.data.toList.drop 0 = dktX0_isNumber_0 := by decide +kernel
theorem dksX0_isNumber_1 : cX0_isNumber.data.toList.drop 24 = dktX0_isNumber_1 := dk_seg dksX0_isNumber_0 24 rfl rfl
theorem dX0_isNumber_0 : decode cX0_isNumber 0 = .ok (.iload_n 0, 1) := dk_26 (dk_at dksX0_isNumber_0 0 rfl rfl)
theorem dX0_isNumber_1 : decode cX0_isNumber 1 = .ok (.iconst 1, 1) := dk_4 (dk_at dksX0_isNumber_0 1 rfl rfl)
theorem dX0_isNumber_2 : decode cX0_isNumber 2 = .ok (.bipush 99, 2) := dk_16 99 (dk_at dksX0_isNumber_0 2 rfl rfl)
theorem dX0_isNumber_4 : decode cX0_isNumber 4 = .ok (.invokestatic 41, 3) := dk_184 0 41 (dk_at dksX0_isNumber_0 4 rfl rfl)
theorem dX0_isNumber_7 : decode cX0_isNumber 7 = .ok (.ifCond .eq 16, 3) := dk_153 0 16 (dk_at dksX0_isNumber_0 7 rfl rfl)
theorem dX0_isNumber_10 : decode cX0_isNumber 10 = .ok (.iload_n 1, 1) := dk_27 (dk_at dksX0_isNumber_0 10 rfl rfl)
theorem dX0_isNumber_11 : decode cX0_isNumber 11 = .ok (.iconst 0, 1) := dk_3 (dk_at dksX0_isNumber_0 11 rfl rfl)
theorem dX0_isNumber_12 : decode cX0_isNumber 12 = .ok (.iconst 2, 1) := dk_5 (dk_at dksX0_isNumber_0 12 rfl rfl)
theorem dX0_isNumber_13 : decode cX0_isNumber 13 = .ok (.invokestatic 41, 3) := dk_184 0 41 (dk_at dksX0_isNumber_0 13 rfl rfl)
theorem dX0_isNumber_16 : decode cX0_isNumber 16 = .ok (.ifCond .eq 7, 3) := dk_153 0 7 (dk_at dksX0_isNumber_0 16 rfl rfl)
theorem dX0_isNumber_19 : decode cX0_isNumber 19 = .ok (.iconst 1, 1) := dk_4 (dk_at dksX0_isNumber_0 19 rfl rfl)
theorem dX0_isNumber_20 : decode cX0_isNumber 20 = .ok (.goto 4, 3) := dk_167 0 4 (dk_at dksX0_isNumber_0 20 rfl rfl)
theorem dX0_isNumber_23 : decode cX0_isNumber 23 = .ok (.iconst 0, 1) := dk_3 (dk_at dksX0_isNumber_0 23 rfl rfl)
theorem dX0_isNumber_24 : decode cX0_isNumber 24 = .ok (.ireturn, 1) := dk_172 (dk_at dksX0_isNumber_1 0 rfl rfl)
abbrev cX0_could : ByteArray := prog_1_method_46_code
def yX0_could : MethodName := ⟨RX0, "could", "(LWeekFoot$Entry;II)Z"⟩
def dkwX0_could_3 : List UInt8 := [154, 0, 7, 4, 167, 0, 4, 3, 172]
abbrev dktX0_could_3 : List UInt8 := dkwX0_could_3 ++ []
def dkwX0_could_2 : List UInt8 := [54, 6, 21, 6, 157, 0, 22, 21, 6, 154, 0, 21, 43, 180, 0, 143, 154, 0, 14, 42, 180, 1, 44]
abbrev dktX0_could_2 : List UInt8 := dkwX0_could_2 ++ dktX0_could_3
def dkwX0_could_1 : List UInt8 := [21, 4, 154, 0, 10, 21, 5, 153, 0, 5, 3, 172, 42, 43, 182, 1, 70, 28, 29, 3, 182, 1, 67]
abbrev dktX0_could_1 : List UInt8 := dkwX0_could_1 ++ dktX0_could_2
def dkwX0_could_0 : List UInt8 := [42, 43, 182, 1, 64, 28, 29, 4, 182, 1, 67, 54, 4, 42, 180, 1, 44, 54, 5, 21, 4, 157, 0, 13]
abbrev dktX0_could_0 : List UInt8 := dkwX0_could_0 ++ dktX0_could_1
theorem dksX0_could_0 : cX0_could.data.toList.drop 0 = dktX0_could_0 := by decide +kernel
theorem dksX0_could_1 : cX0_could.data.toList.drop 24 = dktX0_could_1 := dk_seg dksX0_could_0 24 rfl rfl
theorem dksX0_could_2 : cX0_could.data.toList.drop 47 = dktX0_could_2 := dk_seg dksX0_could_1 23 rfl rfl
theorem dksX0_could_3 : cX0_could.data.toList.drop 70 = dktX0_could_3 := dk_seg dksX0_could_2 23 rfl rfl
theorem dX0_could_0 : decode cX0_could 0 = .ok (.aload_n 0, 1) := dk_42 (dk_at dksX0_could_0 0 rfl rfl)
theorem dX0_could_1 : decode cX0_could 1 = .ok (.aload_n 1, 1) := dk_43 (dk_at dksX0_could_0 1 rfl rfl)
theorem dX0_could_2 : decode cX0_could 2 = .ok (.invokevirtual 320, 3) := dk_182 1 64 (dk_at dksX0_could_0 2 rfl rfl)
theorem dX0_could_5 : decode cX0_could 5 = .ok (.iload_n 2, 1) := dk_28 (dk_at dksX0_could_0 5 rfl rfl)
theorem dX0_could_6 : decode cX0_could 6 = .ok (.iload_n 3, 1) := dk_29 (dk_at dksX0_could_0 6 rfl rfl)
theorem dX0_could_7 : decode cX0_could 7 = .ok (.iconst 1, 1) := dk_4 (dk_at dksX0_could_0 7 rfl rfl)
theorem dX0_could_8 : decode cX0_could 8 = .ok (.invokevirtual 323, 3) := dk_182 1 67 (dk_at dksX0_could_0 8 rfl rfl)
theorem dX0_could_11 : decode cX0_could 11 = .ok (.istore 4, 2) := dk_54 4 (dk_at dksX0_could_0 11 rfl rfl)
theorem dX0_could_13 : decode cX0_could 13 = .ok (.aload_n 0, 1) := dk_42 (dk_at dksX0_could_0 13 rfl rfl)
theorem dX0_could_14 : decode cX0_could 14 = .ok (.getfield 300, 3) := dk_180 1 44 (dk_at dksX0_could_0 14 rfl rfl)
theorem dX0_could_17 : decode cX0_could 17 = .ok (.istore 5, 2) := dk_54 5 (dk_at dksX0_could_0 17 rfl rfl)
theorem dX0_could_19 : decode cX0_could 19 = .ok (.iload 4, 2) := dk_21 4 (dk_at dksX0_could_0 19 rfl rfl)
theorem dX0_could_21 : decode cX0_could 21 = .ok (.ifCond .gt 13, 3) := dk_157 0 13 (dk_at dksX0_could_0 21 rfl rfl)
theorem dX0_could_24 : decode cX0_could 24 = .ok (.iload 4, 2) := dk_21 4 (dk_at dksX0_could_1 0 rfl rfl)
theorem dX0_could_26 : decode cX0_could 26 = .ok (.ifCond .ne 10, 3) := dk_154 0 10 (dk_at dksX0_could_1 2 rfl rfl)
theorem dX0_could_29 : decode cX0_could 29 = .ok (.iload 5, 2) := dk_21 5 (dk_at dksX0_could_1 5 rfl rfl)
theorem dX0_could_31 : decode cX0_could 31 = .ok (.ifCond .eq 5, 3) := dk_153 0 5 (dk_at dksX0_could_1 7 rfl rfl)
theorem dX0_could_34 : decode cX0_could 34 = .ok (.iconst 0, 1) := dk_3 (dk_at dksX0_could_1 10 rfl rfl)
theorem dX0_could_35 : decode cX0_could 35 = .ok (.ireturn, 1) := dk_172 (dk_at dksX0_could_1 11 rfl rfl)
theorem dX0_could_36 : decode cX0_could 36 = .ok (.aload_n 0, 1) := dk_42 (dk_at dksX0_could_1 12 rfl rfl)
theorem dX0_could_37 : decode cX0_could 37 = .ok (.aload_n 1, 1) := dk_43 (dk_at dksX0_could_1 13 rfl rfl)
theorem dX0_could_38 : decode cX0_could 38 = .ok (.invokevirtual 326, 3) := dk_182 1 70 (dk_at dksX0_could_1 14 rfl rfl)
theorem dX0_could_41 : decode cX0_could 41 = .ok (.iload_n 2, 1) := dk_28 (dk_at dksX0_could_1 17 rfl rfl)
theorem dX0_could_42 : decode cX0_could 42 = .ok (.iload_n 3, 1) := dk_29 (dk_at dksX0_could_1 18 rfl rfl)
theorem dX0_could_43 : decode cX0_could 43 = .ok (.iconst 0, 1) := dk_3 (dk_at dksX0_could_1 19 rfl rfl)
theorem dX0_could_44 : decode cX0_could 44 = .ok (.invokevirtual 323, 3) := dk_182 1 67 (dk_at dksX0_could_1 20 rfl rfl)
theorem dX0_could_47 : decode cX0_could 47 = .ok (.istore 6, 2) := dk_54 6 (dk_at dksX0_could_2 0 rfl rfl)
theorem dX0_could_49 : decode cX0_could 49 = .ok (.iload 6, 2) := dk_21 6 (dk_at dksX0_could_2 2 rfl rfl)
theorem dX0_could_51 : decode cX0_could 51 = .ok (.ifCond .gt 22, 3) := dk_157 0 22 (dk_at dksX0_could_2 4 rfl rfl)
theorem dX0_could_54 : decode cX0_could 54 = .ok (.iload 6, 2) := dk_21 6 (dk_at dksX0_could_2 7 rfl rfl)
theorem dX0_could_56 : decode cX0_could 56 = .ok (.ifCond .ne 21, 3) := dk_154 0 21 (dk_at dksX0_could_2 9 rfl rfl)
theorem dX0_could_59 : decode cX0_could 59 = .ok (.aload_n 1, 1) := dk_43 (dk_at dksX0_could_2 12 rfl rfl)
theorem dX0_could_60 : decode cX0_could 60 = .ok (.getfield 143, 3) := dk_180 0 143 (dk_at dksX0_could_2 13 rfl rfl)
theorem dX0_could_63 : decode cX0_could 63 = .ok (.ifCond .ne 14, 3) := dk_154 0 14 (dk_at dksX0_could_2 16 rfl rfl)
theorem dX0_could_66 : decode cX0_could 66 = .ok (.aload_n 0, 1) := dk_42 (dk_at dksX0_could_2 19 rfl rfl)
theorem dX0_could_67 : decode cX0_could 67 = .ok (.getfield 300, 3) := dk_180 1 44 (dk_at dksX0_could_2 20 rfl rfl)
theorem dX0_could_70 : decode cX0_could 70 = .ok (.ifCond .ne 7, 3) := dk_154 0 7 (dk_at dksX0_could_3 0 rfl rfl)
theorem dX0_could_73 : decode cX0_could 73 = .ok (.iconst 1, 1) := dk_4 (dk_at dksX0_could_3 3 rfl rfl)
theorem dX0_could_74 : decode cX0_could 74 = .ok (.goto 4, 3) := dk_167 0 4 (dk_at dksX0_could_3 4 rfl rfl)
theorem dX0_could_77 : decode cX0_could 77 = .ok (.iconst 0, 1) := dk_3 (dk_at dksX0_could_3 7 rfl rfl)
theorem dX0_could_78 : decode cX0_could 78 = .ok (.ireturn, 1) := dk_172 (dk_at dksX0_could_3 8 rfl rfl)
abbrev cX0_against : ByteArray := prog_1_method_45_code
def yX0_against : MethodName := ⟨RX0, "against", "(IIII)I"⟩
def dkwX0_against_3 : List UInt8 := [180, 0, 27, 182, 0, 30, 172]
abbrev dktX0_against_3 : List UInt8 := dkwX0_against_3 ++ []
def dkwX0_against_2 : List UInt8 := [42, 180, 0, 27, 42, 180, 0, 213, 182, 0, 15, 42, 180, 0, 27, 5, 182, 0, 21, 42, 180, 0, 11, 42]
abbrev dktX0_against_2 : List UInt8 := dkwX0_against_2 ++ dktX0_against_3
def dkwX0_against_1 : List UInt8 := [167, 0, 4, 2, 172, 42, 180, 0, 11, 42, 180, 0, 216, 182, 0, 15, 42, 180, 0, 11, 27, 182, 0, 21]
abbrev dktX0_against_1 : List UInt8 := dkwX0_against_1 ++ dktX0_against_2
def dkwX0_against_0 : List UInt8 := [42, 3, 181, 1, 44, 42, 28, 29, 21, 4, 182, 1, 54, 154, 0, 14, 21, 4, 154, 0, 7, 4]
abbrev dktX0_against_0 : List UInt8 := dkwX0_against_0 ++ dktX0_against_1
theorem dksX0_against_0 : cX0_against.data.toList.drop 0 = dktX0_against_0 := by decide +kernel
theorem dksX0_against_1 : cX0_against.data.toList.drop 22 = dktX0_against_1 := dk_seg dksX0_against_0 22 rfl rfl
theorem dksX0_against_2 : cX0_against.data.toList.drop 46 = dktX0_against_2 := dk_seg dksX0_against_1 24 rfl rfl
theorem dksX0_against_3 : cX0_against.data.toList.drop 70 = dktX0_against_3 := dk_seg dksX0_against_2 24 rfl rfl
theorem dX0_against_0 : decode cX0_against 0 = .ok (.aload_n 0, 1) := dk_42 (dk_at dksX0_against_0 0 rfl rfl)
theorem dX0_against_1 : decode cX0_against 1 = .ok (.iconst 0, 1) := dk_3 (dk_at dksX0_against_0 1 rfl rfl)
theorem dX0_against_2 : decode cX0_against 2 = .ok (.putfield 300, 3) := dk_181 1 44 (dk_at dksX0_against_0 2 rfl rfl)
theorem dX0_against_5 : decode cX0_against 5 = .ok (.aload_n 0, 1) := dk_42 (dk_at dksX0_against_0 5 rfl rfl)
theorem dX0_against_6 : decode cX0_against 6 = .ok (.iload_n 2, 1) := dk_28 (dk_at dksX0_against_0 6 rfl rfl)
theorem dX0_against_7 : decode cX0_against 7 = .ok (.iload_n 3, 1) := dk_29 (dk_at dksX0_against_0 7 rfl rfl)
theorem dX0_against_8 : decode cX0_against 8 = .ok (.iload 4, 2) := dk_21 4 (dk_at dksX0_against_0 8 rfl rfl)
theorem dX0_against_10 : decode cX0_against 10 = .ok (.invokevirtual 310, 3) := dk_182 1 54 (dk_at dksX0_against_0 10 rfl rfl)
theorem dX0_against_13 : decode cX0_against 13 = .ok (.ifCond .ne 14, 3) := dk_154 0 14 (dk_at dksX0_against_0 13 rfl rfl)
theorem dX0_against_16 : decode cX0_against 16 = .ok (.iload 4, 2) := dk_21 4 (dk_at dksX0_against_0 16 rfl rfl)
theorem dX0_against_18 : decode cX0_against 18 = .ok (.ifCond .ne 7, 3) := dk_154 0 7 (dk_at dksX0_against_0 18 rfl rfl)
theorem dX0_against_21 : decode cX0_against 21 = .ok (.iconst 1, 1) := dk_4 (dk_at dksX0_against_0 21 rfl rfl)
theorem dX0_against_22 : decode cX0_against 22 = .ok (.goto 4, 3) := dk_167 0 4 (dk_at dksX0_against_1 0 rfl rfl)
theorem dX0_against_25 : decode cX0_against 25 = .ok (.iconst (-1), 1) := dk_2 (dk_at dksX0_against_1 3 rfl rfl)
theorem dX0_against_26 : decode cX0_against 26 = .ok (.ireturn, 1) := dk_172 (dk_at dksX0_against_1 4 rfl rfl)
theorem dX0_against_27 : decode cX0_against 27 = .ok (.aload_n 0, 1) := dk_42 (dk_at dksX0_against_1 5 rfl rfl)
theorem dX0_against_28 : decode cX0_against 28 = .ok (.getfield 11, 3) := dk_180 0 11 (dk_at dksX0_against_1 6 rfl rfl)
theorem dX0_against_31 : decode cX0_against 31 = .ok (.aload_n 0, 1) := dk_42 (dk_at dksX0_against_1 9 rfl rfl)
theorem dX0_against_32 : decode cX0_against 32 = .ok (.getfield 216, 3) := dk_180 0 216 (dk_at dksX0_against_1 10 rfl rfl)
theorem dX0_against_35 : decode cX0_against 35 = .ok (.invokevirtual 15, 3) := dk_182 0 15 (dk_at dksX0_against_1 13 rfl rfl)
theorem dX0_against_38 : decode cX0_against 38 = .ok (.aload_n 0, 1) := dk_42 (dk_at dksX0_against_1 16 rfl rfl)
theorem dX0_against_39 : decode cX0_against 39 = .ok (.getfield 11, 3) := dk_180 0 11 (dk_at dksX0_against_1 17 rfl rfl)
theorem dX0_against_42 : decode cX0_against 42 = .ok (.iload_n 1, 1) := dk_27 (dk_at dksX0_against_1 20 rfl rfl)
theorem dX0_against_43 : decode cX0_against 43 = .ok (.invokevirtual 21, 3) := dk_182 0 21 (dk_at dksX0_against_1 21 rfl rfl)
theorem dX0_against_46 : decode cX0_against 46 = .ok (.aload_n 0, 1) := dk_42 (dk_at dksX0_against_2 0 rfl rfl)
theorem dX0_against_47 : decode cX0_against 47 = .ok (.getfield 27, 3) := dk_180 0 27 (dk_at dksX0_against_2 1 rfl rfl)
theorem dX0_against_50 : decode cX0_against 50 = .ok (.aload_n 0, 1) := dk_42 (dk_at dksX0_against_2 4 rfl rfl)
theorem dX0_against_51 : decode cX0_against 51 = .ok (.getfield 213, 3) := dk_180 0 213 (dk_at dksX0_against_2 5 rfl rfl)
theorem dX0_against_54 : decode cX0_against 54 = .ok (.invokevirtual 15, 3) := dk_182 0 15 (dk_at dksX0_against_2 8 rfl rfl)
theorem dX0_against_57 : decode cX0_against 57 = .ok (.aload_n 0, 1) := dk_42 (dk_at dksX0_against_2 11 rfl rfl)
theorem dX0_against_58 : decode cX0_against 58 = .ok (.getfield 27, 3) := dk_180 0 27 (dk_at dksX0_against_2 12 rfl rfl)
theorem dX0_against_61 : decode cX0_against 61 = .ok (.iconst 2, 1) := dk_5 (dk_at dksX0_against_2 15 rfl rfl)
theorem dX0_against_62 : decode cX0_against 62 = .ok (.invokevirtual 21, 3) := dk_182 0 21 (dk_at dksX0_against_2 16 rfl rfl)
theorem dX0_against_65 : decode cX0_against 65 = .ok (.aload_n 0, 1) := dk_42 (dk_at dksX0_against_2 19 rfl rfl)
theorem dX0_against_66 : decode cX0_against 66 = .ok (.getfield 11, 3) := dk_180 0 11 (dk_at dksX0_against_2 20 rfl rfl)
theorem dX0_against_69 : decode cX0_against 69 = .ok (.aload_n 0, 1) := dk_42 (dk_at dksX0_against_2 23 rfl rfl)
theorem dX0_against_70 : decode cX0_against 70 = .ok (.getfield 27, 3) := dk_180 0 27 (dk_at dksX0_against_3 0 rfl rfl)
theorem dX0_against_73 : decode cX0_against 73 = .ok (.invokevirtual 30, 3) := dk_182 0 30 (dk_at dksX0_against_3 3 rfl rfl)
theorem dX0_against_76 : decode cX0_against 76 = .ok (.ireturn, 1) := dk_172 (dk_at dksX0_against_3 6 rfl rfl)
abbrev cX0_must : ByteArray := prog_1_method_47_code
def yX0_must : MethodName := ⟨RX0, "must", "(LWeekFoot$Entry;II)Z"⟩
def dkwX0_must_4 : List UInt8 := [4, 167, 0, 4, 3, 172]
abbrev dktX0_must_4 : List UInt8 := dkwX0_must_4 ++ []
def dkwX0_must_3 : List UInt8 := [21, 4, 157, 0, 22, 21, 4, 154, 0, 21, 43, 180, 0, 143, 153, 0, 10, 42, 180, 1, 44, 153, 0, 7]
abbrev dktX0_must_3 : List UInt8 := dkwX0_must_3 ++ dktX0_must_4
def dkwX0_must_2 : List UInt8 := [29, 3, 182, 1, 67, 158, 0, 5, 3, 172, 42, 43, 182, 1, 70, 28, 29, 4, 182, 1, 67, 54, 4]
abbrev dktX0_must_2 : List UInt8 := dkwX0_must_2 ++ dktX0_must_3
def dkwX0_must_1 : List UInt8 := [180, 0, 250, 16, 16, 16, 12, 29, 96, 104, 28, 96, 51, 154, 0, 5, 3, 172, 42, 43, 182, 1, 64, 28]
abbrev dktX0_must_1 : List UInt8 := dkwX0_must_1 ++ dktX0_must_2
def dkwX0_must_0 : List UInt8 := [42, 180, 0, 196, 180, 0, 250, 16, 16, 28, 104, 16, 12, 96, 29, 96, 51, 153, 0, 23, 42, 180, 0, 196]
abbrev dktX0_must_0 : List UInt8 := dkwX0_must_0 ++ dktX0_must_1
theorem dksX0_must_0 : cX0_must.data.toList.drop 0 = dktX0_must_0 := by decide +kernel
theorem dksX0_must_1 : cX0_must.data.toList.drop 24 = dktX0_must_1 := dk_seg dksX0_must_0 24 rfl rfl
theorem dksX0_must_2 : cX0_must.data.toList.drop 48 = dktX0_must_2 := dk_seg dksX0_must_1 24 rfl rfl
theorem dksX0_must_3 : cX0_must.data.toList.drop 71 = dktX0_must_3 := dk_seg dksX0_must_2 23 rfl rfl
theorem dksX0_must_4 : cX0_must.data.toList.drop 95 = dktX0_must_4 := dk_seg dksX0_must_3 24 rfl rfl
theorem dX0_must_0 : decode cX0_must 0 = .ok (.aload_n 0, 1) := dk_42 (dk_at dksX0_must_0 0 rfl rfl)
theorem dX0_must_1 : decode cX0_must 1 = .ok (.getfield 196, 3) := dk_180 0 196 (dk_at dksX0_must_0 1 rfl rfl)
theorem dX0_must_4 : decode cX0_must 4 = .ok (.getfield 250, 3) := dk_180 0 250 (dk_at dksX0_must_0 4 rfl rfl)
theorem dX0_must_7 : decode cX0_must 7 = .ok (.bipush 16, 2) := dk_16 16 (dk_at dksX0_must_0 7 rfl rfl)
theorem dX0_must_9 : decode cX0_must 9 = .ok (.iload_n 2, 1) := dk_28 (dk_at dksX0_must_0 9 rfl rfl)
theorem dX0_must_10 : decode cX0_must 10 = .ok (.imul, 1) := dk_104 (dk_at dksX0_must_0 10 rfl rfl)
theorem dX0_must_11 : decode cX0_must 11 = .ok (.bipush 12, 2) := dk_16 12 (dk_at dksX0_must_0 11 rfl rfl)
theorem dX0_must_13 : decode cX0_must 13 = .ok (.iadd, 1) := dk_96 (dk_at dksX0_must_0 13 rfl rfl)
theorem dX0_must_14 : decode cX0_must 14 = .ok (.iload_n 3, 1) := dk_29 (dk_at dksX0_must_0 14 rfl rfl)
theorem dX0_must_15 : decode cX0_must 15 = .ok (.iadd, 1) := dk_96 (dk_at dksX0_must_0 15 rfl rfl)
theorem dX0_must_16 : decode cX0_must 16 = .ok (.baload, 1) := dk_51 (dk_at dksX0_must_0 16 rfl rfl)
theorem dX0_must_17 : decode cX0_must 17 = .ok (.ifCond .eq 23, 3) := dk_153 0 23 (dk_at dksX0_must_0 17 rfl rfl)
theorem dX0_must_20 : decode cX0_must 20 = .ok (.aload_n 0, 1) := dk_42 (dk_at dksX0_must_0 20 rfl rfl)
theorem dX0_must_21 : decode cX0_must 21 = .ok (.getfield 196, 3) := dk_180 0 196 (dk_at dksX0_must_0 21 rfl rfl)
theorem dX0_must_24 : decode cX0_must 24 = .ok (.getfield 250, 3) := dk_180 0 250 (dk_at dksX0_must_1 0 rfl rfl)
theorem dX0_must_27 : decode cX0_must 27 = .ok (.bipush 16, 2) := dk_16 16 (dk_at dksX0_must_1 3 rfl rfl)
theorem dX0_must_29 : decode cX0_must 29 = .ok (.bipush 12, 2) := dk_16 12 (dk_at dksX0_must_1 5 rfl rfl)
theorem dX0_must_31 : decode cX0_must 31 = .ok (.iload_n 3, 1) := dk_29 (dk_at dksX0_must_1 7 rfl rfl)
theorem dX0_must_32 : decode cX0_must 32 = .ok (.iadd, 1) := dk_96 (dk_at dksX0_must_1 8 rfl rfl)
theorem dX0_must_33 : decode cX0_must 33 = .ok (.imul, 1) := dk_104 (dk_at dksX0_must_1 9 rfl rfl)
theorem dX0_must_34 : decode cX0_must 34 = .ok (.iload_n 2, 1) := dk_28 (dk_at dksX0_must_1 10 rfl rfl)
theorem dX0_must_35 : decode cX0_must 35 = .ok (.iadd, 1) := dk_96 (dk_at dksX0_must_1 11 rfl rfl)
theorem dX0_must_36 : decode cX0_must 36 = .ok (.baload, 1) := dk_51 (dk_at dksX0_must_1 12 rfl rfl)
theorem dX0_must_37 : decode cX0_must 37 = .ok (.ifCond .ne 5, 3) := dk_154 0 5 (dk_at dksX0_must_1 13 rfl rfl)
theorem dX0_must_40 : decode cX0_must 40 = .ok (.iconst 0, 1) := dk_3 (dk_at dksX0_must_1 16 rfl rfl)
theorem dX0_must_41 : decode cX0_must 41 = .ok (.ireturn, 1) := dk_172 (dk_at dksX0_must_1 17 rfl rfl)
theorem dX0_must_42 : decode cX0_must 42 = .ok (.aload_n 0, 1) := dk_42 (dk_at dksX0_must_1 18 rfl rfl)
theorem dX0_must_43 : decode cX0_must 43 = .ok (.aload_n 1, 1) := dk_43 (dk_at dksX0_must_1 19 rfl rfl)
theorem dX0_must_44 : decode cX0_must 44 = .ok (.invokevirtual 320, 3) := dk_182 1 64 (dk_at dksX0_must_1 20 rfl rfl)
theorem dX0_must_47 : decode cX0_must 47 = .ok (.iload_n 2, 1) := dk_28 (dk_at dksX0_must_1 23 rfl rfl)
theorem dX0_must_48 : decode cX0_must 48 = .ok (.iload_n 3, 1) := dk_29 (dk_at dksX0_must_2 0 rfl rfl)
theorem dX0_must_49 : decode cX0_must 49 = .ok (.iconst 0, 1) := dk_3 (dk_at dksX0_must_2 1 rfl rfl)
theorem dX0_must_50 : decode cX0_must 50 = .ok (.invokevirtual 323, 3) := dk_182 1 67 (dk_at dksX0_must_2 2 rfl rfl)
theorem dX0_must_53 : decode cX0_must 53 = .ok (.ifCond .le 5, 3) := dk_158 0 5 (dk_at dksX0_must_2 5 rfl rfl)
theorem dX0_must_56 : decode cX0_must 56 = .ok (.iconst 0, 1) := dk_3 (dk_at dksX0_must_2 8 rfl rfl)
theorem dX0_must_57 : decode cX0_must 57 = .ok (.ireturn, 1) := dk_172 (dk_at dksX0_must_2 9 rfl rfl)
theorem dX0_must_58 : decode cX0_must 58 = .ok (.aload_n 0, 1) := dk_42 (dk_at dksX0_must_2 10 rfl rfl)
theorem dX0_must_59 : decode cX0_must 59 = .ok (.aload_n 1, 1) := dk_43 (dk_at dksX0_must_2 11 rfl rfl)
theorem dX0_must_60 : decode cX0_must 60 = .ok (.invokevirtual 326, 3) := dk_182 1 70 (dk_at dksX0_must_2 12 rfl rfl)
theorem dX0_must_63 : decode cX0_must 63 = .ok (.iload_n 2, 1) := dk_28 (dk_at dksX0_must_2 15 rfl rfl)
theorem dX0_must_64 : decode cX0_must 64 = .ok (.iload_n 3, 1) := dk_29 (dk_at dksX0_must_2 16 rfl rfl)
theorem dX0_must_65 : decode cX0_must 65 = .ok (.iconst 1, 1) := dk_4 (dk_at dksX0_must_2 17 rfl rfl)
theorem dX0_must_66 : decode cX0_must 66 = .ok (.invokevirtual 323, 3) := dk_182 1 67 (dk_at dksX0_must_2 18 rfl rfl)
theorem dX0_must_69 : decode cX0_must 69 = .ok (.istore 4, 2) := dk_54 4 (dk_at dksX0_must_2 21 rfl rfl)
theorem dX0_must_71 : decode cX0_must 71 = .ok (.iload 4, 2) := dk_21 4 (dk_at dksX0_must_3 0 rfl rfl)
theorem dX0_must_73 : decode cX0_must 73 = .ok (.ifCond .gt 22, 3) := dk_157 0 22 (dk_at dksX0_must_3 2 rfl rfl)
theorem dX0_must_76 : decode cX0_must 76 = .ok (.iload 4, 2) := dk_21 4 (dk_at dksX0_must_3 5 rfl rfl)
theorem dX0_must_78 : decode cX0_must 78 = .ok (.ifCond .ne 21, 3) := dk_154 0 21 (dk_at dksX0_must_3 7 rfl rfl)
theorem dX0_must_81 : decode cX0_must 81 = .ok (.aload_n 1, 1) := dk_43 (dk_at dksX0_must_3 10 rfl rfl)
theorem dX0_must_82 : decode cX0_must 82 = .ok (.getfield 143, 3) := dk_180 0 143 (dk_at dksX0_must_3 11 rfl rfl)
theorem dX0_must_85 : decode cX0_must 85 = .ok (.ifCond .eq 10, 3) := dk_153 0 10 (dk_at dksX0_must_3 14 rfl rfl)
theorem dX0_must_88 : decode cX0_must 88 = .ok (.aload_n 0, 1) := dk_42 (dk_at dksX0_must_3 17 rfl rfl)
theorem dX0_must_89 : decode cX0_must 89 = .ok (.getfield 300, 3) := dk_180 1 44 (dk_at dksX0_must_3 18 rfl rfl)
theorem dX0_must_92 : decode cX0_must 92 = .ok (.ifCond .eq 7, 3) := dk_153 0 7 (dk_at dksX0_must_3 21 rfl rfl)
theorem dX0_must_95 : decode cX0_must 95 = .ok (.iconst 1, 1) := dk_4 (dk_at dksX0_must_4 0 rfl rfl)
theorem dX0_must_96 : decode cX0_must 96 = .ok (.goto 4, 3) := dk_167 0 4 (dk_at dksX0_must_4 1 rfl rfl)
theorem dX0_must_99 : decode cX0_must 99 = .ok (.iconst 0, 1) := dk_3 (dk_at dksX0_must_4 4 rfl rfl)
theorem dX0_must_100 : decode cX0_must 100 = .ok (.ireturn, 1) := dk_172 (dk_at dksX0_must_4 5 rfl rfl)
abbrev cX0_numbers : ByteArray := prog_1_method_51_code
def yX0_numbers : MethodName := ⟨RX0, "numbers", "(IIII)I"⟩
def dkwX0_numbers_3 : List UInt8 := [180, 1, 83, 167, 0, 7, 42, 180, 1, 86, 172]
abbrev dktX0_numbers_3 : List UInt8 := dkwX0_numbers_3 ++ []
def dkwX0_numbers_2 : List UInt8 := [182, 1, 89, 54, 5, 21, 4, 154, 0, 8, 21, 5, 167, 0, 20, 21, 4, 4, 160, 0, 10, 42]
abbrev dktX0_numbers_2 : List UInt8 := dkwX0_numbers_2 ++ dktX0_numbers_3
def dkwX0_numbers_1 : List UInt8 := [184, 0, 41, 153, 0, 13, 42, 180, 0, 196, 182, 0, 243, 154, 0, 6, 16, 254, 172, 42, 27, 28, 29]
abbrev dktX0_numbers_1 : List UInt8 := dkwX0_numbers_1 ++ dktX0_numbers_2
def dkwX0_numbers_0 : List UInt8 := [42, 27, 28, 182, 1, 48, 153, 0, 32, 29, 3, 5, 184, 0, 41, 153, 0, 23, 21, 4, 3, 5]
abbrev dktX0_numbers_0 : List UInt8 := dkwX0_numbers_0 ++ dktX0_numbers_1
theorem dksX0_numbers_0 : cX0_numbers.data.toList.drop 0 = dktX0_numbers_0 := by decide +kernel
theorem dksX0_numbers_1 : cX0_numbers.data.toList.drop 22 = dktX0_numbers_1 := dk_seg dksX0_numbers_0 22 rfl rfl
theorem dksX0_numbers_2 : cX0_numbers.data.toList.drop 45 = dktX0_numbers_2 := dk_seg dksX0_numbers_1 23 rfl rfl
theorem dksX0_numbers_3 : cX0_numbers.data.toList.drop 67 = dktX0_numbers_3 := dk_seg dksX0_numbers_2 22 rfl rfl
theorem dX0_numbers_0 : decode cX0_numbers 0 = .ok (.aload_n 0, 1) := dk_42 (dk_at dksX0_numbers_0 0 rfl rfl)
theorem dX0_numbers_1 : decode cX0_numbers 1 = .ok (.iload_n 1, 1) := dk_27 (dk_at dksX0_numbers_0 1 rfl rfl)
theorem dX0_numbers_2 : decode cX0_numbers 2 = .ok (.iload_n 2, 1) := dk_28 (dk_at dksX0_numbers_0 2 rfl rfl)
theorem dX0_numbers_3 : decode cX0_numbers 3 = .ok (.invokevirtual 304, 3) := dk_182 1 48 (dk_at dksX0_numbers_0 3 rfl rfl)
theorem dX0_numbers_6 : decode cX0_numbers 6 = .ok (.ifCond .eq 32, 3) := dk_153 0 32 (dk_at dksX0_numbers_0 6 rfl rfl)
theorem dX0_numbers_9 : decode cX0_numbers 9 = .ok (.iload_n 3, 1) := dk_29 (dk_at dksX0_numbers_0 9 rfl rfl)
theorem dX0_numbers_10 : decode cX0_numbers 10 = .ok (.iconst 0, 1) := dk_3 (dk_at dksX0_numbers_0 10 rfl rfl)
theorem dX0_numbers_11 : decode cX0_numbers 11 = .ok (.iconst 2, 1) := dk_5 (dk_at dksX0_numbers_0 11 rfl rfl)
theorem dX0_numbers_12 : decode cX0_numbers 12 = .ok (.invokestatic 41, 3) := dk_184 0 41 (dk_at dksX0_numbers_0 12 rfl rfl)
theorem dX0_numbers_15 : decode cX0_numbers 15 = .ok (.ifCond .eq 23, 3) := dk_153 0 23 (dk_at dksX0_numbers_0 15 rfl rfl)
theorem dX0_numbers_18 : decode cX0_numbers 18 = .ok (.iload 4, 2) := dk_21 4 (dk_at dksX0_numbers_0 18 rfl rfl)
theorem dX0_numbers_20 : decode cX0_numbers 20 = .ok (.iconst 0, 1) := dk_3 (dk_at dksX0_numbers_0 20 rfl rfl)
theorem dX0_numbers_21 : decode cX0_numbers 21 = .ok (.iconst 2, 1) := dk_5 (dk_at dksX0_numbers_0 21 rfl rfl)
theorem dX0_numbers_22 : decode cX0_numbers 22 = .ok (.invokestatic 41, 3) := dk_184 0 41 (dk_at dksX0_numbers_1 0 rfl rfl)
theorem dX0_numbers_25 : decode cX0_numbers 25 = .ok (.ifCond .eq 13, 3) := dk_153 0 13 (dk_at dksX0_numbers_1 3 rfl rfl)
theorem dX0_numbers_28 : decode cX0_numbers 28 = .ok (.aload_n 0, 1) := dk_42 (dk_at dksX0_numbers_1 6 rfl rfl)
theorem dX0_numbers_29 : decode cX0_numbers 29 = .ok (.getfield 196, 3) := dk_180 0 196 (dk_at dksX0_numbers_1 7 rfl rfl)
theorem dX0_numbers_32 : decode cX0_numbers 32 = .ok (.invokevirtual 243, 3) := dk_182 0 243 (dk_at dksX0_numbers_1 10 rfl rfl)
theorem dX0_numbers_35 : decode cX0_numbers 35 = .ok (.ifCond .ne 6, 3) := dk_154 0 6 (dk_at dksX0_numbers_1 13 rfl rfl)
theorem dX0_numbers_38 : decode cX0_numbers 38 = .ok (.bipush (-2), 2) := dk_16 254 (dk_at dksX0_numbers_1 16 rfl rfl)
theorem dX0_numbers_40 : decode cX0_numbers 40 = .ok (.ireturn, 1) := dk_172 (dk_at dksX0_numbers_1 18 rfl rfl)
theorem dX0_numbers_41 : decode cX0_numbers 41 = .ok (.aload_n 0, 1) := dk_42 (dk_at dksX0_numbers_1 19 rfl rfl)
theorem dX0_numbers_42 : decode cX0_numbers 42 = .ok (.iload_n 1, 1) := dk_27 (dk_at dksX0_numbers_1 20 rfl rfl)
theorem dX0_numbers_43 : decode cX0_numbers 43 = .ok (.iload_n 2, 1) := dk_28 (dk_at dksX0_numbers_1 21 rfl rfl)
theorem dX0_numbers_44 : decode cX0_numbers 44 = .ok (.iload_n 3, 1) := dk_29 (dk_at dksX0_numbers_1 22 rfl rfl)
theorem dX0_numbers_45 : decode cX0_numbers 45 = .ok (.invokevirtual 345, 3) := dk_182 1 89 (dk_at dksX0_numbers_2 0 rfl rfl)
theorem dX0_numbers_48 : decode cX0_numbers 48 = .ok (.istore 5, 2) := dk_54 5 (dk_at dksX0_numbers_2 3 rfl rfl)
theorem dX0_numbers_50 : decode cX0_numbers 50 = .ok (.iload 4, 2) := dk_21 4 (dk_at dksX0_numbers_2 5 rfl rfl)
theorem dX0_numbers_52 : decode cX0_numbers 52 = .ok (.ifCond .ne 8, 3) := dk_154 0 8 (dk_at dksX0_numbers_2 7 rfl rfl)
theorem dX0_numbers_55 : decode cX0_numbers 55 = .ok (.iload 5, 2) := dk_21 5 (dk_at dksX0_numbers_2 10 rfl rfl)
theorem dX0_numbers_57 : decode cX0_numbers 57 = .ok (.goto 20, 3) := dk_167 0 20 (dk_at dksX0_numbers_2 12 rfl rfl)
theorem dX0_numbers_60 : decode cX0_numbers 60 = .ok (.iload 4, 2) := dk_21 4 (dk_at dksX0_numbers_2 15 rfl rfl)
theorem dX0_numbers_62 : decode cX0_numbers 62 = .ok (.iconst 1, 1) := dk_4 (dk_at dksX0_numbers_2 17 rfl rfl)
theorem dX0_numbers_63 : decode cX0_numbers 63 = .ok (.if_icmp .ne 10, 3) := dk_160 0 10 (dk_at dksX0_numbers_2 18 rfl rfl)
theorem dX0_numbers_66 : decode cX0_numbers 66 = .ok (.aload_n 0, 1) := dk_42 (dk_at dksX0_numbers_2 21 rfl rfl)
theorem dX0_numbers_67 : decode cX0_numbers 67 = .ok (.getfield 339, 3) := dk_180 1 83 (dk_at dksX0_numbers_3 0 rfl rfl)
theorem dX0_numbers_70 : decode cX0_numbers 70 = .ok (.goto 7, 3) := dk_167 0 7 (dk_at dksX0_numbers_3 3 rfl rfl)
theorem dX0_numbers_73 : decode cX0_numbers 73 = .ok (.aload_n 0, 1) := dk_42 (dk_at dksX0_numbers_3 6 rfl rfl)
theorem dX0_numbers_74 : decode cX0_numbers 74 = .ok (.getfield 342, 3) := dk_180 1 86 (dk_at dksX0_numbers_3 7 rfl rfl)
theorem dX0_numbers_77 : decode cX0_numbers 77 = .ok (.ireturn, 1) := dk_172 (dk_at dksX0_numbers_3 10 rfl rfl)
abbrev cX0_numbersOf : ByteArray := prog_1_method_50_code
def yX0_numbersOf : MethodName := ⟨RX0, "numbersOf", "(III)I"⟩
def dkwX0_numbersOf_3 : List UInt8 := [42, 21, 5, 181, 1, 86, 132, 5, 1, 167, 255, 193, 21, 4, 172]
abbrev dktX0_numbersOf_3 : List UInt8 := dkwX0_numbersOf_3 ++ []
def dkwX0_numbersOf_2 : List UInt8 := [132, 4, 1, 42, 42, 180, 1, 83, 2, 160, 0, 8, 21, 5, 167, 0, 7, 42, 180, 1, 83, 181, 1, 83]
abbrev dktX0_numbersOf_2 : List UInt8 := dkwX0_numbersOf_2 ++ dktX0_numbersOf_3
def dkwX0_numbersOf_1 : List UInt8 := [42, 180, 0, 203, 6, 21, 5, 104, 29, 96, 50, 27, 28, 182, 1, 76, 154, 0, 6, 167, 0, 33]
abbrev dktX0_numbersOf_1 : List UInt8 := dkwX0_numbersOf_1 ++ dktX0_numbersOf_2
def dkwX0_numbersOf_0 : List UInt8 := [3, 54, 4, 42, 2, 181, 1, 83, 42, 2, 181, 1, 86, 4, 54, 5, 21, 5, 16, 99, 163, 0, 62, 42]
abbrev dktX0_numbersOf_0 : List UInt8 := dkwX0_numbersOf_0 ++ dktX0_numbersOf_1
theorem dksX0_numbersOf_0 : cX0_numbersOf.data.toList.drop 0 = dktX0_numbersOf_0 := by decide +kernel
theorem dksX0_numbersOf_1 : cX0_numbersOf.data.toList.drop 24 = dktX0_numbersOf_1 := dk_seg dksX0_numbersOf_0 24 rfl rfl
theorem dksX0_numbersOf_2 : cX0_numbersOf.data.toList.drop 46 = dktX0_numbersOf_2 := dk_seg dksX0_numbersOf_1 22 rfl rfl
theorem dksX0_numbersOf_3 : cX0_numbersOf.data.toList.drop 70 = dktX0_numbersOf_3 := dk_seg dksX0_numbersOf_2 24 rfl rfl
theorem dX0_numbersOf_0 : decode cX0_numbersOf 0 = .ok (.iconst 0, 1) := dk_3 (dk_at dksX0_numbersOf_0 0 rfl rfl)
theorem dX0_numbersOf_1 : decode cX0_numbersOf 1 = .ok (.istore 4, 2) := dk_54 4 (dk_at dksX0_numbersOf_0 1 rfl rfl)
theorem dX0_numbersOf_3 : decode cX0_numbersOf 3 = .ok (.aload_n 0, 1) := dk_42 (dk_at dksX0_numbersOf_0 3 rfl rfl)
theorem dX0_numbersOf_4 : decode cX0_numbersOf 4 = .ok (.iconst (-1), 1) := dk_2 (dk_at dksX0_numbersOf_0 4 rfl rfl)
theorem dX0_numbersOf_5 : decode cX0_numbersOf 5 = .ok (.putfield 339, 3) := dk_181 1 83 (dk_at dksX0_numbersOf_0 5 rfl rfl)
theorem dX0_numbersOf_8 : decode cX0_numbersOf 8 = .ok (.aload_n 0, 1) := dk_42 (dk_at dksX0_numbersOf_0 8 rfl rfl)
theorem dX0_numbersOf_9 : decode cX0_numbersOf 9 = .ok (.iconst (-1), 1) := dk_2 (dk_at dksX0_numbersOf_0 9 rfl rfl)
theorem dX0_numbersOf_10 : decode cX0_numbersOf 10 = .ok (.putfield 342, 3) := dk_181 1 86 (dk_at dksX0_numbersOf_0 10 rfl rfl)
theorem dX0_numbersOf_13 : decode cX0_numbersOf 13 = .ok (.iconst 1, 1) := dk_4 (dk_at dksX0_numbersOf_0 13 rfl rfl)
theorem dX0_numbersOf_14 : decode cX0_numbersOf 14 = .ok (.istore 5, 2) := dk_54 5 (dk_at dksX0_numbersOf_0 14 rfl rfl)
theorem dX0_numbersOf_16 : decode cX0_numbersOf 16 = .ok (.iload 5, 2) := dk_21 5 (dk_at dksX0_numbersOf_0 16 rfl rfl)
theorem dX0_numbersOf_18 : decode cX0_numbersOf 18 = .ok (.bipush 99, 2) := dk_16 99 (dk_at dksX0_numbersOf_0 18 rfl rfl)
theorem dX0_numbersOf_20 : decode cX0_numbersOf 20 = .ok (.if_icmp .gt 62, 3) := dk_163 0 62 (dk_at dksX0_numbersOf_0 20 rfl rfl)
theorem dX0_numbersOf_23 : decode cX0_numbersOf 23 = .ok (.aload_n 0, 1) := dk_42 (dk_at dksX0_numbersOf_0 23 rfl rfl)
theorem dX0_numbersOf_24 : decode cX0_numbersOf 24 = .ok (.aload_n 0, 1) := dk_42 (dk_at dksX0_numbersOf_1 0 rfl rfl)
theorem dX0_numbersOf_25 : decode cX0_numbersOf 25 = .ok (.getfield 203, 3) := dk_180 0 203 (dk_at dksX0_numbersOf_1 1 rfl rfl)
theorem dX0_numbersOf_28 : decode cX0_numbersOf 28 = .ok (.iconst 3, 1) := dk_6 (dk_at dksX0_numbersOf_1 4 rfl rfl)
theorem dX0_numbersOf_29 : decode cX0_numbersOf 29 = .ok (.iload 5, 2) := dk_21 5 (dk_at dksX0_numbersOf_1 5 rfl rfl)
theorem dX0_numbersOf_31 : decode cX0_numbersOf 31 = .ok (.imul, 1) := dk_104 (dk_at dksX0_numbersOf_1 7 rfl rfl)
theorem dX0_numbersOf_32 : decode cX0_numbersOf 32 = .ok (.iload_n 3, 1) := dk_29 (dk_at dksX0_numbersOf_1 8 rfl rfl)
theorem dX0_numbersOf_33 : decode cX0_numbersOf 33 = .ok (.iadd, 1) := dk_96 (dk_at dksX0_numbersOf_1 9 rfl rfl)
theorem dX0_numbersOf_34 : decode cX0_numbersOf 34 = .ok (.aaload, 1) := dk_50 (dk_at dksX0_numbersOf_1 10 rfl rfl)
theorem dX0_numbersOf_35 : decode cX0_numbersOf 35 = .ok (.iload_n 1, 1) := dk_27 (dk_at dksX0_numbersOf_1 11 rfl rfl)
theorem dX0_numbersOf_36 : decode cX0_numbersOf 36 = .ok (.iload_n 2, 1) := dk_28 (dk_at dksX0_numbersOf_1 12 rfl rfl)
theorem dX0_numbersOf_37 : decode cX0_numbersOf 37 = .ok (.invokevirtual 332, 3) := dk_182 1 76 (dk_at dksX0_numbersOf_1 13 rfl rfl)
theorem dX0_numbersOf_40 : decode cX0_numbersOf 40 = .ok (.ifCond .ne 6, 3) := dk_154 0 6 (dk_at dksX0_numbersOf_1 16 rfl rfl)
theorem dX0_numbersOf_43 : decode cX0_numbersOf 43 = .ok (.goto 33, 3) := dk_167 0 33 (dk_at dksX0_numbersOf_1 19 rfl rfl)
theorem dX0_numbersOf_46 : decode cX0_numbersOf 46 = .ok (.iinc 4 1, 3) := dk_132 4 1 (dk_at dksX0_numbersOf_2 0 rfl rfl)
theorem dX0_numbersOf_49 : decode cX0_numbersOf 49 = .ok (.aload_n 0, 1) := dk_42 (dk_at dksX0_numbersOf_2 3 rfl rfl)
theorem dX0_numbersOf_50 : decode cX0_numbersOf 50 = .ok (.aload_n 0, 1) := dk_42 (dk_at dksX0_numbersOf_2 4 rfl rfl)
theorem dX0_numbersOf_51 : decode cX0_numbersOf 51 = .ok (.getfield 339, 3) := dk_180 1 83 (dk_at dksX0_numbersOf_2 5 rfl rfl)
theorem dX0_numbersOf_54 : decode cX0_numbersOf 54 = .ok (.iconst (-1), 1) := dk_2 (dk_at dksX0_numbersOf_2 8 rfl rfl)
theorem dX0_numbersOf_55 : decode cX0_numbersOf 55 = .ok (.if_icmp .ne 8, 3) := dk_160 0 8 (dk_at dksX0_numbersOf_2 9 rfl rfl)
theorem dX0_numbersOf_58 : decode cX0_numbersOf 58 = .ok (.iload 5, 2) := dk_21 5 (dk_at dksX0_numbersOf_2 12 rfl rfl)
theorem dX0_numbersOf_60 : decode cX0_numbersOf 60 = .ok (.goto 7, 3) := dk_167 0 7 (dk_at dksX0_numbersOf_2 14 rfl rfl)
theorem dX0_numbersOf_63 : decode cX0_numbersOf 63 = .ok (.aload_n 0, 1) := dk_42 (dk_at dksX0_numbersOf_2 17 rfl rfl)
theorem dX0_numbersOf_64 : decode cX0_numbersOf 64 = .ok (.getfield 339, 3) := dk_180 1 83 (dk_at dksX0_numbersOf_2 18 rfl rfl)
theorem dX0_numbersOf_67 : decode cX0_numbersOf 67 = .ok (.putfield 339, 3) := dk_181 1 83 (dk_at dksX0_numbersOf_2 21 rfl rfl)
theorem dX0_numbersOf_70 : decode cX0_numbersOf 70 = .ok (.aload_n 0, 1) := dk_42 (dk_at dksX0_numbersOf_3 0 rfl rfl)
theorem dX0_numbersOf_71 : decode cX0_numbersOf 71 = .ok (.iload 5, 2) := dk_21 5 (dk_at dksX0_numbersOf_3 1 rfl rfl)
theorem dX0_numbersOf_73 : decode cX0_numbersOf 73 = .ok (.putfield 342, 3) := dk_181 1 86 (dk_at dksX0_numbersOf_3 3 rfl rfl)
theorem dX0_numbersOf_76 : decode cX0_numbersOf 76 = .ok (.iinc 5 1, 3) := dk_132 5 1 (dk_at dksX0_numbersOf_3 6 rfl rfl)
theorem dX0_numbersOf_79 : decode cX0_numbersOf 79 = .ok (.goto (-63), 3) := dk_167 255 193 (dk_at dksX0_numbersOf_3 9 rfl rfl)
theorem dX0_numbersOf_82 : decode cX0_numbersOf 82 = .ok (.iload 4, 2) := dk_21 4 (dk_at dksX0_numbersOf_3 12 rfl rfl)
theorem dX0_numbersOf_84 : decode cX0_numbersOf 84 = .ok (.ireturn, 1) := dk_172 (dk_at dksX0_numbersOf_3 14 rfl rfl)
abbrev cX0_ask : ByteArray := prog_1_method_52_code
def yX0_ask : MethodName := ⟨RX0, "ask", "(I)I"⟩
def dkwX0_ask_5 : List UInt8 := [29, 172]
abbrev dktX0_ask_5 : List UInt8 := dkwX0_ask_5 ++ []
def dkwX0_ask_4 : List UInt8 := [167, 255, 191, 27, 154, 0, 9, 28, 7, 108, 167, 0, 15, 27, 4, 160, 0, 9, 28, 7, 112, 167, 0, 4]
abbrev dktX0_ask_4 : List UInt8 := dkwX0_ask_4 ++ dktX0_ask_5
def dkwX0_ask_3 : List UInt8 := [167, 0, 14, 7, 21, 4, 104, 21, 5, 96, 61, 21, 6, 62, 132, 5, 1, 167, 255, 207, 132, 4, 1]
abbrev dktX0_ask_3 : List UInt8 := dkwX0_ask_3 ++ dktX0_ask_4
def dkwX0_ask_2 : List UInt8 := [182, 0, 247, 153, 0, 40, 42, 21, 4, 21, 5, 4, 182, 1, 89, 54, 6, 21, 6, 29, 163, 0, 6]
abbrev dktX0_ask_2 : List UInt8 := dkwX0_ask_2 ++ dktX0_ask_3
def dkwX0_ask_1 : List UInt8 := [62, 3, 54, 4, 21, 4, 16, 12, 162, 0, 64, 3, 54, 5, 21, 5, 7, 162, 0, 49, 42, 21, 4]
abbrev dktX0_ask_1 : List UInt8 := dkwX0_ask_1 ++ dktX0_ask_2
def dkwX0_ask_0 : List UInt8 := [27, 3, 5, 184, 0, 41, 153, 0, 13, 42, 180, 0, 196, 182, 0, 243, 154, 0, 5, 2, 172, 2, 61, 2]
abbrev dktX0_ask_0 : List UInt8 := dkwX0_ask_0 ++ dktX0_ask_1
theorem dksX0_ask_0 : cX0_ask.data.toList.drop 0 = dktX0_ask_0 := by decide +kernel
theorem dksX0_ask_1 : cX0_ask.data.toList.drop 24 = dktX0_ask_1 := dk_seg dksX0_ask_0 24 rfl rfl
theorem dksX0_ask_2 : cX0_ask.data.toList.drop 47 = dktX0_ask_2 := dk_seg dksX0_ask_1 23 rfl rfl
theorem dksX0_ask_3 : cX0_ask.data.toList.drop 70 = dktX0_ask_3 := dk_seg dksX0_ask_2 23 rfl rfl
theorem dksX0_ask_4 : cX0_ask.data.toList.drop 93 = dktX0_ask_4 := dk_seg dksX0_ask_3 23 rfl rfl
theorem dksX0_ask_5 : cX0_ask.data.toList.drop 117 = dktX0_ask_5 := dk_seg dksX0_ask_4 24 rfl rfl
theorem dX0_ask_0 : decode cX0_ask 0 = .ok (.iload_n 1, 1) := dk_27 (dk_at dksX0_ask_0 0 rfl rfl)
theorem dX0_ask_1 : decode cX0_ask 1 = .ok (.iconst 0, 1) := dk_3 (dk_at dksX0_ask_0 1 rfl rfl)
theorem dX0_ask_2 : decode cX0_ask 2 = .ok (.iconst 2, 1) := dk_5 (dk_at dksX0_ask_0 2 rfl rfl)
theorem dX0_ask_3 : decode cX0_ask 3 = .ok (.invokestatic 41, 3) := dk_184 0 41 (dk_at dksX0_ask_0 3 rfl rfl)
theorem dX0_ask_6 : decode cX0_ask 6 = .ok (.ifCond .eq 13, 3) := dk_153 0 13 (dk_at dksX0_ask_0 6 rfl rfl)
theorem dX0_ask_9 : decode cX0_ask 9 = .ok (.aload_n 0, 1) := dk_42 (dk_at dksX0_ask_0 9 rfl rfl)
theorem dX0_ask_10 : decode cX0_ask 10 = .ok (.getfield 196, 3) := dk_180 0 196 (dk_at dksX0_ask_0 10 rfl rfl)
theorem dX0_ask_13 : decode cX0_ask 13 = .ok (.invokevirtual 243, 3) := dk_182 0 243 (dk_at dksX0_ask_0 13 rfl rfl)
theorem dX0_ask_16 : decode cX0_ask 16 = .ok (.ifCond .ne 5, 3) := dk_154 0 5 (dk_at dksX0_ask_0 16 rfl rfl)
theorem dX0_ask_19 : decode cX0_ask 19 = .ok (.iconst (-1), 1) := dk_2 (dk_at dksX0_ask_0 19 rfl rfl)
theorem dX0_ask_20 : decode cX0_ask 20 = .ok (.ireturn, 1) := dk_172 (dk_at dksX0_ask_0 20 rfl rfl)
theorem dX0_ask_21 : decode cX0_ask 21 = .ok (.iconst (-1), 1) := dk_2 (dk_at dksX0_ask_0 21 rfl rfl)
theorem dX0_ask_22 : decode cX0_ask 22 = .ok (.istore_n 2, 1) := dk_61 (dk_at dksX0_ask_0 22 rfl rfl)
theorem dX0_ask_23 : decode cX0_ask 23 = .ok (.iconst (-1), 1) := dk_2 (dk_at dksX0_ask_0 23 rfl rfl)
theorem dX0_ask_24 : decode cX0_ask 24 = .ok (.istore_n 3, 1) := dk_62 (dk_at dksX0_ask_1 0 rfl rfl)
theorem dX0_ask_25 : decode cX0_ask 25 = .ok (.iconst 0, 1) := dk_3 (dk_at dksX0_ask_1 1 rfl rfl)
theorem dX0_ask_26 : decode cX0_ask 26 = .ok (.istore 4, 2) := dk_54 4 (dk_at dksX0_ask_1 2 rfl rfl)
theorem dX0_ask_28 : decode cX0_ask 28 = .ok (.iload 4, 2) := dk_21 4 (dk_at dksX0_ask_1 4 rfl rfl)
theorem dX0_ask_30 : decode cX0_ask 30 = .ok (.bipush 12, 2) := dk_16 12 (dk_at dksX0_ask_1 6 rfl rfl)
theorem dX0_ask_32 : decode cX0_ask 32 = .ok (.if_icmp .ge 64, 3) := dk_162 0 64 (dk_at dksX0_ask_1 8 rfl rfl)
theorem dX0_ask_35 : decode cX0_ask 35 = .ok (.iconst 0, 1) := dk_3 (dk_at dksX0_ask_1 11 rfl rfl)
theorem dX0_ask_36 : decode cX0_ask 36 = .ok (.istore 5, 2) := dk_54 5 (dk_at dksX0_ask_1 12 rfl rfl)
theorem dX0_ask_38 : decode cX0_ask 38 = .ok (.iload 5, 2) := dk_21 5 (dk_at dksX0_ask_1 14 rfl rfl)
theorem dX0_ask_40 : decode cX0_ask 40 = .ok (.iconst 4, 1) := dk_7 (dk_at dksX0_ask_1 16 rfl rfl)
theorem dX0_ask_41 : decode cX0_ask 41 = .ok (.if_icmp .ge 49, 3) := dk_162 0 49 (dk_at dksX0_ask_1 17 rfl rfl)
theorem dX0_ask_44 : decode cX0_ask 44 = .ok (.aload_n 0, 1) := dk_42 (dk_at dksX0_ask_1 20 rfl rfl)
theorem dX0_ask_45 : decode cX0_ask 45 = .ok (.iload 4, 2) := dk_21 4 (dk_at dksX0_ask_1 21 rfl rfl)
theorem dX0_ask_47 : decode cX0_ask 47 = .ok (.invokevirtual 247, 3) := dk_182 0 247 (dk_at dksX0_ask_2 0 rfl rfl)
theorem dX0_ask_50 : decode cX0_ask 50 = .ok (.ifCond .eq 40, 3) := dk_153 0 40 (dk_at dksX0_ask_2 3 rfl rfl)
theorem dX0_ask_53 : decode cX0_ask 53 = .ok (.aload_n 0, 1) := dk_42 (dk_at dksX0_ask_2 6 rfl rfl)
theorem dX0_ask_54 : decode cX0_ask 54 = .ok (.iload 4, 2) := dk_21 4 (dk_at dksX0_ask_2 7 rfl rfl)
theorem dX0_ask_56 : decode cX0_ask 56 = .ok (.iload 5, 2) := dk_21 5 (dk_at dksX0_ask_2 9 rfl rfl)
theorem dX0_ask_58 : decode cX0_ask 58 = .ok (.iconst 1, 1) := dk_4 (dk_at dksX0_ask_2 11 rfl rfl)
theorem dX0_ask_59 : decode cX0_ask 59 = .ok (.invokevirtual 345, 3) := dk_182 1 89 (dk_at dksX0_ask_2 12 rfl rfl)
theorem dX0_ask_62 : decode cX0_ask 62 = .ok (.istore 6, 2) := dk_54 6 (dk_at dksX0_ask_2 15 rfl rfl)
theorem dX0_ask_64 : decode cX0_ask 64 = .ok (.iload 6, 2) := dk_21 6 (dk_at dksX0_ask_2 17 rfl rfl)
theorem dX0_ask_66 : decode cX0_ask 66 = .ok (.iload_n 3, 1) := dk_29 (dk_at dksX0_ask_2 19 rfl rfl)
theorem dX0_ask_67 : decode cX0_ask 67 = .ok (.if_icmp .gt 6, 3) := dk_163 0 6 (dk_at dksX0_ask_2 20 rfl rfl)
theorem dX0_ask_70 : decode cX0_ask 70 = .ok (.goto 14, 3) := dk_167 0 14 (dk_at dksX0_ask_3 0 rfl rfl)
theorem dX0_ask_73 : decode cX0_ask 73 = .ok (.iconst 4, 1) := dk_7 (dk_at dksX0_ask_3 3 rfl rfl)
theorem dX0_ask_74 : decode cX0_ask 74 = .ok (.iload 4, 2) := dk_21 4 (dk_at dksX0_ask_3 4 rfl rfl)
theorem dX0_ask_76 : decode cX0_ask 76 = .ok (.imul, 1) := dk_104 (dk_at dksX0_ask_3 6 rfl rfl)
theorem dX0_ask_77 : decode cX0_ask 77 = .ok (.iload 5, 2) := dk_21 5 (dk_at dksX0_ask_3 7 rfl rfl)
theorem dX0_ask_79 : decode cX0_ask 79 = .ok (.iadd, 1) := dk_96 (dk_at dksX0_ask_3 9 rfl rfl)
theorem dX0_ask_80 : decode cX0_ask 80 = .ok (.istore_n 2, 1) := dk_61 (dk_at dksX0_ask_3 10 rfl rfl)
theorem dX0_ask_81 : decode cX0_ask 81 = .ok (.iload 6, 2) := dk_21 6 (dk_at dksX0_ask_3 11 rfl rfl)
theorem dX0_ask_83 : decode cX0_ask 83 = .ok (.istore_n 3, 1) := dk_62 (dk_at dksX0_ask_3 13 rfl rfl)
theorem dX0_ask_84 : decode cX0_ask 84 = .ok (.iinc 5 1, 3) := dk_132 5 1 (dk_at dksX0_ask_3 14 rfl rfl)
theorem dX0_ask_87 : decode cX0_ask 87 = .ok (.goto (-49), 3) := dk_167 255 207 (dk_at dksX0_ask_3 17 rfl rfl)
theorem dX0_ask_90 : decode cX0_ask 90 = .ok (.iinc 4 1, 3) := dk_132 4 1 (dk_at dksX0_ask_3 20 rfl rfl)
theorem dX0_ask_93 : decode cX0_ask 93 = .ok (.goto (-65), 3) := dk_167 255 191 (dk_at dksX0_ask_4 0 rfl rfl)
theorem dX0_ask_96 : decode cX0_ask 96 = .ok (.iload_n 1, 1) := dk_27 (dk_at dksX0_ask_4 3 rfl rfl)
theorem dX0_ask_97 : decode cX0_ask 97 = .ok (.ifCond .ne 9, 3) := dk_154 0 9 (dk_at dksX0_ask_4 4 rfl rfl)
theorem dX0_ask_100 : decode cX0_ask 100 = .ok (.iload_n 2, 1) := dk_28 (dk_at dksX0_ask_4 7 rfl rfl)
theorem dX0_ask_101 : decode cX0_ask 101 = .ok (.iconst 4, 1) := dk_7 (dk_at dksX0_ask_4 8 rfl rfl)
theorem dX0_ask_102 : decode cX0_ask 102 = .ok (.idiv, 1) := dk_108 (dk_at dksX0_ask_4 9 rfl rfl)
theorem dX0_ask_103 : decode cX0_ask 103 = .ok (.goto 15, 3) := dk_167 0 15 (dk_at dksX0_ask_4 10 rfl rfl)
theorem dX0_ask_106 : decode cX0_ask 106 = .ok (.iload_n 1, 1) := dk_27 (dk_at dksX0_ask_4 13 rfl rfl)
theorem dX0_ask_107 : decode cX0_ask 107 = .ok (.iconst 1, 1) := dk_4 (dk_at dksX0_ask_4 14 rfl rfl)
theorem dX0_ask_108 : decode cX0_ask 108 = .ok (.if_icmp .ne 9, 3) := dk_160 0 9 (dk_at dksX0_ask_4 15 rfl rfl)
theorem dX0_ask_111 : decode cX0_ask 111 = .ok (.iload_n 2, 1) := dk_28 (dk_at dksX0_ask_4 18 rfl rfl)
theorem dX0_ask_112 : decode cX0_ask 112 = .ok (.iconst 4, 1) := dk_7 (dk_at dksX0_ask_4 19 rfl rfl)
theorem dX0_ask_113 : decode cX0_ask 113 = .ok (.irem, 1) := dk_112 (dk_at dksX0_ask_4 20 rfl rfl)
theorem dX0_ask_114 : decode cX0_ask 114 = .ok (.goto 4, 3) := dk_167 0 4 (dk_at dksX0_ask_4 21 rfl rfl)
theorem dX0_ask_117 : decode cX0_ask 117 = .ok (.iload_n 3, 1) := dk_29 (dk_at dksX0_ask_5 0 rfl rfl)
theorem dX0_ask_118 : decode cX0_ask 118 = .ok (.ireturn, 1) := dk_172 (dk_at dksX0_ask_5 1 rfl rfl)
abbrev cX0_dates : ByteArray := prog_1_method_53_code
def yX0_dates : MethodName := ⟨RX0, "dates", "(IIII)I"⟩
def dkwX0_dates_8 : List UInt8 := [21, 6, 167, 0, 5, 21, 7, 172]
abbrev dktX0_dates_8 : List UInt8 := dkwX0_dates_8 ++ []
def dkwX0_dates_7 : List UInt8 := [54, 7, 132, 8, 1, 167, 255, 141, 21, 4, 154, 0, 8, 21, 5, 167, 0, 16, 21, 4, 4, 160, 0, 8]
abbrev dktX0_dates_7 : List UInt8 := dkwX0_dates_7 ++ dktX0_dates_8
def dkwX0_dates_6 : List UInt8 := [167, 0, 25, 132, 5, 1, 21, 6, 2, 160, 0, 8, 21, 8, 167, 0, 5, 21, 6, 54, 6, 21, 8]
abbrev dktX0_dates_6 : List UInt8 := dkwX0_dates_6 ++ dktX0_dates_7
def dkwX0_dates_5 : List UInt8 := [104, 29, 96, 50, 21, 9, 42, 180, 0, 45, 180, 0, 86, 21, 8, 46, 182, 1, 76, 154, 0, 6]
abbrev dktX0_dates_5 : List UInt8 := dkwX0_dates_5 ++ dktX0_dates_6
def dkwX0_dates_4 : List UInt8 := [27, 54, 9, 42, 180, 0, 45, 180, 0, 86, 21, 8, 46, 2, 159, 0, 57, 42, 42, 180, 0, 203, 6, 28]
abbrev dktX0_dates_4 : List UInt8 := dkwX0_dates_4 ++ dktX0_dates_5
def dkwX0_dates_3 : List UInt8 := [159, 0, 24, 21, 8, 42, 180, 0, 45, 180, 0, 96, 27, 46, 161, 0, 10, 27, 16, 6, 96, 167, 0, 4]
abbrev dktX0_dates_3 : List UInt8 := dkwX0_dates_3 ++ dktX0_dates_4
def dkwX0_dates_2 : List UInt8 := [54, 7, 3, 54, 8, 21, 8, 16, 32, 162, 0, 114, 42, 180, 0, 45, 180, 0, 96, 27, 46, 2]
abbrev dktX0_dates_2 : List UInt8 := dkwX0_dates_2 ++ dktX0_dates_3
def dkwX0_dates_1 : List UInt8 := [153, 0, 13, 42, 180, 0, 196, 182, 0, 243, 154, 0, 6, 16, 254, 172, 3, 54, 5, 2, 54, 6, 2]
abbrev dktX0_dates_1 : List UInt8 := dkwX0_dates_1 ++ dktX0_dates_2
def dkwX0_dates_0 : List UInt8 := [27, 184, 0, 93, 153, 0, 31, 28, 29, 184, 1, 73, 153, 0, 23, 21, 4, 3, 5, 184, 0, 41]
abbrev dktX0_dates_0 : List UInt8 := dkwX0_dates_0 ++ dktX0_dates_1
theorem dksX0_dates_0 : cX0_dates.data.toList.drop 0 = dktX0_dates_0 := by decide +kernel
theorem dksX0_dates_1 : cX0_dates.data.toList.drop 22 = dktX0_dates_1 := dk_seg dksX0_dates_0 22 rfl rfl
theorem dksX0_dates_2 : cX0_dates.data.toList.drop 45 = dktX0_dates_2 := dk_seg dksX0_dates_1 23 rfl rfl
theorem dksX0_dates_3 : cX0_dates.data.toList.drop 67 = dktX0_dates_3 := dk_seg dksX0_dates_2 22 rfl rfl
theorem dksX0_dates_4 : cX0_dates.data.toList.drop 91 = dktX0_dates_4 := dk_seg dksX0_dates_3 24 rfl rfl
theorem dksX0_dates_5 : cX0_dates.data.toList.drop 115 = dktX0_dates_5 := dk_seg dksX0_dates_4 24 rfl rfl
theorem dksX0_dates_6 : cX0_dates.data.toList.drop 137 = dktX0_dates_6 := dk_seg dksX0_dates_5 22 rfl rfl
theorem dksX0_dates_7 : cX0_dates.data.toList.drop 160 = dktX0_dates_7 := dk_seg dksX0_dates_6 23 rfl rfl
theorem dksX0_dates_8 : cX0_dates.data.toList.drop 184 = dktX0_dates_8 := dk_seg dksX0_dates_7 24 rfl rfl
theorem dX0_dates_0 : decode cX0_dates 0 = .ok (.iload_n 1, 1) := dk_27 (dk_at dksX0_dates_0 0 rfl rfl)
theorem dX0_dates_1 : decode cX0_dates 1 = .ok (.invokestatic 93, 3) := dk_184 0 93 (dk_at dksX0_dates_0 1 rfl rfl)
theorem dX0_dates_4 : decode cX0_dates 4 = .ok (.ifCond .eq 31, 3) := dk_153 0 31 (dk_at dksX0_dates_0 4 rfl rfl)
theorem dX0_dates_7 : decode cX0_dates 7 = .ok (.iload_n 2, 1) := dk_28 (dk_at dksX0_dates_0 7 rfl rfl)
theorem dX0_dates_8 : decode cX0_dates 8 = .ok (.iload_n 3, 1) := dk_29 (dk_at dksX0_dates_0 8 rfl rfl)
theorem dX0_dates_9 : decode cX0_dates 9 = .ok (.invokestatic 329, 3) := dk_184 1 73 (dk_at dksX0_dates_0 9 rfl rfl)
theorem dX0_dates_12 : decode cX0_dates 12 = .ok (.ifCond .eq 23, 3) := dk_153 0 23 (dk_at dksX0_dates_0 12 rfl rfl)
theorem dX0_dates_15 : decode cX0_dates 15 = .ok (.iload 4, 2) := dk_21 4 (dk_at dksX0_dates_0 15 rfl rfl)
theorem dX0_dates_17 : decode cX0_dates 17 = .ok (.iconst 0, 1) := dk_3 (dk_at dksX0_dates_0 17 rfl rfl)
theorem dX0_dates_18 : decode cX0_dates 18 = .ok (.iconst 2, 1) := dk_5 (dk_at dksX0_dates_0 18 rfl rfl)
theorem dX0_dates_19 : decode cX0_dates 19 = .ok (.invokestatic 41, 3) := dk_184 0 41 (dk_at dksX0_dates_0 19 rfl rfl)
theorem dX0_dates_22 : decode cX0_dates 22 = .ok (.ifCond .eq 13, 3) := dk_153 0 13 (dk_at dksX0_dates_1 0 rfl rfl)
theorem dX0_dates_25 : decode cX0_dates 25 = .ok (.aload_n 0, 1) := dk_42 (dk_at dksX0_dates_1 3 rfl rfl)
theorem dX0_dates_26 : decode cX0_dates 26 = .ok (.getfield 196, 3) := dk_180 0 196 (dk_at dksX0_dates_1 4 rfl rfl)
theorem dX0_dates_29 : decode cX0_dates 29 = .ok (.invokevirtual 243, 3) := dk_182 0 243 (dk_at dksX0_dates_1 7 rfl rfl)
theorem dX0_dates_32 : decode cX0_dates 32 = .ok (.ifCond .ne 6, 3) := dk_154 0 6 (dk_at dksX0_dates_1 10 rfl rfl)
theorem dX0_dates_35 : decode cX0_dates 35 = .ok (.bipush (-2), 2) := dk_16 254 (dk_at dksX0_dates_1 13 rfl rfl)
theorem dX0_dates_37 : decode cX0_dates 37 = .ok (.ireturn, 1) := dk_172 (dk_at dksX0_dates_1 15 rfl rfl)
theorem dX0_dates_38 : decode cX0_dates 38 = .ok (.iconst 0, 1) := dk_3 (dk_at dksX0_dates_1 16 rfl rfl)
theorem dX0_dates_39 : decode cX0_dates 39 = .ok (.istore 5, 2) := dk_54 5 (dk_at dksX0_dates_1 17 rfl rfl)
theorem dX0_dates_41 : decode cX0_dates 41 = .ok (.iconst (-1), 1) := dk_2 (dk_at dksX0_dates_1 19 rfl rfl)
theorem dX0_dates_42 : decode cX0_dates 42 = .ok (.istore 6, 2) := dk_54 6 (dk_at dksX0_dates_1 20 rfl rfl)
theorem dX0_dates_44 : decode cX0_dates 44 = .ok (.iconst (-1), 1) := dk_2 (dk_at dksX0_dates_1 22 rfl rfl)
theorem dX0_dates_45 : decode cX0_dates 45 = .ok (.istore 7, 2) := dk_54 7 (dk_at dksX0_dates_2 0 rfl rfl)
theorem dX0_dates_47 : decode cX0_dates 47 = .ok (.iconst 0, 1) := dk_3 (dk_at dksX0_dates_2 2 rfl rfl)
theorem dX0_dates_48 : decode cX0_dates 48 = .ok (.istore 8, 2) := dk_54 8 (dk_at dksX0_dates_2 3 rfl rfl)
theorem dX0_dates_50 : decode cX0_dates 50 = .ok (.iload 8, 2) := dk_21 8 (dk_at dksX0_dates_2 5 rfl rfl)
theorem dX0_dates_52 : decode cX0_dates 52 = .ok (.bipush 32, 2) := dk_16 32 (dk_at dksX0_dates_2 7 rfl rfl)
theorem dX0_dates_54 : decode cX0_dates 54 = .ok (.if_icmp .ge 114, 3) := dk_162 0 114 (dk_at dksX0_dates_2 9 rfl rfl)
theorem dX0_dates_57 : decode cX0_dates 57 = .ok (.aload_n 0, 1) := dk_42 (dk_at dksX0_dates_2 12 rfl rfl)
theorem dX0_dates_58 : decode cX0_dates 58 = .ok (.getfield 45, 3) := dk_180 0 45 (dk_at dksX0_dates_2 13 rfl rfl)
theorem dX0_dates_61 : decode cX0_dates 61 = .ok (.getfield 96, 3) := dk_180 0 96 (dk_at dksX0_dates_2 16 rfl rfl)
theorem dX0_dates_64 : decode cX0_dates 64 = .ok (.iload_n 1, 1) := dk_27 (dk_at dksX0_dates_2 19 rfl rfl)
theorem dX0_dates_65 : decode cX0_dates 65 = .ok (.iaload, 1) := dk_46 (dk_at dksX0_dates_2 20 rfl rfl)
theorem dX0_dates_66 : decode cX0_dates 66 = .ok (.iconst (-1), 1) := dk_2 (dk_at dksX0_dates_2 21 rfl rfl)
theorem dX0_dates_67 : decode cX0_dates 67 = .ok (.if_icmp .eq 24, 3) := dk_159 0 24 (dk_at dksX0_dates_3 0 rfl rfl)
theorem dX0_dates_70 : decode cX0_dates 70 = .ok (.iload 8, 2) := dk_21 8 (dk_at dksX0_dates_3 3 rfl rfl)
theorem dX0_dates_72 : decode cX0_dates 72 = .ok (.aload_n 0, 1) := dk_42 (dk_at dksX0_dates_3 5 rfl rfl)
theorem dX0_dates_73 : decode cX0_dates 73 = .ok (.getfield 45, 3) := dk_180 0 45 (dk_at dksX0_dates_3 6 rfl rfl)
theorem dX0_dates_76 : decode cX0_dates 76 = .ok (.getfield 96, 3) := dk_180 0 96 (dk_at dksX0_dates_3 9 rfl rfl)
theorem dX0_dates_79 : decode cX0_dates 79 = .ok (.iload_n 1, 1) := dk_27 (dk_at dksX0_dates_3 12 rfl rfl)
theorem dX0_dates_80 : decode cX0_dates 80 = .ok (.iaload, 1) := dk_46 (dk_at dksX0_dates_3 13 rfl rfl)
theorem dX0_dates_81 : decode cX0_dates 81 = .ok (.if_icmp .lt 10, 3) := dk_161 0 10 (dk_at dksX0_dates_3 14 rfl rfl)
theorem dX0_dates_84 : decode cX0_dates 84 = .ok (.iload_n 1, 1) := dk_27 (dk_at dksX0_dates_3 17 rfl rfl)
theorem dX0_dates_85 : decode cX0_dates 85 = .ok (.bipush 6, 2) := dk_16 6 (dk_at dksX0_dates_3 18 rfl rfl)
theorem dX0_dates_87 : decode cX0_dates 87 = .ok (.iadd, 1) := dk_96 (dk_at dksX0_dates_3 20 rfl rfl)
theorem dX0_dates_88 : decode cX0_dates 88 = .ok (.goto 4, 3) := dk_167 0 4 (dk_at dksX0_dates_3 21 rfl rfl)
theorem dX0_dates_91 : decode cX0_dates 91 = .ok (.iload_n 1, 1) := dk_27 (dk_at dksX0_dates_4 0 rfl rfl)
theorem dX0_dates_92 : decode cX0_dates 92 = .ok (.istore 9, 2) := dk_54 9 (dk_at dksX0_dates_4 1 rfl rfl)
theorem dX0_dates_94 : decode cX0_dates 94 = .ok (.aload_n 0, 1) := dk_42 (dk_at dksX0_dates_4 3 rfl rfl)
theorem dX0_dates_95 : decode cX0_dates 95 = .ok (.getfield 45, 3) := dk_180 0 45 (dk_at dksX0_dates_4 4 rfl rfl)
theorem dX0_dates_98 : decode cX0_dates 98 = .ok (.getfield 86, 3) := dk_180 0 86 (dk_at dksX0_dates_4 7 rfl rfl)
theorem dX0_dates_101 : decode cX0_dates 101 = .ok (.iload 8, 2) := dk_21 8 (dk_at dksX0_dates_4 10 rfl rfl)
theorem dX0_dates_103 : decode cX0_dates 103 = .ok (.iaload, 1) := dk_46 (dk_at dksX0_dates_4 12 rfl rfl)
theorem dX0_dates_104 : decode cX0_dates 104 = .ok (.iconst (-1), 1) := dk_2 (dk_at dksX0_dates_4 13 rfl rfl)
theorem dX0_dates_105 : decode cX0_dates 105 = .ok (.if_icmp .eq 57, 3) := dk_159 0 57 (dk_at dksX0_dates_4 14 rfl rfl)
theorem dX0_dates_108 : decode cX0_dates 108 = .ok (.aload_n 0, 1) := dk_42 (dk_at dksX0_dates_4 17 rfl rfl)
theorem dX0_dates_109 : decode cX0_dates 109 = .ok (.aload_n 0, 1) := dk_42 (dk_at dksX0_dates_4 18 rfl rfl)
theorem dX0_dates_110 : decode cX0_dates 110 = .ok (.getfield 203, 3) := dk_180 0 203 (dk_at dksX0_dates_4 19 rfl rfl)
theorem dX0_dates_113 : decode cX0_dates 113 = .ok (.iconst 3, 1) := dk_6 (dk_at dksX0_dates_4 22 rfl rfl)
theorem dX0_dates_114 : decode cX0_dates 114 = .ok (.iload_n 2, 1) := dk_28 (dk_at dksX0_dates_4 23 rfl rfl)
theorem dX0_dates_115 : decode cX0_dates 115 = .ok (.imul, 1) := dk_104 (dk_at dksX0_dates_5 0 rfl rfl)
theorem dX0_dates_116 : decode cX0_dates 116 = .ok (.iload_n 3, 1) := dk_29 (dk_at dksX0_dates_5 1 rfl rfl)
theorem dX0_dates_117 : decode cX0_dates 117 = .ok (.iadd, 1) := dk_96 (dk_at dksX0_dates_5 2 rfl rfl)
theorem dX0_dates_118 : decode cX0_dates 118 = .ok (.aaload, 1) := dk_50 (dk_at dksX0_dates_5 3 rfl rfl)
theorem dX0_dates_119 : decode cX0_dates 119 = .ok (.iload 9, 2) := dk_21 9 (dk_at dksX0_dates_5 4 rfl rfl)
theorem dX0_dates_121 : decode cX0_dates 121 = .ok (.aload_n 0, 1) := dk_42 (dk_at dksX0_dates_5 6 rfl rfl)
theorem dX0_dates_122 : decode cX0_dates 122 = .ok (.getfield 45, 3) := dk_180 0 45 (dk_at dksX0_dates_5 7 rfl rfl)
theorem dX0_dates_125 : decode cX0_dates 125 = .ok (.getfield 86, 3) := dk_180 0 86 (dk_at dksX0_dates_5 10 rfl rfl)
theorem dX0_dates_128 : decode cX0_dates 128 = .ok (.iload 8, 2) := dk_21 8 (dk_at dksX0_dates_5 13 rfl rfl)
theorem dX0_dates_130 : decode cX0_dates 130 = .ok (.iaload, 1) := dk_46 (dk_at dksX0_dates_5 15 rfl rfl)
theorem dX0_dates_131 : decode cX0_dates 131 = .ok (.invokevirtual 332, 3) := dk_182 1 76 (dk_at dksX0_dates_5 16 rfl rfl)
theorem dX0_dates_134 : decode cX0_dates 134 = .ok (.ifCond .ne 6, 3) := dk_154 0 6 (dk_at dksX0_dates_5 19 rfl rfl)
theorem dX0_dates_137 : decode cX0_dates 137 = .ok (.goto 25, 3) := dk_167 0 25 (dk_at dksX0_dates_6 0 rfl rfl)
theorem dX0_dates_140 : decode cX0_dates 140 = .ok (.iinc 5 1, 3) := dk_132 5 1 (dk_at dksX0_dates_6 3 rfl rfl)
theorem dX0_dates_143 : decode cX0_dates 143 = .ok (.iload 6, 2) := dk_21 6 (dk_at dksX0_dates_6 6 rfl rfl)
theorem dX0_dates_145 : decode cX0_dates 145 = .ok (.iconst (-1), 1) := dk_2 (dk_at dksX0_dates_6 8 rfl rfl)
theorem dX0_dates_146 : decode cX0_dates 146 = .ok (.if_icmp .ne 8, 3) := dk_160 0 8 (dk_at dksX0_dates_6 9 rfl rfl)
theorem dX0_dates_149 : decode cX0_dates 149 = .ok (.iload 8, 2) := dk_21 8 (dk_at dksX0_dates_6 12 rfl rfl)
theorem dX0_dates_151 : decode cX0_dates 151 = .ok (.goto 5, 3) := dk_167 0 5 (dk_at dksX0_dates_6 14 rfl rfl)
theorem dX0_dates_154 : decode cX0_dates 154 = .ok (.iload 6, 2) := dk_21 6 (dk_at dksX0_dates_6 17 rfl rfl)
theorem dX0_dates_156 : decode cX0_dates 156 = .ok (.istore 6, 2) := dk_54 6 (dk_at dksX0_dates_6 19 rfl rfl)
theorem dX0_dates_158 : decode cX0_dates 158 = .ok (.iload 8, 2) := dk_21 8 (dk_at dksX0_dates_6 21 rfl rfl)
theorem dX0_dates_160 : decode cX0_dates 160 = .ok (.istore 7, 2) := dk_54 7 (dk_at dksX0_dates_7 0 rfl rfl)
theorem dX0_dates_162 : decode cX0_dates 162 = .ok (.iinc 8 1, 3) := dk_132 8 1 (dk_at dksX0_dates_7 2 rfl rfl)
theorem dX0_dates_165 : decode cX0_dates 165 = .ok (.goto (-115), 3) := dk_167 255 141 (dk_at dksX0_dates_7 5 rfl rfl)
theorem dX0_dates_168 : decode cX0_dates 168 = .ok (.iload 4, 2) := dk_21 4 (dk_at dksX0_dates_7 8 rfl rfl)
theorem dX0_dates_170 : decode cX0_dates 170 = .ok (.ifCond .ne 8, 3) := dk_154 0 8 (dk_at dksX0_dates_7 10 rfl rfl)
theorem dX0_dates_173 : decode cX0_dates 173 = .ok (.iload 5, 2) := dk_21 5 (dk_at dksX0_dates_7 13 rfl rfl)
theorem dX0_dates_175 : decode cX0_dates 175 = .ok (.goto 16, 3) := dk_167 0 16 (dk_at dksX0_dates_7 15 rfl rfl)
theorem dX0_dates_178 : decode cX0_dates 178 = .ok (.iload 4, 2) := dk_21 4 (dk_at dksX0_dates_7 18 rfl rfl)
theorem dX0_dates_180 : decode cX0_dates 180 = .ok (.iconst 1, 1) := dk_4 (dk_at dksX0_dates_7 20 rfl rfl)
theorem dX0_dates_181 : decode cX0_dates 181 = .ok (.if_icmp .ne 8, 3) := dk_160 0 8 (dk_at dksX0_dates_7 21 rfl rfl)
theorem dX0_dates_184 : decode cX0_dates 184 = .ok (.iload 6, 2) := dk_21 6 (dk_at dksX0_dates_8 0 rfl rfl)
theorem dX0_dates_186 : decode cX0_dates 186 = .ok (.goto 5, 3) := dk_167 0 5 (dk_at dksX0_dates_8 2 rfl rfl)
theorem dX0_dates_189 : decode cX0_dates 189 = .ok (.iload 7, 2) := dk_21 7 (dk_at dksX0_dates_8 5 rfl rfl)
theorem dX0_dates_191 : decode cX0_dates 191 = .ok (.ireturn, 1) := dk_172 (dk_at dksX0_dates_8 7 rfl rfl)
abbrev cX0_joined : ByteArray := prog_1_method_56_code
def yX0_joined : MethodName := ⟨RX0, "joined", "(II)I"⟩
def dkwX0_joined_1 : List UInt8 := [180, 0, 219, 27, 46, 42, 180, 0, 219, 28, 46, 160, 0, 7, 4, 167, 0, 4, 3, 172]
abbrev dktX0_joined_1 : List UInt8 := dkwX0_joined_1 ++ []
def dkwX0_joined_0 : List UInt8 := [42, 27, 182, 0, 247, 153, 0, 11, 42, 28, 182, 0, 247, 154, 0, 6, 16, 254, 172, 42, 182, 1, 101, 42]
abbrev dktX0_joined_0 : List UInt8 := dkwX0_joined_0 ++ dktX0_joined_1
theorem dksX0_joined_0 : cX0_joined.data.toList.drop 0 = dktX0_joined_0 := by decide +kernel
theorem dksX0_joined_1 : cX0_joined.data.toList.drop 24 = dktX0_joined_1 := dk_seg dksX0_joined_0 24 rfl rfl
theorem dX0_joined_0 : decode cX0_joined 0 = .ok (.aload_n 0, 1) := dk_42 (dk_at dksX0_joined_0 0 rfl rfl)
theorem dX0_joined_1 : decode cX0_joined 1 = .ok (.iload_n 1, 1) := dk_27 (dk_at dksX0_joined_0 1 rfl rfl)
theorem dX0_joined_2 : decode cX0_joined 2 = .ok (.invokevirtual 247, 3) := dk_182 0 247 (dk_at dksX0_joined_0 2 rfl rfl)
theorem dX0_joined_5 : decode cX0_joined 5 = .ok (.ifCond .eq 11, 3) := dk_153 0 11 (dk_at dksX0_joined_0 5 rfl rfl)
theorem dX0_joined_8 : decode cX0_joined 8 = .ok (.aload_n 0, 1) := dk_42 (dk_at dksX0_joined_0 8 rfl rfl)
theorem dX0_joined_9 : decode cX0_joined 9 = .ok (.iload_n 2, 1) := dk_28 (dk_at dksX0_joined_0 9 rfl rfl)
theorem dX0_joined_10 : decode cX0_joined 10 = .ok (.invokevirtual 247, 3) := dk_182 0 247 (dk_at dksX0_joined_0 10 rfl rfl)
theorem dX0_joined_13 : decode cX0_joined 13 = .ok (.ifCond .ne 6, 3) := dk_154 0 6 (dk_at dksX0_joined_0 13 rfl rfl)
theorem dX0_joined_16 : decode cX0_joined 16 = .ok (.bipush (-2), 2) := dk_16 254 (dk_at dksX0_joined_0 16 rfl rfl)
theorem dX0_joined_18 : decode cX0_joined 18 = .ok (.ireturn, 1) := dk_172 (dk_at dksX0_joined_0 18 rfl rfl)
theorem dX0_joined_19 : decode cX0_joined 19 = .ok (.aload_n 0, 1) := dk_42 (dk_at dksX0_joined_0 19 rfl rfl)
theorem dX0_joined_20 : decode cX0_joined 20 = .ok (.invokevirtual 357, 3) := dk_182 1 101 (dk_at dksX0_joined_0 20 rfl rfl)
theorem dX0_joined_23 : decode cX0_joined 23 = .ok (.aload_n 0, 1) := dk_42 (dk_at dksX0_joined_0 23 rfl rfl)
theorem dX0_joined_24 : decode cX0_joined 24 = .ok (.getfield 219, 3) := dk_180 0 219 (dk_at dksX0_joined_1 0 rfl rfl)
theorem dX0_joined_27 : decode cX0_joined 27 = .ok (.iload_n 1, 1) := dk_27 (dk_at dksX0_joined_1 3 rfl rfl)
theorem dX0_joined_28 : decode cX0_joined 28 = .ok (.iaload, 1) := dk_46 (dk_at dksX0_joined_1 4 rfl rfl)
theorem dX0_joined_29 : decode cX0_joined 29 = .ok (.aload_n 0, 1) := dk_42 (dk_at dksX0_joined_1 5 rfl rfl)
theorem dX0_joined_30 : decode cX0_joined 30 = .ok (.getfield 219, 3) := dk_180 0 219 (dk_at dksX0_joined_1 6 rfl rfl)
theorem dX0_joined_33 : decode cX0_joined 33 = .ok (.iload_n 2, 1) := dk_28 (dk_at dksX0_joined_1 9 rfl rfl)
theorem dX0_joined_34 : decode cX0_joined 34 = .ok (.iaload, 1) := dk_46 (dk_at dksX0_joined_1 10 rfl rfl)
theorem dX0_joined_35 : decode cX0_joined 35 = .ok (.if_icmp .ne 7, 3) := dk_160 0 7 (dk_at dksX0_joined_1 11 rfl rfl)
theorem dX0_joined_38 : decode cX0_joined 38 = .ok (.iconst 1, 1) := dk_4 (dk_at dksX0_joined_1 14 rfl rfl)
theorem dX0_joined_39 : decode cX0_joined 39 = .ok (.goto 4, 3) := dk_167 0 4 (dk_at dksX0_joined_1 15 rfl rfl)
theorem dX0_joined_42 : decode cX0_joined 42 = .ok (.iconst 0, 1) := dk_3 (dk_at dksX0_joined_1 18 rfl rfl)
theorem dX0_joined_43 : decode cX0_joined 43 = .ok (.ireturn, 1) := dk_172 (dk_at dksX0_joined_1 19 rfl rfl)
abbrev cX0_joins : ByteArray := prog_1_method_54_code
def yX0_joins : MethodName := ⟨RX0, "joins", "()V"⟩
def dkwX0_joins_8 : List UInt8 := [42, 27, 16, 6, 27, 96, 182, 1, 93, 132, 1, 1, 167, 255, 225, 177]
abbrev dktX0_joins_8 : List UInt8 := dkwX0_joins_8 ++ []
def dkwX0_joins_7 : List UInt8 := [167, 255, 208, 3, 60, 27, 16, 6, 162, 0, 31, 42, 180, 0, 45, 180, 0, 96, 27, 46, 2, 159, 0, 12]
abbrev dktX0_joins_7 : List UInt8 := dkwX0_joins_7 ++ dktX0_joins_8
def dkwX0_joins_6 : List UInt8 := [16, 12, 42, 180, 0, 45, 180, 1, 96, 5, 27, 104, 4, 96, 46, 96, 182, 1, 93, 132, 1, 1]
abbrev dktX0_joins_6 : List UInt8 := dkwX0_joins_6 ++ dktX0_joins_7
def dkwX0_joins_5 : List UInt8 := [180, 0, 45, 180, 0, 103, 162, 0, 43, 42, 16, 12, 42, 180, 0, 45, 180, 1, 96, 5, 27, 104, 46, 96]
abbrev dktX0_joins_5 : List UInt8 := dkwX0_joins_5 ++ dktX0_joins_6
def dkwX0_joins_4 : List UInt8 := [180, 0, 86, 44, 180, 0, 137, 46, 96, 182, 1, 93, 132, 1, 1, 167, 255, 169, 3, 60, 27, 42]
abbrev dktX0_joins_4 : List UInt8 := dkwX0_joins_4 ++ dktX0_joins_5
def dkwX0_joins_3 : List UInt8 := [180, 0, 137, 46, 2, 159, 0, 30, 42, 42, 180, 0, 45, 44, 182, 0, 146, 16, 12, 42, 180, 0, 45]
abbrev dktX0_joins_3 : List UInt8 := dkwX0_joins_3 ++ dktX0_joins_4
def dkwX0_joins_2 : List UInt8 := [192, 0, 114, 77, 42, 180, 0, 45, 180, 0, 126, 27, 51, 153, 0, 46, 42, 180, 0, 45, 180, 0, 86, 44]
abbrev dktX0_joins_2 : List UInt8 := dkwX0_joins_2 ++ dktX0_joins_3
def dkwX0_joins_1 : List UInt8 := [42, 180, 0, 45, 180, 0, 49, 182, 0, 55, 162, 0, 79, 42, 180, 0, 45, 180, 0, 49, 27, 182, 0, 130]
abbrev dktX0_joins_1 : List UInt8 := dkwX0_joins_1 ++ dktX0_joins_2
def dkwX0_joins_0 : List UInt8 := [3, 60, 27, 16, 16, 162, 0, 16, 42, 180, 0, 219, 27, 27, 79, 132, 1, 1, 167, 255, 240, 3, 60, 27]
abbrev dktX0_joins_0 : List UInt8 := dkwX0_joins_0 ++ dktX0_joins_1
theorem dksX0_joins_0 : cX0_joins.data.toList.drop 0 = dktX0_joins_0 := by decide +kernel
theorem dksX0_joins_1 : cX0_joins.data.toList.drop 24 = dktX0_joins_1 := dk_seg dksX0_joins_0 24 rfl rfl
theorem dksX0_joins_2 : cX0_joins.data.toList.drop 48 = dktX0_joins_2 := dk_seg dksX0_joins_1 24 rfl rfl
theorem dksX0_joins_3 : cX0_joins.data.toList.drop 72 = dktX0_joins_3 := dk_seg dksX0_joins_2 24 rfl rfl
theorem dksX0_joins_4 : cX0_joins.data.toList.drop 95 = dktX0_joins_4 := dk_seg dksX0_joins_3 23 rfl rfl
theorem dksX0_joins_5 : cX0_joins.data.toList.drop 117 = dktX0_joins_5 := dk_seg dksX0_joins_4 22 rfl rfl
theorem dksX0_joins_6 : cX0_joins.data.toList.drop 141 = dktX0_joins_6 := dk_seg dksX0_joins_5 24 rfl rfl
theorem dksX0_joins_7 : cX0_joins.data.toList.drop 163 = dktX0_joins_7 := dk_seg dksX0_joins_6 22 rfl rfl
theorem dksX0_joins_8 : cX0_joins.data.toList.drop 187 = dktX0_joins_8 := dk_seg dksX0_joins_7 24 rfl rfl
theorem dX0_joins_0 : decode cX0_joins 0 = .ok (.iconst 0, 1) := dk_3 (dk_at dksX0_joins_0 0 rfl rfl)
theorem dX0_joins_1 : decode cX0_joins 1 = .ok (.istore_n 1, 1) := dk_60 (dk_at dksX0_joins_0 1 rfl rfl)
theorem dX0_joins_2 : decode cX0_joins 2 = .ok (.iload_n 1, 1) := dk_27 (dk_at dksX0_joins_0 2 rfl rfl)
theorem dX0_joins_3 : decode cX0_joins 3 = .ok (.bipush 16, 2) := dk_16 16 (dk_at dksX0_joins_0 3 rfl rfl)
theorem dX0_joins_5 : decode cX0_joins 5 = .ok (.if_icmp .ge 16, 3) := dk_162 0 16 (dk_at dksX0_joins_0 5 rfl rfl)
theorem dX0_joins_8 : decode cX0_joins 8 = .ok (.aload_n 0, 1) := dk_42 (dk_at dksX0_joins_0 8 rfl rfl)
theorem dX0_joins_9 : decode cX0_joins 9 = .ok (.getfield 219, 3) := dk_180 0 219 (dk_at dksX0_joins_0 9 rfl rfl)
theorem dX0_joins_12 : decode cX0_joins 12 = .ok (.iload_n 1, 1) := dk_27 (dk_at dksX0_joins_0 12 rfl rfl)
theorem dX0_joins_13 : decode cX0_joins 13 = .ok (.iload_n 1, 1) := dk_27 (dk_at dksX0_joins_0 13 rfl rfl)
theorem dX0_joins_14 : decode cX0_joins 14 = .ok (.iastore, 1) := dk_79 (dk_at dksX0_joins_0 14 rfl rfl)
theorem dX0_joins_15 : decode cX0_joins 15 = .ok (.iinc 1 1, 3) := dk_132 1 1 (dk_at dksX0_joins_0 15 rfl rfl)
theorem dX0_joins_18 : decode cX0_joins 18 = .ok (.goto (-16), 3) := dk_167 255 240 (dk_at dksX0_joins_0 18 rfl rfl)
theorem dX0_joins_21 : decode cX0_joins 21 = .ok (.iconst 0, 1) := dk_3 (dk_at dksX0_joins_0 21 rfl rfl)
theorem dX0_joins_22 : decode cX0_joins 22 = .ok (.istore_n 1, 1) := dk_60 (dk_at dksX0_joins_0 22 rfl rfl)
theorem dX0_joins_23 : decode cX0_joins 23 = .ok (.iload_n 1, 1) := dk_27 (dk_at dksX0_joins_0 23 rfl rfl)
theorem dX0_joins_24 : decode cX0_joins 24 = .ok (.aload_n 0, 1) := dk_42 (dk_at dksX0_joins_1 0 rfl rfl)
theorem dX0_joins_25 : decode cX0_joins 25 = .ok (.getfield 45, 3) := dk_180 0 45 (dk_at dksX0_joins_1 1 rfl rfl)
theorem dX0_joins_28 : decode cX0_joins 28 = .ok (.getfield 49, 3) := dk_180 0 49 (dk_at dksX0_joins_1 4 rfl rfl)
theorem dX0_joins_31 : decode cX0_joins 31 = .ok (.invokevirtual 55, 3) := dk_182 0 55 (dk_at dksX0_joins_1 7 rfl rfl)
theorem dX0_joins_34 : decode cX0_joins 34 = .ok (.if_icmp .ge 79, 3) := dk_162 0 79 (dk_at dksX0_joins_1 10 rfl rfl)
theorem dX0_joins_37 : decode cX0_joins 37 = .ok (.aload_n 0, 1) := dk_42 (dk_at dksX0_joins_1 13 rfl rfl)
theorem dX0_joins_38 : decode cX0_joins 38 = .ok (.getfield 45, 3) := dk_180 0 45 (dk_at dksX0_joins_1 14 rfl rfl)
theorem dX0_joins_41 : decode cX0_joins 41 = .ok (.getfield 49, 3) := dk_180 0 49 (dk_at dksX0_joins_1 17 rfl rfl)
theorem dX0_joins_44 : decode cX0_joins 44 = .ok (.iload_n 1, 1) := dk_27 (dk_at dksX0_joins_1 20 rfl rfl)
theorem dX0_joins_45 : decode cX0_joins 45 = .ok (.invokevirtual 130, 3) := dk_182 0 130 (dk_at dksX0_joins_1 21 rfl rfl)
theorem dX0_joins_48 : decode cX0_joins 48 = .ok (.checkcast 114, 3) := dk_192 0 114 (dk_at dksX0_joins_2 0 rfl rfl)
theorem dX0_joins_51 : decode cX0_joins 51 = .ok (.astore_n 2, 1) := dk_77 (dk_at dksX0_joins_2 3 rfl rfl)
theorem dX0_joins_52 : decode cX0_joins 52 = .ok (.aload_n 0, 1) := dk_42 (dk_at dksX0_joins_2 4 rfl rfl)
theorem dX0_joins_53 : decode cX0_joins 53 = .ok (.getfield 45, 3) := dk_180 0 45 (dk_at dksX0_joins_2 5 rfl rfl)
theorem dX0_joins_56 : decode cX0_joins 56 = .ok (.getfield 126, 3) := dk_180 0 126 (dk_at dksX0_joins_2 8 rfl rfl)
theorem dX0_joins_59 : decode cX0_joins 59 = .ok (.iload_n 1, 1) := dk_27 (dk_at dksX0_joins_2 11 rfl rfl)
theorem dX0_joins_60 : decode cX0_joins 60 = .ok (.baload, 1) := dk_51 (dk_at dksX0_joins_2 12 rfl rfl)
theorem dX0_joins_61 : decode cX0_joins 61 = .ok (.ifCond .eq 46, 3) := dk_153 0 46 (dk_at dksX0_joins_2 13 rfl rfl)
theorem dX0_joins_64 : decode cX0_joins 64 = .ok (.aload_n 0, 1) := dk_42 (dk_at dksX0_joins_2 16 rfl rfl)
theorem dX0_joins_65 : decode cX0_joins 65 = .ok (.getfield 45, 3) := dk_180 0 45 (dk_at dksX0_joins_2 17 rfl rfl)
theorem dX0_joins_68 : decode cX0_joins 68 = .ok (.getfield 86, 3) := dk_180 0 86 (dk_at dksX0_joins_2 20 rfl rfl)
theorem dX0_joins_71 : decode cX0_joins 71 = .ok (.aload_n 2, 1) := dk_44 (dk_at dksX0_joins_2 23 rfl rfl)
theorem dX0_joins_72 : decode cX0_joins 72 = .ok (.getfield 137, 3) := dk_180 0 137 (dk_at dksX0_joins_3 0 rfl rfl)
theorem dX0_joins_75 : decode cX0_joins 75 = .ok (.iaload, 1) := dk_46 (dk_at dksX0_joins_3 3 rfl rfl)
theorem dX0_joins_76 : decode cX0_joins 76 = .ok (.iconst (-1), 1) := dk_2 (dk_at dksX0_joins_3 4 rfl rfl)
theorem dX0_joins_77 : decode cX0_joins 77 = .ok (.if_icmp .eq 30, 3) := dk_159 0 30 (dk_at dksX0_joins_3 5 rfl rfl)
theorem dX0_joins_80 : decode cX0_joins 80 = .ok (.aload_n 0, 1) := dk_42 (dk_at dksX0_joins_3 8 rfl rfl)
theorem dX0_joins_81 : decode cX0_joins 81 = .ok (.aload_n 0, 1) := dk_42 (dk_at dksX0_joins_3 9 rfl rfl)
theorem dX0_joins_82 : decode cX0_joins 82 = .ok (.getfield 45, 3) := dk_180 0 45 (dk_at dksX0_joins_3 10 rfl rfl)
theorem dX0_joins_85 : decode cX0_joins 85 = .ok (.aload_n 2, 1) := dk_44 (dk_at dksX0_joins_3 13 rfl rfl)
theorem dX0_joins_86 : decode cX0_joins 86 = .ok (.invokevirtual 146, 3) := dk_182 0 146 (dk_at dksX0_joins_3 14 rfl rfl)
theorem dX0_joins_89 : decode cX0_joins 89 = .ok (.bipush 12, 2) := dk_16 12 (dk_at dksX0_joins_3 17 rfl rfl)
theorem dX0_joins_91 : decode cX0_joins 91 = .ok (.aload_n 0, 1) := dk_42 (dk_at dksX0_joins_3 19 rfl rfl)
theorem dX0_joins_92 : decode cX0_joins 92 = .ok (.getfield 45, 3) := dk_180 0 45 (dk_at dksX0_joins_3 20 rfl rfl)
theorem dX0_joins_95 : decode cX0_joins 95 = .ok (.getfield 86, 3) := dk_180 0 86 (dk_at dksX0_joins_4 0 rfl rfl)
theorem dX0_joins_98 : decode cX0_joins 98 = .ok (.aload_n 2, 1) := dk_44 (dk_at dksX0_joins_4 3 rfl rfl)
theorem dX0_joins_99 : decode cX0_joins 99 = .ok (.getfield 137, 3) := dk_180 0 137 (dk_at dksX0_joins_4 4 rfl rfl)
theorem dX0_joins_102 : decode cX0_joins 102 = .ok (.iaload, 1) := dk_46 (dk_at dksX0_joins_4 7 rfl rfl)
theorem dX0_joins_103 : decode cX0_joins 103 = .ok (.iadd, 1) := dk_96 (dk_at dksX0_joins_4 8 rfl rfl)
theorem dX0_joins_104 : decode cX0_joins 104 = .ok (.invokevirtual 349, 3) := dk_182 1 93 (dk_at dksX0_joins_4 9 rfl rfl)
theorem dX0_joins_107 : decode cX0_joins 107 = .ok (.iinc 1 1, 3) := dk_132 1 1 (dk_at dksX0_joins_4 12 rfl rfl)
theorem dX0_joins_110 : decode cX0_joins 110 = .ok (.goto (-87), 3) := dk_167 255 169 (dk_at dksX0_joins_4 15 rfl rfl)
theorem dX0_joins_113 : decode cX0_joins 113 = .ok (.iconst 0, 1) := dk_3 (dk_at dksX0_joins_4 18 rfl rfl)
theorem dX0_joins_114 : decode cX0_joins 114 = .ok (.istore_n 1, 1) := dk_60 (dk_at dksX0_joins_4 19 rfl rfl)
theorem dX0_joins_115 : decode cX0_joins 115 = .ok (.iload_n 1, 1) := dk_27 (dk_at dksX0_joins_4 20 rfl rfl)
theorem dX0_joins_116 : decode cX0_joins 116 = .ok (.aload_n 0, 1) := dk_42 (dk_at dksX0_joins_4 21 rfl rfl)
theorem dX0_joins_117 : decode cX0_joins 117 = .ok (.getfield 45, 3) := dk_180 0 45 (dk_at dksX0_joins_5 0 rfl rfl)
theorem dX0_joins_120 : decode cX0_joins 120 = .ok (.getfield 103, 3) := dk_180 0 103 (dk_at dksX0_joins_5 3 rfl rfl)
theorem dX0_joins_123 : decode cX0_joins 123 = .ok (.if_icmp .ge 43, 3) := dk_162 0 43 (dk_at dksX0_joins_5 6 rfl rfl)
theorem dX0_joins_126 : decode cX0_joins 126 = .ok (.aload_n 0, 1) := dk_42 (dk_at dksX0_joins_5 9 rfl rfl)
theorem dX0_joins_127 : decode cX0_joins 127 = .ok (.bipush 12, 2) := dk_16 12 (dk_at dksX0_joins_5 10 rfl rfl)
theorem dX0_joins_129 : decode cX0_joins 129 = .ok (.aload_n 0, 1) := dk_42 (dk_at dksX0_joins_5 12 rfl rfl)
theorem dX0_joins_130 : decode cX0_joins 130 = .ok (.getfield 45, 3) := dk_180 0 45 (dk_at dksX0_joins_5 13 rfl rfl)
theorem dX0_joins_133 : decode cX0_joins 133 = .ok (.getfield 352, 3) := dk_180 1 96 (dk_at dksX0_joins_5 16 rfl rfl)
theorem dX0_joins_136 : decode cX0_joins 136 = .ok (.iconst 2, 1) := dk_5 (dk_at dksX0_joins_5 19 rfl rfl)
theorem dX0_joins_137 : decode cX0_joins 137 = .ok (.iload_n 1, 1) := dk_27 (dk_at dksX0_joins_5 20 rfl rfl)
theorem dX0_joins_138 : decode cX0_joins 138 = .ok (.imul, 1) := dk_104 (dk_at dksX0_joins_5 21 rfl rfl)
theorem dX0_joins_139 : decode cX0_joins 139 = .ok (.iaload, 1) := dk_46 (dk_at dksX0_joins_5 22 rfl rfl)
theorem dX0_joins_140 : decode cX0_joins 140 = .ok (.iadd, 1) := dk_96 (dk_at dksX0_joins_5 23 rfl rfl)
theorem dX0_joins_141 : decode cX0_joins 141 = .ok (.bipush 12, 2) := dk_16 12 (dk_at dksX0_joins_6 0 rfl rfl)
theorem dX0_joins_143 : decode cX0_joins 143 = .ok (.aload_n 0, 1) := dk_42 (dk_at dksX0_joins_6 2 rfl rfl)
theorem dX0_joins_144 : decode cX0_joins 144 = .ok (.getfield 45, 3) := dk_180 0 45 (dk_at dksX0_joins_6 3 rfl rfl)
theorem dX0_joins_147 : decode cX0_joins 147 = .ok (.getfield 352, 3) := dk_180 1 96 (dk_at dksX0_joins_6 6 rfl rfl)
theorem dX0_joins_150 : decode cX0_joins 150 = .ok (.iconst 2, 1) := dk_5 (dk_at dksX0_joins_6 9 rfl rfl)
theorem dX0_joins_151 : decode cX0_joins 151 = .ok (.iload_n 1, 1) := dk_27 (dk_at dksX0_joins_6 10 rfl rfl)
theorem dX0_joins_152 : decode cX0_joins 152 = .ok (.imul, 1) := dk_104 (dk_at dksX0_joins_6 11 rfl rfl)
theorem dX0_joins_153 : decode cX0_joins 153 = .ok (.iconst 1, 1) := dk_4 (dk_at dksX0_joins_6 12 rfl rfl)
theorem dX0_joins_154 : decode cX0_joins 154 = .ok (.iadd, 1) := dk_96 (dk_at dksX0_joins_6 13 rfl rfl)
theorem dX0_joins_155 : decode cX0_joins 155 = .ok (.iaload, 1) := dk_46 (dk_at dksX0_joins_6 14 rfl rfl)
theorem dX0_joins_156 : decode cX0_joins 156 = .ok (.iadd, 1) := dk_96 (dk_at dksX0_joins_6 15 rfl rfl)
theorem dX0_joins_157 : decode cX0_joins 157 = .ok (.invokevirtual 349, 3) := dk_182 1 93 (dk_at dksX0_joins_6 16 rfl rfl)
theorem dX0_joins_160 : decode cX0_joins 160 = .ok (.iinc 1 1, 3) := dk_132 1 1 (dk_at dksX0_joins_6 19 rfl rfl)
theorem dX0_joins_163 : decode cX0_joins 163 = .ok (.goto (-48), 3) := dk_167 255 208 (dk_at dksX0_joins_7 0 rfl rfl)
theorem dX0_joins_166 : decode cX0_joins 166 = .ok (.iconst 0, 1) := dk_3 (dk_at dksX0_joins_7 3 rfl rfl)
theorem dX0_joins_167 : decode cX0_joins 167 = .ok (.istore_n 1, 1) := dk_60 (dk_at dksX0_joins_7 4 rfl rfl)
theorem dX0_joins_168 : decode cX0_joins 168 = .ok (.iload_n 1, 1) := dk_27 (dk_at dksX0_joins_7 5 rfl rfl)
theorem dX0_joins_169 : decode cX0_joins 169 = .ok (.bipush 6, 2) := dk_16 6 (dk_at dksX0_joins_7 6 rfl rfl)
theorem dX0_joins_171 : decode cX0_joins 171 = .ok (.if_icmp .ge 31, 3) := dk_162 0 31 (dk_at dksX0_joins_7 8 rfl rfl)
theorem dX0_joins_174 : decode cX0_joins 174 = .ok (.aload_n 0, 1) := dk_42 (dk_at dksX0_joins_7 11 rfl rfl)
theorem dX0_joins_175 : decode cX0_joins 175 = .ok (.getfield 45, 3) := dk_180 0 45 (dk_at dksX0_joins_7 12 rfl rfl)
theorem dX0_joins_178 : decode cX0_joins 178 = .ok (.getfield 96, 3) := dk_180 0 96 (dk_at dksX0_joins_7 15 rfl rfl)
theorem dX0_joins_181 : decode cX0_joins 181 = .ok (.iload_n 1, 1) := dk_27 (dk_at dksX0_joins_7 18 rfl rfl)
theorem dX0_joins_182 : decode cX0_joins 182 = .ok (.iaload, 1) := dk_46 (dk_at dksX0_joins_7 19 rfl rfl)
theorem dX0_joins_183 : decode cX0_joins 183 = .ok (.iconst (-1), 1) := dk_2 (dk_at dksX0_joins_7 20 rfl rfl)
theorem dX0_joins_184 : decode cX0_joins 184 = .ok (.if_icmp .eq 12, 3) := dk_159 0 12 (dk_at dksX0_joins_7 21 rfl rfl)
theorem dX0_joins_187 : decode cX0_joins 187 = .ok (.aload_n 0, 1) := dk_42 (dk_at dksX0_joins_8 0 rfl rfl)
theorem dX0_joins_188 : decode cX0_joins 188 = .ok (.iload_n 1, 1) := dk_27 (dk_at dksX0_joins_8 1 rfl rfl)
theorem dX0_joins_189 : decode cX0_joins 189 = .ok (.bipush 6, 2) := dk_16 6 (dk_at dksX0_joins_8 2 rfl rfl)
theorem dX0_joins_191 : decode cX0_joins 191 = .ok (.iload_n 1, 1) := dk_27 (dk_at dksX0_joins_8 4 rfl rfl)
theorem dX0_joins_192 : decode cX0_joins 192 = .ok (.iadd, 1) := dk_96 (dk_at dksX0_joins_8 5 rfl rfl)
theorem dX0_joins_193 : decode cX0_joins 193 = .ok (.invokevirtual 349, 3) := dk_182 1 93 (dk_at dksX0_joins_8 6 rfl rfl)
theorem dX0_joins_196 : decode cX0_joins 196 = .ok (.iinc 1 1, 3) := dk_132 1 1 (dk_at dksX0_joins_8 9 rfl rfl)
theorem dX0_joins_199 : decode cX0_joins 199 = .ok (.goto (-31), 3) := dk_167 255 225 (dk_at dksX0_joins_8 12 rfl rfl)
theorem dX0_joins_202 : decode cX0_joins 202 = .ok (.return_, 1) := dk_177 (dk_at dksX0_joins_8 15 rfl rfl)
abbrev cX0_joins_2 : ByteArray := prog_1_method_55_code
def yX0_joins_2 : MethodName := ⟨RX0, "joins", "(II)V"⟩
def dkwX0_joins_2_2 : List UInt8 := [21, 5, 46, 21, 4, 160, 0, 11, 42, 180, 0, 219, 21, 5, 29, 79, 132, 5, 1, 167, 255, 226, 177]
abbrev dktX0_joins_2_2 : List UInt8 := dkwX0_joins_2_2 ++ []
def dkwX0_joins_2_1 : List UInt8 := [180, 0, 219, 28, 46, 184, 1, 98, 54, 4, 3, 54, 5, 21, 5, 16, 16, 162, 0, 29, 42, 180, 0, 219]
abbrev dktX0_joins_2_1 : List UInt8 := dkwX0_joins_2_1 ++ dktX0_joins_2_2
def dkwX0_joins_2_0 : List UInt8 := [42, 180, 0, 219, 27, 46, 42, 180, 0, 219, 28, 46, 184, 1, 17, 62, 42, 180, 0, 219, 27, 46, 42]
abbrev dktX0_joins_2_0 : List UInt8 := dkwX0_joins_2_0 ++ dktX0_joins_2_1
theorem dksX0_joins_2_0 : cX0_joins_2.data.toList.drop 0 = dktX0_joins_2_0 := by decide +kernel
theorem dksX0_joins_2_1 : cX0_joins_2.data.toList.drop 23 = dktX0_joins_2_1 := dk_seg dksX0_joins_2_0 23 rfl rfl
theorem dksX0_joins_2_2 : cX0_joins_2.data.toList.drop 47 = dktX0_joins_2_2 := dk_seg dksX0_joins_2_1 24 rfl rfl
theorem dX0_joins_2_0 : decode cX0_joins_2 0 = .ok (.aload_n 0, 1) := dk_42 (dk_at dksX0_joins_2_0 0 rfl rfl)
theorem dX0_joins_2_1 : decode cX0_joins_2 1 = .ok (.getfield 219, 3) := dk_180 0 219 (dk_at dksX0_joins_2_0 1 rfl rfl)
theorem dX0_joins_2_4 : decode cX0_joins_2 4 = .ok (.iload_n 1, 1) := dk_27 (dk_at dksX0_joins_2_0 4 rfl rfl)
theorem dX0_joins_2_5 : decode cX0_joins_2 5 = .ok (.iaload, 1) := dk_46 (dk_at dksX0_joins_2_0 5 rfl rfl)
theorem dX0_joins_2_6 : decode cX0_joins_2 6 = .ok (.aload_n 0, 1) := dk_42 (dk_at dksX0_joins_2_0 6 rfl rfl)
theorem dX0_joins_2_7 : decode cX0_joins_2 7 = .ok (.getfield 219, 3) := dk_180 0 219 (dk_at dksX0_joins_2_0 7 rfl rfl)
theorem dX0_joins_2_10 : decode cX0_joins_2 10 = .ok (.iload_n 2, 1) := dk_28 (dk_at dksX0_joins_2_0 10 rfl rfl)
theorem dX0_joins_2_11 : decode cX0_joins_2 11 = .ok (.iaload, 1) := dk_46 (dk_at dksX0_joins_2_0 11 rfl rfl)
theorem dX0_joins_2_12 : decode cX0_joins_2 12 = .ok (.invokestatic 273, 3) := dk_184 1 17 (dk_at dksX0_joins_2_0 12 rfl rfl)
theorem dX0_joins_2_15 : decode cX0_joins_2 15 = .ok (.istore_n 3, 1) := dk_62 (dk_at dksX0_joins_2_0 15 rfl rfl)
theorem dX0_joins_2_16 : decode cX0_joins_2 16 = .ok (.aload_n 0, 1) := dk_42 (dk_at dksX0_joins_2_0 16 rfl rfl)
theorem dX0_joins_2_17 : decode cX0_joins_2 17 = .ok (.getfield 219, 3) := dk_180 0 219 (dk_at dksX0_joins_2_0 17 rfl rfl)
theorem dX0_joins_2_20 : decode cX0_joins_2 20 = .ok (.iload_n 1, 1) := dk_27 (dk_at dksX0_joins_2_0 20 rfl rfl)
theorem dX0_joins_2_21 : decode cX0_joins_2 21 = .ok (.iaload, 1) := dk_46 (dk_at dksX0_joins_2_0 21 rfl rfl)
theorem dX0_joins_2_22 : decode cX0_joins_2 22 = .ok (.aload_n 0, 1) := dk_42 (dk_at dksX0_joins_2_0 22 rfl rfl)
theorem dX0_joins_2_23 : decode cX0_joins_2 23 = .ok (.getfield 219, 3) := dk_180 0 219 (dk_at dksX0_joins_2_1 0 rfl rfl)
theorem dX0_joins_2_26 : decode cX0_joins_2 26 = .ok (.iload_n 2, 1) := dk_28 (dk_at dksX0_joins_2_1 3 rfl rfl)
theorem dX0_joins_2_27 : decode cX0_joins_2 27 = .ok (.iaload, 1) := dk_46 (dk_at dksX0_joins_2_1 4 rfl rfl)
theorem dX0_joins_2_28 : decode cX0_joins_2 28 = .ok (.invokestatic 354, 3) := dk_184 1 98 (dk_at dksX0_joins_2_1 5 rfl rfl)
theorem dX0_joins_2_31 : decode cX0_joins_2 31 = .ok (.istore 4, 2) := dk_54 4 (dk_at dksX0_joins_2_1 8 rfl rfl)
theorem dX0_joins_2_33 : decode cX0_joins_2 33 = .ok (.iconst 0, 1) := dk_3 (dk_at dksX0_joins_2_1 10 rfl rfl)
theorem dX0_joins_2_34 : decode cX0_joins_2 34 = .ok (.istore 5, 2) := dk_54 5 (dk_at dksX0_joins_2_1 11 rfl rfl)
theorem dX0_joins_2_36 : decode cX0_joins_2 36 = .ok (.iload 5, 2) := dk_21 5 (dk_at dksX0_joins_2_1 13 rfl rfl)
theorem dX0_joins_2_38 : decode cX0_joins_2 38 = .ok (.bipush 16, 2) := dk_16 16 (dk_at dksX0_joins_2_1 15 rfl rfl)
theorem dX0_joins_2_40 : decode cX0_joins_2 40 = .ok (.if_icmp .ge 29, 3) := dk_162 0 29 (dk_at dksX0_joins_2_1 17 rfl rfl)
theorem dX0_joins_2_43 : decode cX0_joins_2 43 = .ok (.aload_n 0, 1) := dk_42 (dk_at dksX0_joins_2_1 20 rfl rfl)
theorem dX0_joins_2_44 : decode cX0_joins_2 44 = .ok (.getfield 219, 3) := dk_180 0 219 (dk_at dksX0_joins_2_1 21 rfl rfl)
theorem dX0_joins_2_47 : decode cX0_joins_2 47 = .ok (.iload 5, 2) := dk_21 5 (dk_at dksX0_joins_2_2 0 rfl rfl)
theorem dX0_joins_2_49 : decode cX0_joins_2 49 = .ok (.iaload, 1) := dk_46 (dk_at dksX0_joins_2_2 2 rfl rfl)
theorem dX0_joins_2_50 : decode cX0_joins_2 50 = .ok (.iload 4, 2) := dk_21 4 (dk_at dksX0_joins_2_2 3 rfl rfl)
theorem dX0_joins_2_52 : decode cX0_joins_2 52 = .ok (.if_icmp .ne 11, 3) := dk_160 0 11 (dk_at dksX0_joins_2_2 5 rfl rfl)
theorem dX0_joins_2_55 : decode cX0_joins_2 55 = .ok (.aload_n 0, 1) := dk_42 (dk_at dksX0_joins_2_2 8 rfl rfl)
theorem dX0_joins_2_56 : decode cX0_joins_2 56 = .ok (.getfield 219, 3) := dk_180 0 219 (dk_at dksX0_joins_2_2 9 rfl rfl)
theorem dX0_joins_2_59 : decode cX0_joins_2 59 = .ok (.iload 5, 2) := dk_21 5 (dk_at dksX0_joins_2_2 12 rfl rfl)
theorem dX0_joins_2_61 : decode cX0_joins_2 61 = .ok (.iload_n 3, 1) := dk_29 (dk_at dksX0_joins_2_2 14 rfl rfl)
theorem dX0_joins_2_62 : decode cX0_joins_2 62 = .ok (.iastore, 1) := dk_79 (dk_at dksX0_joins_2_2 15 rfl rfl)
theorem dX0_joins_2_63 : decode cX0_joins_2 63 = .ok (.iinc 5 1, 3) := dk_132 5 1 (dk_at dksX0_joins_2_2 16 rfl rfl)
theorem dX0_joins_2_66 : decode cX0_joins_2 66 = .ok (.goto (-30), 3) := dk_167 255 226 (dk_at dksX0_joins_2_2 19 rfl rfl)
theorem dX0_joins_2_69 : decode cX0_joins_2 69 = .ok (.return_, 1) := dk_177 (dk_at dksX0_joins_2_2 22 rfl rfl)
abbrev cX0_groups : ByteArray := prog_1_method_57_code
def yX0_groups : MethodName := ⟨RX0, "groups", "(I)I"⟩
def dkwX0_groups_5 : List UInt8 := [4, 100, 167, 0, 4, 29, 172]
abbrev dktX0_groups_5 : List UInt8 := dkwX0_groups_5 ++ []
def dkwX0_groups_4 : List UInt8 := [184, 1, 98, 62, 132, 4, 1, 167, 255, 176, 27, 154, 0, 7, 28, 167, 0, 15, 27, 4, 160, 0, 9, 28]
abbrev dktX0_groups_4 : List UInt8 := dkwX0_groups_4 ++ dktX0_groups_5
def dkwX0_groups_3 : List UInt8 := [54, 5, 132, 6, 1, 167, 255, 215, 28, 21, 5, 158, 0, 7, 4, 167, 0, 4, 3, 96, 61, 29, 21, 5]
abbrev dktX0_groups_3 : List UInt8 := dkwX0_groups_3 ++ dktX0_groups_4
def dkwX0_groups_2 : List UInt8 := [182, 0, 247, 153, 0, 19, 42, 180, 0, 219, 21, 6, 46, 21, 4, 160, 0, 7, 4, 167, 0, 4, 3, 96]
abbrev dktX0_groups_2 : List UInt8 := dkwX0_groups_2 ++ dktX0_groups_3
def dkwX0_groups_1 : List UInt8 := [16, 16, 162, 0, 79, 3, 54, 5, 3, 54, 6, 21, 6, 16, 16, 162, 0, 40, 21, 5, 42, 21, 6]
abbrev dktX0_groups_1 : List UInt8 := dkwX0_groups_1 ++ dktX0_groups_2
def dkwX0_groups_0 : List UInt8 := [27, 3, 5, 184, 0, 41, 154, 0, 5, 2, 172, 42, 182, 1, 101, 3, 61, 3, 62, 3, 54, 4, 21, 4]
abbrev dktX0_groups_0 : List UInt8 := dkwX0_groups_0 ++ dktX0_groups_1
theorem dksX0_groups_0 : cX0_groups.data.toList.drop 0 = dktX0_groups_0 := by decide +kernel
theorem dksX0_groups_1 : cX0_groups.data.toList.drop 24 = dktX0_groups_1 := dk_seg dksX0_groups_0 24 rfl rfl
theorem dksX0_groups_2 : cX0_groups.data.toList.drop 47 = dktX0_groups_2 := dk_seg dksX0_groups_1 23 rfl rfl
theorem dksX0_groups_3 : cX0_groups.data.toList.drop 71 = dktX0_groups_3 := dk_seg dksX0_groups_2 24 rfl rfl
theorem dksX0_groups_4 : cX0_groups.data.toList.drop 95 = dktX0_groups_4 := dk_seg dksX0_groups_3 24 rfl rfl
theorem dksX0_groups_5 : cX0_groups.data.toList.drop 119 = dktX0_groups_5 := dk_seg dksX0_groups_4 24 rfl rfl
theorem dX0_groups_0 : decode cX0_groups 0 = .ok (.iload_n 1, 1) := dk_27 (dk_at dksX0_groups_0 0 rfl rfl)
theorem dX0_groups_1 : decode cX0_groups 1 = .ok (.iconst 0, 1) := dk_3 (dk_at dksX0_groups_0 1 rfl rfl)
theorem dX0_groups_2 : decode cX0_groups 2 = .ok (.iconst 2, 1) := dk_5 (dk_at dksX0_groups_0 2 rfl rfl)
theorem dX0_groups_3 : decode cX0_groups 3 = .ok (.invokestatic 41, 3) := dk_184 0 41 (dk_at dksX0_groups_0 3 rfl rfl)
theorem dX0_groups_6 : decode cX0_groups 6 = .ok (.ifCond .ne 5, 3) := dk_154 0 5 (dk_at dksX0_groups_0 6 rfl rfl)
theorem dX0_groups_9 : decode cX0_groups 9 = .ok (.iconst (-1), 1) := dk_2 (dk_at dksX0_groups_0 9 rfl rfl)
theorem dX0_groups_10 : decode cX0_groups 10 = .ok (.ireturn, 1) := dk_172 (dk_at dksX0_groups_0 10 rfl rfl)
theorem dX0_groups_11 : decode cX0_groups 11 = .ok (.aload_n 0, 1) := dk_42 (dk_at dksX0_groups_0 11 rfl rfl)
theorem dX0_groups_12 : decode cX0_groups 12 = .ok (.invokevirtual 357, 3) := dk_182 1 101 (dk_at dksX0_groups_0 12 rfl rfl)
theorem dX0_groups_15 : decode cX0_groups 15 = .ok (.iconst 0, 1) := dk_3 (dk_at dksX0_groups_0 15 rfl rfl)
theorem dX0_groups_16 : decode cX0_groups 16 = .ok (.istore_n 2, 1) := dk_61 (dk_at dksX0_groups_0 16 rfl rfl)
theorem dX0_groups_17 : decode cX0_groups 17 = .ok (.iconst 0, 1) := dk_3 (dk_at dksX0_groups_0 17 rfl rfl)
theorem dX0_groups_18 : decode cX0_groups 18 = .ok (.istore_n 3, 1) := dk_62 (dk_at dksX0_groups_0 18 rfl rfl)
theorem dX0_groups_19 : decode cX0_groups 19 = .ok (.iconst 0, 1) := dk_3 (dk_at dksX0_groups_0 19 rfl rfl)
theorem dX0_groups_20 : decode cX0_groups 20 = .ok (.istore 4, 2) := dk_54 4 (dk_at dksX0_groups_0 20 rfl rfl)
theorem dX0_groups_22 : decode cX0_groups 22 = .ok (.iload 4, 2) := dk_21 4 (dk_at dksX0_groups_0 22 rfl rfl)
theorem dX0_groups_24 : decode cX0_groups 24 = .ok (.bipush 16, 2) := dk_16 16 (dk_at dksX0_groups_1 0 rfl rfl)
theorem dX0_groups_26 : decode cX0_groups 26 = .ok (.if_icmp .ge 79, 3) := dk_162 0 79 (dk_at dksX0_groups_1 2 rfl rfl)
theorem dX0_groups_29 : decode cX0_groups 29 = .ok (.iconst 0, 1) := dk_3 (dk_at dksX0_groups_1 5 rfl rfl)
theorem dX0_groups_30 : decode cX0_groups 30 = .ok (.istore 5, 2) := dk_54 5 (dk_at dksX0_groups_1 6 rfl rfl)
theorem dX0_groups_32 : decode cX0_groups 32 = .ok (.iconst 0, 1) := dk_3 (dk_at dksX0_groups_1 8 rfl rfl)
theorem dX0_groups_33 : decode cX0_groups 33 = .ok (.istore 6, 2) := dk_54 6 (dk_at dksX0_groups_1 9 rfl rfl)
theorem dX0_groups_35 : decode cX0_groups 35 = .ok (.iload 6, 2) := dk_21 6 (dk_at dksX0_groups_1 11 rfl rfl)
theorem dX0_groups_37 : decode cX0_groups 37 = .ok (.bipush 16, 2) := dk_16 16 (dk_at dksX0_groups_1 13 rfl rfl)
theorem dX0_groups_39 : decode cX0_groups 39 = .ok (.if_icmp .ge 40, 3) := dk_162 0 40 (dk_at dksX0_groups_1 15 rfl rfl)
theorem dX0_groups_42 : decode cX0_groups 42 = .ok (.iload 5, 2) := dk_21 5 (dk_at dksX0_groups_1 18 rfl rfl)
theorem dX0_groups_44 : decode cX0_groups 44 = .ok (.aload_n 0, 1) := dk_42 (dk_at dksX0_groups_1 20 rfl rfl)
theorem dX0_groups_45 : decode cX0_groups 45 = .ok (.iload 6, 2) := dk_21 6 (dk_at dksX0_groups_1 21 rfl rfl)
theorem dX0_groups_47 : decode cX0_groups 47 = .ok (.invokevirtual 247, 3) := dk_182 0 247 (dk_at dksX0_groups_2 0 rfl rfl)
theorem dX0_groups_50 : decode cX0_groups 50 = .ok (.ifCond .eq 19, 3) := dk_153 0 19 (dk_at dksX0_groups_2 3 rfl rfl)
theorem dX0_groups_53 : decode cX0_groups 53 = .ok (.aload_n 0, 1) := dk_42 (dk_at dksX0_groups_2 6 rfl rfl)
theorem dX0_groups_54 : decode cX0_groups 54 = .ok (.getfield 219, 3) := dk_180 0 219 (dk_at dksX0_groups_2 7 rfl rfl)
theorem dX0_groups_57 : decode cX0_groups 57 = .ok (.iload 6, 2) := dk_21 6 (dk_at dksX0_groups_2 10 rfl rfl)
theorem dX0_groups_59 : decode cX0_groups 59 = .ok (.iaload, 1) := dk_46 (dk_at dksX0_groups_2 12 rfl rfl)
theorem dX0_groups_60 : decode cX0_groups 60 = .ok (.iload 4, 2) := dk_21 4 (dk_at dksX0_groups_2 13 rfl rfl)
theorem dX0_groups_62 : decode cX0_groups 62 = .ok (.if_icmp .ne 7, 3) := dk_160 0 7 (dk_at dksX0_groups_2 15 rfl rfl)
theorem dX0_groups_65 : decode cX0_groups 65 = .ok (.iconst 1, 1) := dk_4 (dk_at dksX0_groups_2 18 rfl rfl)
theorem dX0_groups_66 : decode cX0_groups 66 = .ok (.goto 4, 3) := dk_167 0 4 (dk_at dksX0_groups_2 19 rfl rfl)
theorem dX0_groups_69 : decode cX0_groups 69 = .ok (.iconst 0, 1) := dk_3 (dk_at dksX0_groups_2 22 rfl rfl)
theorem dX0_groups_70 : decode cX0_groups 70 = .ok (.iadd, 1) := dk_96 (dk_at dksX0_groups_2 23 rfl rfl)
theorem dX0_groups_71 : decode cX0_groups 71 = .ok (.istore 5, 2) := dk_54 5 (dk_at dksX0_groups_3 0 rfl rfl)
theorem dX0_groups_73 : decode cX0_groups 73 = .ok (.iinc 6 1, 3) := dk_132 6 1 (dk_at dksX0_groups_3 2 rfl rfl)
theorem dX0_groups_76 : decode cX0_groups 76 = .ok (.goto (-41), 3) := dk_167 255 215 (dk_at dksX0_groups_3 5 rfl rfl)
theorem dX0_groups_79 : decode cX0_groups 79 = .ok (.iload_n 2, 1) := dk_28 (dk_at dksX0_groups_3 8 rfl rfl)
theorem dX0_groups_80 : decode cX0_groups 80 = .ok (.iload 5, 2) := dk_21 5 (dk_at dksX0_groups_3 9 rfl rfl)
theorem dX0_groups_82 : decode cX0_groups 82 = .ok (.ifCond .le 7, 3) := dk_158 0 7 (dk_at dksX0_groups_3 11 rfl rfl)
theorem dX0_groups_85 : decode cX0_groups 85 = .ok (.iconst 1, 1) := dk_4 (dk_at dksX0_groups_3 14 rfl rfl)
theorem dX0_groups_86 : decode cX0_groups 86 = .ok (.goto 4, 3) := dk_167 0 4 (dk_at dksX0_groups_3 15 rfl rfl)
theorem dX0_groups_89 : decode cX0_groups 89 = .ok (.iconst 0, 1) := dk_3 (dk_at dksX0_groups_3 18 rfl rfl)
theorem dX0_groups_90 : decode cX0_groups 90 = .ok (.iadd, 1) := dk_96 (dk_at dksX0_groups_3 19 rfl rfl)
theorem dX0_groups_91 : decode cX0_groups 91 = .ok (.istore_n 2, 1) := dk_61 (dk_at dksX0_groups_3 20 rfl rfl)
theorem dX0_groups_92 : decode cX0_groups 92 = .ok (.iload_n 3, 1) := dk_29 (dk_at dksX0_groups_3 21 rfl rfl)
theorem dX0_groups_93 : decode cX0_groups 93 = .ok (.iload 5, 2) := dk_21 5 (dk_at dksX0_groups_3 22 rfl rfl)
theorem dX0_groups_95 : decode cX0_groups 95 = .ok (.invokestatic 354, 3) := dk_184 1 98 (dk_at dksX0_groups_4 0 rfl rfl)
theorem dX0_groups_98 : decode cX0_groups 98 = .ok (.istore_n 3, 1) := dk_62 (dk_at dksX0_groups_4 3 rfl rfl)
theorem dX0_groups_99 : decode cX0_groups 99 = .ok (.iinc 4 1, 3) := dk_132 4 1 (dk_at dksX0_groups_4 4 rfl rfl)
theorem dX0_groups_102 : decode cX0_groups 102 = .ok (.goto (-80), 3) := dk_167 255 176 (dk_at dksX0_groups_4 7 rfl rfl)
theorem dX0_groups_105 : decode cX0_groups 105 = .ok (.iload_n 1, 1) := dk_27 (dk_at dksX0_groups_4 10 rfl rfl)
theorem dX0_groups_106 : decode cX0_groups 106 = .ok (.ifCond .ne 7, 3) := dk_154 0 7 (dk_at dksX0_groups_4 11 rfl rfl)
theorem dX0_groups_109 : decode cX0_groups 109 = .ok (.iload_n 2, 1) := dk_28 (dk_at dksX0_groups_4 14 rfl rfl)
theorem dX0_groups_110 : decode cX0_groups 110 = .ok (.goto 15, 3) := dk_167 0 15 (dk_at dksX0_groups_4 15 rfl rfl)
theorem dX0_groups_113 : decode cX0_groups 113 = .ok (.iload_n 1, 1) := dk_27 (dk_at dksX0_groups_4 18 rfl rfl)
theorem dX0_groups_114 : decode cX0_groups 114 = .ok (.iconst 1, 1) := dk_4 (dk_at dksX0_groups_4 19 rfl rfl)
theorem dX0_groups_115 : decode cX0_groups 115 = .ok (.if_icmp .ne 9, 3) := dk_160 0 9 (dk_at dksX0_groups_4 20 rfl rfl)
theorem dX0_groups_118 : decode cX0_groups 118 = .ok (.iload_n 2, 1) := dk_28 (dk_at dksX0_groups_4 23 rfl rfl)
theorem dX0_groups_119 : decode cX0_groups 119 = .ok (.iconst 1, 1) := dk_4 (dk_at dksX0_groups_5 0 rfl rfl)
theorem dX0_groups_120 : decode cX0_groups 120 = .ok (.isub, 1) := dk_100 (dk_at dksX0_groups_5 1 rfl rfl)
theorem dX0_groups_121 : decode cX0_groups 121 = .ok (.goto 4, 3) := dk_167 0 4 (dk_at dksX0_groups_5 2 rfl rfl)
theorem dX0_groups_124 : decode cX0_groups 124 = .ok (.iload_n 3, 1) := dk_29 (dk_at dksX0_groups_5 5 rfl rfl)
theorem dX0_groups_125 : decode cX0_groups 125 = .ok (.ireturn, 1) := dk_172 (dk_at dksX0_groups_5 6 rfl rfl)
abbrev cX0_core : ByteArray := prog_1_method_58_code
def yX0_core : MethodName := ⟨RX0, "core", "()I"⟩
def dkwX0_core_3 : List UInt8 := [130, 126, 60, 132, 2, 1, 167, 255, 208, 27, 172]
abbrev dktX0_core_3 : List UInt8 := dkwX0_core_3 ++ []
def dkwX0_core_2 : List UInt8 := [126, 4, 160, 0, 25, 42, 27, 4, 28, 120, 2, 130, 126, 182, 1, 103, 154, 0, 11, 27, 4, 28, 120, 2]
abbrev dktX0_core_2 : List UInt8 := dkwX0_core_2 ++ dktX0_core_3
def dkwX0_core_1 : List UInt8 := [182, 1, 106, 60, 3, 61, 28, 42, 180, 0, 45, 180, 0, 49, 182, 0, 55, 162, 0, 40, 27, 28, 122, 4]
abbrev dktX0_core_1 : List UInt8 := dkwX0_core_1 ++ dktX0_core_2
def dkwX0_core_0 : List UInt8 := [42, 180, 0, 196, 182, 0, 243, 153, 0, 5, 3, 172, 42, 3, 182, 1, 103, 154, 0, 5, 2, 172, 42]
abbrev dktX0_core_0 : List UInt8 := dkwX0_core_0 ++ dktX0_core_1
theorem dksX0_core_0 : cX0_core.data.toList.drop 0 = dktX0_core_0 := by decide +kernel
theorem dksX0_core_1 : cX0_core.data.toList.drop 23 = dktX0_core_1 := dk_seg dksX0_core_0 23 rfl rfl
theorem dksX0_core_2 : cX0_core.data.toList.drop 47 = dktX0_core_2 := dk_seg dksX0_core_1 24 rfl rfl
theorem dksX0_core_3 : cX0_core.data.toList.drop 71 = dktX0_core_3 := dk_seg dksX0_core_2 24 rfl rfl
theorem dX0_core_0 : decode cX0_core 0 = .ok (.aload_n 0, 1) := dk_42 (dk_at dksX0_core_0 0 rfl rfl)
theorem dX0_core_1 : decode cX0_core 1 = .ok (.getfield 196, 3) := dk_180 0 196 (dk_at dksX0_core_0 1 rfl rfl)
theorem dX0_core_4 : decode cX0_core 4 = .ok (.invokevirtual 243, 3) := dk_182 0 243 (dk_at dksX0_core_0 4 rfl rfl)
theorem dX0_core_7 : decode cX0_core 7 = .ok (.ifCond .eq 5, 3) := dk_153 0 5 (dk_at dksX0_core_0 7 rfl rfl)
theorem dX0_core_10 : decode cX0_core 10 = .ok (.iconst 0, 1) := dk_3 (dk_at dksX0_core_0 10 rfl rfl)
theorem dX0_core_11 : decode cX0_core 11 = .ok (.ireturn, 1) := dk_172 (dk_at dksX0_core_0 11 rfl rfl)
theorem dX0_core_12 : decode cX0_core 12 = .ok (.aload_n 0, 1) := dk_42 (dk_at dksX0_core_0 12 rfl rfl)
theorem dX0_core_13 : decode cX0_core 13 = .ok (.iconst 0, 1) := dk_3 (dk_at dksX0_core_0 13 rfl rfl)
theorem dX0_core_14 : decode cX0_core 14 = .ok (.invokevirtual 359, 3) := dk_182 1 103 (dk_at dksX0_core_0 14 rfl rfl)
theorem dX0_core_17 : decode cX0_core 17 = .ok (.ifCond .ne 5, 3) := dk_154 0 5 (dk_at dksX0_core_0 17 rfl rfl)
theorem dX0_core_20 : decode cX0_core 20 = .ok (.iconst (-1), 1) := dk_2 (dk_at dksX0_core_0 20 rfl rfl)
theorem dX0_core_21 : decode cX0_core 21 = .ok (.ireturn, 1) := dk_172 (dk_at dksX0_core_0 21 rfl rfl)
theorem dX0_core_22 : decode cX0_core 22 = .ok (.aload_n 0, 1) := dk_42 (dk_at dksX0_core_0 22 rfl rfl)
theorem dX0_core_23 : decode cX0_core 23 = .ok (.invokevirtual 362, 3) := dk_182 1 106 (dk_at dksX0_core_1 0 rfl rfl)
theorem dX0_core_26 : decode cX0_core 26 = .ok (.istore_n 1, 1) := dk_60 (dk_at dksX0_core_1 3 rfl rfl)
theorem dX0_core_27 : decode cX0_core 27 = .ok (.iconst 0, 1) := dk_3 (dk_at dksX0_core_1 4 rfl rfl)
theorem dX0_core_28 : decode cX0_core 28 = .ok (.istore_n 2, 1) := dk_61 (dk_at dksX0_core_1 5 rfl rfl)
theorem dX0_core_29 : decode cX0_core 29 = .ok (.iload_n 2, 1) := dk_28 (dk_at dksX0_core_1 6 rfl rfl)
theorem dX0_core_30 : decode cX0_core 30 = .ok (.aload_n 0, 1) := dk_42 (dk_at dksX0_core_1 7 rfl rfl)
theorem dX0_core_31 : decode cX0_core 31 = .ok (.getfield 45, 3) := dk_180 0 45 (dk_at dksX0_core_1 8 rfl rfl)
theorem dX0_core_34 : decode cX0_core 34 = .ok (.getfield 49, 3) := dk_180 0 49 (dk_at dksX0_core_1 11 rfl rfl)
theorem dX0_core_37 : decode cX0_core 37 = .ok (.invokevirtual 55, 3) := dk_182 0 55 (dk_at dksX0_core_1 14 rfl rfl)
theorem dX0_core_40 : decode cX0_core 40 = .ok (.if_icmp .ge 40, 3) := dk_162 0 40 (dk_at dksX0_core_1 17 rfl rfl)
theorem dX0_core_43 : decode cX0_core 43 = .ok (.iload_n 1, 1) := dk_27 (dk_at dksX0_core_1 20 rfl rfl)
theorem dX0_core_44 : decode cX0_core 44 = .ok (.iload_n 2, 1) := dk_28 (dk_at dksX0_core_1 21 rfl rfl)
theorem dX0_core_45 : decode cX0_core 45 = .ok (.ishr, 1) := dk_122 (dk_at dksX0_core_1 22 rfl rfl)
theorem dX0_core_46 : decode cX0_core 46 = .ok (.iconst 1, 1) := dk_4 (dk_at dksX0_core_1 23 rfl rfl)
theorem dX0_core_47 : decode cX0_core 47 = .ok (.iand, 1) := dk_126 (dk_at dksX0_core_2 0 rfl rfl)
theorem dX0_core_48 : decode cX0_core 48 = .ok (.iconst 1, 1) := dk_4 (dk_at dksX0_core_2 1 rfl rfl)
theorem dX0_core_49 : decode cX0_core 49 = .ok (.if_icmp .ne 25, 3) := dk_160 0 25 (dk_at dksX0_core_2 2 rfl rfl)
theorem dX0_core_52 : decode cX0_core 52 = .ok (.aload_n 0, 1) := dk_42 (dk_at dksX0_core_2 5 rfl rfl)
theorem dX0_core_53 : decode cX0_core 53 = .ok (.iload_n 1, 1) := dk_27 (dk_at dksX0_core_2 6 rfl rfl)
theorem dX0_core_54 : decode cX0_core 54 = .ok (.iconst 1, 1) := dk_4 (dk_at dksX0_core_2 7 rfl rfl)
theorem dX0_core_55 : decode cX0_core 55 = .ok (.iload_n 2, 1) := dk_28 (dk_at dksX0_core_2 8 rfl rfl)
theorem dX0_core_56 : decode cX0_core 56 = .ok (.ishl, 1) := dk_120 (dk_at dksX0_core_2 9 rfl rfl)
theorem dX0_core_57 : decode cX0_core 57 = .ok (.iconst (-1), 1) := dk_2 (dk_at dksX0_core_2 10 rfl rfl)
theorem dX0_core_58 : decode cX0_core 58 = .ok (.ixor, 1) := dk_130 (dk_at dksX0_core_2 11 rfl rfl)
theorem dX0_core_59 : decode cX0_core 59 = .ok (.iand, 1) := dk_126 (dk_at dksX0_core_2 12 rfl rfl)
theorem dX0_core_60 : decode cX0_core 60 = .ok (.invokevirtual 359, 3) := dk_182 1 103 (dk_at dksX0_core_2 13 rfl rfl)
theorem dX0_core_63 : decode cX0_core 63 = .ok (.ifCond .ne 11, 3) := dk_154 0 11 (dk_at dksX0_core_2 16 rfl rfl)
theorem dX0_core_66 : decode cX0_core 66 = .ok (.iload_n 1, 1) := dk_27 (dk_at dksX0_core_2 19 rfl rfl)
theorem dX0_core_67 : decode cX0_core 67 = .ok (.iconst 1, 1) := dk_4 (dk_at dksX0_core_2 20 rfl rfl)
theorem dX0_core_68 : decode cX0_core 68 = .ok (.iload_n 2, 1) := dk_28 (dk_at dksX0_core_2 21 rfl rfl)
theorem dX0_core_69 : decode cX0_core 69 = .ok (.ishl, 1) := dk_120 (dk_at dksX0_core_2 22 rfl rfl)
theorem dX0_core_70 : decode cX0_core 70 = .ok (.iconst (-1), 1) := dk_2 (dk_at dksX0_core_2 23 rfl rfl)
theorem dX0_core_71 : decode cX0_core 71 = .ok (.ixor, 1) := dk_130 (dk_at dksX0_core_3 0 rfl rfl)
theorem dX0_core_72 : decode cX0_core 72 = .ok (.iand, 1) := dk_126 (dk_at dksX0_core_3 1 rfl rfl)
theorem dX0_core_73 : decode cX0_core 73 = .ok (.istore_n 1, 1) := dk_60 (dk_at dksX0_core_3 2 rfl rfl)
theorem dX0_core_74 : decode cX0_core 74 = .ok (.iinc 2 1, 3) := dk_132 2 1 (dk_at dksX0_core_3 3 rfl rfl)
theorem dX0_core_77 : decode cX0_core 77 = .ok (.goto (-48), 3) := dk_167 255 208 (dk_at dksX0_core_3 6 rfl rfl)
theorem dX0_core_80 : decode cX0_core 80 = .ok (.iload_n 1, 1) := dk_27 (dk_at dksX0_core_3 9 rfl rfl)
theorem dX0_core_81 : decode cX0_core 81 = .ok (.ireturn, 1) := dk_172 (dk_at dksX0_core_3 10 rfl rfl)
abbrev cX0_fitsWith : ByteArray := prog_1_method_29_code
def yX0_fitsWith : MethodName := ⟨RX0, "fitsWith", "(I)Z"⟩
def dkwX0_fitsWith_0 : List UInt8 := [42, 180, 0, 200, 27, 42, 180, 0, 45, 180, 0, 86, 2, 2, 182, 0, 239, 172]
abbrev dktX0_fitsWith_0 : List UInt8 := dkwX0_fitsWith_0 ++ []
theorem dksX0_fitsWith_0 : cX0_fitsWith.data.toList.drop 0 = dktX0_fitsWith_0 := by decide +kernel
theorem dX0_fitsWith_0 : decode cX0_fitsWith 0 = .ok (.aload_n 0, 1) := dk_42 (dk_at dksX0_fitsWith_0 0 rfl rfl)
theorem dX0_fitsWith_1 : decode cX0_fitsWith 1 = .ok (.getfield 200, 3) := dk_180 0 200 (dk_at dksX0_fitsWith_0 1 rfl rfl)
theorem dX0_fitsWith_4 : decode cX0_fitsWith 4 = .ok (.iload_n 1, 1) := dk_27 (dk_at dksX0_fitsWith_0 4 rfl rfl)
theorem dX0_fitsWith_5 : decode cX0_fitsWith 5 = .ok (.aload_n 0, 1) := dk_42 (dk_at dksX0_fitsWith_0 5 rfl rfl)
theorem dX0_fitsWith_6 : decode cX0_fitsWith 6 = .ok (.getfield 45, 3) := dk_180 0 45 (dk_at dksX0_fitsWith_0 6 rfl rfl)
theorem dX0_fitsWith_9 : decode cX0_fitsWith 9 = .ok (.getfield 86, 3) := dk_180 0 86 (dk_at dksX0_fitsWith_0 9 rfl rfl)
theorem dX0_fitsWith_12 : decode cX0_fitsWith 12 = .ok (.iconst (-1), 1) := dk_2 (dk_at dksX0_fitsWith_0 12 rfl rfl)
theorem dX0_fitsWith_13 : decode cX0_fitsWith 13 = .ok (.iconst (-1), 1) := dk_2 (dk_at dksX0_fitsWith_0 13 rfl rfl)
theorem dX0_fitsWith_14 : decode cX0_fitsWith 14 = .ok (.invokevirtual 239, 3) := dk_182 0 239 (dk_at dksX0_fitsWith_0 14 rfl rfl)
theorem dX0_fitsWith_17 : decode cX0_fitsWith 17 = .ok (.ireturn, 1) := dk_172 (dk_at dksX0_fitsWith_0 17 rfl rfl)
abbrev cX0_wrong : ByteArray := prog_1_method_61_code
def yX0_wrong : MethodName := ⟨RX0, "wrong", "(I)I"⟩
def dkwX0_wrong_2 : List UInt8 := [167, 0, 7, 42, 180, 1, 115, 172]
abbrev dktX0_wrong_2 : List UInt8 := dkwX0_wrong_2 ++ []
def dkwX0_wrong_1 : List UInt8 := [167, 0, 30, 27, 154, 0, 10, 42, 180, 1, 109, 167, 0, 19, 27, 4, 160, 0, 10, 42, 180, 1, 112]
abbrev dktX0_wrong_1 : List UInt8 := dkwX0_wrong_1 ++ dktX0_wrong_2
def dkwX0_wrong_0 : List UInt8 := [27, 3, 5, 184, 0, 41, 154, 0, 5, 2, 172, 42, 182, 1, 121, 42, 180, 1, 112, 154, 0, 7, 2]
abbrev dktX0_wrong_0 : List UInt8 := dkwX0_wrong_0 ++ dktX0_wrong_1
theorem dksX0_wrong_0 : cX0_wrong.data.toList.drop 0 = dktX0_wrong_0 := by decide +kernel
theorem dksX0_wrong_1 : cX0_wrong.data.toList.drop 23 = dktX0_wrong_1 := dk_seg dksX0_wrong_0 23 rfl rfl
theorem dksX0_wrong_2 : cX0_wrong.data.toList.drop 46 = dktX0_wrong_2 := dk_seg dksX0_wrong_1 23 rfl rfl
theorem dX0_wrong_0 : decode cX0_wrong 0 = .ok (.iload_n 1, 1) := dk_27 (dk_at dksX0_wrong_0 0 rfl rfl)
theorem dX0_wrong_1 : decode cX0_wrong 1 = .ok (.iconst 0, 1) := dk_3 (dk_at dksX0_wrong_0 1 rfl rfl)
theorem dX0_wrong_2 : decode cX0_wrong 2 = .ok (.iconst 2, 1) := dk_5 (dk_at dksX0_wrong_0 2 rfl rfl)
theorem dX0_wrong_3 : decode cX0_wrong 3 = .ok (.invokestatic 41, 3) := dk_184 0 41 (dk_at dksX0_wrong_0 3 rfl rfl)
theorem dX0_wrong_6 : decode cX0_wrong 6 = .ok (.ifCond .ne 5, 3) := dk_154 0 5 (dk_at dksX0_wrong_0 6 rfl rfl)
theorem dX0_wrong_9 : decode cX0_wrong 9 = .ok (.iconst (-1), 1) := dk_2 (dk_at dksX0_wrong_0 9 rfl rfl)
theorem dX0_wrong_10 : decode cX0_wrong 10 = .ok (.ireturn, 1) := dk_172 (dk_at dksX0_wrong_0 10 rfl rfl)
theorem dX0_wrong_11 : decode cX0_wrong 11 = .ok (.aload_n 0, 1) := dk_42 (dk_at dksX0_wrong_0 11 rfl rfl)
theorem dX0_wrong_12 : decode cX0_wrong 12 = .ok (.invokevirtual 377, 3) := dk_182 1 121 (dk_at dksX0_wrong_0 12 rfl rfl)
theorem dX0_wrong_15 : decode cX0_wrong 15 = .ok (.aload_n 0, 1) := dk_42 (dk_at dksX0_wrong_0 15 rfl rfl)
theorem dX0_wrong_16 : decode cX0_wrong 16 = .ok (.getfield 368, 3) := dk_180 1 112 (dk_at dksX0_wrong_0 16 rfl rfl)
theorem dX0_wrong_19 : decode cX0_wrong 19 = .ok (.ifCond .ne 7, 3) := dk_154 0 7 (dk_at dksX0_wrong_0 19 rfl rfl)
theorem dX0_wrong_22 : decode cX0_wrong 22 = .ok (.iconst (-1), 1) := dk_2 (dk_at dksX0_wrong_0 22 rfl rfl)
theorem dX0_wrong_23 : decode cX0_wrong 23 = .ok (.goto 30, 3) := dk_167 0 30 (dk_at dksX0_wrong_1 0 rfl rfl)
theorem dX0_wrong_26 : decode cX0_wrong 26 = .ok (.iload_n 1, 1) := dk_27 (dk_at dksX0_wrong_1 3 rfl rfl)
theorem dX0_wrong_27 : decode cX0_wrong 27 = .ok (.ifCond .ne 10, 3) := dk_154 0 10 (dk_at dksX0_wrong_1 4 rfl rfl)
theorem dX0_wrong_30 : decode cX0_wrong 30 = .ok (.aload_n 0, 1) := dk_42 (dk_at dksX0_wrong_1 7 rfl rfl)
theorem dX0_wrong_31 : decode cX0_wrong 31 = .ok (.getfield 365, 3) := dk_180 1 109 (dk_at dksX0_wrong_1 8 rfl rfl)
theorem dX0_wrong_34 : decode cX0_wrong 34 = .ok (.goto 19, 3) := dk_167 0 19 (dk_at dksX0_wrong_1 11 rfl rfl)
theorem dX0_wrong_37 : decode cX0_wrong 37 = .ok (.iload_n 1, 1) := dk_27 (dk_at dksX0_wrong_1 14 rfl rfl)
theorem dX0_wrong_38 : decode cX0_wrong 38 = .ok (.iconst 1, 1) := dk_4 (dk_at dksX0_wrong_1 15 rfl rfl)
theorem dX0_wrong_39 : decode cX0_wrong 39 = .ok (.if_icmp .ne 10, 3) := dk_160 0 10 (dk_at dksX0_wrong_1 16 rfl rfl)
theorem dX0_wrong_42 : decode cX0_wrong 42 = .ok (.aload_n 0, 1) := dk_42 (dk_at dksX0_wrong_1 19 rfl rfl)
theorem dX0_wrong_43 : decode cX0_wrong 43 = .ok (.getfield 368, 3) := dk_180 1 112 (dk_at dksX0_wrong_1 20 rfl rfl)
theorem dX0_wrong_46 : decode cX0_wrong 46 = .ok (.goto 7, 3) := dk_167 0 7 (dk_at dksX0_wrong_2 0 rfl rfl)
theorem dX0_wrong_49 : decode cX0_wrong 49 = .ok (.aload_n 0, 1) := dk_42 (dk_at dksX0_wrong_2 3 rfl rfl)
theorem dX0_wrong_50 : decode cX0_wrong 50 = .ok (.getfield 371, 3) := dk_180 1 115 (dk_at dksX0_wrong_2 4 rfl rfl)
theorem dX0_wrong_53 : decode cX0_wrong 53 = .ok (.ireturn, 1) := dk_172 (dk_at dksX0_wrong_2 7 rfl rfl)
abbrev cX0_wrongs : ByteArray := prog_1_method_59_code
def yX0_wrongs : MethodName := ⟨RX0, "wrongs", "()V"⟩
def dkwX0_wrongs_7 : List UInt8 := [182, 1, 118, 132, 3, 1, 167, 255, 218, 132, 2, 1, 167, 255, 196, 177]
abbrev dktX0_wrongs_7 : List UInt8 := dkwX0_wrongs_7 ++ []
def dkwX0_wrongs_6 : List UInt8 := [4, 126, 4, 160, 0, 24, 27, 29, 122, 4, 126, 4, 160, 0, 15, 42, 27, 4, 28, 120, 4, 29, 120, 128]
abbrev dktX0_wrongs_6 : List UInt8 := dkwX0_wrongs_6 ++ dktX0_wrongs_7
def dkwX0_wrongs_5 : List UInt8 := [28, 42, 180, 0, 45, 180, 0, 49, 182, 0, 55, 162, 0, 52, 3, 62, 29, 28, 162, 0, 39, 27, 28, 122]
abbrev dktX0_wrongs_5 : List UInt8 := dkwX0_wrongs_5 ++ dktX0_wrongs_6
def dkwX0_wrongs_4 : List UInt8 := [182, 1, 118, 132, 2, 1, 167, 255, 222, 42, 180, 1, 112, 158, 0, 4, 177, 42, 5, 181, 1, 109, 3, 61]
abbrev dktX0_wrongs_4 : List UInt8 := dkwX0_wrongs_4 ++ dktX0_wrongs_5
def dkwX0_wrongs_3 : List UInt8 := [180, 0, 49, 182, 0, 55, 162, 0, 26, 27, 28, 122, 4, 126, 4, 160, 0, 11, 42, 27, 4, 28, 120]
abbrev dktX0_wrongs_3 : List UInt8 := dkwX0_wrongs_3 ++ dktX0_wrongs_4
def dkwX0_wrongs_2 : List UInt8 := [42, 4, 181, 1, 109, 42, 3, 181, 1, 112, 42, 182, 1, 106, 60, 3, 61, 28, 42, 180, 0, 45]
abbrev dktX0_wrongs_2 : List UInt8 := dkwX0_wrongs_2 ++ dktX0_wrongs_3
def dkwX0_wrongs_1 : List UInt8 := [181, 1, 109, 42, 4, 181, 1, 112, 42, 3, 181, 1, 115, 42, 180, 0, 196, 182, 0, 243, 153, 0, 4, 177]
abbrev dktX0_wrongs_1 : List UInt8 := dkwX0_wrongs_1 ++ dktX0_wrongs_2
def dkwX0_wrongs_0 : List UInt8 := [42, 180, 0, 222, 42, 180, 0, 34, 160, 0, 4, 177, 42, 42, 180, 0, 34, 181, 0, 222, 42, 3]
abbrev dktX0_wrongs_0 : List UInt8 := dkwX0_wrongs_0 ++ dktX0_wrongs_1
theorem dksX0_wrongs_0 : cX0_wrongs.data.toList.drop 0 = dktX0_wrongs_0 := by decide +kernel
theorem dksX0_wrongs_1 : cX0_wrongs.data.toList.drop 22 = dktX0_wrongs_1 := dk_seg dksX0_wrongs_0 22 rfl rfl
theorem dksX0_wrongs_2 : cX0_wrongs.data.toList.drop 46 = dktX0_wrongs_2 := dk_seg dksX0_wrongs_1 24 rfl rfl
theorem dksX0_wrongs_3 : cX0_wrongs.data.toList.drop 68 = dktX0_wrongs_3 := dk_seg dksX0_wrongs_2 22 rfl rfl
theorem dksX0_wrongs_4 : cX0_wrongs.data.toList.drop 91 = dktX0_wrongs_4 := dk_seg dksX0_wrongs_3 23 rfl rfl
theorem dksX0_wrongs_5 : cX0_wrongs.data.toList.drop 115 = dktX0_wrongs_5 := dk_seg dksX0_wrongs_4 24 rfl rfl
theorem dksX0_wrongs_6 : cX0_wrongs.data.toList.drop 139 = dktX0_wrongs_6 := dk_seg dksX0_wrongs_5 24 rfl rfl
theorem dksX0_wrongs_7 : cX0_wrongs.data.toList.drop 163 = dktX0_wrongs_7 := dk_seg dksX0_wrongs_6 24 rfl rfl
theorem dX0_wrongs_0 : decode cX0_wrongs 0 = .ok (.aload_n 0, 1) := dk_42 (dk_at dksX0_wrongs_0 0 rfl rfl)
theorem dX0_wrongs_1 : decode cX0_wrongs 1 = .ok (.getfield 222, 3) := dk_180 0 222 (dk_at dksX0_wrongs_0 1 rfl rfl)
theorem dX0_wrongs_4 : decode cX0_wrongs 4 = .ok (.aload_n 0, 1) := dk_42 (dk_at dksX0_wrongs_0 4 rfl rfl)
theorem dX0_wrongs_5 : decode cX0_wrongs 5 = .ok (.getfield 34, 3) := dk_180 0 34 (dk_at dksX0_wrongs_0 5 rfl rfl)
theorem dX0_wrongs_8 : decode cX0_wrongs 8 = .ok (.if_icmp .ne 4, 3) := dk_160 0 4 (dk_at dksX0_wrongs_0 8 rfl rfl)
theorem dX0_wrongs_11 : decode cX0_wrongs 11 = .ok (.return_, 1) := dk_177 (dk_at dksX0_wrongs_0 11 rfl rfl)
theorem dX0_wrongs_12 : decode cX0_wrongs 12 = .ok (.aload_n 0, 1) := dk_42 (dk_at dksX0_wrongs_0 12 rfl rfl)
theorem dX0_wrongs_13 : decode cX0_wrongs 13 = .ok (.aload_n 0, 1) := dk_42 (dk_at dksX0_wrongs_0 13 rfl rfl)
theorem dX0_wrongs_14 : decode cX0_wrongs 14 = .ok (.getfield 34, 3) := dk_180 0 34 (dk_at dksX0_wrongs_0 14 rfl rfl)
theorem dX0_wrongs_17 : decode cX0_wrongs 17 = .ok (.putfield 222, 3) := dk_181 0 222 (dk_at dksX0_wrongs_0 17 rfl rfl)
theorem dX0_wrongs_20 : decode cX0_wrongs 20 = .ok (.aload_n 0, 1) := dk_42 (dk_at dksX0_wrongs_0 20 rfl rfl)
theorem dX0_wrongs_21 : decode cX0_wrongs 21 = .ok (.iconst 0, 1) := dk_3 (dk_at dksX0_wrongs_0 21 rfl rfl)
theorem dX0_wrongs_22 : decode cX0_wrongs 22 = .ok (.putfield 365, 3) := dk_181 1 109 (dk_at dksX0_wrongs_1 0 rfl rfl)
theorem dX0_wrongs_25 : decode cX0_wrongs 25 = .ok (.aload_n 0, 1) := dk_42 (dk_at dksX0_wrongs_1 3 rfl rfl)
theorem dX0_wrongs_26 : decode cX0_wrongs 26 = .ok (.iconst 1, 1) := dk_4 (dk_at dksX0_wrongs_1 4 rfl rfl)
theorem dX0_wrongs_27 : decode cX0_wrongs 27 = .ok (.putfield 368, 3) := dk_181 1 112 (dk_at dksX0_wrongs_1 5 rfl rfl)
theorem dX0_wrongs_30 : decode cX0_wrongs 30 = .ok (.aload_n 0, 1) := dk_42 (dk_at dksX0_wrongs_1 8 rfl rfl)
theorem dX0_wrongs_31 : decode cX0_wrongs 31 = .ok (.iconst 0, 1) := dk_3 (dk_at dksX0_wrongs_1 9 rfl rfl)
theorem dX0_wrongs_32 : decode cX0_wrongs 32 = .ok (.putfield 371, 3) := dk_181 1 115 (dk_at dksX0_wrongs_1 10 rfl rfl)
theorem dX0_wrongs_35 : decode cX0_wrongs 35 = .ok (.aload_n 0, 1) := dk_42 (dk_at dksX0_wrongs_1 13 rfl rfl)
theorem dX0_wrongs_36 : decode cX0_wrongs 36 = .ok (.getfield 196, 3) := dk_180 0 196 (dk_at dksX0_wrongs_1 14 rfl rfl)
theorem dX0_wrongs_39 : decode cX0_wrongs 39 = .ok (.invokevirtual 243, 3) := dk_182 0 243 (dk_at dksX0_wrongs_1 17 rfl rfl)
theorem dX0_wrongs_42 : decode cX0_wrongs 42 = .ok (.ifCond .eq 4, 3) := dk_153 0 4 (dk_at dksX0_wrongs_1 20 rfl rfl)
theorem dX0_wrongs_45 : decode cX0_wrongs 45 = .ok (.return_, 1) := dk_177 (dk_at dksX0_wrongs_1 23 rfl rfl)
theorem dX0_wrongs_46 : decode cX0_wrongs 46 = .ok (.aload_n 0, 1) := dk_42 (dk_at dksX0_wrongs_2 0 rfl rfl)
theorem dX0_wrongs_47 : decode cX0_wrongs 47 = .ok (.iconst 1, 1) := dk_4 (dk_at dksX0_wrongs_2 1 rfl rfl)
theorem dX0_wrongs_48 : decode cX0_wrongs 48 = .ok (.putfield 365, 3) := dk_181 1 109 (dk_at dksX0_wrongs_2 2 rfl rfl)
theorem dX0_wrongs_51 : decode cX0_wrongs 51 = .ok (.aload_n 0, 1) := dk_42 (dk_at dksX0_wrongs_2 5 rfl rfl)
theorem dX0_wrongs_52 : decode cX0_wrongs 52 = .ok (.iconst 0, 1) := dk_3 (dk_at dksX0_wrongs_2 6 rfl rfl)
theorem dX0_wrongs_53 : decode cX0_wrongs 53 = .ok (.putfield 368, 3) := dk_181 1 112 (dk_at dksX0_wrongs_2 7 rfl rfl)
theorem dX0_wrongs_56 : decode cX0_wrongs 56 = .ok (.aload_n 0, 1) := dk_42 (dk_at dksX0_wrongs_2 10 rfl rfl)
theorem dX0_wrongs_57 : decode cX0_wrongs 57 = .ok (.invokevirtual 362, 3) := dk_182 1 106 (dk_at dksX0_wrongs_2 11 rfl rfl)
theorem dX0_wrongs_60 : decode cX0_wrongs 60 = .ok (.istore_n 1, 1) := dk_60 (dk_at dksX0_wrongs_2 14 rfl rfl)
theorem dX0_wrongs_61 : decode cX0_wrongs 61 = .ok (.iconst 0, 1) := dk_3 (dk_at dksX0_wrongs_2 15 rfl rfl)
theorem dX0_wrongs_62 : decode cX0_wrongs 62 = .ok (.istore_n 2, 1) := dk_61 (dk_at dksX0_wrongs_2 16 rfl rfl)
theorem dX0_wrongs_63 : decode cX0_wrongs 63 = .ok (.iload_n 2, 1) := dk_28 (dk_at dksX0_wrongs_2 17 rfl rfl)
theorem dX0_wrongs_64 : decode cX0_wrongs 64 = .ok (.aload_n 0, 1) := dk_42 (dk_at dksX0_wrongs_2 18 rfl rfl)
theorem dX0_wrongs_65 : decode cX0_wrongs 65 = .ok (.getfield 45, 3) := dk_180 0 45 (dk_at dksX0_wrongs_2 19 rfl rfl)
theorem dX0_wrongs_68 : decode cX0_wrongs 68 = .ok (.getfield 49, 3) := dk_180 0 49 (dk_at dksX0_wrongs_3 0 rfl rfl)
theorem dX0_wrongs_71 : decode cX0_wrongs 71 = .ok (.invokevirtual 55, 3) := dk_182 0 55 (dk_at dksX0_wrongs_3 3 rfl rfl)
theorem dX0_wrongs_74 : decode cX0_wrongs 74 = .ok (.if_icmp .ge 26, 3) := dk_162 0 26 (dk_at dksX0_wrongs_3 6 rfl rfl)
theorem dX0_wrongs_77 : decode cX0_wrongs 77 = .ok (.iload_n 1, 1) := dk_27 (dk_at dksX0_wrongs_3 9 rfl rfl)
theorem dX0_wrongs_78 : decode cX0_wrongs 78 = .ok (.iload_n 2, 1) := dk_28 (dk_at dksX0_wrongs_3 10 rfl rfl)
theorem dX0_wrongs_79 : decode cX0_wrongs 79 = .ok (.ishr, 1) := dk_122 (dk_at dksX0_wrongs_3 11 rfl rfl)
theorem dX0_wrongs_80 : decode cX0_wrongs 80 = .ok (.iconst 1, 1) := dk_4 (dk_at dksX0_wrongs_3 12 rfl rfl)
theorem dX0_wrongs_81 : decode cX0_wrongs 81 = .ok (.iand, 1) := dk_126 (dk_at dksX0_wrongs_3 13 rfl rfl)
theorem dX0_wrongs_82 : decode cX0_wrongs 82 = .ok (.iconst 1, 1) := dk_4 (dk_at dksX0_wrongs_3 14 rfl rfl)
theorem dX0_wrongs_83 : decode cX0_wrongs 83 = .ok (.if_icmp .ne 11, 3) := dk_160 0 11 (dk_at dksX0_wrongs_3 15 rfl rfl)
theorem dX0_wrongs_86 : decode cX0_wrongs 86 = .ok (.aload_n 0, 1) := dk_42 (dk_at dksX0_wrongs_3 18 rfl rfl)
theorem dX0_wrongs_87 : decode cX0_wrongs 87 = .ok (.iload_n 1, 1) := dk_27 (dk_at dksX0_wrongs_3 19 rfl rfl)
theorem dX0_wrongs_88 : decode cX0_wrongs 88 = .ok (.iconst 1, 1) := dk_4 (dk_at dksX0_wrongs_3 20 rfl rfl)
theorem dX0_wrongs_89 : decode cX0_wrongs 89 = .ok (.iload_n 2, 1) := dk_28 (dk_at dksX0_wrongs_3 21 rfl rfl)
theorem dX0_wrongs_90 : decode cX0_wrongs 90 = .ok (.ishl, 1) := dk_120 (dk_at dksX0_wrongs_3 22 rfl rfl)
theorem dX0_wrongs_91 : decode cX0_wrongs 91 = .ok (.invokevirtual 374, 3) := dk_182 1 118 (dk_at dksX0_wrongs_4 0 rfl rfl)
theorem dX0_wrongs_94 : decode cX0_wrongs 94 = .ok (.iinc 2 1, 3) := dk_132 2 1 (dk_at dksX0_wrongs_4 3 rfl rfl)
theorem dX0_wrongs_97 : decode cX0_wrongs 97 = .ok (.goto (-34), 3) := dk_167 255 222 (dk_at dksX0_wrongs_4 6 rfl rfl)
theorem dX0_wrongs_100 : decode cX0_wrongs 100 = .ok (.aload_n 0, 1) := dk_42 (dk_at dksX0_wrongs_4 9 rfl rfl)
theorem dX0_wrongs_101 : decode cX0_wrongs 101 = .ok (.getfield 368, 3) := dk_180 1 112 (dk_at dksX0_wrongs_4 10 rfl rfl)
theorem dX0_wrongs_104 : decode cX0_wrongs 104 = .ok (.ifCond .le 4, 3) := dk_158 0 4 (dk_at dksX0_wrongs_4 13 rfl rfl)
theorem dX0_wrongs_107 : decode cX0_wrongs 107 = .ok (.return_, 1) := dk_177 (dk_at dksX0_wrongs_4 16 rfl rfl)
theorem dX0_wrongs_108 : decode cX0_wrongs 108 = .ok (.aload_n 0, 1) := dk_42 (dk_at dksX0_wrongs_4 17 rfl rfl)
theorem dX0_wrongs_109 : decode cX0_wrongs 109 = .ok (.iconst 2, 1) := dk_5 (dk_at dksX0_wrongs_4 18 rfl rfl)
theorem dX0_wrongs_110 : decode cX0_wrongs 110 = .ok (.putfield 365, 3) := dk_181 1 109 (dk_at dksX0_wrongs_4 19 rfl rfl)
theorem dX0_wrongs_113 : decode cX0_wrongs 113 = .ok (.iconst 0, 1) := dk_3 (dk_at dksX0_wrongs_4 22 rfl rfl)
theorem dX0_wrongs_114 : decode cX0_wrongs 114 = .ok (.istore_n 2, 1) := dk_61 (dk_at dksX0_wrongs_4 23 rfl rfl)
theorem dX0_wrongs_115 : decode cX0_wrongs 115 = .ok (.iload_n 2, 1) := dk_28 (dk_at dksX0_wrongs_5 0 rfl rfl)
theorem dX0_wrongs_116 : decode cX0_wrongs 116 = .ok (.aload_n 0, 1) := dk_42 (dk_at dksX0_wrongs_5 1 rfl rfl)
theorem dX0_wrongs_117 : decode cX0_wrongs 117 = .ok (.getfield 45, 3) := dk_180 0 45 (dk_at dksX0_wrongs_5 2 rfl rfl)
theorem dX0_wrongs_120 : decode cX0_wrongs 120 = .ok (.getfield 49, 3) := dk_180 0 49 (dk_at dksX0_wrongs_5 5 rfl rfl)
theorem dX0_wrongs_123 : decode cX0_wrongs 123 = .ok (.invokevirtual 55, 3) := dk_182 0 55 (dk_at dksX0_wrongs_5 8 rfl rfl)
theorem dX0_wrongs_126 : decode cX0_wrongs 126 = .ok (.if_icmp .ge 52, 3) := dk_162 0 52 (dk_at dksX0_wrongs_5 11 rfl rfl)
theorem dX0_wrongs_129 : decode cX0_wrongs 129 = .ok (.iconst 0, 1) := dk_3 (dk_at dksX0_wrongs_5 14 rfl rfl)
theorem dX0_wrongs_130 : decode cX0_wrongs 130 = .ok (.istore_n 3, 1) := dk_62 (dk_at dksX0_wrongs_5 15 rfl rfl)
theorem dX0_wrongs_131 : decode cX0_wrongs 131 = .ok (.iload_n 3, 1) := dk_29 (dk_at dksX0_wrongs_5 16 rfl rfl)
theorem dX0_wrongs_132 : decode cX0_wrongs 132 = .ok (.iload_n 2, 1) := dk_28 (dk_at dksX0_wrongs_5 17 rfl rfl)
theorem dX0_wrongs_133 : decode cX0_wrongs 133 = .ok (.if_icmp .ge 39, 3) := dk_162 0 39 (dk_at dksX0_wrongs_5 18 rfl rfl)
theorem dX0_wrongs_136 : decode cX0_wrongs 136 = .ok (.iload_n 1, 1) := dk_27 (dk_at dksX0_wrongs_5 21 rfl rfl)
theorem dX0_wrongs_137 : decode cX0_wrongs 137 = .ok (.iload_n 2, 1) := dk_28 (dk_at dksX0_wrongs_5 22 rfl rfl)
theorem dX0_wrongs_138 : decode cX0_wrongs 138 = .ok (.ishr, 1) := dk_122 (dk_at dksX0_wrongs_5 23 rfl rfl)
theorem dX0_wrongs_139 : decode cX0_wrongs 139 = .ok (.iconst 1, 1) := dk_4 (dk_at dksX0_wrongs_6 0 rfl rfl)
theorem dX0_wrongs_140 : decode cX0_wrongs 140 = .ok (.iand, 1) := dk_126 (dk_at dksX0_wrongs_6 1 rfl rfl)
theorem dX0_wrongs_141 : decode cX0_wrongs 141 = .ok (.iconst 1, 1) := dk_4 (dk_at dksX0_wrongs_6 2 rfl rfl)
theorem dX0_wrongs_142 : decode cX0_wrongs 142 = .ok (.if_icmp .ne 24, 3) := dk_160 0 24 (dk_at dksX0_wrongs_6 3 rfl rfl)
theorem dX0_wrongs_145 : decode cX0_wrongs 145 = .ok (.iload_n 1, 1) := dk_27 (dk_at dksX0_wrongs_6 6 rfl rfl)
theorem dX0_wrongs_146 : decode cX0_wrongs 146 = .ok (.iload_n 3, 1) := dk_29 (dk_at dksX0_wrongs_6 7 rfl rfl)
theorem dX0_wrongs_147 : decode cX0_wrongs 147 = .ok (.ishr, 1) := dk_122 (dk_at dksX0_wrongs_6 8 rfl rfl)
theorem dX0_wrongs_148 : decode cX0_wrongs 148 = .ok (.iconst 1, 1) := dk_4 (dk_at dksX0_wrongs_6 9 rfl rfl)
theorem dX0_wrongs_149 : decode cX0_wrongs 149 = .ok (.iand, 1) := dk_126 (dk_at dksX0_wrongs_6 10 rfl rfl)
theorem dX0_wrongs_150 : decode cX0_wrongs 150 = .ok (.iconst 1, 1) := dk_4 (dk_at dksX0_wrongs_6 11 rfl rfl)
theorem dX0_wrongs_151 : decode cX0_wrongs 151 = .ok (.if_icmp .ne 15, 3) := dk_160 0 15 (dk_at dksX0_wrongs_6 12 rfl rfl)
theorem dX0_wrongs_154 : decode cX0_wrongs 154 = .ok (.aload_n 0, 1) := dk_42 (dk_at dksX0_wrongs_6 15 rfl rfl)
theorem dX0_wrongs_155 : decode cX0_wrongs 155 = .ok (.iload_n 1, 1) := dk_27 (dk_at dksX0_wrongs_6 16 rfl rfl)
theorem dX0_wrongs_156 : decode cX0_wrongs 156 = .ok (.iconst 1, 1) := dk_4 (dk_at dksX0_wrongs_6 17 rfl rfl)
theorem dX0_wrongs_157 : decode cX0_wrongs 157 = .ok (.iload_n 2, 1) := dk_28 (dk_at dksX0_wrongs_6 18 rfl rfl)
theorem dX0_wrongs_158 : decode cX0_wrongs 158 = .ok (.ishl, 1) := dk_120 (dk_at dksX0_wrongs_6 19 rfl rfl)
theorem dX0_wrongs_159 : decode cX0_wrongs 159 = .ok (.iconst 1, 1) := dk_4 (dk_at dksX0_wrongs_6 20 rfl rfl)
theorem dX0_wrongs_160 : decode cX0_wrongs 160 = .ok (.iload_n 3, 1) := dk_29 (dk_at dksX0_wrongs_6 21 rfl rfl)
theorem dX0_wrongs_161 : decode cX0_wrongs 161 = .ok (.ishl, 1) := dk_120 (dk_at dksX0_wrongs_6 22 rfl rfl)
theorem dX0_wrongs_162 : decode cX0_wrongs 162 = .ok (.ior, 1) := dk_128 (dk_at dksX0_wrongs_6 23 rfl rfl)
theorem dX0_wrongs_163 : decode cX0_wrongs 163 = .ok (.invokevirtual 374, 3) := dk_182 1 118 (dk_at dksX0_wrongs_7 0 rfl rfl)
theorem dX0_wrongs_166 : decode cX0_wrongs 166 = .ok (.iinc 3 1, 3) := dk_132 3 1 (dk_at dksX0_wrongs_7 3 rfl rfl)
theorem dX0_wrongs_169 : decode cX0_wrongs 169 = .ok (.goto (-38), 3) := dk_167 255 218 (dk_at dksX0_wrongs_7 6 rfl rfl)
theorem dX0_wrongs_172 : decode cX0_wrongs 172 = .ok (.iinc 2 1, 3) := dk_132 2 1 (dk_at dksX0_wrongs_7 9 rfl rfl)
theorem dX0_wrongs_175 : decode cX0_wrongs 175 = .ok (.goto (-60), 3) := dk_167 255 196 (dk_at dksX0_wrongs_7 12 rfl rfl)
theorem dX0_wrongs_178 : decode cX0_wrongs 178 = .ok (.return_, 1) := dk_177 (dk_at dksX0_wrongs_7 15 rfl rfl)
abbrev cX0_tries : ByteArray := prog_1_method_60_code
def yX0_tries : MethodName := ⟨RX0, "tries", "(II)V"⟩
def dkwX0_tries_1 : List UInt8 := [180, 1, 115, 162, 0, 8, 42, 28, 181, 1, 115, 42, 89, 180, 1, 112, 4, 96, 181, 1, 112, 177]
abbrev dktX0_tries_1 : List UInt8 := dkwX0_tries_1 ++ []
def dkwX0_tries_0 : List UInt8 := [42, 27, 28, 2, 130, 126, 182, 1, 103, 154, 0, 4, 177, 42, 180, 1, 112, 153, 0, 11, 28, 42]
abbrev dktX0_tries_0 : List UInt8 := dkwX0_tries_0 ++ dktX0_tries_1
theorem dksX0_tries_0 : cX0_tries.data.toList.drop 0 = dktX0_tries_0 := by decide +kernel
theorem dksX0_tries_1 : cX0_tries.data.toList.drop 22 = dktX0_tries_1 := dk_seg dksX0_tries_0 22 rfl rfl
theorem dX0_tries_0 : decode cX0_tries 0 = .ok (.aload_n 0, 1) := dk_42 (dk_at dksX0_tries_0 0 rfl rfl)
theorem dX0_tries_1 : decode cX0_tries 1 = .ok (.iload_n 1, 1) := dk_27 (dk_at dksX0_tries_0 1 rfl rfl)
theorem dX0_tries_2 : decode cX0_tries 2 = .ok (.iload_n 2, 1) := dk_28 (dk_at dksX0_tries_0 2 rfl rfl)
theorem dX0_tries_3 : decode cX0_tries 3 = .ok (.iconst (-1), 1) := dk_2 (dk_at dksX0_tries_0 3 rfl rfl)
theorem dX0_tries_4 : decode cX0_tries 4 = .ok (.ixor, 1) := dk_130 (dk_at dksX0_tries_0 4 rfl rfl)
theorem dX0_tries_5 : decode cX0_tries 5 = .ok (.iand, 1) := dk_126 (dk_at dksX0_tries_0 5 rfl rfl)
theorem dX0_tries_6 : decode cX0_tries 6 = .ok (.invokevirtual 359, 3) := dk_182 1 103 (dk_at dksX0_tries_0 6 rfl rfl)
theorem dX0_tries_9 : decode cX0_tries 9 = .ok (.ifCond .ne 4, 3) := dk_154 0 4 (dk_at dksX0_tries_0 9 rfl rfl)
theorem dX0_tries_12 : decode cX0_tries 12 = .ok (.return_, 1) := dk_177 (dk_at dksX0_tries_0 12 rfl rfl)
theorem dX0_tries_13 : decode cX0_tries 13 = .ok (.aload_n 0, 1) := dk_42 (dk_at dksX0_tries_0 13 rfl rfl)
theorem dX0_tries_14 : decode cX0_tries 14 = .ok (.getfield 368, 3) := dk_180 1 112 (dk_at dksX0_tries_0 14 rfl rfl)
theorem dX0_tries_17 : decode cX0_tries 17 = .ok (.ifCond .eq 11, 3) := dk_153 0 11 (dk_at dksX0_tries_0 17 rfl rfl)
theorem dX0_tries_20 : decode cX0_tries 20 = .ok (.iload_n 2, 1) := dk_28 (dk_at dksX0_tries_0 20 rfl rfl)
theorem dX0_tries_21 : decode cX0_tries 21 = .ok (.aload_n 0, 1) := dk_42 (dk_at dksX0_tries_0 21 rfl rfl)
theorem dX0_tries_22 : decode cX0_tries 22 = .ok (.getfield 371, 3) := dk_180 1 115 (dk_at dksX0_tries_1 0 rfl rfl)
theorem dX0_tries_25 : decode cX0_tries 25 = .ok (.if_icmp .ge 8, 3) := dk_162 0 8 (dk_at dksX0_tries_1 3 rfl rfl)
theorem dX0_tries_28 : decode cX0_tries 28 = .ok (.aload_n 0, 1) := dk_42 (dk_at dksX0_tries_1 6 rfl rfl)
theorem dX0_tries_29 : decode cX0_tries 29 = .ok (.iload_n 2, 1) := dk_28 (dk_at dksX0_tries_1 7 rfl rfl)
theorem dX0_tries_30 : decode cX0_tries 30 = .ok (.putfield 371, 3) := dk_181 1 115 (dk_at dksX0_tries_1 8 rfl rfl)
theorem dX0_tries_33 : decode cX0_tries 33 = .ok (.aload_n 0, 1) := dk_42 (dk_at dksX0_tries_1 11 rfl rfl)
theorem dX0_tries_34 : decode cX0_tries 34 = .ok (.dup, 1) := dk_89 (dk_at dksX0_tries_1 12 rfl rfl)
theorem dX0_tries_35 : decode cX0_tries 35 = .ok (.getfield 368, 3) := dk_180 1 112 (dk_at dksX0_tries_1 13 rfl rfl)
theorem dX0_tries_38 : decode cX0_tries 38 = .ok (.iconst 1, 1) := dk_4 (dk_at dksX0_tries_1 16 rfl rfl)
theorem dX0_tries_39 : decode cX0_tries 39 = .ok (.iadd, 1) := dk_96 (dk_at dksX0_tries_1 17 rfl rfl)
theorem dX0_tries_40 : decode cX0_tries 40 = .ok (.putfield 368, 3) := dk_181 1 112 (dk_at dksX0_tries_1 18 rfl rfl)
theorem dX0_tries_43 : decode cX0_tries 43 = .ok (.return_, 1) := dk_177 (dk_at dksX0_tries_1 21 rfl rfl)
abbrev cX0_whose : ByteArray := prog_1_method_62_code
def yX0_whose : MethodName := ⟨RX0, "whose", "(I)I"⟩
def dkwX0_whose_4 : List UInt8 := [132, 3, 1, 167, 255, 223, 8, 172]
abbrev dktX0_whose_4 : List UInt8 := dkwX0_whose_4 ++ []
def dkwX0_whose_3 : List UInt8 := [180, 0, 228, 180, 1, 135, 7, 28, 104, 29, 96, 46, 42, 180, 0, 228, 180, 1, 129, 160, 0, 5, 29, 172]
abbrev dktX0_whose_3 : List UInt8 := dkwX0_whose_3 ++ dktX0_whose_4
def dkwX0_whose_2 : List UInt8 := [159, 0, 13, 42, 180, 0, 228, 180, 1, 129, 154, 0, 5, 2, 172, 3, 62, 29, 7, 162, 0, 34, 42]
abbrev dktX0_whose_2 : List UInt8 := dkwX0_whose_2 ++ dktX0_whose_3
def dkwX0_whose_1 : List UInt8 := [160, 0, 11, 42, 180, 0, 228, 180, 1, 129, 172, 42, 180, 0, 228, 27, 182, 1, 132, 61, 28, 2]
abbrev dktX0_whose_1 : List UInt8 := dkwX0_whose_1 ++ dktX0_whose_2
def dkwX0_whose_0 : List UInt8 := [42, 180, 0, 228, 182, 1, 124, 42, 180, 0, 228, 180, 1, 126, 6, 164, 0, 5, 2, 172, 27, 2]
abbrev dktX0_whose_0 : List UInt8 := dkwX0_whose_0 ++ dktX0_whose_1
theorem dksX0_whose_0 : cX0_whose.data.toList.drop 0 = dktX0_whose_0 := by decide +kernel
theorem dksX0_whose_1 : cX0_whose.data.toList.drop 22 = dktX0_whose_1 := dk_seg dksX0_whose_0 22 rfl rfl
theorem dksX0_whose_2 : cX0_whose.data.toList.drop 44 = dktX0_whose_2 := dk_seg dksX0_whose_1 22 rfl rfl
theorem dksX0_whose_3 : cX0_whose.data.toList.drop 67 = dktX0_whose_3 := dk_seg dksX0_whose_2 23 rfl rfl
theorem dksX0_whose_4 : cX0_whose.data.toList.drop 91 = dktX0_whose_4 := dk_seg dksX0_whose_3 24 rfl rfl
theorem dX0_whose_0 : decode cX0_whose 0 = .ok (.aload_n 0, 1) := dk_42 (dk_at dksX0_whose_0 0 rfl rfl)
theorem dX0_whose_1 : decode cX0_whose 1 = .ok (.getfield 228, 3) := dk_180 0 228 (dk_at dksX0_whose_0 1 rfl rfl)
theorem dX0_whose_4 : decode cX0_whose 4 = .ok (.invokevirtual 380, 3) := dk_182 1 124 (dk_at dksX0_whose_0 4 rfl rfl)
theorem dX0_whose_7 : decode cX0_whose 7 = .ok (.aload_n 0, 1) := dk_42 (dk_at dksX0_whose_0 7 rfl rfl)
theorem dX0_whose_8 : decode cX0_whose 8 = .ok (.getfield 228, 3) := dk_180 0 228 (dk_at dksX0_whose_0 8 rfl rfl)
theorem dX0_whose_11 : decode cX0_whose 11 = .ok (.getfield 382, 3) := dk_180 1 126 (dk_at dksX0_whose_0 11 rfl rfl)
theorem dX0_whose_14 : decode cX0_whose 14 = .ok (.iconst 3, 1) := dk_6 (dk_at dksX0_whose_0 14 rfl rfl)
theorem dX0_whose_15 : decode cX0_whose 15 = .ok (.if_icmp .le 5, 3) := dk_164 0 5 (dk_at dksX0_whose_0 15 rfl rfl)
theorem dX0_whose_18 : decode cX0_whose 18 = .ok (.iconst (-1), 1) := dk_2 (dk_at dksX0_whose_0 18 rfl rfl)
theorem dX0_whose_19 : decode cX0_whose 19 = .ok (.ireturn, 1) := dk_172 (dk_at dksX0_whose_0 19 rfl rfl)
theorem dX0_whose_20 : decode cX0_whose 20 = .ok (.iload_n 1, 1) := dk_27 (dk_at dksX0_whose_0 20 rfl rfl)
theorem dX0_whose_21 : decode cX0_whose 21 = .ok (.iconst (-1), 1) := dk_2 (dk_at dksX0_whose_0 21 rfl rfl)
theorem dX0_whose_22 : decode cX0_whose 22 = .ok (.if_icmp .ne 11, 3) := dk_160 0 11 (dk_at dksX0_whose_1 0 rfl rfl)
theorem dX0_whose_25 : decode cX0_whose 25 = .ok (.aload_n 0, 1) := dk_42 (dk_at dksX0_whose_1 3 rfl rfl)
theorem dX0_whose_26 : decode cX0_whose 26 = .ok (.getfield 228, 3) := dk_180 0 228 (dk_at dksX0_whose_1 4 rfl rfl)
theorem dX0_whose_29 : decode cX0_whose 29 = .ok (.getfield 385, 3) := dk_180 1 129 (dk_at dksX0_whose_1 7 rfl rfl)
theorem dX0_whose_32 : decode cX0_whose 32 = .ok (.ireturn, 1) := dk_172 (dk_at dksX0_whose_1 10 rfl rfl)
theorem dX0_whose_33 : decode cX0_whose 33 = .ok (.aload_n 0, 1) := dk_42 (dk_at dksX0_whose_1 11 rfl rfl)
theorem dX0_whose_34 : decode cX0_whose 34 = .ok (.getfield 228, 3) := dk_180 0 228 (dk_at dksX0_whose_1 12 rfl rfl)
theorem dX0_whose_37 : decode cX0_whose 37 = .ok (.iload_n 1, 1) := dk_27 (dk_at dksX0_whose_1 15 rfl rfl)
theorem dX0_whose_38 : decode cX0_whose 38 = .ok (.invokevirtual 388, 3) := dk_182 1 132 (dk_at dksX0_whose_1 16 rfl rfl)
theorem dX0_whose_41 : decode cX0_whose 41 = .ok (.istore_n 2, 1) := dk_61 (dk_at dksX0_whose_1 19 rfl rfl)
theorem dX0_whose_42 : decode cX0_whose 42 = .ok (.iload_n 2, 1) := dk_28 (dk_at dksX0_whose_1 20 rfl rfl)
theorem dX0_whose_43 : decode cX0_whose 43 = .ok (.iconst (-1), 1) := dk_2 (dk_at dksX0_whose_1 21 rfl rfl)
theorem dX0_whose_44 : decode cX0_whose 44 = .ok (.if_icmp .eq 13, 3) := dk_159 0 13 (dk_at dksX0_whose_2 0 rfl rfl)
theorem dX0_whose_47 : decode cX0_whose 47 = .ok (.aload_n 0, 1) := dk_42 (dk_at dksX0_whose_2 3 rfl rfl)
theorem dX0_whose_48 : decode cX0_whose 48 = .ok (.getfield 228, 3) := dk_180 0 228 (dk_at dksX0_whose_2 4 rfl rfl)
theorem dX0_whose_51 : decode cX0_whose 51 = .ok (.getfield 385, 3) := dk_180 1 129 (dk_at dksX0_whose_2 7 rfl rfl)
theorem dX0_whose_54 : decode cX0_whose 54 = .ok (.ifCond .ne 5, 3) := dk_154 0 5 (dk_at dksX0_whose_2 10 rfl rfl)
theorem dX0_whose_57 : decode cX0_whose 57 = .ok (.iconst (-1), 1) := dk_2 (dk_at dksX0_whose_2 13 rfl rfl)
theorem dX0_whose_58 : decode cX0_whose 58 = .ok (.ireturn, 1) := dk_172 (dk_at dksX0_whose_2 14 rfl rfl)
theorem dX0_whose_59 : decode cX0_whose 59 = .ok (.iconst 0, 1) := dk_3 (dk_at dksX0_whose_2 15 rfl rfl)
theorem dX0_whose_60 : decode cX0_whose 60 = .ok (.istore_n 3, 1) := dk_62 (dk_at dksX0_whose_2 16 rfl rfl)
theorem dX0_whose_61 : decode cX0_whose 61 = .ok (.iload_n 3, 1) := dk_29 (dk_at dksX0_whose_2 17 rfl rfl)
theorem dX0_whose_62 : decode cX0_whose 62 = .ok (.iconst 4, 1) := dk_7 (dk_at dksX0_whose_2 18 rfl rfl)
theorem dX0_whose_63 : decode cX0_whose 63 = .ok (.if_icmp .ge 34, 3) := dk_162 0 34 (dk_at dksX0_whose_2 19 rfl rfl)
theorem dX0_whose_66 : decode cX0_whose 66 = .ok (.aload_n 0, 1) := dk_42 (dk_at dksX0_whose_2 22 rfl rfl)
theorem dX0_whose_67 : decode cX0_whose 67 = .ok (.getfield 228, 3) := dk_180 0 228 (dk_at dksX0_whose_3 0 rfl rfl)
theorem dX0_whose_70 : decode cX0_whose 70 = .ok (.getfield 391, 3) := dk_180 1 135 (dk_at dksX0_whose_3 3 rfl rfl)
theorem dX0_whose_73 : decode cX0_whose 73 = .ok (.iconst 4, 1) := dk_7 (dk_at dksX0_whose_3 6 rfl rfl)
theorem dX0_whose_74 : decode cX0_whose 74 = .ok (.iload_n 2, 1) := dk_28 (dk_at dksX0_whose_3 7 rfl rfl)
theorem dX0_whose_75 : decode cX0_whose 75 = .ok (.imul, 1) := dk_104 (dk_at dksX0_whose_3 8 rfl rfl)
theorem dX0_whose_76 : decode cX0_whose 76 = .ok (.iload_n 3, 1) := dk_29 (dk_at dksX0_whose_3 9 rfl rfl)
theorem dX0_whose_77 : decode cX0_whose 77 = .ok (.iadd, 1) := dk_96 (dk_at dksX0_whose_3 10 rfl rfl)
theorem dX0_whose_78 : decode cX0_whose 78 = .ok (.iaload, 1) := dk_46 (dk_at dksX0_whose_3 11 rfl rfl)
theorem dX0_whose_79 : decode cX0_whose 79 = .ok (.aload_n 0, 1) := dk_42 (dk_at dksX0_whose_3 12 rfl rfl)
theorem dX0_whose_80 : decode cX0_whose 80 = .ok (.getfield 228, 3) := dk_180 0 228 (dk_at dksX0_whose_3 13 rfl rfl)
theorem dX0_whose_83 : decode cX0_whose 83 = .ok (.getfield 385, 3) := dk_180 1 129 (dk_at dksX0_whose_3 16 rfl rfl)
theorem dX0_whose_86 : decode cX0_whose 86 = .ok (.if_icmp .ne 5, 3) := dk_160 0 5 (dk_at dksX0_whose_3 19 rfl rfl)
theorem dX0_whose_89 : decode cX0_whose 89 = .ok (.iload_n 3, 1) := dk_29 (dk_at dksX0_whose_3 22 rfl rfl)
theorem dX0_whose_90 : decode cX0_whose 90 = .ok (.ireturn, 1) := dk_172 (dk_at dksX0_whose_3 23 rfl rfl)
theorem dX0_whose_91 : decode cX0_whose 91 = .ok (.iinc 3 1, 3) := dk_132 3 1 (dk_at dksX0_whose_4 0 rfl rfl)
theorem dX0_whose_94 : decode cX0_whose 94 = .ok (.goto (-33), 3) := dk_167 255 223 (dk_at dksX0_whose_4 3 rfl rfl)
theorem dX0_whose_97 : decode cX0_whose 97 = .ok (.iconst 5, 1) := dk_8 (dk_at dksX0_whose_4 6 rfl rfl)
theorem dX0_whose_98 : decode cX0_whose 98 = .ok (.ireturn, 1) := dk_172 (dk_at dksX0_whose_4 7 rfl rfl)
abbrev cX0_could_2 : ByteArray := prog_1_method_63_code
def yX0_could_2 : MethodName := ⟨RX0, "could", "(II)I"⟩
def dkwX0_could_2_2 : List UInt8 := [42, 180, 0, 228, 180, 1, 135, 7, 29, 104, 28, 96, 46, 172]
abbrev dktX0_could_2_2 : List UInt8 := dkwX0_could_2_2 ++ []
def dkwX0_could_2_1 : List UInt8 := [180, 0, 228, 27, 182, 1, 132, 62, 29, 2, 159, 0, 10, 28, 184, 0, 83, 154, 0, 7, 2, 167, 0, 16]
abbrev dktX0_could_2_1 : List UInt8 := dkwX0_could_2_1 ++ dktX0_could_2_2
def dkwX0_could_2_0 : List UInt8 := [42, 180, 0, 228, 182, 1, 124, 42, 180, 0, 228, 180, 1, 126, 6, 164, 0, 7, 2, 167, 0, 11, 42]
abbrev dktX0_could_2_0 : List UInt8 := dkwX0_could_2_0 ++ dktX0_could_2_1
theorem dksX0_could_2_0 : cX0_could_2.data.toList.drop 0 = dktX0_could_2_0 := by decide +kernel
theorem dksX0_could_2_1 : cX0_could_2.data.toList.drop 23 = dktX0_could_2_1 := dk_seg dksX0_could_2_0 23 rfl rfl
theorem dksX0_could_2_2 : cX0_could_2.data.toList.drop 47 = dktX0_could_2_2 := dk_seg dksX0_could_2_1 24 rfl rfl
theorem dX0_could_2_0 : decode cX0_could_2 0 = .ok (.aload_n 0, 1) := dk_42 (dk_at dksX0_could_2_0 0 rfl rfl)
theorem dX0_could_2_1 : decode cX0_could_2 1 = .ok (.getfield 228, 3) := dk_180 0 228 (dk_at dksX0_could_2_0 1 rfl rfl)
theorem dX0_could_2_4 : decode cX0_could_2 4 = .ok (.invokevirtual 380, 3) := dk_182 1 124 (dk_at dksX0_could_2_0 4 rfl rfl)
theorem dX0_could_2_7 : decode cX0_could_2 7 = .ok (.aload_n 0, 1) := dk_42 (dk_at dksX0_could_2_0 7 rfl rfl)
theorem dX0_could_2_8 : decode cX0_could_2 8 = .ok (.getfield 228, 3) := dk_180 0 228 (dk_at dksX0_could_2_0 8 rfl rfl)
theorem dX0_could_2_11 : decode cX0_could_2 11 = .ok (.getfield 382, 3) := dk_180 1 126 (dk_at dksX0_could_2_0 11 rfl rfl)
theorem dX0_could_2_14 : decode cX0_could_2 14 = .ok (.iconst 3, 1) := dk_6 (dk_at dksX0_could_2_0 14 rfl rfl)
theorem dX0_could_2_15 : decode cX0_could_2 15 = .ok (.if_icmp .le 7, 3) := dk_164 0 7 (dk_at dksX0_could_2_0 15 rfl rfl)
theorem dX0_could_2_18 : decode cX0_could_2 18 = .ok (.iconst (-1), 1) := dk_2 (dk_at dksX0_could_2_0 18 rfl rfl)
theorem dX0_could_2_19 : decode cX0_could_2 19 = .ok (.goto 11, 3) := dk_167 0 11 (dk_at dksX0_could_2_0 19 rfl rfl)
theorem dX0_could_2_22 : decode cX0_could_2 22 = .ok (.aload_n 0, 1) := dk_42 (dk_at dksX0_could_2_0 22 rfl rfl)
theorem dX0_could_2_23 : decode cX0_could_2 23 = .ok (.getfield 228, 3) := dk_180 0 228 (dk_at dksX0_could_2_1 0 rfl rfl)
theorem dX0_could_2_26 : decode cX0_could_2 26 = .ok (.iload_n 1, 1) := dk_27 (dk_at dksX0_could_2_1 3 rfl rfl)
theorem dX0_could_2_27 : decode cX0_could_2 27 = .ok (.invokevirtual 388, 3) := dk_182 1 132 (dk_at dksX0_could_2_1 4 rfl rfl)
theorem dX0_could_2_30 : decode cX0_could_2 30 = .ok (.istore_n 3, 1) := dk_62 (dk_at dksX0_could_2_1 7 rfl rfl)
theorem dX0_could_2_31 : decode cX0_could_2 31 = .ok (.iload_n 3, 1) := dk_29 (dk_at dksX0_could_2_1 8 rfl rfl)
theorem dX0_could_2_32 : decode cX0_could_2 32 = .ok (.iconst (-1), 1) := dk_2 (dk_at dksX0_could_2_1 9 rfl rfl)
theorem dX0_could_2_33 : decode cX0_could_2 33 = .ok (.if_icmp .eq 10, 3) := dk_159 0 10 (dk_at dksX0_could_2_1 10 rfl rfl)
theorem dX0_could_2_36 : decode cX0_could_2 36 = .ok (.iload_n 2, 1) := dk_28 (dk_at dksX0_could_2_1 13 rfl rfl)
theorem dX0_could_2_37 : decode cX0_could_2 37 = .ok (.invokestatic 83, 3) := dk_184 0 83 (dk_at dksX0_could_2_1 14 rfl rfl)
theorem dX0_could_2_40 : decode cX0_could_2 40 = .ok (.ifCond .ne 7, 3) := dk_154 0 7 (dk_at dksX0_could_2_1 17 rfl rfl)
theorem dX0_could_2_43 : decode cX0_could_2 43 = .ok (.iconst (-1), 1) := dk_2 (dk_at dksX0_could_2_1 20 rfl rfl)
theorem dX0_could_2_44 : decode cX0_could_2 44 = .ok (.goto 16, 3) := dk_167 0 16 (dk_at dksX0_could_2_1 21 rfl rfl)
theorem dX0_could_2_47 : decode cX0_could_2 47 = .ok (.aload_n 0, 1) := dk_42 (dk_at dksX0_could_2_2 0 rfl rfl)
theorem dX0_could_2_48 : decode cX0_could_2 48 = .ok (.getfield 228, 3) := dk_180 0 228 (dk_at dksX0_could_2_2 1 rfl rfl)
theorem dX0_could_2_51 : decode cX0_could_2 51 = .ok (.getfield 391, 3) := dk_180 1 135 (dk_at dksX0_could_2_2 4 rfl rfl)
theorem dX0_could_2_54 : decode cX0_could_2 54 = .ok (.iconst 4, 1) := dk_7 (dk_at dksX0_could_2_2 7 rfl rfl)
theorem dX0_could_2_55 : decode cX0_could_2 55 = .ok (.iload_n 3, 1) := dk_29 (dk_at dksX0_could_2_2 8 rfl rfl)
theorem dX0_could_2_56 : decode cX0_could_2 56 = .ok (.imul, 1) := dk_104 (dk_at dksX0_could_2_2 9 rfl rfl)
theorem dX0_could_2_57 : decode cX0_could_2 57 = .ok (.iload_n 2, 1) := dk_28 (dk_at dksX0_could_2_2 10 rfl rfl)
theorem dX0_could_2_58 : decode cX0_could_2 58 = .ok (.iadd, 1) := dk_96 (dk_at dksX0_could_2_2 11 rfl rfl)
theorem dX0_could_2_59 : decode cX0_could_2 59 = .ok (.iaload, 1) := dk_46 (dk_at dksX0_could_2_2 12 rfl rfl)
theorem dX0_could_2_60 : decode cX0_could_2 60 = .ok (.ireturn, 1) := dk_172 (dk_at dksX0_could_2_2 13 rfl rfl)
abbrev cX0_when : ByteArray := prog_1_method_64_code
def yX0_when : MethodName := ⟨RX0, "when", "(II)I"⟩
def dkwX0_when_5 : List UInt8 := [21, 4, 167, 0, 5, 21, 5, 172]
abbrev dktX0_when_5 : List UInt8 := dkwX0_when_5 ++ []
def dkwX0_when_4 : List UInt8 := [21, 6, 54, 5, 132, 6, 1, 167, 255, 197, 28, 154, 0, 7, 29, 167, 0, 15, 28, 4, 160, 0, 8]
abbrev dktX0_when_4 : List UInt8 := dkwX0_when_4 ++ dktX0_when_5
def dkwX0_when_3 : List UInt8 := [154, 0, 6, 167, 0, 25, 132, 3, 1, 21, 4, 2, 160, 0, 8, 21, 6, 167, 0, 5, 21, 4, 54, 4]
abbrev dktX0_when_3 : List UInt8 := dkwX0_when_3 ++ dktX0_when_4
def dkwX0_when_2 : List UInt8 := [162, 0, 58, 42, 180, 0, 200, 42, 182, 1, 106, 42, 180, 0, 45, 180, 0, 86, 27, 21, 6, 182, 0, 239]
abbrev dktX0_when_2 : List UInt8 := dkwX0_when_2 ++ dktX0_when_3
def dkwX0_when_1 : List UInt8 := [46, 2, 159, 0, 5, 2, 172, 3, 62, 2, 54, 4, 2, 54, 5, 4, 54, 6, 21, 6, 16, 32]
abbrev dktX0_when_1 : List UInt8 := dkwX0_when_1 ++ dktX0_when_2
def dkwX0_when_0 : List UInt8 := [27, 184, 0, 93, 153, 0, 25, 28, 3, 5, 184, 0, 41, 153, 0, 16, 42, 180, 0, 45, 180, 0, 96, 27]
abbrev dktX0_when_0 : List UInt8 := dkwX0_when_0 ++ dktX0_when_1
theorem dksX0_when_0 : cX0_when.data.toList.drop 0 = dktX0_when_0 := by decide +kernel
theorem dksX0_when_1 : cX0_when.data.toList.drop 24 = dktX0_when_1 := dk_seg dksX0_when_0 24 rfl rfl
theorem dksX0_when_2 : cX0_when.data.toList.drop 46 = dktX0_when_2 := dk_seg dksX0_when_1 22 rfl rfl
theorem dksX0_when_3 : cX0_when.data.toList.drop 70 = dktX0_when_3 := dk_seg dksX0_when_2 24 rfl rfl
theorem dksX0_when_4 : cX0_when.data.toList.drop 94 = dktX0_when_4 := dk_seg dksX0_when_3 24 rfl rfl
theorem dksX0_when_5 : cX0_when.data.toList.drop 117 = dktX0_when_5 := dk_seg dksX0_when_4 23 rfl rfl
theorem dX0_when_0 : decode cX0_when 0 = .ok (.iload_n 1, 1) := dk_27 (dk_at dksX0_when_0 0 rfl rfl)
theorem dX0_when_1 : decode cX0_when 1 = .ok (.invokestatic 93, 3) := dk_184 0 93 (dk_at dksX0_when_0 1 rfl rfl)
theorem dX0_when_4 : decode cX0_when 4 = .ok (.ifCond .eq 25, 3) := dk_153 0 25 (dk_at dksX0_when_0 4 rfl rfl)
theorem dX0_when_7 : decode cX0_when 7 = .ok (.iload_n 2, 1) := dk_28 (dk_at dksX0_when_0 7 rfl rfl)
theorem dX0_when_8 : decode cX0_when 8 = .ok (.iconst 0, 1) := dk_3 (dk_at dksX0_when_0 8 rfl rfl)
theorem dX0_when_9 : decode cX0_when 9 = .ok (.iconst 2, 1) := dk_5 (dk_at dksX0_when_0 9 rfl rfl)
theorem dX0_when_10 : decode cX0_when 10 = .ok (.invokestatic 41, 3) := dk_184 0 41 (dk_at dksX0_when_0 10 rfl rfl)
theorem dX0_when_13 : decode cX0_when 13 = .ok (.ifCond .eq 16, 3) := dk_153 0 16 (dk_at dksX0_when_0 13 rfl rfl)
theorem dX0_when_16 : decode cX0_when 16 = .ok (.aload_n 0, 1) := dk_42 (dk_at dksX0_when_0 16 rfl rfl)
theorem dX0_when_17 : decode cX0_when 17 = .ok (.getfield 45, 3) := dk_180 0 45 (dk_at dksX0_when_0 17 rfl rfl)
theorem dX0_when_20 : decode cX0_when 20 = .ok (.getfield 96, 3) := dk_180 0 96 (dk_at dksX0_when_0 20 rfl rfl)
theorem dX0_when_23 : decode cX0_when 23 = .ok (.iload_n 1, 1) := dk_27 (dk_at dksX0_when_0 23 rfl rfl)
theorem dX0_when_24 : decode cX0_when 24 = .ok (.iaload, 1) := dk_46 (dk_at dksX0_when_1 0 rfl rfl)
theorem dX0_when_25 : decode cX0_when 25 = .ok (.iconst (-1), 1) := dk_2 (dk_at dksX0_when_1 1 rfl rfl)
theorem dX0_when_26 : decode cX0_when 26 = .ok (.if_icmp .eq 5, 3) := dk_159 0 5 (dk_at dksX0_when_1 2 rfl rfl)
theorem dX0_when_29 : decode cX0_when 29 = .ok (.iconst (-1), 1) := dk_2 (dk_at dksX0_when_1 5 rfl rfl)
theorem dX0_when_30 : decode cX0_when 30 = .ok (.ireturn, 1) := dk_172 (dk_at dksX0_when_1 6 rfl rfl)
theorem dX0_when_31 : decode cX0_when 31 = .ok (.iconst 0, 1) := dk_3 (dk_at dksX0_when_1 7 rfl rfl)
theorem dX0_when_32 : decode cX0_when 32 = .ok (.istore_n 3, 1) := dk_62 (dk_at dksX0_when_1 8 rfl rfl)
theorem dX0_when_33 : decode cX0_when 33 = .ok (.iconst (-1), 1) := dk_2 (dk_at dksX0_when_1 9 rfl rfl)
theorem dX0_when_34 : decode cX0_when 34 = .ok (.istore 4, 2) := dk_54 4 (dk_at dksX0_when_1 10 rfl rfl)
theorem dX0_when_36 : decode cX0_when 36 = .ok (.iconst (-1), 1) := dk_2 (dk_at dksX0_when_1 12 rfl rfl)
theorem dX0_when_37 : decode cX0_when 37 = .ok (.istore 5, 2) := dk_54 5 (dk_at dksX0_when_1 13 rfl rfl)
theorem dX0_when_39 : decode cX0_when 39 = .ok (.iconst 1, 1) := dk_4 (dk_at dksX0_when_1 15 rfl rfl)
theorem dX0_when_40 : decode cX0_when 40 = .ok (.istore 6, 2) := dk_54 6 (dk_at dksX0_when_1 16 rfl rfl)
theorem dX0_when_42 : decode cX0_when 42 = .ok (.iload 6, 2) := dk_21 6 (dk_at dksX0_when_1 18 rfl rfl)
theorem dX0_when_44 : decode cX0_when 44 = .ok (.bipush 32, 2) := dk_16 32 (dk_at dksX0_when_1 20 rfl rfl)
theorem dX0_when_46 : decode cX0_when 46 = .ok (.if_icmp .ge 58, 3) := dk_162 0 58 (dk_at dksX0_when_2 0 rfl rfl)
theorem dX0_when_49 : decode cX0_when 49 = .ok (.aload_n 0, 1) := dk_42 (dk_at dksX0_when_2 3 rfl rfl)
theorem dX0_when_50 : decode cX0_when 50 = .ok (.getfield 200, 3) := dk_180 0 200 (dk_at dksX0_when_2 4 rfl rfl)
theorem dX0_when_53 : decode cX0_when 53 = .ok (.aload_n 0, 1) := dk_42 (dk_at dksX0_when_2 7 rfl rfl)
theorem dX0_when_54 : decode cX0_when 54 = .ok (.invokevirtual 362, 3) := dk_182 1 106 (dk_at dksX0_when_2 8 rfl rfl)
theorem dX0_when_57 : decode cX0_when 57 = .ok (.aload_n 0, 1) := dk_42 (dk_at dksX0_when_2 11 rfl rfl)
theorem dX0_when_58 : decode cX0_when 58 = .ok (.getfield 45, 3) := dk_180 0 45 (dk_at dksX0_when_2 12 rfl rfl)
theorem dX0_when_61 : decode cX0_when 61 = .ok (.getfield 86, 3) := dk_180 0 86 (dk_at dksX0_when_2 15 rfl rfl)
theorem dX0_when_64 : decode cX0_when 64 = .ok (.iload_n 1, 1) := dk_27 (dk_at dksX0_when_2 18 rfl rfl)
theorem dX0_when_65 : decode cX0_when 65 = .ok (.iload 6, 2) := dk_21 6 (dk_at dksX0_when_2 19 rfl rfl)
theorem dX0_when_67 : decode cX0_when 67 = .ok (.invokevirtual 239, 3) := dk_182 0 239 (dk_at dksX0_when_2 21 rfl rfl)
theorem dX0_when_70 : decode cX0_when 70 = .ok (.ifCond .ne 6, 3) := dk_154 0 6 (dk_at dksX0_when_3 0 rfl rfl)
theorem dX0_when_73 : decode cX0_when 73 = .ok (.goto 25, 3) := dk_167 0 25 (dk_at dksX0_when_3 3 rfl rfl)
theorem dX0_when_76 : decode cX0_when 76 = .ok (.iinc 3 1, 3) := dk_132 3 1 (dk_at dksX0_when_3 6 rfl rfl)
theorem dX0_when_79 : decode cX0_when 79 = .ok (.iload 4, 2) := dk_21 4 (dk_at dksX0_when_3 9 rfl rfl)
theorem dX0_when_81 : decode cX0_when 81 = .ok (.iconst (-1), 1) := dk_2 (dk_at dksX0_when_3 11 rfl rfl)
theorem dX0_when_82 : decode cX0_when 82 = .ok (.if_icmp .ne 8, 3) := dk_160 0 8 (dk_at dksX0_when_3 12 rfl rfl)
theorem dX0_when_85 : decode cX0_when 85 = .ok (.iload 6, 2) := dk_21 6 (dk_at dksX0_when_3 15 rfl rfl)
theorem dX0_when_87 : decode cX0_when 87 = .ok (.goto 5, 3) := dk_167 0 5 (dk_at dksX0_when_3 17 rfl rfl)
theorem dX0_when_90 : decode cX0_when 90 = .ok (.iload 4, 2) := dk_21 4 (dk_at dksX0_when_3 20 rfl rfl)
theorem dX0_when_92 : decode cX0_when 92 = .ok (.istore 4, 2) := dk_54 4 (dk_at dksX0_when_3 22 rfl rfl)
theorem dX0_when_94 : decode cX0_when 94 = .ok (.iload 6, 2) := dk_21 6 (dk_at dksX0_when_4 0 rfl rfl)
theorem dX0_when_96 : decode cX0_when 96 = .ok (.istore 5, 2) := dk_54 5 (dk_at dksX0_when_4 2 rfl rfl)
theorem dX0_when_98 : decode cX0_when 98 = .ok (.iinc 6 1, 3) := dk_132 6 1 (dk_at dksX0_when_4 4 rfl rfl)
theorem dX0_when_101 : decode cX0_when 101 = .ok (.goto (-59), 3) := dk_167 255 197 (dk_at dksX0_when_4 7 rfl rfl)
theorem dX0_when_104 : decode cX0_when 104 = .ok (.iload_n 2, 1) := dk_28 (dk_at dksX0_when_4 10 rfl rfl)
theorem dX0_when_105 : decode cX0_when 105 = .ok (.ifCond .ne 7, 3) := dk_154 0 7 (dk_at dksX0_when_4 11 rfl rfl)
theorem dX0_when_108 : decode cX0_when 108 = .ok (.iload_n 3, 1) := dk_29 (dk_at dksX0_when_4 14 rfl rfl)
theorem dX0_when_109 : decode cX0_when 109 = .ok (.goto 15, 3) := dk_167 0 15 (dk_at dksX0_when_4 15 rfl rfl)
theorem dX0_when_112 : decode cX0_when 112 = .ok (.iload_n 2, 1) := dk_28 (dk_at dksX0_when_4 18 rfl rfl)
theorem dX0_when_113 : decode cX0_when 113 = .ok (.iconst 1, 1) := dk_4 (dk_at dksX0_when_4 19 rfl rfl)
theorem dX0_when_114 : decode cX0_when 114 = .ok (.if_icmp .ne 8, 3) := dk_160 0 8 (dk_at dksX0_when_4 20 rfl rfl)
theorem dX0_when_117 : decode cX0_when 117 = .ok (.iload 4, 2) := dk_21 4 (dk_at dksX0_when_5 0 rfl rfl)
theorem dX0_when_119 : decode cX0_when 119 = .ok (.goto 5, 3) := dk_167 0 5 (dk_at dksX0_when_5 2 rfl rfl)
theorem dX0_when_122 : decode cX0_when 122 = .ok (.iload 5, 2) := dk_21 5 (dk_at dksX0_when_5 5 rfl rfl)
theorem dX0_when_124 : decode cX0_when 124 = .ok (.ireturn, 1) := dk_172 (dk_at dksX0_when_5 7 rfl rfl)
abbrev cX0_tell : ByteArray := prog_1_method_65_code
def yX0_tell : MethodName := ⟨RX0, "tell", "(II)I"⟩
def dkwX0_tell_1 : List UInt8 := [180, 0, 45, 180, 1, 137, 27, 28, 182, 0, 89, 167, 0, 8, 42, 2, 182, 0, 61, 172]
abbrev dktX0_tell_1 : List UInt8 := dkwX0_tell_1 ++ []
def dkwX0_tell_0 : List UInt8 := [27, 3, 16, 15, 184, 0, 41, 153, 0, 30, 28, 4, 17, 39, 15, 184, 0, 41, 153, 0, 19, 42, 42]
abbrev dktX0_tell_0 : List UInt8 := dkwX0_tell_0 ++ dktX0_tell_1
theorem dksX0_tell_0 : cX0_tell.data.toList.drop 0 = dktX0_tell_0 := by decide +kernel
theorem dksX0_tell_1 : cX0_tell.data.toList.drop 23 = dktX0_tell_1 := dk_seg dksX0_tell_0 23 rfl rfl
theorem dX0_tell_0 : decode cX0_tell 0 = .ok (.iload_n 1, 1) := dk_27 (dk_at dksX0_tell_0 0 rfl rfl)
theorem dX0_tell_1 : decode cX0_tell 1 = .ok (.iconst 0, 1) := dk_3 (dk_at dksX0_tell_0 1 rfl rfl)
theorem dX0_tell_2 : decode cX0_tell 2 = .ok (.bipush 15, 2) := dk_16 15 (dk_at dksX0_tell_0 2 rfl rfl)
theorem dX0_tell_4 : decode cX0_tell 4 = .ok (.invokestatic 41, 3) := dk_184 0 41 (dk_at dksX0_tell_0 4 rfl rfl)
theorem dX0_tell_7 : decode cX0_tell 7 = .ok (.ifCond .eq 30, 3) := dk_153 0 30 (dk_at dksX0_tell_0 7 rfl rfl)
theorem dX0_tell_10 : decode cX0_tell 10 = .ok (.iload_n 2, 1) := dk_28 (dk_at dksX0_tell_0 10 rfl rfl)
theorem dX0_tell_11 : decode cX0_tell 11 = .ok (.iconst 1, 1) := dk_4 (dk_at dksX0_tell_0 11 rfl rfl)
theorem dX0_tell_12 : decode cX0_tell 12 = .ok (.sipush 9999, 3) := dk_17 39 15 (dk_at dksX0_tell_0 12 rfl rfl)
theorem dX0_tell_15 : decode cX0_tell 15 = .ok (.invokestatic 41, 3) := dk_184 0 41 (dk_at dksX0_tell_0 15 rfl rfl)
theorem dX0_tell_18 : decode cX0_tell 18 = .ok (.ifCond .eq 19, 3) := dk_153 0 19 (dk_at dksX0_tell_0 18 rfl rfl)
theorem dX0_tell_21 : decode cX0_tell 21 = .ok (.aload_n 0, 1) := dk_42 (dk_at dksX0_tell_0 21 rfl rfl)
theorem dX0_tell_22 : decode cX0_tell 22 = .ok (.aload_n 0, 1) := dk_42 (dk_at dksX0_tell_0 22 rfl rfl)
theorem dX0_tell_23 : decode cX0_tell 23 = .ok (.getfield 45, 3) := dk_180 0 45 (dk_at dksX0_tell_1 0 rfl rfl)
theorem dX0_tell_26 : decode cX0_tell 26 = .ok (.getfield 393, 3) := dk_180 1 137 (dk_at dksX0_tell_1 3 rfl rfl)
theorem dX0_tell_29 : decode cX0_tell 29 = .ok (.iload_n 1, 1) := dk_27 (dk_at dksX0_tell_1 6 rfl rfl)
theorem dX0_tell_30 : decode cX0_tell 30 = .ok (.iload_n 2, 1) := dk_28 (dk_at dksX0_tell_1 7 rfl rfl)
theorem dX0_tell_31 : decode cX0_tell 31 = .ok (.invokevirtual 89, 3) := dk_182 0 89 (dk_at dksX0_tell_1 8 rfl rfl)
theorem dX0_tell_34 : decode cX0_tell 34 = .ok (.goto 8, 3) := dk_167 0 8 (dk_at dksX0_tell_1 11 rfl rfl)
theorem dX0_tell_37 : decode cX0_tell 37 = .ok (.aload_n 0, 1) := dk_42 (dk_at dksX0_tell_1 14 rfl rfl)
theorem dX0_tell_38 : decode cX0_tell 38 = .ok (.iconst (-1), 1) := dk_2 (dk_at dksX0_tell_1 15 rfl rfl)
theorem dX0_tell_39 : decode cX0_tell 39 = .ok (.invokevirtual 61, 3) := dk_182 0 61 (dk_at dksX0_tell_1 16 rfl rfl)
theorem dX0_tell_42 : decode cX0_tell 42 = .ok (.ireturn, 1) := dk_172 (dk_at dksX0_tell_1 19 rfl rfl)
abbrev cX0_says : ByteArray := prog_1_method_67_code
def yX0_says : MethodName := ⟨RX0, "says", "(III)I"⟩
def dkwX0_says_2 : List UInt8 := [29, 184, 1, 140, 167, 0, 4, 2, 172]
abbrev dktX0_says_2 : List UInt8 := dkwX0_says_2 ++ []
def dkwX0_says_1 : List UInt8 := [153, 0, 31, 42, 180, 0, 45, 180, 1, 137, 27, 46, 42, 180, 0, 45, 180, 1, 137, 16, 12, 28, 96, 46]
abbrev dktX0_says_1 : List UInt8 := dkwX0_says_1 ++ dktX0_says_2
def dkwX0_says_0 : List UInt8 := [27, 3, 16, 11, 184, 0, 41, 153, 0, 47, 28, 184, 0, 83, 153, 0, 40, 29, 3, 5, 184, 0, 41]
abbrev dktX0_says_0 : List UInt8 := dkwX0_says_0 ++ dktX0_says_1
theorem dksX0_says_0 : cX0_says.data.toList.drop 0 = dktX0_says_0 := by decide +kernel
theorem dksX0_says_1 : cX0_says.data.toList.drop 23 = dktX0_says_1 := dk_seg dksX0_says_0 23 rfl rfl
theorem dksX0_says_2 : cX0_says.data.toList.drop 47 = dktX0_says_2 := dk_seg dksX0_says_1 24 rfl rfl
theorem dX0_says_0 : decode cX0_says 0 = .ok (.iload_n 1, 1) := dk_27 (dk_at dksX0_says_0 0 rfl rfl)
theorem dX0_says_1 : decode cX0_says 1 = .ok (.iconst 0, 1) := dk_3 (dk_at dksX0_says_0 1 rfl rfl)
theorem dX0_says_2 : decode cX0_says 2 = .ok (.bipush 11, 2) := dk_16 11 (dk_at dksX0_says_0 2 rfl rfl)
theorem dX0_says_4 : decode cX0_says 4 = .ok (.invokestatic 41, 3) := dk_184 0 41 (dk_at dksX0_says_0 4 rfl rfl)
theorem dX0_says_7 : decode cX0_says 7 = .ok (.ifCond .eq 47, 3) := dk_153 0 47 (dk_at dksX0_says_0 7 rfl rfl)
theorem dX0_says_10 : decode cX0_says 10 = .ok (.iload_n 2, 1) := dk_28 (dk_at dksX0_says_0 10 rfl rfl)
theorem dX0_says_11 : decode cX0_says 11 = .ok (.invokestatic 83, 3) := dk_184 0 83 (dk_at dksX0_says_0 11 rfl rfl)
theorem dX0_says_14 : decode cX0_says 14 = .ok (.ifCond .eq 40, 3) := dk_153 0 40 (dk_at dksX0_says_0 14 rfl rfl)
theorem dX0_says_17 : decode cX0_says 17 = .ok (.iload_n 3, 1) := dk_29 (dk_at dksX0_says_0 17 rfl rfl)
theorem dX0_says_18 : decode cX0_says 18 = .ok (.iconst 0, 1) := dk_3 (dk_at dksX0_says_0 18 rfl rfl)
theorem dX0_says_19 : decode cX0_says 19 = .ok (.iconst 2, 1) := dk_5 (dk_at dksX0_says_0 19 rfl rfl)
theorem dX0_says_20 : decode cX0_says 20 = .ok (.invokestatic 41, 3) := dk_184 0 41 (dk_at dksX0_says_0 20 rfl rfl)
theorem dX0_says_23 : decode cX0_says 23 = .ok (.ifCond .eq 31, 3) := dk_153 0 31 (dk_at dksX0_says_1 0 rfl rfl)
theorem dX0_says_26 : decode cX0_says 26 = .ok (.aload_n 0, 1) := dk_42 (dk_at dksX0_says_1 3 rfl rfl)
theorem dX0_says_27 : decode cX0_says 27 = .ok (.getfield 45, 3) := dk_180 0 45 (dk_at dksX0_says_1 4 rfl rfl)
theorem dX0_says_30 : decode cX0_says 30 = .ok (.getfield 393, 3) := dk_180 1 137 (dk_at dksX0_says_1 7 rfl rfl)
theorem dX0_says_33 : decode cX0_says 33 = .ok (.iload_n 1, 1) := dk_27 (dk_at dksX0_says_1 10 rfl rfl)
theorem dX0_says_34 : decode cX0_says 34 = .ok (.iaload, 1) := dk_46 (dk_at dksX0_says_1 11 rfl rfl)
theorem dX0_says_35 : decode cX0_says 35 = .ok (.aload_n 0, 1) := dk_42 (dk_at dksX0_says_1 12 rfl rfl)
theorem dX0_says_36 : decode cX0_says 36 = .ok (.getfield 45, 3) := dk_180 0 45 (dk_at dksX0_says_1 13 rfl rfl)
theorem dX0_says_39 : decode cX0_says 39 = .ok (.getfield 393, 3) := dk_180 1 137 (dk_at dksX0_says_1 16 rfl rfl)
theorem dX0_says_42 : decode cX0_says 42 = .ok (.bipush 12, 2) := dk_16 12 (dk_at dksX0_says_1 19 rfl rfl)
theorem dX0_says_44 : decode cX0_says 44 = .ok (.iload_n 2, 1) := dk_28 (dk_at dksX0_says_1 21 rfl rfl)
theorem dX0_says_45 : decode cX0_says 45 = .ok (.iadd, 1) := dk_96 (dk_at dksX0_says_1 22 rfl rfl)
theorem dX0_says_46 : decode cX0_says 46 = .ok (.iaload, 1) := dk_46 (dk_at dksX0_says_1 23 rfl rfl)
theorem dX0_says_47 : decode cX0_says 47 = .ok (.iload_n 3, 1) := dk_29 (dk_at dksX0_says_2 0 rfl rfl)
theorem dX0_says_48 : decode cX0_says 48 = .ok (.invokestatic 396, 3) := dk_184 1 140 (dk_at dksX0_says_2 1 rfl rfl)
theorem dX0_says_51 : decode cX0_says 51 = .ok (.goto 4, 3) := dk_167 0 4 (dk_at dksX0_says_2 4 rfl rfl)
theorem dX0_says_54 : decode cX0_says 54 = .ok (.iconst (-1), 1) := dk_2 (dk_at dksX0_says_2 7 rfl rfl)
theorem dX0_says_55 : decode cX0_says 55 = .ok (.ireturn, 1) := dk_172 (dk_at dksX0_says_2 8 rfl rfl)
abbrev cX0_saysOf : ByteArray := prog_1_method_66_code
def yX0_saysOf : MethodName := ⟨RX0, "saysOf", "(III)I"⟩
def dkwX0_saysOf_1 : List UInt8 := [5, 26, 104, 27, 96, 5, 27, 104, 108, 172]
abbrev dktX0_saysOf_1 : List UInt8 := dkwX0_saysOf_1 ++ []
def dkwX0_saysOf_0 : List UInt8 := [28, 154, 0, 12, 16, 100, 26, 104, 27, 108, 167, 0, 23, 28, 4, 160, 0, 9, 26, 27, 108, 167, 0, 12]
abbrev dktX0_saysOf_0 : List UInt8 := dkwX0_saysOf_0 ++ dktX0_saysOf_1
theorem dksX0_saysOf_0 : cX0_saysOf.data.toList.drop 0 = dktX0_saysOf_0 := by decide +kernel
theorem dksX0_saysOf_1 : cX0_saysOf.data.toList.drop 24 = dktX0_saysOf_1 := dk_seg dksX0_saysOf_0 24 rfl rfl
theorem dX0_saysOf_0 : decode cX0_saysOf 0 = .ok (.iload_n 2, 1) := dk_28 (dk_at dksX0_saysOf_0 0 rfl rfl)
theorem dX0_saysOf_1 : decode cX0_saysOf 1 = .ok (.ifCond .ne 12, 3) := dk_154 0 12 (dk_at dksX0_saysOf_0 1 rfl rfl)
theorem dX0_saysOf_4 : decode cX0_saysOf 4 = .ok (.bipush 100, 2) := dk_16 100 (dk_at dksX0_saysOf_0 4 rfl rfl)
theorem dX0_saysOf_6 : decode cX0_saysOf 6 = .ok (.iload_n 0, 1) := dk_26 (dk_at dksX0_saysOf_0 6 rfl rfl)
theorem dX0_saysOf_7 : decode cX0_saysOf 7 = .ok (.imul, 1) := dk_104 (dk_at dksX0_saysOf_0 7 rfl rfl)
theorem dX0_saysOf_8 : decode cX0_saysOf 8 = .ok (.iload_n 1, 1) := dk_27 (dk_at dksX0_saysOf_0 8 rfl rfl)
theorem dX0_saysOf_9 : decode cX0_saysOf 9 = .ok (.idiv, 1) := dk_108 (dk_at dksX0_saysOf_0 9 rfl rfl)
theorem dX0_saysOf_10 : decode cX0_saysOf 10 = .ok (.goto 23, 3) := dk_167 0 23 (dk_at dksX0_saysOf_0 10 rfl rfl)
theorem dX0_saysOf_13 : decode cX0_saysOf 13 = .ok (.iload_n 2, 1) := dk_28 (dk_at dksX0_saysOf_0 13 rfl rfl)
theorem dX0_saysOf_14 : decode cX0_saysOf 14 = .ok (.iconst 1, 1) := dk_4 (dk_at dksX0_saysOf_0 14 rfl rfl)
theorem dX0_saysOf_15 : decode cX0_saysOf 15 = .ok (.if_icmp .ne 9, 3) := dk_160 0 9 (dk_at dksX0_saysOf_0 15 rfl rfl)
theorem dX0_saysOf_18 : decode cX0_saysOf 18 = .ok (.iload_n 0, 1) := dk_26 (dk_at dksX0_saysOf_0 18 rfl rfl)
theorem dX0_saysOf_19 : decode cX0_saysOf 19 = .ok (.iload_n 1, 1) := dk_27 (dk_at dksX0_saysOf_0 19 rfl rfl)
theorem dX0_saysOf_20 : decode cX0_saysOf 20 = .ok (.idiv, 1) := dk_108 (dk_at dksX0_saysOf_0 20 rfl rfl)
theorem dX0_saysOf_21 : decode cX0_saysOf 21 = .ok (.goto 12, 3) := dk_167 0 12 (dk_at dksX0_saysOf_0 21 rfl rfl)
theorem dX0_saysOf_24 : decode cX0_saysOf 24 = .ok (.iconst 2, 1) := dk_5 (dk_at dksX0_saysOf_1 0 rfl rfl)
theorem dX0_saysOf_25 : decode cX0_saysOf 25 = .ok (.iload_n 0, 1) := dk_26 (dk_at dksX0_saysOf_1 1 rfl rfl)
theorem dX0_saysOf_26 : decode cX0_saysOf 26 = .ok (.imul, 1) := dk_104 (dk_at dksX0_saysOf_1 2 rfl rfl)
theorem dX0_saysOf_27 : decode cX0_saysOf 27 = .ok (.iload_n 1, 1) := dk_27 (dk_at dksX0_saysOf_1 3 rfl rfl)
theorem dX0_saysOf_28 : decode cX0_saysOf 28 = .ok (.iadd, 1) := dk_96 (dk_at dksX0_saysOf_1 4 rfl rfl)
theorem dX0_saysOf_29 : decode cX0_saysOf 29 = .ok (.iconst 2, 1) := dk_5 (dk_at dksX0_saysOf_1 5 rfl rfl)
theorem dX0_saysOf_30 : decode cX0_saysOf 30 = .ok (.iload_n 1, 1) := dk_27 (dk_at dksX0_saysOf_1 6 rfl rfl)
theorem dX0_saysOf_31 : decode cX0_saysOf 31 = .ok (.imul, 1) := dk_104 (dk_at dksX0_saysOf_1 7 rfl rfl)
theorem dX0_saysOf_32 : decode cX0_saysOf 32 = .ok (.idiv, 1) := dk_108 (dk_at dksX0_saysOf_1 8 rfl rfl)
theorem dX0_saysOf_33 : decode cX0_saysOf 33 = .ok (.ireturn, 1) := dk_172 (dk_at dksX0_saysOf_1 9 rfl rfl)
abbrev cX0_judge : ByteArray := prog_1_method_69_code
def yX0_judge : MethodName := ⟨RX0, "judge", "(I)I"⟩
def dkwX0_judge_10 : List UInt8 := [54, 4, 132, 5, 1, 167, 255, 194, 21, 4, 153, 0, 7, 4, 167, 0, 4, 3, 172]
abbrev dktX0_judge_10 : List UInt8 := dkwX0_judge_10 ++ []
def dkwX0_judge_9 : List UInt8 := [16, 6, 21, 5, 96, 46, 42, 180, 0, 45, 180, 1, 137, 21, 5, 46, 163, 0, 7, 4, 167, 0, 4, 3]
abbrev dktX0_judge_9 : List UInt8 := dkwX0_judge_9 ++ dktX0_judge_10
def dkwX0_judge_8 : List UInt8 := [153, 0, 47, 42, 180, 0, 45, 180, 0, 96, 21, 5, 46, 2, 159, 0, 29, 42, 180, 0, 45, 180, 1, 137]
abbrev dktX0_judge_8 : List UInt8 := dkwX0_judge_8 ++ dktX0_judge_9
def dkwX0_judge_7 : List UInt8 := [167, 0, 4, 3, 54, 4, 132, 5, 1, 167, 255, 178, 3, 54, 5, 21, 5, 16, 6, 162, 0, 61, 21, 4]
abbrev dktX0_judge_7 : List UInt8 := dkwX0_judge_7 ++ dktX0_judge_8
def dkwX0_judge_6 : List UInt8 := [16, 12, 42, 180, 0, 45, 180, 1, 96, 5, 21, 5, 104, 4, 96, 46, 96, 46, 162, 0, 7, 4]
abbrev dktX0_judge_6 : List UInt8 := dkwX0_judge_6 ++ dktX0_judge_7
def dkwX0_judge_5 : List UInt8 := [16, 12, 42, 180, 0, 45, 180, 1, 96, 5, 21, 5, 104, 46, 96, 46, 42, 180, 0, 45, 180, 1, 137]
abbrev dktX0_judge_5 : List UInt8 := dkwX0_judge_5 ++ dktX0_judge_6
def dkwX0_judge_4 : List UInt8 := [21, 5, 42, 180, 0, 45, 180, 0, 103, 162, 0, 72, 21, 4, 153, 0, 58, 42, 180, 0, 45, 180, 1, 137]
abbrev dktX0_judge_4 : List UInt8 := dkwX0_judge_4 ++ dktX0_judge_5
def dkwX0_judge_3 : List UInt8 := [27, 154, 0, 7, 28, 167, 0, 4, 29, 172, 29, 154, 0, 7, 4, 167, 0, 4, 3, 54, 4, 3, 54, 5]
abbrev dktX0_judge_3 : List UInt8 := dkwX0_judge_3 ++ dktX0_judge_4
def dkwX0_judge_2 : List UInt8 := [160, 0, 8, 21, 4, 167, 0, 4, 28, 61, 132, 3, 1, 132, 4, 1, 167, 255, 211, 27, 5, 162, 0, 13]
abbrev dktX0_judge_2 : List UInt8 := dkwX0_judge_2 ++ dktX0_judge_3
def dkwX0_judge_1 : List UInt8 := [180, 0, 49, 182, 0, 55, 162, 0, 36, 42, 21, 4, 182, 1, 146, 153, 0, 6, 167, 0, 18, 28, 2]
abbrev dktX0_judge_1 : List UInt8 := dkwX0_judge_1 ++ dktX0_judge_2
def dkwX0_judge_0 : List UInt8 := [27, 3, 5, 184, 0, 41, 154, 0, 5, 2, 172, 2, 61, 3, 62, 3, 54, 4, 21, 4, 42, 180, 0, 45]
abbrev dktX0_judge_0 : List UInt8 := dkwX0_judge_0 ++ dktX0_judge_1
theorem dksX0_judge_0 : cX0_judge.data.toList.drop 0 = dktX0_judge_0 := by decide +kernel
theorem dksX0_judge_1 : cX0_judge.data.toList.drop 24 = dktX0_judge_1 := dk_seg dksX0_judge_0 24 rfl rfl
theorem dksX0_judge_2 : cX0_judge.data.toList.drop 47 = dktX0_judge_2 := dk_seg dksX0_judge_1 23 rfl rfl
theorem dksX0_judge_3 : cX0_judge.data.toList.drop 71 = dktX0_judge_3 := dk_seg dksX0_judge_2 24 rfl rfl
theorem dksX0_judge_4 : cX0_judge.data.toList.drop 95 = dktX0_judge_4 := dk_seg dksX0_judge_3 24 rfl rfl
theorem dksX0_judge_5 : cX0_judge.data.toList.drop 119 = dktX0_judge_5 := dk_seg dksX0_judge_4 24 rfl rfl
theorem dksX0_judge_6 : cX0_judge.data.toList.drop 142 = dktX0_judge_6 := dk_seg dksX0_judge_5 23 rfl rfl
theorem dksX0_judge_7 : cX0_judge.data.toList.drop 164 = dktX0_judge_7 := dk_seg dksX0_judge_6 22 rfl rfl
theorem dksX0_judge_8 : cX0_judge.data.toList.drop 188 = dktX0_judge_8 := dk_seg dksX0_judge_7 24 rfl rfl
theorem dksX0_judge_9 : cX0_judge.data.toList.drop 212 = dktX0_judge_9 := dk_seg dksX0_judge_8 24 rfl rfl
theorem dksX0_judge_10 : cX0_judge.data.toList.drop 236 = dktX0_judge_10 := dk_seg dksX0_judge_9 24 rfl rfl
theorem dX0_judge_0 : decode cX0_judge 0 = .ok (.iload_n 1, 1) := dk_27 (dk_at dksX0_judge_0 0 rfl rfl)
theorem dX0_judge_1 : decode cX0_judge 1 = .ok (.iconst 0, 1) := dk_3 (dk_at dksX0_judge_0 1 rfl rfl)
theorem dX0_judge_2 : decode cX0_judge 2 = .ok (.iconst 2, 1) := dk_5 (dk_at dksX0_judge_0 2 rfl rfl)
theorem dX0_judge_3 : decode cX0_judge 3 = .ok (.invokestatic 41, 3) := dk_184 0 41 (dk_at dksX0_judge_0 3 rfl rfl)
theorem dX0_judge_6 : decode cX0_judge 6 = .ok (.ifCond .ne 5, 3) := dk_154 0 5 (dk_at dksX0_judge_0 6 rfl rfl)
theorem dX0_judge_9 : decode cX0_judge 9 = .ok (.iconst (-1), 1) := dk_2 (dk_at dksX0_judge_0 9 rfl rfl)
theorem dX0_judge_10 : decode cX0_judge 10 = .ok (.ireturn, 1) := dk_172 (dk_at dksX0_judge_0 10 rfl rfl)
theorem dX0_judge_11 : decode cX0_judge 11 = .ok (.iconst (-1), 1) := dk_2 (dk_at dksX0_judge_0 11 rfl rfl)
theorem dX0_judge_12 : decode cX0_judge 12 = .ok (.istore_n 2, 1) := dk_61 (dk_at dksX0_judge_0 12 rfl rfl)
theorem dX0_judge_13 : decode cX0_judge 13 = .ok (.iconst 0, 1) := dk_3 (dk_at dksX0_judge_0 13 rfl rfl)
theorem dX0_judge_14 : decode cX0_judge 14 = .ok (.istore_n 3, 1) := dk_62 (dk_at dksX0_judge_0 14 rfl rfl)
theorem dX0_judge_15 : decode cX0_judge 15 = .ok (.iconst 0, 1) := dk_3 (dk_at dksX0_judge_0 15 rfl rfl)
theorem dX0_judge_16 : decode cX0_judge 16 = .ok (.istore 4, 2) := dk_54 4 (dk_at dksX0_judge_0 16 rfl rfl)
theorem dX0_judge_18 : decode cX0_judge 18 = .ok (.iload 4, 2) := dk_21 4 (dk_at dksX0_judge_0 18 rfl rfl)
theorem dX0_judge_20 : decode cX0_judge 20 = .ok (.aload_n 0, 1) := dk_42 (dk_at dksX0_judge_0 20 rfl rfl)
theorem dX0_judge_21 : decode cX0_judge 21 = .ok (.getfield 45, 3) := dk_180 0 45 (dk_at dksX0_judge_0 21 rfl rfl)
theorem dX0_judge_24 : decode cX0_judge 24 = .ok (.getfield 49, 3) := dk_180 0 49 (dk_at dksX0_judge_1 0 rfl rfl)
theorem dX0_judge_27 : decode cX0_judge 27 = .ok (.invokevirtual 55, 3) := dk_182 0 55 (dk_at dksX0_judge_1 3 rfl rfl)
theorem dX0_judge_30 : decode cX0_judge 30 = .ok (.if_icmp .ge 36, 3) := dk_162 0 36 (dk_at dksX0_judge_1 6 rfl rfl)
theorem dX0_judge_33 : decode cX0_judge 33 = .ok (.aload_n 0, 1) := dk_42 (dk_at dksX0_judge_1 9 rfl rfl)
theorem dX0_judge_34 : decode cX0_judge 34 = .ok (.iload 4, 2) := dk_21 4 (dk_at dksX0_judge_1 10 rfl rfl)
theorem dX0_judge_36 : decode cX0_judge 36 = .ok (.invokevirtual 402, 3) := dk_182 1 146 (dk_at dksX0_judge_1 12 rfl rfl)
theorem dX0_judge_39 : decode cX0_judge 39 = .ok (.ifCond .eq 6, 3) := dk_153 0 6 (dk_at dksX0_judge_1 15 rfl rfl)
theorem dX0_judge_42 : decode cX0_judge 42 = .ok (.goto 18, 3) := dk_167 0 18 (dk_at dksX0_judge_1 18 rfl rfl)
theorem dX0_judge_45 : decode cX0_judge 45 = .ok (.iload_n 2, 1) := dk_28 (dk_at dksX0_judge_1 21 rfl rfl)
theorem dX0_judge_46 : decode cX0_judge 46 = .ok (.iconst (-1), 1) := dk_2 (dk_at dksX0_judge_1 22 rfl rfl)
theorem dX0_judge_47 : decode cX0_judge 47 = .ok (.if_icmp .ne 8, 3) := dk_160 0 8 (dk_at dksX0_judge_2 0 rfl rfl)
theorem dX0_judge_50 : decode cX0_judge 50 = .ok (.iload 4, 2) := dk_21 4 (dk_at dksX0_judge_2 3 rfl rfl)
theorem dX0_judge_52 : decode cX0_judge 52 = .ok (.goto 4, 3) := dk_167 0 4 (dk_at dksX0_judge_2 5 rfl rfl)
theorem dX0_judge_55 : decode cX0_judge 55 = .ok (.iload_n 2, 1) := dk_28 (dk_at dksX0_judge_2 8 rfl rfl)
theorem dX0_judge_56 : decode cX0_judge 56 = .ok (.istore_n 2, 1) := dk_61 (dk_at dksX0_judge_2 9 rfl rfl)
theorem dX0_judge_57 : decode cX0_judge 57 = .ok (.iinc 3 1, 3) := dk_132 3 1 (dk_at dksX0_judge_2 10 rfl rfl)
theorem dX0_judge_60 : decode cX0_judge 60 = .ok (.iinc 4 1, 3) := dk_132 4 1 (dk_at dksX0_judge_2 13 rfl rfl)
theorem dX0_judge_63 : decode cX0_judge 63 = .ok (.goto (-45), 3) := dk_167 255 211 (dk_at dksX0_judge_2 16 rfl rfl)
theorem dX0_judge_66 : decode cX0_judge 66 = .ok (.iload_n 1, 1) := dk_27 (dk_at dksX0_judge_2 19 rfl rfl)
theorem dX0_judge_67 : decode cX0_judge 67 = .ok (.iconst 2, 1) := dk_5 (dk_at dksX0_judge_2 20 rfl rfl)
theorem dX0_judge_68 : decode cX0_judge 68 = .ok (.if_icmp .ge 13, 3) := dk_162 0 13 (dk_at dksX0_judge_2 21 rfl rfl)
theorem dX0_judge_71 : decode cX0_judge 71 = .ok (.iload_n 1, 1) := dk_27 (dk_at dksX0_judge_3 0 rfl rfl)
theorem dX0_judge_72 : decode cX0_judge 72 = .ok (.ifCond .ne 7, 3) := dk_154 0 7 (dk_at dksX0_judge_3 1 rfl rfl)
theorem dX0_judge_75 : decode cX0_judge 75 = .ok (.iload_n 2, 1) := dk_28 (dk_at dksX0_judge_3 4 rfl rfl)
theorem dX0_judge_76 : decode cX0_judge 76 = .ok (.goto 4, 3) := dk_167 0 4 (dk_at dksX0_judge_3 5 rfl rfl)
theorem dX0_judge_79 : decode cX0_judge 79 = .ok (.iload_n 3, 1) := dk_29 (dk_at dksX0_judge_3 8 rfl rfl)
theorem dX0_judge_80 : decode cX0_judge 80 = .ok (.ireturn, 1) := dk_172 (dk_at dksX0_judge_3 9 rfl rfl)
theorem dX0_judge_81 : decode cX0_judge 81 = .ok (.iload_n 3, 1) := dk_29 (dk_at dksX0_judge_3 10 rfl rfl)
theorem dX0_judge_82 : decode cX0_judge 82 = .ok (.ifCond .ne 7, 3) := dk_154 0 7 (dk_at dksX0_judge_3 11 rfl rfl)
theorem dX0_judge_85 : decode cX0_judge 85 = .ok (.iconst 1, 1) := dk_4 (dk_at dksX0_judge_3 14 rfl rfl)
theorem dX0_judge_86 : decode cX0_judge 86 = .ok (.goto 4, 3) := dk_167 0 4 (dk_at dksX0_judge_3 15 rfl rfl)
theorem dX0_judge_89 : decode cX0_judge 89 = .ok (.iconst 0, 1) := dk_3 (dk_at dksX0_judge_3 18 rfl rfl)
theorem dX0_judge_90 : decode cX0_judge 90 = .ok (.istore 4, 2) := dk_54 4 (dk_at dksX0_judge_3 19 rfl rfl)
theorem dX0_judge_92 : decode cX0_judge 92 = .ok (.iconst 0, 1) := dk_3 (dk_at dksX0_judge_3 21 rfl rfl)
theorem dX0_judge_93 : decode cX0_judge 93 = .ok (.istore 5, 2) := dk_54 5 (dk_at dksX0_judge_3 22 rfl rfl)
theorem dX0_judge_95 : decode cX0_judge 95 = .ok (.iload 5, 2) := dk_21 5 (dk_at dksX0_judge_4 0 rfl rfl)
theorem dX0_judge_97 : decode cX0_judge 97 = .ok (.aload_n 0, 1) := dk_42 (dk_at dksX0_judge_4 2 rfl rfl)
theorem dX0_judge_98 : decode cX0_judge 98 = .ok (.getfield 45, 3) := dk_180 0 45 (dk_at dksX0_judge_4 3 rfl rfl)
theorem dX0_judge_101 : decode cX0_judge 101 = .ok (.getfield 103, 3) := dk_180 0 103 (dk_at dksX0_judge_4 6 rfl rfl)
theorem dX0_judge_104 : decode cX0_judge 104 = .ok (.if_icmp .ge 72, 3) := dk_162 0 72 (dk_at dksX0_judge_4 9 rfl rfl)
theorem dX0_judge_107 : decode cX0_judge 107 = .ok (.iload 4, 2) := dk_21 4 (dk_at dksX0_judge_4 12 rfl rfl)
theorem dX0_judge_109 : decode cX0_judge 109 = .ok (.ifCond .eq 58, 3) := dk_153 0 58 (dk_at dksX0_judge_4 14 rfl rfl)
theorem dX0_judge_112 : decode cX0_judge 112 = .ok (.aload_n 0, 1) := dk_42 (dk_at dksX0_judge_4 17 rfl rfl)
theorem dX0_judge_113 : decode cX0_judge 113 = .ok (.getfield 45, 3) := dk_180 0 45 (dk_at dksX0_judge_4 18 rfl rfl)
theorem dX0_judge_116 : decode cX0_judge 116 = .ok (.getfield 393, 3) := dk_180 1 137 (dk_at dksX0_judge_4 21 rfl rfl)
theorem dX0_judge_119 : decode cX0_judge 119 = .ok (.bipush 12, 2) := dk_16 12 (dk_at dksX0_judge_5 0 rfl rfl)
theorem dX0_judge_121 : decode cX0_judge 121 = .ok (.aload_n 0, 1) := dk_42 (dk_at dksX0_judge_5 2 rfl rfl)
theorem dX0_judge_122 : decode cX0_judge 122 = .ok (.getfield 45, 3) := dk_180 0 45 (dk_at dksX0_judge_5 3 rfl rfl)
theorem dX0_judge_125 : decode cX0_judge 125 = .ok (.getfield 352, 3) := dk_180 1 96 (dk_at dksX0_judge_5 6 rfl rfl)
theorem dX0_judge_128 : decode cX0_judge 128 = .ok (.iconst 2, 1) := dk_5 (dk_at dksX0_judge_5 9 rfl rfl)
theorem dX0_judge_129 : decode cX0_judge 129 = .ok (.iload 5, 2) := dk_21 5 (dk_at dksX0_judge_5 10 rfl rfl)
theorem dX0_judge_131 : decode cX0_judge 131 = .ok (.imul, 1) := dk_104 (dk_at dksX0_judge_5 12 rfl rfl)
theorem dX0_judge_132 : decode cX0_judge 132 = .ok (.iaload, 1) := dk_46 (dk_at dksX0_judge_5 13 rfl rfl)
theorem dX0_judge_133 : decode cX0_judge 133 = .ok (.iadd, 1) := dk_96 (dk_at dksX0_judge_5 14 rfl rfl)
theorem dX0_judge_134 : decode cX0_judge 134 = .ok (.iaload, 1) := dk_46 (dk_at dksX0_judge_5 15 rfl rfl)
theorem dX0_judge_135 : decode cX0_judge 135 = .ok (.aload_n 0, 1) := dk_42 (dk_at dksX0_judge_5 16 rfl rfl)
theorem dX0_judge_136 : decode cX0_judge 136 = .ok (.getfield 45, 3) := dk_180 0 45 (dk_at dksX0_judge_5 17 rfl rfl)
theorem dX0_judge_139 : decode cX0_judge 139 = .ok (.getfield 393, 3) := dk_180 1 137 (dk_at dksX0_judge_5 20 rfl rfl)
theorem dX0_judge_142 : decode cX0_judge 142 = .ok (.bipush 12, 2) := dk_16 12 (dk_at dksX0_judge_6 0 rfl rfl)
theorem dX0_judge_144 : decode cX0_judge 144 = .ok (.aload_n 0, 1) := dk_42 (dk_at dksX0_judge_6 2 rfl rfl)
theorem dX0_judge_145 : decode cX0_judge 145 = .ok (.getfield 45, 3) := dk_180 0 45 (dk_at dksX0_judge_6 3 rfl rfl)
theorem dX0_judge_148 : decode cX0_judge 148 = .ok (.getfield 352, 3) := dk_180 1 96 (dk_at dksX0_judge_6 6 rfl rfl)
theorem dX0_judge_151 : decode cX0_judge 151 = .ok (.iconst 2, 1) := dk_5 (dk_at dksX0_judge_6 9 rfl rfl)
theorem dX0_judge_152 : decode cX0_judge 152 = .ok (.iload 5, 2) := dk_21 5 (dk_at dksX0_judge_6 10 rfl rfl)
theorem dX0_judge_154 : decode cX0_judge 154 = .ok (.imul, 1) := dk_104 (dk_at dksX0_judge_6 12 rfl rfl)
theorem dX0_judge_155 : decode cX0_judge 155 = .ok (.iconst 1, 1) := dk_4 (dk_at dksX0_judge_6 13 rfl rfl)
theorem dX0_judge_156 : decode cX0_judge 156 = .ok (.iadd, 1) := dk_96 (dk_at dksX0_judge_6 14 rfl rfl)
theorem dX0_judge_157 : decode cX0_judge 157 = .ok (.iaload, 1) := dk_46 (dk_at dksX0_judge_6 15 rfl rfl)
theorem dX0_judge_158 : decode cX0_judge 158 = .ok (.iadd, 1) := dk_96 (dk_at dksX0_judge_6 16 rfl rfl)
theorem dX0_judge_159 : decode cX0_judge 159 = .ok (.iaload, 1) := dk_46 (dk_at dksX0_judge_6 17 rfl rfl)
theorem dX0_judge_160 : decode cX0_judge 160 = .ok (.if_icmp .ge 7, 3) := dk_162 0 7 (dk_at dksX0_judge_6 18 rfl rfl)
theorem dX0_judge_163 : decode cX0_judge 163 = .ok (.iconst 1, 1) := dk_4 (dk_at dksX0_judge_6 21 rfl rfl)
theorem dX0_judge_164 : decode cX0_judge 164 = .ok (.goto 4, 3) := dk_167 0 4 (dk_at dksX0_judge_7 0 rfl rfl)
theorem dX0_judge_167 : decode cX0_judge 167 = .ok (.iconst 0, 1) := dk_3 (dk_at dksX0_judge_7 3 rfl rfl)
theorem dX0_judge_168 : decode cX0_judge 168 = .ok (.istore 4, 2) := dk_54 4 (dk_at dksX0_judge_7 4 rfl rfl)
theorem dX0_judge_170 : decode cX0_judge 170 = .ok (.iinc 5 1, 3) := dk_132 5 1 (dk_at dksX0_judge_7 6 rfl rfl)
theorem dX0_judge_173 : decode cX0_judge 173 = .ok (.goto (-78), 3) := dk_167 255 178 (dk_at dksX0_judge_7 9 rfl rfl)
theorem dX0_judge_176 : decode cX0_judge 176 = .ok (.iconst 0, 1) := dk_3 (dk_at dksX0_judge_7 12 rfl rfl)
theorem dX0_judge_177 : decode cX0_judge 177 = .ok (.istore 5, 2) := dk_54 5 (dk_at dksX0_judge_7 13 rfl rfl)
theorem dX0_judge_179 : decode cX0_judge 179 = .ok (.iload 5, 2) := dk_21 5 (dk_at dksX0_judge_7 15 rfl rfl)
theorem dX0_judge_181 : decode cX0_judge 181 = .ok (.bipush 6, 2) := dk_16 6 (dk_at dksX0_judge_7 17 rfl rfl)
theorem dX0_judge_183 : decode cX0_judge 183 = .ok (.if_icmp .ge 61, 3) := dk_162 0 61 (dk_at dksX0_judge_7 19 rfl rfl)
theorem dX0_judge_186 : decode cX0_judge 186 = .ok (.iload 4, 2) := dk_21 4 (dk_at dksX0_judge_7 22 rfl rfl)
theorem dX0_judge_188 : decode cX0_judge 188 = .ok (.ifCond .eq 47, 3) := dk_153 0 47 (dk_at dksX0_judge_8 0 rfl rfl)
theorem dX0_judge_191 : decode cX0_judge 191 = .ok (.aload_n 0, 1) := dk_42 (dk_at dksX0_judge_8 3 rfl rfl)
theorem dX0_judge_192 : decode cX0_judge 192 = .ok (.getfield 45, 3) := dk_180 0 45 (dk_at dksX0_judge_8 4 rfl rfl)
theorem dX0_judge_195 : decode cX0_judge 195 = .ok (.getfield 96, 3) := dk_180 0 96 (dk_at dksX0_judge_8 7 rfl rfl)
theorem dX0_judge_198 : decode cX0_judge 198 = .ok (.iload 5, 2) := dk_21 5 (dk_at dksX0_judge_8 10 rfl rfl)
theorem dX0_judge_200 : decode cX0_judge 200 = .ok (.iaload, 1) := dk_46 (dk_at dksX0_judge_8 12 rfl rfl)
theorem dX0_judge_201 : decode cX0_judge 201 = .ok (.iconst (-1), 1) := dk_2 (dk_at dksX0_judge_8 13 rfl rfl)
theorem dX0_judge_202 : decode cX0_judge 202 = .ok (.if_icmp .eq 29, 3) := dk_159 0 29 (dk_at dksX0_judge_8 14 rfl rfl)
theorem dX0_judge_205 : decode cX0_judge 205 = .ok (.aload_n 0, 1) := dk_42 (dk_at dksX0_judge_8 17 rfl rfl)
theorem dX0_judge_206 : decode cX0_judge 206 = .ok (.getfield 45, 3) := dk_180 0 45 (dk_at dksX0_judge_8 18 rfl rfl)
theorem dX0_judge_209 : decode cX0_judge 209 = .ok (.getfield 393, 3) := dk_180 1 137 (dk_at dksX0_judge_8 21 rfl rfl)
theorem dX0_judge_212 : decode cX0_judge 212 = .ok (.bipush 6, 2) := dk_16 6 (dk_at dksX0_judge_9 0 rfl rfl)
theorem dX0_judge_214 : decode cX0_judge 214 = .ok (.iload 5, 2) := dk_21 5 (dk_at dksX0_judge_9 2 rfl rfl)
theorem dX0_judge_216 : decode cX0_judge 216 = .ok (.iadd, 1) := dk_96 (dk_at dksX0_judge_9 4 rfl rfl)
theorem dX0_judge_217 : decode cX0_judge 217 = .ok (.iaload, 1) := dk_46 (dk_at dksX0_judge_9 5 rfl rfl)
theorem dX0_judge_218 : decode cX0_judge 218 = .ok (.aload_n 0, 1) := dk_42 (dk_at dksX0_judge_9 6 rfl rfl)
theorem dX0_judge_219 : decode cX0_judge 219 = .ok (.getfield 45, 3) := dk_180 0 45 (dk_at dksX0_judge_9 7 rfl rfl)
theorem dX0_judge_222 : decode cX0_judge 222 = .ok (.getfield 393, 3) := dk_180 1 137 (dk_at dksX0_judge_9 10 rfl rfl)
theorem dX0_judge_225 : decode cX0_judge 225 = .ok (.iload 5, 2) := dk_21 5 (dk_at dksX0_judge_9 13 rfl rfl)
theorem dX0_judge_227 : decode cX0_judge 227 = .ok (.iaload, 1) := dk_46 (dk_at dksX0_judge_9 15 rfl rfl)
theorem dX0_judge_228 : decode cX0_judge 228 = .ok (.if_icmp .gt 7, 3) := dk_163 0 7 (dk_at dksX0_judge_9 16 rfl rfl)
theorem dX0_judge_231 : decode cX0_judge 231 = .ok (.iconst 1, 1) := dk_4 (dk_at dksX0_judge_9 19 rfl rfl)
theorem dX0_judge_232 : decode cX0_judge 232 = .ok (.goto 4, 3) := dk_167 0 4 (dk_at dksX0_judge_9 20 rfl rfl)
theorem dX0_judge_235 : decode cX0_judge 235 = .ok (.iconst 0, 1) := dk_3 (dk_at dksX0_judge_9 23 rfl rfl)
theorem dX0_judge_236 : decode cX0_judge 236 = .ok (.istore 4, 2) := dk_54 4 (dk_at dksX0_judge_10 0 rfl rfl)
theorem dX0_judge_238 : decode cX0_judge 238 = .ok (.iinc 5 1, 3) := dk_132 5 1 (dk_at dksX0_judge_10 2 rfl rfl)
theorem dX0_judge_241 : decode cX0_judge 241 = .ok (.goto (-62), 3) := dk_167 255 194 (dk_at dksX0_judge_10 5 rfl rfl)
theorem dX0_judge_244 : decode cX0_judge 244 = .ok (.iload 4, 2) := dk_21 4 (dk_at dksX0_judge_10 8 rfl rfl)
theorem dX0_judge_246 : decode cX0_judge 246 = .ok (.ifCond .eq 7, 3) := dk_153 0 7 (dk_at dksX0_judge_10 10 rfl rfl)
theorem dX0_judge_249 : decode cX0_judge 249 = .ok (.iconst 1, 1) := dk_4 (dk_at dksX0_judge_10 13 rfl rfl)
theorem dX0_judge_250 : decode cX0_judge 250 = .ok (.goto 4, 3) := dk_167 0 4 (dk_at dksX0_judge_10 14 rfl rfl)
theorem dX0_judge_253 : decode cX0_judge 253 = .ok (.iconst 0, 1) := dk_3 (dk_at dksX0_judge_10 17 rfl rfl)
theorem dX0_judge_254 : decode cX0_judge 254 = .ok (.ireturn, 1) := dk_172 (dk_at dksX0_judge_10 18 rfl rfl)
abbrev cX0_isSo : ByteArray := prog_1_method_68_code
def yX0_isSo : MethodName := ⟨RX0, "isSo", "(I)Z"⟩
def dkwX0_isSo_4 : List UInt8 := [172]
abbrev dktX0_isSo_4 : List UInt8 := dkwX0_isSo_4 ++ []
def dkwX0_isSo_3 : List UInt8 := [180, 0, 45, 180, 0, 86, 44, 180, 0, 137, 46, 96, 46, 182, 1, 143, 153, 0, 7, 4, 167, 0, 4, 3]
abbrev dktX0_isSo_3 : List UInt8 := dkwX0_isSo_3 ++ dktX0_isSo_4
def dkwX0_isSo_2 : List UInt8 := [180, 1, 137, 42, 180, 0, 45, 44, 182, 0, 146, 46, 42, 180, 0, 45, 180, 1, 137, 16, 12, 42]
abbrev dktX0_isSo_2 : List UInt8 := dkwX0_isSo_2 ++ dktX0_isSo_3
def dkwX0_isSo_1 : List UInt8 := [153, 0, 65, 42, 180, 0, 45, 180, 0, 86, 44, 180, 0, 137, 46, 2, 159, 0, 49, 44, 42, 180, 0, 45]
abbrev dktX0_isSo_1 : List UInt8 := dkwX0_isSo_1 ++ dktX0_isSo_2
def dkwX0_isSo_0 : List UInt8 := [42, 180, 0, 45, 180, 0, 49, 27, 182, 0, 130, 192, 0, 114, 77, 42, 180, 0, 45, 180, 0, 126, 27, 51]
abbrev dktX0_isSo_0 : List UInt8 := dkwX0_isSo_0 ++ dktX0_isSo_1
theorem dksX0_isSo_0 : cX0_isSo.data.toList.drop 0 = dktX0_isSo_0 := by decide +kernel
theorem dksX0_isSo_1 : cX0_isSo.data.toList.drop 24 = dktX0_isSo_1 := dk_seg dksX0_isSo_0 24 rfl rfl
theorem dksX0_isSo_2 : cX0_isSo.data.toList.drop 48 = dktX0_isSo_2 := dk_seg dksX0_isSo_1 24 rfl rfl
theorem dksX0_isSo_3 : cX0_isSo.data.toList.drop 70 = dktX0_isSo_3 := dk_seg dksX0_isSo_2 22 rfl rfl
theorem dksX0_isSo_4 : cX0_isSo.data.toList.drop 94 = dktX0_isSo_4 := dk_seg dksX0_isSo_3 24 rfl rfl
theorem dX0_isSo_0 : decode cX0_isSo 0 = .ok (.aload_n 0, 1) := dk_42 (dk_at dksX0_isSo_0 0 rfl rfl)
theorem dX0_isSo_1 : decode cX0_isSo 1 = .ok (.getfield 45, 3) := dk_180 0 45 (dk_at dksX0_isSo_0 1 rfl rfl)
theorem dX0_isSo_4 : decode cX0_isSo 4 = .ok (.getfield 49, 3) := dk_180 0 49 (dk_at dksX0_isSo_0 4 rfl rfl)
theorem dX0_isSo_7 : decode cX0_isSo 7 = .ok (.iload_n 1, 1) := dk_27 (dk_at dksX0_isSo_0 7 rfl rfl)
theorem dX0_isSo_8 : decode cX0_isSo 8 = .ok (.invokevirtual 130, 3) := dk_182 0 130 (dk_at dksX0_isSo_0 8 rfl rfl)
theorem dX0_isSo_11 : decode cX0_isSo 11 = .ok (.checkcast 114, 3) := dk_192 0 114 (dk_at dksX0_isSo_0 11 rfl rfl)
theorem dX0_isSo_14 : decode cX0_isSo 14 = .ok (.astore_n 2, 1) := dk_77 (dk_at dksX0_isSo_0 14 rfl rfl)
theorem dX0_isSo_15 : decode cX0_isSo 15 = .ok (.aload_n 0, 1) := dk_42 (dk_at dksX0_isSo_0 15 rfl rfl)
theorem dX0_isSo_16 : decode cX0_isSo 16 = .ok (.getfield 45, 3) := dk_180 0 45 (dk_at dksX0_isSo_0 16 rfl rfl)
theorem dX0_isSo_19 : decode cX0_isSo 19 = .ok (.getfield 126, 3) := dk_180 0 126 (dk_at dksX0_isSo_0 19 rfl rfl)
theorem dX0_isSo_22 : decode cX0_isSo 22 = .ok (.iload_n 1, 1) := dk_27 (dk_at dksX0_isSo_0 22 rfl rfl)
theorem dX0_isSo_23 : decode cX0_isSo 23 = .ok (.baload, 1) := dk_51 (dk_at dksX0_isSo_0 23 rfl rfl)
theorem dX0_isSo_24 : decode cX0_isSo 24 = .ok (.ifCond .eq 65, 3) := dk_153 0 65 (dk_at dksX0_isSo_1 0 rfl rfl)
theorem dX0_isSo_27 : decode cX0_isSo 27 = .ok (.aload_n 0, 1) := dk_42 (dk_at dksX0_isSo_1 3 rfl rfl)
theorem dX0_isSo_28 : decode cX0_isSo 28 = .ok (.getfield 45, 3) := dk_180 0 45 (dk_at dksX0_isSo_1 4 rfl rfl)
theorem dX0_isSo_31 : decode cX0_isSo 31 = .ok (.getfield 86, 3) := dk_180 0 86 (dk_at dksX0_isSo_1 7 rfl rfl)
theorem dX0_isSo_34 : decode cX0_isSo 34 = .ok (.aload_n 2, 1) := dk_44 (dk_at dksX0_isSo_1 10 rfl rfl)
theorem dX0_isSo_35 : decode cX0_isSo 35 = .ok (.getfield 137, 3) := dk_180 0 137 (dk_at dksX0_isSo_1 11 rfl rfl)
theorem dX0_isSo_38 : decode cX0_isSo 38 = .ok (.iaload, 1) := dk_46 (dk_at dksX0_isSo_1 14 rfl rfl)
theorem dX0_isSo_39 : decode cX0_isSo 39 = .ok (.iconst (-1), 1) := dk_2 (dk_at dksX0_isSo_1 15 rfl rfl)
theorem dX0_isSo_40 : decode cX0_isSo 40 = .ok (.if_icmp .eq 49, 3) := dk_159 0 49 (dk_at dksX0_isSo_1 16 rfl rfl)
theorem dX0_isSo_43 : decode cX0_isSo 43 = .ok (.aload_n 2, 1) := dk_44 (dk_at dksX0_isSo_1 19 rfl rfl)
theorem dX0_isSo_44 : decode cX0_isSo 44 = .ok (.aload_n 0, 1) := dk_42 (dk_at dksX0_isSo_1 20 rfl rfl)
theorem dX0_isSo_45 : decode cX0_isSo 45 = .ok (.getfield 45, 3) := dk_180 0 45 (dk_at dksX0_isSo_1 21 rfl rfl)
theorem dX0_isSo_48 : decode cX0_isSo 48 = .ok (.getfield 393, 3) := dk_180 1 137 (dk_at dksX0_isSo_2 0 rfl rfl)
theorem dX0_isSo_51 : decode cX0_isSo 51 = .ok (.aload_n 0, 1) := dk_42 (dk_at dksX0_isSo_2 3 rfl rfl)
theorem dX0_isSo_52 : decode cX0_isSo 52 = .ok (.getfield 45, 3) := dk_180 0 45 (dk_at dksX0_isSo_2 4 rfl rfl)
theorem dX0_isSo_55 : decode cX0_isSo 55 = .ok (.aload_n 2, 1) := dk_44 (dk_at dksX0_isSo_2 7 rfl rfl)
theorem dX0_isSo_56 : decode cX0_isSo 56 = .ok (.invokevirtual 146, 3) := dk_182 0 146 (dk_at dksX0_isSo_2 8 rfl rfl)
theorem dX0_isSo_59 : decode cX0_isSo 59 = .ok (.iaload, 1) := dk_46 (dk_at dksX0_isSo_2 11 rfl rfl)
theorem dX0_isSo_60 : decode cX0_isSo 60 = .ok (.aload_n 0, 1) := dk_42 (dk_at dksX0_isSo_2 12 rfl rfl)
theorem dX0_isSo_61 : decode cX0_isSo 61 = .ok (.getfield 45, 3) := dk_180 0 45 (dk_at dksX0_isSo_2 13 rfl rfl)
theorem dX0_isSo_64 : decode cX0_isSo 64 = .ok (.getfield 393, 3) := dk_180 1 137 (dk_at dksX0_isSo_2 16 rfl rfl)
theorem dX0_isSo_67 : decode cX0_isSo 67 = .ok (.bipush 12, 2) := dk_16 12 (dk_at dksX0_isSo_2 19 rfl rfl)
theorem dX0_isSo_69 : decode cX0_isSo 69 = .ok (.aload_n 0, 1) := dk_42 (dk_at dksX0_isSo_2 21 rfl rfl)
theorem dX0_isSo_70 : decode cX0_isSo 70 = .ok (.getfield 45, 3) := dk_180 0 45 (dk_at dksX0_isSo_3 0 rfl rfl)
theorem dX0_isSo_73 : decode cX0_isSo 73 = .ok (.getfield 86, 3) := dk_180 0 86 (dk_at dksX0_isSo_3 3 rfl rfl)
theorem dX0_isSo_76 : decode cX0_isSo 76 = .ok (.aload_n 2, 1) := dk_44 (dk_at dksX0_isSo_3 6 rfl rfl)
theorem dX0_isSo_77 : decode cX0_isSo 77 = .ok (.getfield 137, 3) := dk_180 0 137 (dk_at dksX0_isSo_3 7 rfl rfl)
theorem dX0_isSo_80 : decode cX0_isSo 80 = .ok (.iaload, 1) := dk_46 (dk_at dksX0_isSo_3 10 rfl rfl)
theorem dX0_isSo_81 : decode cX0_isSo 81 = .ok (.iadd, 1) := dk_96 (dk_at dksX0_isSo_3 11 rfl rfl)
theorem dX0_isSo_82 : decode cX0_isSo 82 = .ok (.iaload, 1) := dk_46 (dk_at dksX0_isSo_3 12 rfl rfl)
theorem dX0_isSo_83 : decode cX0_isSo 83 = .ok (.invokevirtual 399, 3) := dk_182 1 143 (dk_at dksX0_isSo_3 13 rfl rfl)
theorem dX0_isSo_86 : decode cX0_isSo 86 = .ok (.ifCond .eq 7, 3) := dk_153 0 7 (dk_at dksX0_isSo_3 16 rfl rfl)
theorem dX0_isSo_89 : decode cX0_isSo 89 = .ok (.iconst 1, 1) := dk_4 (dk_at dksX0_isSo_3 19 rfl rfl)
theorem dX0_isSo_90 : decode cX0_isSo 90 = .ok (.goto 4, 3) := dk_167 0 4 (dk_at dksX0_isSo_3 20 rfl rfl)
theorem dX0_isSo_93 : decode cX0_isSo 93 = .ok (.iconst 0, 1) := dk_3 (dk_at dksX0_isSo_3 23 rfl rfl)
theorem dX0_isSo_94 : decode cX0_isSo 94 = .ok (.ireturn, 1) := dk_172 (dk_at dksX0_isSo_4 0 rfl rfl)
abbrev cX0_year : ByteArray := prog_1_method_70_code
def yX0_year : MethodName := ⟨RX0, "year", "(III)I"⟩
def dkwX0_year_2 : List UInt8 := [28, 182, 1, 151, 42, 29, 42, 180, 0, 235, 180, 1, 154, 104, 182, 0, 37, 172]
abbrev dktX0_year_2 : List UInt8 := dkwX0_year_2 ++ []
def dkwX0_year_1 : List UInt8 := [184, 0, 41, 154, 0, 9, 42, 2, 182, 0, 61, 172, 42, 180, 0, 235, 27, 182, 1, 148, 42, 180, 0, 235]
abbrev dktX0_year_1 : List UInt8 := dkwX0_year_1 ++ dktX0_year_2
def dkwX0_year_0 : List UInt8 := [27, 3, 19, 1, 4, 184, 0, 41, 153, 0, 20, 28, 184, 0, 93, 153, 0, 13, 29, 4, 16, 99]
abbrev dktX0_year_0 : List UInt8 := dkwX0_year_0 ++ dktX0_year_1
theorem dksX0_year_0 : cX0_year.data.toList.drop 0 = dktX0_year_0 := by decide +kernel
theorem dksX0_year_1 : cX0_year.data.toList.drop 22 = dktX0_year_1 := dk_seg dksX0_year_0 22 rfl rfl
theorem dksX0_year_2 : cX0_year.data.toList.drop 46 = dktX0_year_2 := dk_seg dksX0_year_1 24 rfl rfl
theorem dX0_year_0 : decode cX0_year 0 = .ok (.iload_n 1, 1) := dk_27 (dk_at dksX0_year_0 0 rfl rfl)
theorem dX0_year_1 : decode cX0_year 1 = .ok (.iconst 0, 1) := dk_3 (dk_at dksX0_year_0 1 rfl rfl)
theorem dX0_year_2 : decode cX0_year 2 = .ok (.ldc_w 260, 3) := dk_19 1 4 (dk_at dksX0_year_0 2 rfl rfl)
theorem dX0_year_5 : decode cX0_year 5 = .ok (.invokestatic 41, 3) := dk_184 0 41 (dk_at dksX0_year_0 5 rfl rfl)
theorem dX0_year_8 : decode cX0_year 8 = .ok (.ifCond .eq 20, 3) := dk_153 0 20 (dk_at dksX0_year_0 8 rfl rfl)
theorem dX0_year_11 : decode cX0_year 11 = .ok (.iload_n 2, 1) := dk_28 (dk_at dksX0_year_0 11 rfl rfl)
theorem dX0_year_12 : decode cX0_year 12 = .ok (.invokestatic 93, 3) := dk_184 0 93 (dk_at dksX0_year_0 12 rfl rfl)
theorem dX0_year_15 : decode cX0_year 15 = .ok (.ifCond .eq 13, 3) := dk_153 0 13 (dk_at dksX0_year_0 15 rfl rfl)
theorem dX0_year_18 : decode cX0_year 18 = .ok (.iload_n 3, 1) := dk_29 (dk_at dksX0_year_0 18 rfl rfl)
theorem dX0_year_19 : decode cX0_year 19 = .ok (.iconst 1, 1) := dk_4 (dk_at dksX0_year_0 19 rfl rfl)
theorem dX0_year_20 : decode cX0_year 20 = .ok (.bipush 99, 2) := dk_16 99 (dk_at dksX0_year_0 20 rfl rfl)
theorem dX0_year_22 : decode cX0_year 22 = .ok (.invokestatic 41, 3) := dk_184 0 41 (dk_at dksX0_year_1 0 rfl rfl)
theorem dX0_year_25 : decode cX0_year 25 = .ok (.ifCond .ne 9, 3) := dk_154 0 9 (dk_at dksX0_year_1 3 rfl rfl)
theorem dX0_year_28 : decode cX0_year 28 = .ok (.aload_n 0, 1) := dk_42 (dk_at dksX0_year_1 6 rfl rfl)
theorem dX0_year_29 : decode cX0_year 29 = .ok (.iconst (-1), 1) := dk_2 (dk_at dksX0_year_1 7 rfl rfl)
theorem dX0_year_30 : decode cX0_year 30 = .ok (.invokevirtual 61, 3) := dk_182 0 61 (dk_at dksX0_year_1 8 rfl rfl)
theorem dX0_year_33 : decode cX0_year 33 = .ok (.ireturn, 1) := dk_172 (dk_at dksX0_year_1 11 rfl rfl)
theorem dX0_year_34 : decode cX0_year 34 = .ok (.aload_n 0, 1) := dk_42 (dk_at dksX0_year_1 12 rfl rfl)
theorem dX0_year_35 : decode cX0_year 35 = .ok (.getfield 235, 3) := dk_180 0 235 (dk_at dksX0_year_1 13 rfl rfl)
theorem dX0_year_38 : decode cX0_year 38 = .ok (.iload_n 1, 1) := dk_27 (dk_at dksX0_year_1 16 rfl rfl)
theorem dX0_year_39 : decode cX0_year 39 = .ok (.invokevirtual 404, 3) := dk_182 1 148 (dk_at dksX0_year_1 17 rfl rfl)
theorem dX0_year_42 : decode cX0_year 42 = .ok (.aload_n 0, 1) := dk_42 (dk_at dksX0_year_1 20 rfl rfl)
theorem dX0_year_43 : decode cX0_year 43 = .ok (.getfield 235, 3) := dk_180 0 235 (dk_at dksX0_year_1 21 rfl rfl)
theorem dX0_year_46 : decode cX0_year 46 = .ok (.iload_n 2, 1) := dk_28 (dk_at dksX0_year_2 0 rfl rfl)
theorem dX0_year_47 : decode cX0_year 47 = .ok (.invokevirtual 407, 3) := dk_182 1 151 (dk_at dksX0_year_2 1 rfl rfl)
theorem dX0_year_50 : decode cX0_year 50 = .ok (.aload_n 0, 1) := dk_42 (dk_at dksX0_year_2 4 rfl rfl)
theorem dX0_year_51 : decode cX0_year 51 = .ok (.iload_n 3, 1) := dk_29 (dk_at dksX0_year_2 5 rfl rfl)
theorem dX0_year_52 : decode cX0_year 52 = .ok (.aload_n 0, 1) := dk_42 (dk_at dksX0_year_2 6 rfl rfl)
theorem dX0_year_53 : decode cX0_year 53 = .ok (.getfield 235, 3) := dk_180 0 235 (dk_at dksX0_year_2 7 rfl rfl)
theorem dX0_year_56 : decode cX0_year 56 = .ok (.getfield 410, 3) := dk_180 1 154 (dk_at dksX0_year_2 10 rfl rfl)
theorem dX0_year_59 : decode cX0_year 59 = .ok (.imul, 1) := dk_104 (dk_at dksX0_year_2 13 rfl rfl)
theorem dX0_year_60 : decode cX0_year 60 = .ok (.invokevirtual 37, 3) := dk_182 0 37 (dk_at dksX0_year_2 14 rfl rfl)
theorem dX0_year_63 : decode cX0_year 63 = .ok (.ireturn, 1) := dk_172 (dk_at dksX0_year_2 17 rfl rfl)
abbrev cX0_trade : ByteArray := prog_1_method_71_code
def yX0_trade : MethodName := ⟨RX0, "trade", "(I)I"⟩
def dkwX0_trade_2 : List UInt8 := [180, 1, 163, 167, 0, 14, 42, 180, 0, 235, 180, 1, 166, 27, 5, 100, 46, 172]
abbrev dktX0_trade_2 : List UInt8 := dkwX0_trade_2 ++ []
def dkwX0_trade_1 : List UInt8 := [154, 0, 13, 42, 180, 0, 235, 180, 1, 160, 167, 0, 29, 27, 4, 160, 0, 13, 42, 180, 0, 235]
abbrev dktX0_trade_1 : List UInt8 := dkwX0_trade_1 ++ dktX0_trade_2
def dkwX0_trade_0 : List UInt8 := [42, 180, 0, 235, 180, 1, 157, 153, 0, 13, 27, 3, 16, 33, 184, 0, 41, 154, 0, 5, 2, 172, 27]
abbrev dktX0_trade_0 : List UInt8 := dkwX0_trade_0 ++ dktX0_trade_1
theorem dksX0_trade_0 : cX0_trade.data.toList.drop 0 = dktX0_trade_0 := by decide +kernel
theorem dksX0_trade_1 : cX0_trade.data.toList.drop 23 = dktX0_trade_1 := dk_seg dksX0_trade_0 23 rfl rfl
theorem dksX0_trade_2 : cX0_trade.data.toList.drop 45 = dktX0_trade_2 := dk_seg dksX0_trade_1 22 rfl rfl
theorem dX0_trade_0 : decode cX0_trade 0 = .ok (.aload_n 0, 1) := dk_42 (dk_at dksX0_trade_0 0 rfl rfl)
theorem dX0_trade_1 : decode cX0_trade 1 = .ok (.getfield 235, 3) := dk_180 0 235 (dk_at dksX0_trade_0 1 rfl rfl)
theorem dX0_trade_4 : decode cX0_trade 4 = .ok (.getfield 413, 3) := dk_180 1 157 (dk_at dksX0_trade_0 4 rfl rfl)
theorem dX0_trade_7 : decode cX0_trade 7 = .ok (.ifCond .eq 13, 3) := dk_153 0 13 (dk_at dksX0_trade_0 7 rfl rfl)
theorem dX0_trade_10 : decode cX0_trade 10 = .ok (.iload_n 1, 1) := dk_27 (dk_at dksX0_trade_0 10 rfl rfl)
theorem dX0_trade_11 : decode cX0_trade 11 = .ok (.iconst 0, 1) := dk_3 (dk_at dksX0_trade_0 11 rfl rfl)
theorem dX0_trade_12 : decode cX0_trade 12 = .ok (.bipush 33, 2) := dk_16 33 (dk_at dksX0_trade_0 12 rfl rfl)
theorem dX0_trade_14 : decode cX0_trade 14 = .ok (.invokestatic 41, 3) := dk_184 0 41 (dk_at dksX0_trade_0 14 rfl rfl)
theorem dX0_trade_17 : decode cX0_trade 17 = .ok (.ifCond .ne 5, 3) := dk_154 0 5 (dk_at dksX0_trade_0 17 rfl rfl)
theorem dX0_trade_20 : decode cX0_trade 20 = .ok (.iconst (-1), 1) := dk_2 (dk_at dksX0_trade_0 20 rfl rfl)
theorem dX0_trade_21 : decode cX0_trade 21 = .ok (.ireturn, 1) := dk_172 (dk_at dksX0_trade_0 21 rfl rfl)
theorem dX0_trade_22 : decode cX0_trade 22 = .ok (.iload_n 1, 1) := dk_27 (dk_at dksX0_trade_0 22 rfl rfl)
theorem dX0_trade_23 : decode cX0_trade 23 = .ok (.ifCond .ne 13, 3) := dk_154 0 13 (dk_at dksX0_trade_1 0 rfl rfl)
theorem dX0_trade_26 : decode cX0_trade 26 = .ok (.aload_n 0, 1) := dk_42 (dk_at dksX0_trade_1 3 rfl rfl)
theorem dX0_trade_27 : decode cX0_trade 27 = .ok (.getfield 235, 3) := dk_180 0 235 (dk_at dksX0_trade_1 4 rfl rfl)
theorem dX0_trade_30 : decode cX0_trade 30 = .ok (.getfield 416, 3) := dk_180 1 160 (dk_at dksX0_trade_1 7 rfl rfl)
theorem dX0_trade_33 : decode cX0_trade 33 = .ok (.goto 29, 3) := dk_167 0 29 (dk_at dksX0_trade_1 10 rfl rfl)
theorem dX0_trade_36 : decode cX0_trade 36 = .ok (.iload_n 1, 1) := dk_27 (dk_at dksX0_trade_1 13 rfl rfl)
theorem dX0_trade_37 : decode cX0_trade 37 = .ok (.iconst 1, 1) := dk_4 (dk_at dksX0_trade_1 14 rfl rfl)
theorem dX0_trade_38 : decode cX0_trade 38 = .ok (.if_icmp .ne 13, 3) := dk_160 0 13 (dk_at dksX0_trade_1 15 rfl rfl)
theorem dX0_trade_41 : decode cX0_trade 41 = .ok (.aload_n 0, 1) := dk_42 (dk_at dksX0_trade_1 18 rfl rfl)
theorem dX0_trade_42 : decode cX0_trade 42 = .ok (.getfield 235, 3) := dk_180 0 235 (dk_at dksX0_trade_1 19 rfl rfl)
theorem dX0_trade_45 : decode cX0_trade 45 = .ok (.getfield 419, 3) := dk_180 1 163 (dk_at dksX0_trade_2 0 rfl rfl)
theorem dX0_trade_48 : decode cX0_trade 48 = .ok (.goto 14, 3) := dk_167 0 14 (dk_at dksX0_trade_2 3 rfl rfl)
theorem dX0_trade_51 : decode cX0_trade 51 = .ok (.aload_n 0, 1) := dk_42 (dk_at dksX0_trade_2 6 rfl rfl)
theorem dX0_trade_52 : decode cX0_trade 52 = .ok (.getfield 235, 3) := dk_180 0 235 (dk_at dksX0_trade_2 7 rfl rfl)
theorem dX0_trade_55 : decode cX0_trade 55 = .ok (.getfield 422, 3) := dk_180 1 166 (dk_at dksX0_trade_2 10 rfl rfl)
theorem dX0_trade_58 : decode cX0_trade 58 = .ok (.iload_n 1, 1) := dk_27 (dk_at dksX0_trade_2 13 rfl rfl)
theorem dX0_trade_59 : decode cX0_trade 59 = .ok (.iconst 2, 1) := dk_5 (dk_at dksX0_trade_2 14 rfl rfl)
theorem dX0_trade_60 : decode cX0_trade 60 = .ok (.isub, 1) := dk_100 (dk_at dksX0_trade_2 15 rfl rfl)
theorem dX0_trade_61 : decode cX0_trade 61 = .ok (.iaload, 1) := dk_46 (dk_at dksX0_trade_2 16 rfl rfl)
theorem dX0_trade_62 : decode cX0_trade 62 = .ok (.ireturn, 1) := dk_172 (dk_at dksX0_trade_2 17 rfl rfl)
abbrev cX0_told : ByteArray := prog_1_method_72_code
def yX0_told : MethodName := ⟨RX0, "told", "(I)I"⟩
def dkwX0_told_3 : List UInt8 := [96, 61, 132, 3, 1, 167, 255, 202, 28, 172]
abbrev dktX0_told_3 : List UInt8 := dkwX0_told_3 ++ []
def dkwX0_told_2 : List UInt8 := [42, 180, 0, 45, 180, 0, 96, 27, 46, 161, 0, 10, 27, 16, 6, 96, 167, 0, 4, 27, 29, 182, 1, 167]
abbrev dktX0_told_2 : List UInt8 := dkwX0_told_2 ++ dktX0_told_3
def dkwX0_told_1 : List UInt8 := [16, 32, 162, 0, 54, 28, 42, 180, 0, 235, 42, 180, 0, 45, 180, 0, 96, 27, 46, 2, 159, 0, 23, 29]
abbrev dktX0_told_1 : List UInt8 := dkwX0_told_1 ++ dktX0_told_2
def dkwX0_told_0 : List UInt8 := [42, 180, 0, 235, 180, 1, 157, 153, 0, 10, 27, 184, 0, 93, 154, 0, 5, 2, 172, 3, 61, 3, 62, 29]
abbrev dktX0_told_0 : List UInt8 := dkwX0_told_0 ++ dktX0_told_1
theorem dksX0_told_0 : cX0_told.data.toList.drop 0 = dktX0_told_0 := by decide +kernel
theorem dksX0_told_1 : cX0_told.data.toList.drop 24 = dktX0_told_1 := dk_seg dksX0_told_0 24 rfl rfl
theorem dksX0_told_2 : cX0_told.data.toList.drop 48 = dktX0_told_2 := dk_seg dksX0_told_1 24 rfl rfl
theorem dksX0_told_3 : cX0_told.data.toList.drop 72 = dktX0_told_3 := dk_seg dksX0_told_2 24 rfl rfl
theorem dX0_told_0 : decode cX0_told 0 = .ok (.aload_n 0, 1) := dk_42 (dk_at dksX0_told_0 0 rfl rfl)
theorem dX0_told_1 : decode cX0_told 1 = .ok (.getfield 235, 3) := dk_180 0 235 (dk_at dksX0_told_0 1 rfl rfl)
theorem dX0_told_4 : decode cX0_told 4 = .ok (.getfield 413, 3) := dk_180 1 157 (dk_at dksX0_told_0 4 rfl rfl)
theorem dX0_told_7 : decode cX0_told 7 = .ok (.ifCond .eq 10, 3) := dk_153 0 10 (dk_at dksX0_told_0 7 rfl rfl)
theorem dX0_told_10 : decode cX0_told 10 = .ok (.iload_n 1, 1) := dk_27 (dk_at dksX0_told_0 10 rfl rfl)
theorem dX0_told_11 : decode cX0_told 11 = .ok (.invokestatic 93, 3) := dk_184 0 93 (dk_at dksX0_told_0 11 rfl rfl)
theorem dX0_told_14 : decode cX0_told 14 = .ok (.ifCond .ne 5, 3) := dk_154 0 5 (dk_at dksX0_told_0 14 rfl rfl)
theorem dX0_told_17 : decode cX0_told 17 = .ok (.iconst (-1), 1) := dk_2 (dk_at dksX0_told_0 17 rfl rfl)
theorem dX0_told_18 : decode cX0_told 18 = .ok (.ireturn, 1) := dk_172 (dk_at dksX0_told_0 18 rfl rfl)
theorem dX0_told_19 : decode cX0_told 19 = .ok (.iconst 0, 1) := dk_3 (dk_at dksX0_told_0 19 rfl rfl)
theorem dX0_told_20 : decode cX0_told 20 = .ok (.istore_n 2, 1) := dk_61 (dk_at dksX0_told_0 20 rfl rfl)
theorem dX0_told_21 : decode cX0_told 21 = .ok (.iconst 0, 1) := dk_3 (dk_at dksX0_told_0 21 rfl rfl)
theorem dX0_told_22 : decode cX0_told 22 = .ok (.istore_n 3, 1) := dk_62 (dk_at dksX0_told_0 22 rfl rfl)
theorem dX0_told_23 : decode cX0_told 23 = .ok (.iload_n 3, 1) := dk_29 (dk_at dksX0_told_0 23 rfl rfl)
theorem dX0_told_24 : decode cX0_told 24 = .ok (.bipush 32, 2) := dk_16 32 (dk_at dksX0_told_1 0 rfl rfl)
theorem dX0_told_26 : decode cX0_told 26 = .ok (.if_icmp .ge 54, 3) := dk_162 0 54 (dk_at dksX0_told_1 2 rfl rfl)
theorem dX0_told_29 : decode cX0_told 29 = .ok (.iload_n 2, 1) := dk_28 (dk_at dksX0_told_1 5 rfl rfl)
theorem dX0_told_30 : decode cX0_told 30 = .ok (.aload_n 0, 1) := dk_42 (dk_at dksX0_told_1 6 rfl rfl)
theorem dX0_told_31 : decode cX0_told 31 = .ok (.getfield 235, 3) := dk_180 0 235 (dk_at dksX0_told_1 7 rfl rfl)
theorem dX0_told_34 : decode cX0_told 34 = .ok (.aload_n 0, 1) := dk_42 (dk_at dksX0_told_1 10 rfl rfl)
theorem dX0_told_35 : decode cX0_told 35 = .ok (.getfield 45, 3) := dk_180 0 45 (dk_at dksX0_told_1 11 rfl rfl)
theorem dX0_told_38 : decode cX0_told 38 = .ok (.getfield 96, 3) := dk_180 0 96 (dk_at dksX0_told_1 14 rfl rfl)
theorem dX0_told_41 : decode cX0_told 41 = .ok (.iload_n 1, 1) := dk_27 (dk_at dksX0_told_1 17 rfl rfl)
theorem dX0_told_42 : decode cX0_told 42 = .ok (.iaload, 1) := dk_46 (dk_at dksX0_told_1 18 rfl rfl)
theorem dX0_told_43 : decode cX0_told 43 = .ok (.iconst (-1), 1) := dk_2 (dk_at dksX0_told_1 19 rfl rfl)
theorem dX0_told_44 : decode cX0_told 44 = .ok (.if_icmp .eq 23, 3) := dk_159 0 23 (dk_at dksX0_told_1 20 rfl rfl)
theorem dX0_told_47 : decode cX0_told 47 = .ok (.iload_n 3, 1) := dk_29 (dk_at dksX0_told_1 23 rfl rfl)
theorem dX0_told_48 : decode cX0_told 48 = .ok (.aload_n 0, 1) := dk_42 (dk_at dksX0_told_2 0 rfl rfl)
theorem dX0_told_49 : decode cX0_told 49 = .ok (.getfield 45, 3) := dk_180 0 45 (dk_at dksX0_told_2 1 rfl rfl)
theorem dX0_told_52 : decode cX0_told 52 = .ok (.getfield 96, 3) := dk_180 0 96 (dk_at dksX0_told_2 4 rfl rfl)
theorem dX0_told_55 : decode cX0_told 55 = .ok (.iload_n 1, 1) := dk_27 (dk_at dksX0_told_2 7 rfl rfl)
theorem dX0_told_56 : decode cX0_told 56 = .ok (.iaload, 1) := dk_46 (dk_at dksX0_told_2 8 rfl rfl)
theorem dX0_told_57 : decode cX0_told 57 = .ok (.if_icmp .lt 10, 3) := dk_161 0 10 (dk_at dksX0_told_2 9 rfl rfl)
theorem dX0_told_60 : decode cX0_told 60 = .ok (.iload_n 1, 1) := dk_27 (dk_at dksX0_told_2 12 rfl rfl)
theorem dX0_told_61 : decode cX0_told 61 = .ok (.bipush 6, 2) := dk_16 6 (dk_at dksX0_told_2 13 rfl rfl)
theorem dX0_told_63 : decode cX0_told 63 = .ok (.iadd, 1) := dk_96 (dk_at dksX0_told_2 15 rfl rfl)
theorem dX0_told_64 : decode cX0_told 64 = .ok (.goto 4, 3) := dk_167 0 4 (dk_at dksX0_told_2 16 rfl rfl)
theorem dX0_told_67 : decode cX0_told 67 = .ok (.iload_n 1, 1) := dk_27 (dk_at dksX0_told_2 19 rfl rfl)
theorem dX0_told_68 : decode cX0_told 68 = .ok (.iload_n 3, 1) := dk_29 (dk_at dksX0_told_2 20 rfl rfl)
theorem dX0_told_69 : decode cX0_told 69 = .ok (.invokevirtual 423, 3) := dk_182 1 167 (dk_at dksX0_told_2 21 rfl rfl)
theorem dX0_told_72 : decode cX0_told 72 = .ok (.iadd, 1) := dk_96 (dk_at dksX0_told_3 0 rfl rfl)
theorem dX0_told_73 : decode cX0_told 73 = .ok (.istore_n 2, 1) := dk_61 (dk_at dksX0_told_3 1 rfl rfl)
theorem dX0_told_74 : decode cX0_told 74 = .ok (.iinc 3 1, 3) := dk_132 3 1 (dk_at dksX0_told_3 2 rfl rfl)
theorem dX0_told_77 : decode cX0_told 77 = .ok (.goto (-54), 3) := dk_167 255 202 (dk_at dksX0_told_3 5 rfl rfl)
theorem dX0_told_80 : decode cX0_told 80 = .ok (.iload_n 2, 1) := dk_28 (dk_at dksX0_told_3 8 rfl rfl)
theorem dX0_told_81 : decode cX0_told 81 = .ok (.ireturn, 1) := dk_172 (dk_at dksX0_told_3 9 rfl rfl)
abbrev cX0_count : ByteArray := prog_1_method_73_code
def yX0_count : MethodName := ⟨RX0, "count", "(I)I"⟩
def dkwX0_count_7 : List UInt8 := [180, 0, 7, 27, 7, 100, 46, 172, 2, 172]
abbrev dktX0_count_7 : List UInt8 := dkwX0_count_7 ++ []
def dkwX0_count_6 : List UInt8 := [180, 0, 103, 172, 28, 172, 29, 172, 42, 180, 0, 150, 172, 42, 180, 0, 7, 27, 8, 100, 46, 172, 42]
abbrev dktX0_count_6 : List UInt8 := dkwX0_count_6 ++ dktX0_count_7
def dkwX0_count_5 : List UInt8 := [42, 180, 0, 45, 180, 0, 49, 182, 0, 55, 172, 42, 182, 1, 106, 184, 1, 170, 172, 42, 180, 0, 45]
abbrev dktX0_count_5 : List UInt8 := dkwX0_count_5 ++ dktX0_count_6
def dkwX0_count_4 : List UInt8 := [170, 0, 0, 0, 0, 0, 113, 0, 0, 0, 0, 0, 0, 0, 10, 0, 0, 0, 59, 0, 0, 0, 70, 0, 0, 0, 78, 0, 0, 0, 86, 0, 0, 0, 88, 0, 0, 0, 90, 0, 0, 0, 95, 0, 0, 0, 95, 0, 0, 0, 95, 0, 0, 0, 104, 0, 0, 0, 104]
abbrev dktX0_count_4 : List UInt8 := dkwX0_count_4 ++ dktX0_count_5
def dkwX0_count_3 : List UInt8 := [4, 96, 62, 132, 4, 1, 167, 255, 224, 27]
abbrev dktX0_count_3 : List UInt8 := dkwX0_count_3 ++ dktX0_count_4
def dkwX0_count_2 : List UInt8 := [16, 6, 162, 0, 31, 29, 42, 180, 0, 45, 180, 0, 96, 21, 4, 46, 2, 160, 0, 7, 3, 167, 0, 4]
abbrev dktX0_count_2 : List UInt8 := dkwX0_count_2 ++ dktX0_count_3
def dkwX0_count_1 : List UInt8 := [46, 2, 160, 0, 7, 3, 167, 0, 4, 4, 96, 61, 132, 4, 1, 167, 255, 224, 3, 54, 4, 21, 4]
abbrev dktX0_count_1 : List UInt8 := dkwX0_count_1 ++ dktX0_count_2
def dkwX0_count_0 : List UInt8 := [3, 61, 3, 62, 3, 54, 4, 21, 4, 16, 32, 162, 0, 31, 28, 42, 180, 0, 45, 180, 0, 86, 21, 4]
abbrev dktX0_count_0 : List UInt8 := dkwX0_count_0 ++ dktX0_count_1
theorem dksX0_count_0 : cX0_count.data.toList.drop 0 = dktX0_count_0 := by decide +kernel
theorem dksX0_count_1 : cX0_count.data.toList.drop 24 = dktX0_count_1 := dk_seg dksX0_count_0 24 rfl rfl
theorem dksX0_count_2 : cX0_count.data.toList.drop 47 = dktX0_count_2 := dk_seg dksX0_count_1 23 rfl rfl
theorem dksX0_count_3 : cX0_count.data.toList.drop 71 = dktX0_count_3 := dk_seg dksX0_count_2 24 rfl rfl
theorem dksX0_count_4 : cX0_count.data.toList.drop 81 = dktX0_count_4 := dk_seg dksX0_count_3 10 rfl rfl
theorem dksX0_count_5 : cX0_count.data.toList.drop 140 = dktX0_count_5 := dk_seg dksX0_count_4 59 rfl rfl
theorem dksX0_count_6 : cX0_count.data.toList.drop 163 = dktX0_count_6 := dk_seg dksX0_count_5 23 rfl rfl
theorem dksX0_count_7 : cX0_count.data.toList.drop 186 = dktX0_count_7 := dk_seg dksX0_count_6 23 rfl rfl
theorem dX0_count_0 : decode cX0_count 0 = .ok (.iconst 0, 1) := dk_3 (dk_at dksX0_count_0 0 rfl rfl)
theorem dX0_count_1 : decode cX0_count 1 = .ok (.istore_n 2, 1) := dk_61 (dk_at dksX0_count_0 1 rfl rfl)
theorem dX0_count_2 : decode cX0_count 2 = .ok (.iconst 0, 1) := dk_3 (dk_at dksX0_count_0 2 rfl rfl)
theorem dX0_count_3 : decode cX0_count 3 = .ok (.istore_n 3, 1) := dk_62 (dk_at dksX0_count_0 3 rfl rfl)
theorem dX0_count_4 : decode cX0_count 4 = .ok (.iconst 0, 1) := dk_3 (dk_at dksX0_count_0 4 rfl rfl)
theorem dX0_count_5 : decode cX0_count 5 = .ok (.istore 4, 2) := dk_54 4 (dk_at dksX0_count_0 5 rfl rfl)
theorem dX0_count_7 : decode cX0_count 7 = .ok (.iload 4, 2) := dk_21 4 (dk_at dksX0_count_0 7 rfl rfl)
theorem dX0_count_9 : decode cX0_count 9 = .ok (.bipush 32, 2) := dk_16 32 (dk_at dksX0_count_0 9 rfl rfl)
theorem dX0_count_11 : decode cX0_count 11 = .ok (.if_icmp .ge 31, 3) := dk_162 0 31 (dk_at dksX0_count_0 11 rfl rfl)
theorem dX0_count_14 : decode cX0_count 14 = .ok (.iload_n 2, 1) := dk_28 (dk_at dksX0_count_0 14 rfl rfl)
theorem dX0_count_15 : decode cX0_count 15 = .ok (.aload_n 0, 1) := dk_42 (dk_at dksX0_count_0 15 rfl rfl)
theorem dX0_count_16 : decode cX0_count 16 = .ok (.getfield 45, 3) := dk_180 0 45 (dk_at dksX0_count_0 16 rfl rfl)
theorem dX0_count_19 : decode cX0_count 19 = .ok (.getfield 86, 3) := dk_180 0 86 (dk_at dksX0_count_0 19 rfl rfl)
theorem dX0_count_22 : decode cX0_count 22 = .ok (.iload 4, 2) := dk_21 4 (dk_at dksX0_count_0 22 rfl rfl)
theorem dX0_count_24 : decode cX0_count 24 = .ok (.iaload, 1) := dk_46 (dk_at dksX0_count_1 0 rfl rfl)
theorem dX0_count_25 : decode cX0_count 25 = .ok (.iconst (-1), 1) := dk_2 (dk_at dksX0_count_1 1 rfl rfl)
theorem dX0_count_26 : decode cX0_count 26 = .ok (.if_icmp .ne 7, 3) := dk_160 0 7 (dk_at dksX0_count_1 2 rfl rfl)
theorem dX0_count_29 : decode cX0_count 29 = .ok (.iconst 0, 1) := dk_3 (dk_at dksX0_count_1 5 rfl rfl)
theorem dX0_count_30 : decode cX0_count 30 = .ok (.goto 4, 3) := dk_167 0 4 (dk_at dksX0_count_1 6 rfl rfl)
theorem dX0_count_33 : decode cX0_count 33 = .ok (.iconst 1, 1) := dk_4 (dk_at dksX0_count_1 9 rfl rfl)
theorem dX0_count_34 : decode cX0_count 34 = .ok (.iadd, 1) := dk_96 (dk_at dksX0_count_1 10 rfl rfl)
theorem dX0_count_35 : decode cX0_count 35 = .ok (.istore_n 2, 1) := dk_61 (dk_at dksX0_count_1 11 rfl rfl)
theorem dX0_count_36 : decode cX0_count 36 = .ok (.iinc 4 1, 3) := dk_132 4 1 (dk_at dksX0_count_1 12 rfl rfl)
theorem dX0_count_39 : decode cX0_count 39 = .ok (.goto (-32), 3) := dk_167 255 224 (dk_at dksX0_count_1 15 rfl rfl)
theorem dX0_count_42 : decode cX0_count 42 = .ok (.iconst 0, 1) := dk_3 (dk_at dksX0_count_1 18 rfl rfl)
theorem dX0_count_43 : decode cX0_count 43 = .ok (.istore 4, 2) := dk_54 4 (dk_at dksX0_count_1 19 rfl rfl)
theorem dX0_count_45 : decode cX0_count 45 = .ok (.iload 4, 2) := dk_21 4 (dk_at dksX0_count_1 21 rfl rfl)
theorem dX0_count_47 : decode cX0_count 47 = .ok (.bipush 6, 2) := dk_16 6 (dk_at dksX0_count_2 0 rfl rfl)
theorem dX0_count_49 : decode cX0_count 49 = .ok (.if_icmp .ge 31, 3) := dk_162 0 31 (dk_at dksX0_count_2 2 rfl rfl)
theorem dX0_count_52 : decode cX0_count 52 = .ok (.iload_n 3, 1) := dk_29 (dk_at dksX0_count_2 5 rfl rfl)
theorem dX0_count_53 : decode cX0_count 53 = .ok (.aload_n 0, 1) := dk_42 (dk_at dksX0_count_2 6 rfl rfl)
theorem dX0_count_54 : decode cX0_count 54 = .ok (.getfield 45, 3) := dk_180 0 45 (dk_at dksX0_count_2 7 rfl rfl)
theorem dX0_count_57 : decode cX0_count 57 = .ok (.getfield 96, 3) := dk_180 0 96 (dk_at dksX0_count_2 10 rfl rfl)
theorem dX0_count_60 : decode cX0_count 60 = .ok (.iload 4, 2) := dk_21 4 (dk_at dksX0_count_2 13 rfl rfl)
theorem dX0_count_62 : decode cX0_count 62 = .ok (.iaload, 1) := dk_46 (dk_at dksX0_count_2 15 rfl rfl)
theorem dX0_count_63 : decode cX0_count 63 = .ok (.iconst (-1), 1) := dk_2 (dk_at dksX0_count_2 16 rfl rfl)
theorem dX0_count_64 : decode cX0_count 64 = .ok (.if_icmp .ne 7, 3) := dk_160 0 7 (dk_at dksX0_count_2 17 rfl rfl)
theorem dX0_count_67 : decode cX0_count 67 = .ok (.iconst 0, 1) := dk_3 (dk_at dksX0_count_2 20 rfl rfl)
theorem dX0_count_68 : decode cX0_count 68 = .ok (.goto 4, 3) := dk_167 0 4 (dk_at dksX0_count_2 21 rfl rfl)
theorem dX0_count_71 : decode cX0_count 71 = .ok (.iconst 1, 1) := dk_4 (dk_at dksX0_count_3 0 rfl rfl)
theorem dX0_count_72 : decode cX0_count 72 = .ok (.iadd, 1) := dk_96 (dk_at dksX0_count_3 1 rfl rfl)
theorem dX0_count_73 : decode cX0_count 73 = .ok (.istore_n 3, 1) := dk_62 (dk_at dksX0_count_3 2 rfl rfl)
theorem dX0_count_74 : decode cX0_count 74 = .ok (.iinc 4 1, 3) := dk_132 4 1 (dk_at dksX0_count_3 3 rfl rfl)
theorem dX0_count_77 : decode cX0_count 77 = .ok (.goto (-32), 3) := dk_167 255 224 (dk_at dksX0_count_3 6 rfl rfl)
theorem dX0_count_80 : decode cX0_count 80 = .ok (.iload_n 1, 1) := dk_27 (dk_at dksX0_count_3 9 rfl rfl)
theorem dX0_count_81 : decode cX0_count 81 = .ok (.tableswitch 113 0 10 #[59, 70, 78, 86, 88, 90, 95, 95, 95, 104, 104], 59) := by decide +kernel
theorem dX0_count_140 : decode cX0_count 140 = .ok (.aload_n 0, 1) := dk_42 (dk_at dksX0_count_5 0 rfl rfl)
theorem dX0_count_141 : decode cX0_count 141 = .ok (.getfield 45, 3) := dk_180 0 45 (dk_at dksX0_count_5 1 rfl rfl)
theorem dX0_count_144 : decode cX0_count 144 = .ok (.getfield 49, 3) := dk_180 0 49 (dk_at dksX0_count_5 4 rfl rfl)
theorem dX0_count_147 : decode cX0_count 147 = .ok (.invokevirtual 55, 3) := dk_182 0 55 (dk_at dksX0_count_5 7 rfl rfl)
theorem dX0_count_150 : decode cX0_count 150 = .ok (.ireturn, 1) := dk_172 (dk_at dksX0_count_5 10 rfl rfl)
theorem dX0_count_151 : decode cX0_count 151 = .ok (.aload_n 0, 1) := dk_42 (dk_at dksX0_count_5 11 rfl rfl)
theorem dX0_count_152 : decode cX0_count 152 = .ok (.invokevirtual 362, 3) := dk_182 1 106 (dk_at dksX0_count_5 12 rfl rfl)
theorem dX0_count_155 : decode cX0_count 155 = .ok (.invokestatic 426, 3) := dk_184 1 170 (dk_at dksX0_count_5 15 rfl rfl)
theorem dX0_count_158 : decode cX0_count 158 = .ok (.ireturn, 1) := dk_172 (dk_at dksX0_count_5 18 rfl rfl)
theorem dX0_count_159 : decode cX0_count 159 = .ok (.aload_n 0, 1) := dk_42 (dk_at dksX0_count_5 19 rfl rfl)
theorem dX0_count_160 : decode cX0_count 160 = .ok (.getfield 45, 3) := dk_180 0 45 (dk_at dksX0_count_5 20 rfl rfl)
theorem dX0_count_163 : decode cX0_count 163 = .ok (.getfield 103, 3) := dk_180 0 103 (dk_at dksX0_count_6 0 rfl rfl)
theorem dX0_count_166 : decode cX0_count 166 = .ok (.ireturn, 1) := dk_172 (dk_at dksX0_count_6 3 rfl rfl)
theorem dX0_count_167 : decode cX0_count 167 = .ok (.iload_n 2, 1) := dk_28 (dk_at dksX0_count_6 4 rfl rfl)
theorem dX0_count_168 : decode cX0_count 168 = .ok (.ireturn, 1) := dk_172 (dk_at dksX0_count_6 5 rfl rfl)
theorem dX0_count_169 : decode cX0_count 169 = .ok (.iload_n 3, 1) := dk_29 (dk_at dksX0_count_6 6 rfl rfl)
theorem dX0_count_170 : decode cX0_count 170 = .ok (.ireturn, 1) := dk_172 (dk_at dksX0_count_6 7 rfl rfl)
theorem dX0_count_171 : decode cX0_count 171 = .ok (.aload_n 0, 1) := dk_42 (dk_at dksX0_count_6 8 rfl rfl)
theorem dX0_count_172 : decode cX0_count 172 = .ok (.getfield 150, 3) := dk_180 0 150 (dk_at dksX0_count_6 9 rfl rfl)
theorem dX0_count_175 : decode cX0_count 175 = .ok (.ireturn, 1) := dk_172 (dk_at dksX0_count_6 12 rfl rfl)
theorem dX0_count_176 : decode cX0_count 176 = .ok (.aload_n 0, 1) := dk_42 (dk_at dksX0_count_6 13 rfl rfl)
theorem dX0_count_177 : decode cX0_count 177 = .ok (.getfield 7, 3) := dk_180 0 7 (dk_at dksX0_count_6 14 rfl rfl)
theorem dX0_count_180 : decode cX0_count 180 = .ok (.iload_n 1, 1) := dk_27 (dk_at dksX0_count_6 17 rfl rfl)
theorem dX0_count_181 : decode cX0_count 181 = .ok (.iconst 5, 1) := dk_8 (dk_at dksX0_count_6 18 rfl rfl)
theorem dX0_count_182 : decode cX0_count 182 = .ok (.isub, 1) := dk_100 (dk_at dksX0_count_6 19 rfl rfl)
theorem dX0_count_183 : decode cX0_count 183 = .ok (.iaload, 1) := dk_46 (dk_at dksX0_count_6 20 rfl rfl)
theorem dX0_count_184 : decode cX0_count 184 = .ok (.ireturn, 1) := dk_172 (dk_at dksX0_count_6 21 rfl rfl)
theorem dX0_count_185 : decode cX0_count 185 = .ok (.aload_n 0, 1) := dk_42 (dk_at dksX0_count_6 22 rfl rfl)
theorem dX0_count_186 : decode cX0_count 186 = .ok (.getfield 7, 3) := dk_180 0 7 (dk_at dksX0_count_7 0 rfl rfl)
theorem dX0_count_189 : decode cX0_count 189 = .ok (.iload_n 1, 1) := dk_27 (dk_at dksX0_count_7 3 rfl rfl)
theorem dX0_count_190 : decode cX0_count 190 = .ok (.iconst 4, 1) := dk_7 (dk_at dksX0_count_7 4 rfl rfl)
theorem dX0_count_191 : decode cX0_count 191 = .ok (.isub, 1) := dk_100 (dk_at dksX0_count_7 5 rfl rfl)
theorem dX0_count_192 : decode cX0_count 192 = .ok (.iaload, 1) := dk_46 (dk_at dksX0_count_7 6 rfl rfl)
theorem dX0_count_193 : decode cX0_count 193 = .ok (.ireturn, 1) := dk_172 (dk_at dksX0_count_7 7 rfl rfl)
theorem dX0_count_194 : decode cX0_count 194 = .ok (.iconst (-1), 1) := dk_2 (dk_at dksX0_count_7 8 rfl rfl)
theorem dX0_count_195 : decode cX0_count 195 = .ok (.ireturn, 1) := dk_172 (dk_at dksX0_count_7 9 rfl rfl)
abbrev cX0_status : ByteArray := prog_1_method_74_code
def yX0_status : MethodName := ⟨RX0, "status", "()I"⟩
theorem dX0_status_0 : decode cX0_status 0 = .ok (.aload_n 0, 1) := by decide +kernel
theorem dX0_status_1 : decode cX0_status 1 = .ok (.getfield 1, 3) := by decide +kernel
theorem dX0_status_4 : decode cX0_status 4 = .ok (.ireturn, 1) := by decide +kernel
theorem q104 : (Jvm.Cond.initialized "WeekFoot") ∈ lw_all := lw_g (lw_at lw_m1 1 rfl) rfl
theorem q135 : (Jvm.Cond.instanceMethod ({ cls := "WeekFoot", name := "image", desc := "(I)I" } : Jvm.MethodName)) ∈ lw_all := lw_g (lw_at lw_m1 32 rfl) rfl
theorem q136 : (Jvm.Cond.selects "WeekFoot" ({ cls := "WeekFoot", name := "image", desc := "(I)I" } : Jvm.MethodName) ({ cls := "WeekFoot", name := "image", desc := "(I)I" } : Jvm.MethodName)) ∈ lw_all := lw_g (lw_at lw_m1 33 rfl) rfl
theorem q137 : (Jvm.Cond.code ({ cls := "WeekFoot", name := "image", desc := "(I)I" } : Jvm.MethodName) prog_1_method_10_code (2 : Nat) (Option.some Jvm.ClassFile.FieldType.int)) ∈ lw_all := lw_g (lw_at lw_m1 34 rfl) rfl
theorem q138 : (Jvm.Cond.methodLink "WeekFoot" (41 : Nat) ({ cls := "WeekFoot", name := "in", desc := "(III)Z" } : Jvm.MethodName)) ∈ lw_all := lw_g (lw_at lw_m1 35 rfl) rfl
theorem q139 : (Jvm.Cond.static ({ cls := "WeekFoot", name := "in", desc := "(III)Z" } : Jvm.MethodName)) ∈ lw_all := lw_g (lw_at lw_m1 36 rfl) rfl
theorem q140 : (Jvm.Cond.code ({ cls := "WeekFoot", name := "in", desc := "(III)Z" } : Jvm.MethodName) prog_1_method_3_code (3 : Nat) (Option.some Jvm.ClassFile.FieldType.boolean)) ∈ lw_all := lw_g (lw_at lw_m1 37 rfl) rfl
theorem q141 : (Jvm.Cond.methodLink "WeekFoot" (61 : Nat) ({ cls := "WeekFoot", name := "refuse", desc := "(I)I" } : Jvm.MethodName)) ∈ lw_all := lw_g (lw_at lw_m1 38 rfl) rfl
theorem q142 : (Jvm.Cond.privateMethod ({ cls := "WeekFoot", name := "refuse", desc := "(I)I" } : Jvm.MethodName)) ∈ lw_tbl := lw_at lw_m1 39 rfl
theorem q143 : (Jvm.Cond.instanceMethod ({ cls := "WeekFoot", name := "refuse", desc := "(I)I" } : Jvm.MethodName)) ∈ lw_all := lw_g (lw_at lw_m1 40 rfl) rfl
theorem q144 : (Jvm.Cond.instantiable "WeekFoot" (28 : Nat)) ∈ lw_all := lw_g (lw_at lw_m1 41 rfl) rfl
theorem q145 : (Jvm.Cond.code ({ cls := "WeekFoot", name := "refuse", desc := "(I)I" } : Jvm.MethodName) prog_1_method_1_code (2 : Nat) (Option.some Jvm.ClassFile.FieldType.int)) ∈ lw_all := lw_g (lw_at lw_m1 42 rfl) rfl
theorem q146 : (Jvm.Cond.classLink "WeekFoot" (50 : Nat) "WeekFoot$State") ∈ lw_all := lw_g (lw_at lw_m1 43 rfl) rfl
theorem q148 : (Jvm.Cond.methodLink "WeekFoot" (68 : Nat) ({ cls := "WeekFoot$State", name := "<init>", desc := "()V" } : Jvm.MethodName)) ∈ lw_all := lw_g (lw_at lw_m1 45 rfl) rfl
theorem q188 : (Jvm.Cond.fieldLinkNest "WeekFoot" (86 : Nat) "WeekFoot$State" "keepers" "[I" "WeekFoot") ∈ lw_tbl := lw_at lw_m1 85 rfl
theorem q192 : (Jvm.Cond.fieldLinkNest "WeekFoot" (96 : Nat) "WeekFoot$State" "cuts" "[I" "WeekFoot") ∈ lw_tbl := lw_at lw_m1 89 rfl
theorem q196 : (Jvm.Cond.fieldLinkNest "WeekFoot" (352 : Nat) "WeekFoot$State" "shorter" "[I" "WeekFoot") ∈ lw_tbl := lw_at lw_m1 93 rfl
theorem q199 : (Jvm.Cond.fieldLinkNest "WeekFoot" (393 : Nat) "WeekFoot$State" "world" "[I" "WeekFoot") ∈ lw_tbl := lw_at lw_m1 96 rfl
theorem q202 : (Jvm.Cond.fieldLinkNest "WeekFoot" (126 : Nat) "WeekFoot$State" "counts" "[Z" "WeekFoot") ∈ lw_tbl := lw_at lw_m1 99 rfl
theorem q207 : (Jvm.Cond.fieldLinkNest "WeekFoot" (49 : Nat) "WeekFoot$State" "entries" "Ljava/util/ArrayList;" "WeekFoot") ∈ lw_tbl := lw_at lw_m1 104 rfl
theorem q211 : (Jvm.Cond.fieldLinkNest "WeekFoot" (103 : Nat) "WeekFoot$State" "shorters" "I" "WeekFoot") ∈ lw_tbl := lw_at lw_m1 108 rfl
theorem q227 : (Jvm.Cond.methodLink "WeekFoot" (72 : Nat) ({ cls := "WeekFoot$State", name := "takes", desc := "(LWeekFoot$State;)V" } : Jvm.MethodName)) ∈ lw_all := lw_g (lw_at lw_m1 124 rfl) rfl
theorem q258 : (Jvm.Cond.selects "WeekFoot" ({ cls := "java/lang/Object", name := "getClass", desc := "()Ljava/lang/Class;" } : Jvm.MethodName) ({ cls := "java/lang/Object", name := "getClass", desc := "()Ljava/lang/Class;" } : Jvm.MethodName)) ∈ lw_all := lw_g (lw_at lw_m1 155 rfl) rfl
theorem q301 : (Jvm.Cond.methodLink "WeekFoot" (37 : Nat) ({ cls := "WeekFoot", name := "done", desc := "(I)I" } : Jvm.MethodName)) ∈ lw_all := lw_g (lw_at lw_m1 198 rfl) rfl
theorem q302 : (Jvm.Cond.privateMethod ({ cls := "WeekFoot", name := "done", desc := "(I)I" } : Jvm.MethodName)) ∈ lw_tbl := lw_at lw_m1 199 rfl
theorem q303 : (Jvm.Cond.instanceMethod ({ cls := "WeekFoot", name := "done", desc := "(I)I" } : Jvm.MethodName)) ∈ lw_all := lw_g (lw_at lw_m1 200 rfl) rfl
theorem q304 : (Jvm.Cond.code ({ cls := "WeekFoot", name := "done", desc := "(I)I" } : Jvm.MethodName) prog_1_method_2_code (2 : Nat) (Option.some Jvm.ClassFile.FieldType.int)) ∈ lw_all := lw_g (lw_at lw_m1 201 rfl) rfl
theorem q306 : (Jvm.Cond.instanceMethod ({ cls := "WeekFoot", name := "back", desc := "(I)I" } : Jvm.MethodName)) ∈ lw_all := lw_g (lw_at lw_m1 203 rfl) rfl
theorem q307 : (Jvm.Cond.selects "WeekFoot" ({ cls := "WeekFoot", name := "back", desc := "(I)I" } : Jvm.MethodName) ({ cls := "WeekFoot", name := "back", desc := "(I)I" } : Jvm.MethodName)) ∈ lw_all := lw_g (lw_at lw_m1 204 rfl) rfl
theorem q308 : (Jvm.Cond.code ({ cls := "WeekFoot", name := "back", desc := "(I)I" } : Jvm.MethodName) prog_1_method_11_code (2 : Nat) (Option.some Jvm.ClassFile.FieldType.int)) ∈ lw_all := lw_g (lw_at lw_m1 205 rfl) rfl
theorem q309 : (Jvm.Cond.methodLink "WeekFoot" (76 : Nat) ({ cls := "WeekFoot", name := "told0", desc := "(I)I" } : Jvm.MethodName)) ∈ lw_all := lw_g (lw_at lw_m1 206 rfl) rfl
theorem q310 : (Jvm.Cond.privateMethod ({ cls := "WeekFoot", name := "told0", desc := "(I)I" } : Jvm.MethodName)) ∈ lw_tbl := lw_at lw_m1 207 rfl
theorem q311 : (Jvm.Cond.instanceMethod ({ cls := "WeekFoot", name := "told0", desc := "(I)I" } : Jvm.MethodName)) ∈ lw_all := lw_g (lw_at lw_m1 208 rfl) rfl
theorem q312 : (Jvm.Cond.code ({ cls := "WeekFoot", name := "told0", desc := "(I)I" } : Jvm.MethodName) prog_1_method_5_code (2 : Nat) (Option.some Jvm.ClassFile.FieldType.int)) ∈ lw_all := lw_g (lw_at lw_m1 209 rfl) rfl
theorem q314 : (Jvm.Cond.instanceMethod ({ cls := "WeekFoot", name := "week", desc := "(II)I" } : Jvm.MethodName)) ∈ lw_all := lw_g (lw_at lw_m1 211 rfl) rfl
theorem q315 : (Jvm.Cond.selects "WeekFoot" ({ cls := "WeekFoot", name := "week", desc := "(II)I" } : Jvm.MethodName) ({ cls := "WeekFoot", name := "week", desc := "(II)I" } : Jvm.MethodName)) ∈ lw_all := lw_g (lw_at lw_m1 212 rfl) rfl
theorem q316 : (Jvm.Cond.code ({ cls := "WeekFoot", name := "week", desc := "(II)I" } : Jvm.MethodName) prog_1_method_13_code (3 : Nat) (Option.some Jvm.ClassFile.FieldType.int)) ∈ lw_all := lw_g (lw_at lw_m1 213 rfl) rfl
theorem q317 : (Jvm.Cond.methodLink "WeekFoot" (79 : Nat) ({ cls := "WeekFoot", name := "isWeek", desc := "(I)Z" } : Jvm.MethodName)) ∈ lw_all := lw_g (lw_at lw_m1 214 rfl) rfl
theorem q318 : (Jvm.Cond.static ({ cls := "WeekFoot", name := "isWeek", desc := "(I)Z" } : Jvm.MethodName)) ∈ lw_all := lw_g (lw_at lw_m1 215 rfl) rfl
theorem q319 : (Jvm.Cond.code ({ cls := "WeekFoot", name := "isWeek", desc := "(I)Z" } : Jvm.MethodName) prog_1_method_8_code (1 : Nat) (Option.some Jvm.ClassFile.FieldType.boolean)) ∈ lw_all := lw_g (lw_at lw_m1 216 rfl) rfl
theorem q320 : (Jvm.Cond.methodLink "WeekFoot" (83 : Nat) ({ cls := "WeekFoot", name := "isKeeper", desc := "(I)Z" } : Jvm.MethodName)) ∈ lw_all := lw_g (lw_at lw_m1 217 rfl) rfl
theorem q321 : (Jvm.Cond.static ({ cls := "WeekFoot", name := "isKeeper", desc := "(I)Z" } : Jvm.MethodName)) ∈ lw_all := lw_g (lw_at lw_m1 218 rfl) rfl
theorem q322 : (Jvm.Cond.code ({ cls := "WeekFoot", name := "isKeeper", desc := "(I)Z" } : Jvm.MethodName) prog_1_method_7_code (1 : Nat) (Option.some Jvm.ClassFile.FieldType.boolean)) ∈ lw_all := lw_g (lw_at lw_m1 219 rfl) rfl
theorem q323 : (Jvm.Cond.methodLink "WeekFoot" (89 : Nat) ({ cls := "WeekFoot", name := "replaces", desc := "([III)I" } : Jvm.MethodName)) ∈ lw_all := lw_g (lw_at lw_m1 220 rfl) rfl
theorem q324 : (Jvm.Cond.privateMethod ({ cls := "WeekFoot", name := "replaces", desc := "([III)I" } : Jvm.MethodName)) ∈ lw_tbl := lw_at lw_m1 221 rfl
theorem q325 : (Jvm.Cond.instanceMethod ({ cls := "WeekFoot", name := "replaces", desc := "([III)I" } : Jvm.MethodName)) ∈ lw_all := lw_g (lw_at lw_m1 222 rfl) rfl
theorem q326 : (Jvm.Cond.code ({ cls := "WeekFoot", name := "replaces", desc := "([III)I" } : Jvm.MethodName) prog_1_method_12_code (5 : Nat) (Option.some Jvm.ClassFile.FieldType.int)) ∈ lw_all := lw_g (lw_at lw_m1 223 rfl) rfl
theorem q328 : (Jvm.Cond.instanceMethod ({ cls := "WeekFoot", name := "cut", desc := "(II)I" } : Jvm.MethodName)) ∈ lw_all := lw_g (lw_at lw_m1 225 rfl) rfl
theorem q329 : (Jvm.Cond.selects "WeekFoot" ({ cls := "WeekFoot", name := "cut", desc := "(II)I" } : Jvm.MethodName) ({ cls := "WeekFoot", name := "cut", desc := "(II)I" } : Jvm.MethodName)) ∈ lw_all := lw_g (lw_at lw_m1 226 rfl) rfl
theorem q330 : (Jvm.Cond.code ({ cls := "WeekFoot", name := "cut", desc := "(II)I" } : Jvm.MethodName) prog_1_method_14_code (3 : Nat) (Option.some Jvm.ClassFile.FieldType.int)) ∈ lw_all := lw_g (lw_at lw_m1 227 rfl) rfl
theorem q331 : (Jvm.Cond.methodLink "WeekFoot" (93 : Nat) ({ cls := "WeekFoot", name := "isThing", desc := "(I)Z" } : Jvm.MethodName)) ∈ lw_all := lw_g (lw_at lw_m1 228 rfl) rfl
theorem q332 : (Jvm.Cond.static ({ cls := "WeekFoot", name := "isThing", desc := "(I)Z" } : Jvm.MethodName)) ∈ lw_all := lw_g (lw_at lw_m1 229 rfl) rfl
theorem q333 : (Jvm.Cond.code ({ cls := "WeekFoot", name := "isThing", desc := "(I)Z" } : Jvm.MethodName) prog_1_method_6_code (1 : Nat) (Option.some Jvm.ClassFile.FieldType.boolean)) ∈ lw_all := lw_g (lw_at lw_m1 230 rfl) rfl
theorem q335 : (Jvm.Cond.instanceMethod ({ cls := "WeekFoot", name := "shorter", desc := "(II)I" } : Jvm.MethodName)) ∈ lw_all := lw_g (lw_at lw_m1 232 rfl) rfl
theorem q336 : (Jvm.Cond.selects "WeekFoot" ({ cls := "WeekFoot", name := "shorter", desc := "(II)I" } : Jvm.MethodName) ({ cls := "WeekFoot", name := "shorter", desc := "(II)I" } : Jvm.MethodName)) ∈ lw_all := lw_g (lw_at lw_m1 233 rfl) rfl
theorem q337 : (Jvm.Cond.code ({ cls := "WeekFoot", name := "shorter", desc := "(II)I" } : Jvm.MethodName) prog_1_method_15_code (3 : Nat) (Option.some Jvm.ClassFile.FieldType.int)) ∈ lw_all := lw_g (lw_at lw_m1 234 rfl) rfl
theorem q338 : (Jvm.Cond.methodLink "WeekFoot" (99 : Nat) ({ cls := "WeekFoot$State", name := "isShorter", desc := "(II)Z" } : Jvm.MethodName)) ∈ lw_all := lw_g (lw_at lw_m1 235 rfl) rfl
theorem q342 : (Jvm.Cond.methodLink "WeekFoot" (106 : Nat) ({ cls := "WeekFoot$State", name := "shorter", desc := "(II)V" } : Jvm.MethodName)) ∈ lw_all := lw_g (lw_at lw_m1 239 rfl) rfl
theorem q347 : (Jvm.Cond.instanceMethod ({ cls := "WeekFoot", name := "entry", desc := "(IIII)I" } : Jvm.MethodName)) ∈ lw_all := lw_g (lw_at lw_m2 4 rfl) rfl
theorem q348 : (Jvm.Cond.selects "WeekFoot" ({ cls := "WeekFoot", name := "entry", desc := "(IIII)I" } : Jvm.MethodName) ({ cls := "WeekFoot", name := "entry", desc := "(IIII)I" } : Jvm.MethodName)) ∈ lw_all := lw_g (lw_at lw_m2 5 rfl) rfl
theorem q349 : (Jvm.Cond.code ({ cls := "WeekFoot", name := "entry", desc := "(IIII)I" } : Jvm.MethodName) prog_1_method_17_code (5 : Nat) (Option.some Jvm.ClassFile.FieldType.int)) ∈ lw_all := lw_g (lw_at lw_m2 6 rfl) rfl
theorem q350 : (Jvm.Cond.methodLink "WeekFoot" (110 : Nat) ({ cls := "WeekFoot", name := "canBe", desc := "(IIII)Z" } : Jvm.MethodName)) ∈ lw_all := lw_g (lw_at lw_m2 7 rfl) rfl
theorem q351 : (Jvm.Cond.static ({ cls := "WeekFoot", name := "canBe", desc := "(IIII)Z" } : Jvm.MethodName)) ∈ lw_all := lw_g (lw_at lw_m2 8 rfl) rfl
theorem q352 : (Jvm.Cond.code ({ cls := "WeekFoot", name := "canBe", desc := "(IIII)Z" } : Jvm.MethodName) prog_1_method_16_code (4 : Nat) (Option.some Jvm.ClassFile.FieldType.boolean)) ∈ lw_all := lw_g (lw_at lw_m2 9 rfl) rfl
theorem q353 : (Jvm.Cond.methodLink "WeekFoot" (55 : Nat) ({ cls := "java/util/ArrayList", name := "size", desc := "()I" } : Jvm.MethodName)) ∈ lw_all := lw_g (lw_at lw_m2 10 rfl) rfl
theorem q357 : (Jvm.Cond.classLink "WeekFoot" (114 : Nat) "WeekFoot$Entry") ∈ lw_all := lw_g (lw_at lw_m2 14 rfl) rfl
theorem q359 : (Jvm.Cond.methodLink "WeekFoot" (116 : Nat) ({ cls := "WeekFoot$Entry", name := "<init>", desc := "(IIII)V" } : Jvm.MethodName)) ∈ lw_all := lw_g (lw_at lw_m2 16 rfl) rfl
theorem q366 : (Jvm.Cond.fieldLinkNest "WeekFoot" (134 : Nat) "WeekFoot$Entry" "thing" "I" "WeekFoot") ∈ lw_tbl := lw_at lw_m2 23 rfl
theorem q371 : (Jvm.Cond.fieldLinkNest "WeekFoot" (137 : Nat) "WeekFoot$Entry" "week" "I" "WeekFoot") ∈ lw_tbl := lw_at lw_m2 28 rfl
theorem q373 : (Jvm.Cond.fieldLinkNest "WeekFoot" (140 : Nat) "WeekFoot$Entry" "number" "I" "WeekFoot") ∈ lw_tbl := lw_at lw_m2 30 rfl
theorem q376 : (Jvm.Cond.fieldLinkNest "WeekFoot" (143 : Nat) "WeekFoot$Entry" "kind" "I" "WeekFoot") ∈ lw_tbl := lw_at lw_m2 33 rfl
theorem q386 : (Jvm.Cond.methodLink "WeekFoot" (119 : Nat) ({ cls := "WeekFoot$State", name := "adds", desc := "(LWeekFoot$Entry;)V" } : Jvm.MethodName)) ∈ lw_all := lw_g (lw_at lw_m2 43 rfl) rfl
theorem q404 : (Jvm.Cond.instanceMethod ({ cls := "WeekFoot", name := "counts", desc := "(II)I" } : Jvm.MethodName)) ∈ lw_all := lw_g (lw_at lw_m2 61 rfl) rfl
theorem q405 : (Jvm.Cond.selects "WeekFoot" ({ cls := "WeekFoot", name := "counts", desc := "(II)I" } : Jvm.MethodName) ({ cls := "WeekFoot", name := "counts", desc := "(II)I" } : Jvm.MethodName)) ∈ lw_all := lw_g (lw_at lw_m2 62 rfl) rfl
theorem q406 : (Jvm.Cond.code ({ cls := "WeekFoot", name := "counts", desc := "(II)I" } : Jvm.MethodName) prog_1_method_18_code (4 : Nat) (Option.some Jvm.ClassFile.FieldType.int)) ∈ lw_all := lw_g (lw_at lw_m2 63 rfl) rfl
theorem q407 : (Jvm.Cond.methodLink "WeekFoot" (123 : Nat) ({ cls := "WeekFoot", name := "isEntry", desc := "(I)Z" } : Jvm.MethodName)) ∈ lw_all := lw_g (lw_at lw_m2 64 rfl) rfl
theorem q408 : (Jvm.Cond.privateMethod ({ cls := "WeekFoot", name := "isEntry", desc := "(I)Z" } : Jvm.MethodName)) ∈ lw_tbl := lw_at lw_m2 65 rfl
theorem q409 : (Jvm.Cond.instanceMethod ({ cls := "WeekFoot", name := "isEntry", desc := "(I)Z" } : Jvm.MethodName)) ∈ lw_all := lw_g (lw_at lw_m2 66 rfl) rfl
theorem q410 : (Jvm.Cond.code ({ cls := "WeekFoot", name := "isEntry", desc := "(I)Z" } : Jvm.MethodName) prog_1_method_9_code (2 : Nat) (Option.some Jvm.ClassFile.FieldType.boolean)) ∈ lw_all := lw_g (lw_at lw_m2 67 rfl) rfl
theorem q412 : (Jvm.Cond.instanceMethod ({ cls := "WeekFoot", name := "of", desc := "(II)I" } : Jvm.MethodName)) ∈ lw_all := lw_g (lw_at lw_m2 69 rfl) rfl
theorem q413 : (Jvm.Cond.selects "WeekFoot" ({ cls := "WeekFoot", name := "of", desc := "(II)I" } : Jvm.MethodName) ({ cls := "WeekFoot", name := "of", desc := "(II)I" } : Jvm.MethodName)) ∈ lw_all := lw_g (lw_at lw_m2 70 rfl) rfl
theorem q414 : (Jvm.Cond.code ({ cls := "WeekFoot", name := "of", desc := "(II)I" } : Jvm.MethodName) prog_1_method_19_code (4 : Nat) (Option.some Jvm.ClassFile.FieldType.int)) ∈ lw_all := lw_g (lw_at lw_m2 71 rfl) rfl
theorem q415 : (Jvm.Cond.methodLink "WeekFoot" (130 : Nat) ({ cls := "java/util/ArrayList", name := "get", desc := "(I)Ljava/lang/Object;" } : Jvm.MethodName)) ∈ lw_all := lw_g (lw_at lw_m2 72 rfl) rfl
theorem q429 : (Jvm.Cond.methodLink "WeekFoot" (146 : Nat) ({ cls := "WeekFoot$State", name := "lengthOf", desc := "(LWeekFoot$Entry;)I" } : Jvm.MethodName)) ∈ lw_all := lw_g (lw_at lw_m2 86 rfl) rfl
theorem q434 : (Jvm.Cond.instanceMethod ({ cls := "WeekFoot", name := "feed", desc := "(IIIII)I" } : Jvm.MethodName)) ∈ lw_all := lw_g (lw_at lw_m2 91 rfl) rfl
theorem q435 : (Jvm.Cond.selects "WeekFoot" ({ cls := "WeekFoot", name := "feed", desc := "(IIIII)I" } : Jvm.MethodName) ({ cls := "WeekFoot", name := "feed", desc := "(IIIII)I" } : Jvm.MethodName)) ∈ lw_all := lw_g (lw_at lw_m2 92 rfl) rfl
theorem q436 : (Jvm.Cond.code ({ cls := "WeekFoot", name := "feed", desc := "(IIIII)I" } : Jvm.MethodName) prog_1_method_20_code (6 : Nat) (Option.some Jvm.ClassFile.FieldType.int)) ∈ lw_all := lw_g (lw_at lw_m2 93 rfl) rfl
theorem q437 : (Jvm.Cond.methodLink "WeekFoot" (153 : Nat) ({ cls := "WeekFoot", name := "four", desc := "(I)V" } : Jvm.MethodName)) ∈ lw_all := lw_g (lw_at lw_m2 94 rfl) rfl
theorem q438 : (Jvm.Cond.privateMethod ({ cls := "WeekFoot", name := "four", desc := "(I)V" } : Jvm.MethodName)) ∈ lw_tbl := lw_at lw_m2 95 rfl
theorem q439 : (Jvm.Cond.instanceMethod ({ cls := "WeekFoot", name := "four", desc := "(I)V" } : Jvm.MethodName)) ∈ lw_all := lw_g (lw_at lw_m2 96 rfl) rfl
theorem q440 : (Jvm.Cond.code ({ cls := "WeekFoot", name := "four", desc := "(I)V" } : Jvm.MethodName) prog_1_method_21_code (3 : Nat) (Option.none : Option Jvm.ClassFile.FieldType)) ∈ lw_all := lw_g (lw_at lw_m2 97 rfl) rfl
theorem q442 : (Jvm.Cond.instanceMethod ({ cls := "WeekFoot", name := "end", desc := "(I)I" } : Jvm.MethodName)) ∈ lw_all := lw_g (lw_at lw_m2 99 rfl) rfl
theorem q443 : (Jvm.Cond.selects "WeekFoot" ({ cls := "WeekFoot", name := "end", desc := "(I)I" } : Jvm.MethodName) ({ cls := "WeekFoot", name := "end", desc := "(I)I" } : Jvm.MethodName)) ∈ lw_all := lw_g (lw_at lw_m2 100 rfl) rfl
theorem q444 : (Jvm.Cond.code ({ cls := "WeekFoot", name := "end", desc := "(I)I" } : Jvm.MethodName) prog_1_method_22_code (2 : Nat) (Option.some Jvm.ClassFile.FieldType.int)) ∈ lw_all := lw_g (lw_at lw_m2 101 rfl) rfl
theorem q446 : (Jvm.Cond.instanceMethod ({ cls := "WeekFoot", name := "row", desc := "()I" } : Jvm.MethodName)) ∈ lw_all := lw_g (lw_at lw_m2 103 rfl) rfl
theorem q447 : (Jvm.Cond.selects "WeekFoot" ({ cls := "WeekFoot", name := "row", desc := "()I" } : Jvm.MethodName) ({ cls := "WeekFoot", name := "row", desc := "()I" } : Jvm.MethodName)) ∈ lw_all := lw_g (lw_at lw_m2 104 rfl) rfl
theorem q448 : (Jvm.Cond.code ({ cls := "WeekFoot", name := "row", desc := "()I" } : Jvm.MethodName) prog_1_method_23_code (5 : Nat) (Option.some Jvm.ClassFile.FieldType.int)) ∈ lw_all := lw_g (lw_at lw_m2 105 rfl) rfl
theorem q450 : (Jvm.Cond.instanceMethod ({ cls := "WeekFoot", name := "blurred", desc := "()I" } : Jvm.MethodName)) ∈ lw_all := lw_g (lw_at lw_m2 107 rfl) rfl
theorem q451 : (Jvm.Cond.selects "WeekFoot" ({ cls := "WeekFoot", name := "blurred", desc := "()I" } : Jvm.MethodName) ({ cls := "WeekFoot", name := "blurred", desc := "()I" } : Jvm.MethodName)) ∈ lw_all := lw_g (lw_at lw_m2 108 rfl) rfl
theorem q452 : (Jvm.Cond.code ({ cls := "WeekFoot", name := "blurred", desc := "()I" } : Jvm.MethodName) prog_1_method_24_code (1 : Nat) (Option.some Jvm.ClassFile.FieldType.int)) ∈ lw_all := lw_g (lw_at lw_m2 109 rfl) rfl
theorem q454 : (Jvm.Cond.instanceMethod ({ cls := "WeekFoot", name := "book", desc := "()I" } : Jvm.MethodName)) ∈ lw_all := lw_g (lw_at lw_m2 111 rfl) rfl
theorem q455 : (Jvm.Cond.selects "WeekFoot" ({ cls := "WeekFoot", name := "book", desc := "()I" } : Jvm.MethodName) ({ cls := "WeekFoot", name := "book", desc := "()I" } : Jvm.MethodName)) ∈ lw_all := lw_g (lw_at lw_m2 112 rfl) rfl
theorem q456 : (Jvm.Cond.codeWith ({ cls := "WeekFoot", name := "book", desc := "()I" } : Jvm.MethodName) prog_1_method_25_code (4 : Nat) (Option.some Jvm.ClassFile.FieldType.int) [((27 : Nat), (31 : Nat), (34 : Nat), (171 : Nat))]) ∈ lw_all := lw_g (lw_at lw_m2 113 rfl) rfl
theorem q457 : (Jvm.Cond.classLink "WeekFoot" (171 : Nat) "WeekFoot$Fault") ∈ lw_all := lw_g (lw_at lw_m2 114 rfl) rfl
theorem q458 : (Jvm.Cond.classLink "WeekFoot" (163 : Nat) "WeekFoot$Reader") ∈ lw_all := lw_g (lw_at lw_m2 115 rfl) rfl
theorem q460 : (Jvm.Cond.methodLink "WeekFoot" (165 : Nat) ({ cls := "WeekFoot$Reader", name := "<init>", desc := "([BILWeekFoot$State;)V" } : Jvm.MethodName)) ∈ lw_all := lw_g (lw_at lw_m2 117 rfl) rfl
theorem q470 : (Jvm.Cond.fieldLinkNest "WeekFoot" (179 : Nat) "WeekFoot$Reader" "made" "Ljava/util/ArrayList;" "WeekFoot") ∈ lw_tbl := lw_at lw_m2 127 rfl
theorem q493 : (Jvm.Cond.methodLink "WeekFoot" (168 : Nat) ({ cls := "WeekFoot$Reader", name := "read", desc := "()V" } : Jvm.MethodName)) ∈ lw_all := lw_g (lw_at lw_m2 150 rfl) rfl
theorem q615 : (Jvm.Cond.fieldLinkNest "WeekFoot" (173 : Nat) "WeekFoot$Fault" "place" "I" "WeekFoot") ∈ lw_tbl := lw_at lw_m3 32 rfl
theorem q728 : (Jvm.Cond.classLink "WeekFoot" (182 : Nat) "WeekFoot$Clause") ∈ lw_all := lw_g (lw_at lw_m3 145 rfl) rfl
theorem q729 : (Jvm.Cond.methodLink "WeekFoot" (184 : Nat) ({ cls := "WeekFoot$Clause", name := "tells", desc := "(LWeekFoot$State;)V" } : Jvm.MethodName)) ∈ lw_all := lw_g (lw_at lw_m3 146 rfl) rfl
theorem q751 : (Jvm.Cond.instanceMethod ({ cls := "WeekFoot", name := "fault", desc := "()I" } : Jvm.MethodName)) ∈ lw_all := lw_g (lw_at lw_m3 168 rfl) rfl
theorem q752 : (Jvm.Cond.selects "WeekFoot" ({ cls := "WeekFoot", name := "fault", desc := "()I" } : Jvm.MethodName) ({ cls := "WeekFoot", name := "fault", desc := "()I" } : Jvm.MethodName)) ∈ lw_all := lw_g (lw_at lw_m3 169 rfl) rfl
theorem q753 : (Jvm.Cond.code ({ cls := "WeekFoot", name := "fault", desc := "()I" } : Jvm.MethodName) prog_1_method_26_code (1 : Nat) (Option.some Jvm.ClassFile.FieldType.int)) ∈ lw_all := lw_g (lw_at lw_m3 170 rfl) rfl
theorem q756 : (Jvm.Cond.instanceMethod ({ cls := "WeekFoot", name := "<init>", desc := "()V" } : Jvm.MethodName)) ∈ lw_all := lw_g (lw_at lw_m3 173 rfl) rfl
theorem q757 : (Jvm.Cond.code ({ cls := "WeekFoot", name := "<init>", desc := "()V" } : Jvm.MethodName) prog_1_method_27_code (2 : Nat) (Option.none : Option Jvm.ClassFile.FieldType)) ∈ lw_all := lw_g (lw_at lw_m3 174 rfl) rfl
theorem q758 : (Jvm.Cond.methodLink "WeekFoot" (187 : Nat) ({ cls := "java/lang/Object", name := "<init>", desc := "()V" } : Jvm.MethodName)) ∈ lw_all := lw_g (lw_at lw_m3 175 rfl) rfl
theorem q759 : (Jvm.Cond.classLink "WeekFoot" (16 : Nat) "WeekFoot$Big") ∈ lw_all := lw_g (lw_at lw_m3 176 rfl) rfl
theorem q761 : (Jvm.Cond.methodLinkNest "WeekFoot" (190 : Nat) ({ cls := "WeekFoot$Big", name := "<init>", desc := "()V" } : Jvm.MethodName) "WeekFoot") ∈ lw_tbl := lw_at lw_m3 178 rfl
theorem q766 : (Jvm.Cond.fieldLinkNest "WeekFoot" (282 : Nat) "WeekFoot$Big" "parts" "[I" "WeekFoot") ∈ lw_tbl := lw_at lw_m3 183 rfl
theorem q771 : (Jvm.Cond.classLink "WeekFoot" (191 : Nat) "WeekFoot$Ends") ∈ lw_all := lw_g (lw_at lw_m3 188 rfl) rfl
theorem q773 : (Jvm.Cond.methodLink "WeekFoot" (193 : Nat) ({ cls := "WeekFoot$Ends", name := "<init>", desc := "(LWeekFoot;)V" } : Jvm.MethodName)) ∈ lw_all := lw_g (lw_at lw_m3 190 rfl) rfl
theorem q781 : (Jvm.Cond.fieldLinkNest "WeekFoot" (256 : Nat) "WeekFoot$Ends" "upper" "[LWeekFoot$Big;" "WeekFoot") ∈ lw_tbl := lw_at lw_m3 198 rfl
theorem q783 : (Jvm.Cond.fieldLinkNest "WeekFoot" (261 : Nat) "WeekFoot$Ends" "lower" "[LWeekFoot$Big;" "WeekFoot") ∈ lw_tbl := lw_at lw_m3 200 rfl
theorem q787 : (Jvm.Cond.fieldLinkNest "WeekFoot" (250 : Nat) "WeekFoot$Ends" "there" "[Z" "WeekFoot") ∈ lw_tbl := lw_at lw_m3 204 rfl
theorem q789 : (Jvm.Cond.fieldLinkNest "WeekFoot" (253 : Nat) "WeekFoot$Ends" "open" "[Z" "WeekFoot") ∈ lw_tbl := lw_at lw_m3 206 rfl
theorem q813 : (Jvm.Cond.classLink "WeekFoot" (225 : Nat) "WeekFoot$Whose") ∈ lw_all := lw_g (lw_at lw_m3 230 rfl) rfl
theorem q815 : (Jvm.Cond.methodLinkNest "WeekFoot" (227 : Nat) ({ cls := "WeekFoot$Whose", name := "<init>", desc := "(LWeekFoot;)V" } : Jvm.MethodName) "WeekFoot") ∈ lw_tbl := lw_at lw_m3 232 rfl
theorem q822 : (Jvm.Cond.fieldLinkNest "WeekFoot" (391 : Nat) "WeekFoot$Whose" "could" "[I" "WeekFoot") ∈ lw_tbl := lw_at lw_m3 239 rfl
theorem q825 : (Jvm.Cond.fieldLinkNest "WeekFoot" (382 : Nat) "WeekFoot$Whose" "many" "I" "WeekFoot") ∈ lw_tbl := lw_at lw_m4 2 rfl
theorem q827 : (Jvm.Cond.fieldLinkNest "WeekFoot" (385 : Nat) "WeekFoot$Whose" "ways" "I" "WeekFoot") ∈ lw_tbl := lw_at lw_m4 4 rfl
theorem q844 : (Jvm.Cond.classLink "WeekFoot" (232 : Nat) "WeekFoot$Year") ∈ lw_all := lw_g (lw_at lw_m4 21 rfl) rfl
theorem q846 : (Jvm.Cond.methodLinkNest "WeekFoot" (234 : Nat) ({ cls := "WeekFoot$Year", name := "<init>", desc := "(LWeekFoot;)V" } : Jvm.MethodName) "WeekFoot") ∈ lw_tbl := lw_at lw_m4 23 rfl
theorem q851 : (Jvm.Cond.fieldLinkNest "WeekFoot" (422 : Nat) "WeekFoot$Year" "keepers" "[I" "WeekFoot") ∈ lw_tbl := lw_at lw_m4 28 rfl
theorem q853 : (Jvm.Cond.fieldLinkNest "WeekFoot" (416 : Nat) "WeekFoot$Year" "buys" "I" "WeekFoot") ∈ lw_tbl := lw_at lw_m4 30 rfl
theorem q855 : (Jvm.Cond.fieldLinkNest "WeekFoot" (419 : Nat) "WeekFoot$Year" "sells" "I" "WeekFoot") ∈ lw_tbl := lw_at lw_m4 32 rfl
theorem q857 : (Jvm.Cond.fieldLinkNest "WeekFoot" (410 : Nat) "WeekFoot$Year" "gain" "I" "WeekFoot") ∈ lw_tbl := lw_at lw_m4 34 rfl
theorem q859 : (Jvm.Cond.fieldLinkNest "WeekFoot" (413 : Nat) "WeekFoot$Year" "isThere" "Z" "WeekFoot") ∈ lw_tbl := lw_at lw_m4 36 rfl
theorem q874 : (Jvm.Cond.fieldLink "WeekFoot" (1 : Nat) "WeekFoot" "status" "I") ∈ lw_all := lw_g (lw_at lw_m4 51 rfl) rfl
theorem q875 : (Jvm.Cond.fieldLink "WeekFoot" (7 : Nat) "WeekFoot" "refused" "[I") ∈ lw_all := lw_g (lw_at lw_m4 52 rfl) rfl
theorem q876 : (Jvm.Cond.fieldLink "WeekFoot" (11 : Nat) "WeekFoot" "one" "LWeekFoot$Big;") ∈ lw_all := lw_g (lw_at lw_m4 53 rfl) rfl
theorem q878 : (Jvm.Cond.fieldLink "WeekFoot" (27 : Nat) "WeekFoot" "two" "LWeekFoot$Big;") ∈ lw_all := lw_g (lw_at lw_m4 55 rfl) rfl
theorem q883 : (Jvm.Cond.fieldLink "WeekFoot" (45 : Nat) "WeekFoot" "state" "LWeekFoot$State;") ∈ lw_all := lw_g (lw_at lw_m4 60 rfl) rfl
theorem q884 : (Jvm.Cond.fieldLink "WeekFoot" (64 : Nat) "WeekFoot" "images" "[LWeekFoot$State;") ∈ lw_all := lw_g (lw_at lw_m4 61 rfl) rfl
theorem q885 : (Jvm.Cond.fieldLink "WeekFoot" (156 : Nat) "WeekFoot" "tape" "[B") ∈ lw_all := lw_g (lw_at lw_m4 62 rfl) rfl
theorem q886 : (Jvm.Cond.fieldLink "WeekFoot" (150 : Nat) "WeekFoot" "taped" "I") ∈ lw_all := lw_g (lw_at lw_m4 63 rfl) rfl
theorem q887 : (Jvm.Cond.fieldLink "WeekFoot" (176 : Nat) "WeekFoot" "fault" "I") ∈ lw_all := lw_g (lw_at lw_m4 64 rfl) rfl
theorem q888 : (Jvm.Cond.fieldLink "WeekFoot" (160 : Nat) "WeekFoot" "blurred" "I") ∈ lw_all := lw_g (lw_at lw_m4 65 rfl) rfl
theorem q891 : (Jvm.Cond.fieldLink "WeekFoot" (34 : Nat) "WeekFoot" "version" "I") ∈ lw_all := lw_g (lw_at lw_m4 68 rfl) rfl
theorem q892 : (Jvm.Cond.fieldLink "WeekFoot" (196 : Nat) "WeekFoot" "ends" "LWeekFoot$Ends;") ∈ lw_all := lw_g (lw_at lw_m4 69 rfl) rfl
theorem q894 : (Jvm.Cond.fieldLink "WeekFoot" (200 : Nat) "WeekFoot" "others" "LWeekFoot$Ends;") ∈ lw_all := lw_g (lw_at lw_m4 71 rfl) rfl
theorem q895 : (Jvm.Cond.fieldLink "WeekFoot" (203 : Nat) "WeekFoot" "told" "[LWeekFoot$Entry;") ∈ lw_all := lw_g (lw_at lw_m4 72 rfl) rfl
theorem q896 : (Jvm.Cond.fieldLink "WeekFoot" (207 : Nat) "WeekFoot" "top" "LWeekFoot$Big;") ∈ lw_all := lw_g (lw_at lw_m4 73 rfl) rfl
theorem q897 : (Jvm.Cond.fieldLink "WeekFoot" (210 : Nat) "WeekFoot" "bottom" "LWeekFoot$Big;") ∈ lw_all := lw_g (lw_at lw_m4 74 rfl) rfl
theorem q898 : (Jvm.Cond.fieldLink "WeekFoot" (213 : Nat) "WeekFoot" "left" "LWeekFoot$Big;") ∈ lw_all := lw_g (lw_at lw_m4 75 rfl) rfl
theorem q899 : (Jvm.Cond.fieldLink "WeekFoot" (216 : Nat) "WeekFoot" "right" "LWeekFoot$Big;") ∈ lw_all := lw_g (lw_at lw_m4 76 rfl) rfl
theorem q900 : (Jvm.Cond.fieldLink "WeekFoot" (300 : Nat) "WeekFoot" "near" "Z") ∈ lw_all := lw_g (lw_at lw_m4 77 rfl) rfl
theorem q901 : (Jvm.Cond.fieldLink "WeekFoot" (339 : Nat) "WeekFoot" "numbersLeast" "I") ∈ lw_all := lw_g (lw_at lw_m4 78 rfl) rfl
theorem q902 : (Jvm.Cond.fieldLink "WeekFoot" (342 : Nat) "WeekFoot" "numbersMost" "I") ∈ lw_all := lw_g (lw_at lw_m4 79 rfl) rfl
theorem q903 : (Jvm.Cond.fieldLink "WeekFoot" (219 : Nat) "WeekFoot" "groups" "[I") ∈ lw_all := lw_g (lw_at lw_m4 80 rfl) rfl
theorem q904 : (Jvm.Cond.fieldLink "WeekFoot" (222 : Nat) "WeekFoot" "wrongMade" "I") ∈ lw_all := lw_g (lw_at lw_m4 81 rfl) rfl
theorem q905 : (Jvm.Cond.fieldLink "WeekFoot" (365 : Nat) "WeekFoot" "wrongMany" "I") ∈ lw_all := lw_g (lw_at lw_m4 82 rfl) rfl
theorem q906 : (Jvm.Cond.fieldLink "WeekFoot" (368 : Nat) "WeekFoot" "wrongWays" "I") ∈ lw_all := lw_g (lw_at lw_m4 83 rfl) rfl
theorem q907 : (Jvm.Cond.fieldLink "WeekFoot" (371 : Nat) "WeekFoot" "wrongFirst" "I") ∈ lw_all := lw_g (lw_at lw_m4 84 rfl) rfl
theorem q908 : (Jvm.Cond.fieldLink "WeekFoot" (228 : Nat) "WeekFoot" "whose" "LWeekFoot$Whose;") ∈ lw_all := lw_g (lw_at lw_m4 85 rfl) rfl
theorem q909 : (Jvm.Cond.fieldLink "WeekFoot" (235 : Nat) "WeekFoot" "year" "LWeekFoot$Year;") ∈ lw_all := lw_g (lw_at lw_m4 86 rfl) rfl
theorem q910 : (Jvm.Cond.lays "WeekFoot" "WeekFoot" "status" "I") ∈ lw_all := lw_g (lw_at lw_m4 87 rfl) rfl
theorem q911 : (Jvm.Cond.soleField "WeekFoot" "status") ∈ lw_all := lw_g (lw_at lw_m4 88 rfl) rfl
theorem q912 : (Jvm.Cond.laysFinal "WeekFoot" "WeekFoot" "refused" "[I") ∈ lw_all := lw_g (lw_at lw_m4 89 rfl) rfl
theorem q913 : (Jvm.Cond.soleField "WeekFoot" "refused") ∈ lw_all := lw_g (lw_at lw_m4 90 rfl) rfl
theorem q914 : (Jvm.Cond.laysFinal "WeekFoot" "WeekFoot" "one" "LWeekFoot$Big;") ∈ lw_all := lw_g (lw_at lw_m4 91 rfl) rfl
theorem q915 : (Jvm.Cond.soleField "WeekFoot" "one") ∈ lw_all := lw_g (lw_at lw_m4 92 rfl) rfl
theorem q916 : (Jvm.Cond.laysFinal "WeekFoot" "WeekFoot" "two" "LWeekFoot$Big;") ∈ lw_all := lw_g (lw_at lw_m4 93 rfl) rfl
theorem q917 : (Jvm.Cond.soleField "WeekFoot" "two") ∈ lw_all := lw_g (lw_at lw_m4 94 rfl) rfl
theorem q918 : (Jvm.Cond.laysFinal "WeekFoot" "WeekFoot" "state" "LWeekFoot$State;") ∈ lw_all := lw_g (lw_at lw_m4 95 rfl) rfl
theorem q919 : (Jvm.Cond.soleField "WeekFoot" "state") ∈ lw_all := lw_g (lw_at lw_m4 96 rfl) rfl
theorem q920 : (Jvm.Cond.laysFinal "WeekFoot" "WeekFoot" "images" "[LWeekFoot$State;") ∈ lw_all := lw_g (lw_at lw_m4 97 rfl) rfl
theorem q921 : (Jvm.Cond.soleField "WeekFoot" "images") ∈ lw_all := lw_g (lw_at lw_m4 98 rfl) rfl
theorem q922 : (Jvm.Cond.laysFinal "WeekFoot" "WeekFoot" "tape" "[B") ∈ lw_all := lw_g (lw_at lw_m4 99 rfl) rfl
theorem q923 : (Jvm.Cond.soleField "WeekFoot" "tape") ∈ lw_all := lw_g (lw_at lw_m4 100 rfl) rfl
theorem q924 : (Jvm.Cond.lays "WeekFoot" "WeekFoot" "taped" "I") ∈ lw_all := lw_g (lw_at lw_m4 101 rfl) rfl
theorem q925 : (Jvm.Cond.soleField "WeekFoot" "taped") ∈ lw_all := lw_g (lw_at lw_m4 102 rfl) rfl
theorem q926 : (Jvm.Cond.lays "WeekFoot" "WeekFoot" "fault" "I") ∈ lw_all := lw_g (lw_at lw_m4 103 rfl) rfl
theorem q927 : (Jvm.Cond.soleField "WeekFoot" "fault") ∈ lw_all := lw_g (lw_at lw_m4 104 rfl) rfl
theorem q928 : (Jvm.Cond.lays "WeekFoot" "WeekFoot" "blurred" "I") ∈ lw_all := lw_g (lw_at lw_m4 105 rfl) rfl
theorem q929 : (Jvm.Cond.soleField "WeekFoot" "blurred") ∈ lw_all := lw_g (lw_at lw_m4 106 rfl) rfl
theorem q930 : (Jvm.Cond.lays "WeekFoot" "WeekFoot" "version" "I") ∈ lw_all := lw_g (lw_at lw_m4 107 rfl) rfl
theorem q931 : (Jvm.Cond.soleField "WeekFoot" "version") ∈ lw_all := lw_g (lw_at lw_m4 108 rfl) rfl
theorem q932 : (Jvm.Cond.laysFinal "WeekFoot" "WeekFoot" "ends" "LWeekFoot$Ends;") ∈ lw_all := lw_g (lw_at lw_m4 109 rfl) rfl
theorem q933 : (Jvm.Cond.soleField "WeekFoot" "ends") ∈ lw_all := lw_g (lw_at lw_m4 110 rfl) rfl
theorem q934 : (Jvm.Cond.laysFinal "WeekFoot" "WeekFoot" "others" "LWeekFoot$Ends;") ∈ lw_all := lw_g (lw_at lw_m4 111 rfl) rfl
theorem q935 : (Jvm.Cond.soleField "WeekFoot" "others") ∈ lw_all := lw_g (lw_at lw_m4 112 rfl) rfl
theorem q936 : (Jvm.Cond.laysFinal "WeekFoot" "WeekFoot" "told" "[LWeekFoot$Entry;") ∈ lw_all := lw_g (lw_at lw_m4 113 rfl) rfl
theorem q937 : (Jvm.Cond.soleField "WeekFoot" "told") ∈ lw_all := lw_g (lw_at lw_m4 114 rfl) rfl
theorem q938 : (Jvm.Cond.laysFinal "WeekFoot" "WeekFoot" "top" "LWeekFoot$Big;") ∈ lw_all := lw_g (lw_at lw_m4 115 rfl) rfl
theorem q939 : (Jvm.Cond.soleField "WeekFoot" "top") ∈ lw_all := lw_g (lw_at lw_m4 116 rfl) rfl
theorem q940 : (Jvm.Cond.laysFinal "WeekFoot" "WeekFoot" "bottom" "LWeekFoot$Big;") ∈ lw_all := lw_g (lw_at lw_m4 117 rfl) rfl
theorem q941 : (Jvm.Cond.soleField "WeekFoot" "bottom") ∈ lw_all := lw_g (lw_at lw_m4 118 rfl) rfl
theorem q942 : (Jvm.Cond.laysFinal "WeekFoot" "WeekFoot" "left" "LWeekFoot$Big;") ∈ lw_all := lw_g (lw_at lw_m4 119 rfl) rfl
theorem q943 : (Jvm.Cond.soleField "WeekFoot" "left") ∈ lw_all := lw_g (lw_at lw_m4 120 rfl) rfl
theorem q944 : (Jvm.Cond.laysFinal "WeekFoot" "WeekFoot" "right" "LWeekFoot$Big;") ∈ lw_all := lw_g (lw_at lw_m4 121 rfl) rfl
theorem q945 : (Jvm.Cond.soleField "WeekFoot" "right") ∈ lw_all := lw_g (lw_at lw_m4 122 rfl) rfl
theorem q946 : (Jvm.Cond.lays "WeekFoot" "WeekFoot" "near" "Z") ∈ lw_all := lw_g (lw_at lw_m4 123 rfl) rfl
theorem q947 : (Jvm.Cond.soleField "WeekFoot" "near") ∈ lw_all := lw_g (lw_at lw_m4 124 rfl) rfl
theorem q948 : (Jvm.Cond.lays "WeekFoot" "WeekFoot" "numbersLeast" "I") ∈ lw_all := lw_g (lw_at lw_m4 125 rfl) rfl
theorem q949 : (Jvm.Cond.soleField "WeekFoot" "numbersLeast") ∈ lw_all := lw_g (lw_at lw_m4 126 rfl) rfl
theorem q950 : (Jvm.Cond.lays "WeekFoot" "WeekFoot" "numbersMost" "I") ∈ lw_all := lw_g (lw_at lw_m4 127 rfl) rfl
theorem q951 : (Jvm.Cond.soleField "WeekFoot" "numbersMost") ∈ lw_all := lw_g (lw_at lw_m4 128 rfl) rfl
theorem q952 : (Jvm.Cond.laysFinal "WeekFoot" "WeekFoot" "groups" "[I") ∈ lw_all := lw_g (lw_at lw_m4 129 rfl) rfl
theorem q953 : (Jvm.Cond.soleField "WeekFoot" "groups") ∈ lw_all := lw_g (lw_at lw_m4 130 rfl) rfl
theorem q954 : (Jvm.Cond.lays "WeekFoot" "WeekFoot" "wrongMade" "I") ∈ lw_all := lw_g (lw_at lw_m4 131 rfl) rfl
theorem q955 : (Jvm.Cond.soleField "WeekFoot" "wrongMade") ∈ lw_all := lw_g (lw_at lw_m4 132 rfl) rfl
theorem q956 : (Jvm.Cond.lays "WeekFoot" "WeekFoot" "wrongMany" "I") ∈ lw_all := lw_g (lw_at lw_m4 133 rfl) rfl
theorem q957 : (Jvm.Cond.soleField "WeekFoot" "wrongMany") ∈ lw_all := lw_g (lw_at lw_m4 134 rfl) rfl
theorem q958 : (Jvm.Cond.lays "WeekFoot" "WeekFoot" "wrongWays" "I") ∈ lw_all := lw_g (lw_at lw_m4 135 rfl) rfl
theorem q959 : (Jvm.Cond.soleField "WeekFoot" "wrongWays") ∈ lw_all := lw_g (lw_at lw_m4 136 rfl) rfl
theorem q960 : (Jvm.Cond.lays "WeekFoot" "WeekFoot" "wrongFirst" "I") ∈ lw_all := lw_g (lw_at lw_m4 137 rfl) rfl
theorem q961 : (Jvm.Cond.soleField "WeekFoot" "wrongFirst") ∈ lw_all := lw_g (lw_at lw_m4 138 rfl) rfl
theorem q962 : (Jvm.Cond.laysFinal "WeekFoot" "WeekFoot" "whose" "LWeekFoot$Whose;") ∈ lw_all := lw_g (lw_at lw_m4 139 rfl) rfl
theorem q963 : (Jvm.Cond.soleField "WeekFoot" "whose") ∈ lw_all := lw_g (lw_at lw_m4 140 rfl) rfl
theorem q964 : (Jvm.Cond.laysFinal "WeekFoot" "WeekFoot" "year" "LWeekFoot$Year;") ∈ lw_all := lw_g (lw_at lw_m4 141 rfl) rfl
theorem q965 : (Jvm.Cond.soleField "WeekFoot" "year") ∈ lw_all := lw_g (lw_at lw_m4 142 rfl) rfl
theorem q966 : (Jvm.Cond.superclass "WeekFoot" "java/lang/Object") ∈ lw_all := lw_g (lw_at lw_m4 143 rfl) rfl
theorem q968 : (Jvm.Cond.instanceMethod ({ cls := "WeekFoot", name := "fits", desc := "()I" } : Jvm.MethodName)) ∈ lw_all := lw_g (lw_at lw_m4 145 rfl) rfl
theorem q969 : (Jvm.Cond.selects "WeekFoot" ({ cls := "WeekFoot", name := "fits", desc := "()I" } : Jvm.MethodName) ({ cls := "WeekFoot", name := "fits", desc := "()I" } : Jvm.MethodName)) ∈ lw_all := lw_g (lw_at lw_m4 146 rfl) rfl
theorem q970 : (Jvm.Cond.code ({ cls := "WeekFoot", name := "fits", desc := "()I" } : Jvm.MethodName) prog_1_method_30_code (1 : Nat) (Option.some Jvm.ClassFile.FieldType.int)) ∈ lw_all := lw_g (lw_at lw_m4 147 rfl) rfl
theorem q971 : (Jvm.Cond.methodLink "WeekFoot" (243 : Nat) ({ cls := "WeekFoot$Ends", name := "looks", desc := "()Z" } : Jvm.MethodName)) ∈ lw_all := lw_g (lw_at lw_m4 148 rfl) rfl
theorem q976 : (Jvm.Cond.privateMethod ({ cls := "WeekFoot", name := "counted", desc := "()I" } : Jvm.MethodName)) ∈ lw_tbl := lw_at lw_m4 153 rfl
theorem q977 : (Jvm.Cond.instanceMethod ({ cls := "WeekFoot", name := "counted", desc := "()I" } : Jvm.MethodName)) ∈ lw_all := lw_g (lw_at lw_m4 154 rfl) rfl
theorem q978 : (Jvm.Cond.code ({ cls := "WeekFoot", name := "counted", desc := "()I" } : Jvm.MethodName) prog_1_method_28_code (3 : Nat) (Option.some Jvm.ClassFile.FieldType.int)) ∈ lw_all := lw_g (lw_at lw_m4 155 rfl) rfl
theorem q1042 : (Jvm.Cond.instanceMethod ({ cls := "WeekFoot", name := "between", desc := "(III)I" } : Jvm.MethodName)) ∈ lw_all := lw_g (lw_at lw_m4 219 rfl) rfl
theorem q1043 : (Jvm.Cond.selects "WeekFoot" ({ cls := "WeekFoot", name := "between", desc := "(III)I" } : Jvm.MethodName) ({ cls := "WeekFoot", name := "between", desc := "(III)I" } : Jvm.MethodName)) ∈ lw_all := lw_g (lw_at lw_m4 220 rfl) rfl
theorem q1044 : (Jvm.Cond.code ({ cls := "WeekFoot", name := "between", desc := "(III)I" } : Jvm.MethodName) prog_1_method_32_code (5 : Nat) (Option.some Jvm.ClassFile.FieldType.int)) ∈ lw_all := lw_g (lw_at lw_m4 221 rfl) rfl
theorem q1045 : (Jvm.Cond.methodLink "WeekFoot" (247 : Nat) ({ cls := "WeekFoot", name := "isLength", desc := "(I)Z" } : Jvm.MethodName)) ∈ lw_all := lw_g (lw_at lw_m4 222 rfl) rfl
theorem q1046 : (Jvm.Cond.privateMethod ({ cls := "WeekFoot", name := "isLength", desc := "(I)Z" } : Jvm.MethodName)) ∈ lw_tbl := lw_at lw_m4 223 rfl
theorem q1047 : (Jvm.Cond.instanceMethod ({ cls := "WeekFoot", name := "isLength", desc := "(I)Z" } : Jvm.MethodName)) ∈ lw_all := lw_g (lw_at lw_m4 224 rfl) rfl
theorem q1048 : (Jvm.Cond.code ({ cls := "WeekFoot", name := "isLength", desc := "(I)Z" } : Jvm.MethodName) prog_1_method_31_code (2 : Nat) (Option.some Jvm.ClassFile.FieldType.boolean)) ∈ lw_all := lw_g (lw_at lw_m4 225 rfl) rfl
theorem q1049 : (Jvm.Cond.constant "WeekFoot" (260 : Nat) (1000000 : Int32)) ∈ lw_all := lw_g (lw_at lw_m4 226 rfl) rfl
theorem q1050 : (Jvm.Cond.constant "WeekFoot" (264 : Nat) (2000000000 : Int32)) ∈ lw_all := lw_g (lw_at lw_m4 227 rfl) rfl
theorem q1051 : (Jvm.Cond.methodLink "WeekFoot" (265 : Nat) ({ cls := "WeekFoot", name := "quotient", desc := "(LWeekFoot$Big;ILWeekFoot$Big;I)I" } : Jvm.MethodName)) ∈ lw_all := lw_g (lw_at lw_m4 228 rfl) rfl
theorem q1052 : (Jvm.Cond.privateMethod ({ cls := "WeekFoot", name := "quotient", desc := "(LWeekFoot$Big;ILWeekFoot$Big;I)I" } : Jvm.MethodName)) ∈ lw_tbl := lw_at lw_m4 229 rfl
theorem q1053 : (Jvm.Cond.instanceMethod ({ cls := "WeekFoot", name := "quotient", desc := "(LWeekFoot$Big;ILWeekFoot$Big;I)I" } : Jvm.MethodName)) ∈ lw_all := lw_g (lw_at lw_m4 230 rfl) rfl
theorem q1054 : (Jvm.Cond.code ({ cls := "WeekFoot", name := "quotient", desc := "(LWeekFoot$Big;ILWeekFoot$Big;I)I" } : Jvm.MethodName) prog_1_method_4_code (8 : Nat) (Option.some Jvm.ClassFile.FieldType.int)) ∈ lw_all := lw_g (lw_at lw_m4 231 rfl) rfl
theorem q1055 : (Jvm.Cond.methodLink "WeekFoot" (15 : Nat) ({ cls := "WeekFoot$Big", name := "like", desc := "(LWeekFoot$Big;)V" } : Jvm.MethodName)) ∈ lw_all := lw_g (lw_at lw_m4 232 rfl) rfl
theorem q1056 : (Jvm.Cond.methodLink "WeekFoot" (21 : Nat) ({ cls := "WeekFoot$Big", name := "times", desc := "(I)V" } : Jvm.MethodName)) ∈ lw_all := lw_g (lw_at lw_m4 233 rfl) rfl
theorem q1060 : (Jvm.Cond.constantLong "WeekFoot" (25 : Nat) (2 : Int64)) ∈ lw_all := lw_g (lw_at lw_m4 237 rfl) rfl
theorem q1061 : (Jvm.Cond.methodLink "WeekFoot" (30 : Nat) ({ cls := "WeekFoot$Big", name := "against", desc := "(LWeekFoot$Big;)I" } : Jvm.MethodName)) ∈ lw_all := lw_g (lw_at lw_m4 238 rfl) rfl
theorem q1063 : (Jvm.Cond.instanceMethod ({ cls := "WeekFoot", name := "sure", desc := "(II)I" } : Jvm.MethodName)) ∈ lw_all := lw_g (lw_at lw_m5 0 rfl) rfl
theorem q1064 : (Jvm.Cond.selects "WeekFoot" ({ cls := "WeekFoot", name := "sure", desc := "(II)I" } : Jvm.MethodName) ({ cls := "WeekFoot", name := "sure", desc := "(II)I" } : Jvm.MethodName)) ∈ lw_all := lw_g (lw_at lw_m5 1 rfl) rfl
theorem q1065 : (Jvm.Cond.code ({ cls := "WeekFoot", name := "sure", desc := "(II)I" } : Jvm.MethodName) prog_1_method_33_code (5 : Nat) (Option.some Jvm.ClassFile.FieldType.int)) ∈ lw_all := lw_g (lw_at lw_m5 2 rfl) rfl
theorem q1066 : (Jvm.Cond.methodLink "WeekFoot" (269 : Nat) ({ cls := "WeekFoot$Ends", name := "above", desc := "(II)I" } : Jvm.MethodName)) ∈ lw_all := lw_g (lw_at lw_m5 3 rfl) rfl
theorem q1071 : (Jvm.Cond.instanceMethod ({ cls := "WeekFoot", name := "feet", desc := "(III)I" } : Jvm.MethodName)) ∈ lw_all := lw_g (lw_at lw_m5 8 rfl) rfl
theorem q1072 : (Jvm.Cond.selects "WeekFoot" ({ cls := "WeekFoot", name := "feet", desc := "(III)I" } : Jvm.MethodName) ({ cls := "WeekFoot", name := "feet", desc := "(III)I" } : Jvm.MethodName)) ∈ lw_all := lw_g (lw_at lw_m5 9 rfl) rfl
theorem q1073 : (Jvm.Cond.code ({ cls := "WeekFoot", name := "feet", desc := "(III)I" } : Jvm.MethodName) prog_1_method_34_code (7 : Nat) (Option.some Jvm.ClassFile.FieldType.int)) ∈ lw_all := lw_g (lw_at lw_m5 10 rfl) rfl
theorem q1074 : (Jvm.Cond.methodLink "WeekFoot" (273 : Nat) ({ cls := "java/lang/Math", name := "min", desc := "(II)I" } : Jvm.MethodName)) ∈ lw_all := lw_g (lw_at lw_m5 11 rfl) rfl
theorem q1076 : (Jvm.Cond.instanceMethod ({ cls := "WeekFoot", name := "part", desc := "(III)J" } : Jvm.MethodName)) ∈ lw_all := lw_g (lw_at lw_m5 13 rfl) rfl
theorem q1077 : (Jvm.Cond.selects "WeekFoot" ({ cls := "WeekFoot", name := "part", desc := "(III)J" } : Jvm.MethodName) ({ cls := "WeekFoot", name := "part", desc := "(III)J" } : Jvm.MethodName)) ∈ lw_all := lw_g (lw_at lw_m5 14 rfl) rfl
theorem q1078 : (Jvm.Cond.code ({ cls := "WeekFoot", name := "part", desc := "(III)J" } : Jvm.MethodName) prog_1_method_37_code (11 : Nat) (Option.some Jvm.ClassFile.FieldType.long)) ∈ lw_all := lw_g (lw_at lw_m5 15 rfl) rfl
theorem q1079 : (Jvm.Cond.constantLong "WeekFoot" (287 : Nat) (-2 : Int64)) ∈ lw_all := lw_g (lw_at lw_m5 16 rfl) rfl
theorem q1080 : (Jvm.Cond.methodLink "WeekFoot" (289 : Nat) ({ cls := "WeekFoot", name := "isSame", desc := "(II)Z" } : Jvm.MethodName)) ∈ lw_all := lw_g (lw_at lw_m5 17 rfl) rfl
theorem q1081 : (Jvm.Cond.privateMethod ({ cls := "WeekFoot", name := "isSame", desc := "(II)Z" } : Jvm.MethodName)) ∈ lw_tbl := lw_at lw_m5 18 rfl
theorem q1082 : (Jvm.Cond.instanceMethod ({ cls := "WeekFoot", name := "isSame", desc := "(II)Z" } : Jvm.MethodName)) ∈ lw_all := lw_g (lw_at lw_m5 19 rfl) rfl
theorem q1083 : (Jvm.Cond.code ({ cls := "WeekFoot", name := "isSame", desc := "(II)Z" } : Jvm.MethodName) prog_1_method_38_code (5 : Nat) (Option.some Jvm.ClassFile.FieldType.boolean)) ∈ lw_all := lw_g (lw_at lw_m5 20 rfl) rfl
theorem q1084 : (Jvm.Cond.methodLink "WeekFoot" (296 : Nat) ({ cls := "WeekFoot$Big", name := "product", desc := "(LWeekFoot$Big;LWeekFoot$Big;)V" } : Jvm.MethodName)) ∈ lw_all := lw_g (lw_at lw_m5 21 rfl) rfl
theorem q1085 : (Jvm.Cond.methodLink "WeekFoot" (292 : Nat) ({ cls := "WeekFoot", name := "whole", desc := "(LWeekFoot$Big;)J" } : Jvm.MethodName)) ∈ lw_all := lw_g (lw_at lw_m5 22 rfl) rfl
theorem q1086 : (Jvm.Cond.static ({ cls := "WeekFoot", name := "whole", desc := "(LWeekFoot$Big;)J" } : Jvm.MethodName)) ∈ lw_all := lw_g (lw_at lw_m5 23 rfl) rfl
theorem q1087 : (Jvm.Cond.code ({ cls := "WeekFoot", name := "whole", desc := "(LWeekFoot$Big;)J" } : Jvm.MethodName) prog_1_method_36_code (1 : Nat) (Option.some Jvm.ClassFile.FieldType.long)) ∈ lw_all := lw_g (lw_at lw_m5 24 rfl) rfl
theorem q1088 : (Jvm.Cond.constantLong "WeekFoot" (285 : Nat) (1000000000 : Int64)) ∈ lw_all := lw_g (lw_at lw_m5 25 rfl) rfl
theorem q1089 : (Jvm.Cond.methodLink "WeekFoot" (278 : Nat) ({ cls := "WeekFoot", name := "common", desc := "(JJ)J" } : Jvm.MethodName)) ∈ lw_all := lw_g (lw_at lw_m5 26 rfl) rfl
theorem q1090 : (Jvm.Cond.static ({ cls := "WeekFoot", name := "common", desc := "(JJ)J" } : Jvm.MethodName)) ∈ lw_all := lw_g (lw_at lw_m5 27 rfl) rfl
theorem q1091 : (Jvm.Cond.code ({ cls := "WeekFoot", name := "common", desc := "(JJ)J" } : Jvm.MethodName) prog_1_method_35_code (4 : Nat) (Option.some Jvm.ClassFile.FieldType.long)) ∈ lw_all := lw_g (lw_at lw_m5 28 rfl) rfl
theorem q1093 : (Jvm.Cond.instanceMethod ({ cls := "WeekFoot", name := "lay", desc := "(IIIII)I" } : Jvm.MethodName)) ∈ lw_all := lw_g (lw_at lw_m5 30 rfl) rfl
theorem q1094 : (Jvm.Cond.selects "WeekFoot" ({ cls := "WeekFoot", name := "lay", desc := "(IIIII)I" } : Jvm.MethodName) ({ cls := "WeekFoot", name := "lay", desc := "(IIIII)I" } : Jvm.MethodName)) ∈ lw_all := lw_g (lw_at lw_m5 31 rfl) rfl
theorem q1095 : (Jvm.Cond.code ({ cls := "WeekFoot", name := "lay", desc := "(IIIII)I" } : Jvm.MethodName) prog_1_method_42_code (8 : Nat) (Option.some Jvm.ClassFile.FieldType.int)) ∈ lw_all := lw_g (lw_at lw_m5 32 rfl) rfl
theorem q1096 : (Jvm.Cond.methodLink "WeekFoot" (304 : Nat) ({ cls := "WeekFoot", name := "isFoot", desc := "(II)Z" } : Jvm.MethodName)) ∈ lw_all := lw_g (lw_at lw_m5 33 rfl) rfl
theorem q1097 : (Jvm.Cond.privateMethod ({ cls := "WeekFoot", name := "isFoot", desc := "(II)Z" } : Jvm.MethodName)) ∈ lw_tbl := lw_at lw_m5 34 rfl
theorem q1098 : (Jvm.Cond.instanceMethod ({ cls := "WeekFoot", name := "isFoot", desc := "(II)Z" } : Jvm.MethodName)) ∈ lw_all := lw_g (lw_at lw_m5 35 rfl) rfl
theorem q1099 : (Jvm.Cond.code ({ cls := "WeekFoot", name := "isFoot", desc := "(II)Z" } : Jvm.MethodName) prog_1_method_41_code (3 : Nat) (Option.some Jvm.ClassFile.FieldType.boolean)) ∈ lw_all := lw_g (lw_at lw_m5 36 rfl) rfl
theorem q1100 : (Jvm.Cond.methodLink "WeekFoot" (307 : Nat) ({ cls := "WeekFoot$Big", name := "be", desc := "(I)V" } : Jvm.MethodName)) ∈ lw_all := lw_g (lw_at lw_m5 37 rfl) rfl
theorem q1101 : (Jvm.Cond.methodLink "WeekFoot" (310 : Nat) ({ cls := "WeekFoot", name := "end", desc := "(III)Z" } : Jvm.MethodName)) ∈ lw_all := lw_g (lw_at lw_m5 38 rfl) rfl
theorem q1102 : (Jvm.Cond.privateMethod ({ cls := "WeekFoot", name := "end", desc := "(III)Z" } : Jvm.MethodName)) ∈ lw_tbl := lw_at lw_m5 39 rfl
theorem q1103 : (Jvm.Cond.instanceMethod ({ cls := "WeekFoot", name := "end", desc := "(III)Z" } : Jvm.MethodName)) ∈ lw_all := lw_g (lw_at lw_m5 40 rfl) rfl
theorem q1104 : (Jvm.Cond.code ({ cls := "WeekFoot", name := "end", desc := "(III)Z" } : Jvm.MethodName) prog_1_method_39_code (6 : Nat) (Option.some Jvm.ClassFile.FieldType.boolean)) ∈ lw_all := lw_g (lw_at lw_m5 41 rfl) rfl
theorem q1105 : (Jvm.Cond.methodLink "WeekFoot" (313 : Nat) ({ cls := "WeekFoot", name := "plus", desc := "(LWeekFoot$Big;LWeekFoot$Big;)V" } : Jvm.MethodName)) ∈ lw_all := lw_g (lw_at lw_m5 42 rfl) rfl
theorem q1106 : (Jvm.Cond.static ({ cls := "WeekFoot", name := "plus", desc := "(LWeekFoot$Big;LWeekFoot$Big;)V" } : Jvm.MethodName)) ∈ lw_all := lw_g (lw_at lw_m5 43 rfl) rfl
theorem q1107 : (Jvm.Cond.code ({ cls := "WeekFoot", name := "plus", desc := "(LWeekFoot$Big;LWeekFoot$Big;)V" } : Jvm.MethodName) prog_1_method_43_code (5 : Nat) (Option.none : Option Jvm.ClassFile.FieldType)) ∈ lw_all := lw_g (lw_at lw_m5 44 rfl) rfl
theorem q1108 : (Jvm.Cond.constant "WeekFoot" (318 : Nat) (1000000000 : Int32)) ∈ lw_all := lw_g (lw_at lw_m5 45 rfl) rfl
theorem q1109 : (Jvm.Cond.methodLink "WeekFoot" (316 : Nat) ({ cls := "WeekFoot", name := "cuts", desc := "(II)I" } : Jvm.MethodName)) ∈ lw_all := lw_g (lw_at lw_m5 46 rfl) rfl
theorem q1110 : (Jvm.Cond.privateMethod ({ cls := "WeekFoot", name := "cuts", desc := "(II)I" } : Jvm.MethodName)) ∈ lw_tbl := lw_at lw_m5 47 rfl
theorem q1111 : (Jvm.Cond.instanceMethod ({ cls := "WeekFoot", name := "cuts", desc := "(II)I" } : Jvm.MethodName)) ∈ lw_all := lw_g (lw_at lw_m5 48 rfl) rfl
theorem q1112 : (Jvm.Cond.code ({ cls := "WeekFoot", name := "cuts", desc := "(II)I" } : Jvm.MethodName) prog_1_method_40_code (4 : Nat) (Option.some Jvm.ClassFile.FieldType.int)) ∈ lw_all := lw_g (lw_at lw_m5 49 rfl) rfl
theorem q1114 : (Jvm.Cond.instanceMethod ({ cls := "WeekFoot", name := "area", desc := "(IIII)I" } : Jvm.MethodName)) ∈ lw_all := lw_g (lw_at lw_m5 51 rfl) rfl
theorem q1115 : (Jvm.Cond.selects "WeekFoot" ({ cls := "WeekFoot", name := "area", desc := "(IIII)I" } : Jvm.MethodName) ({ cls := "WeekFoot", name := "area", desc := "(IIII)I" } : Jvm.MethodName)) ∈ lw_all := lw_g (lw_at lw_m5 52 rfl) rfl
theorem q1116 : (Jvm.Cond.code ({ cls := "WeekFoot", name := "area", desc := "(IIII)I" } : Jvm.MethodName) prog_1_method_44_code (5 : Nat) (Option.some Jvm.ClassFile.FieldType.int)) ∈ lw_all := lw_g (lw_at lw_m5 53 rfl) rfl
theorem q1117 : (Jvm.Cond.constant "WeekFoot" (319 : Nat) (4000000 : Int32)) ∈ lw_all := lw_g (lw_at lw_m5 54 rfl) rfl
theorem q1119 : (Jvm.Cond.instanceMethod ({ cls := "WeekFoot", name := "would", desc := "(IIII)I" } : Jvm.MethodName)) ∈ lw_all := lw_g (lw_at lw_m5 56 rfl) rfl
theorem q1120 : (Jvm.Cond.selects "WeekFoot" ({ cls := "WeekFoot", name := "would", desc := "(IIII)I" } : Jvm.MethodName) ({ cls := "WeekFoot", name := "would", desc := "(IIII)I" } : Jvm.MethodName)) ∈ lw_all := lw_g (lw_at lw_m5 57 rfl) rfl
theorem q1121 : (Jvm.Cond.code ({ cls := "WeekFoot", name := "would", desc := "(IIII)I" } : Jvm.MethodName) prog_1_method_49_code (6 : Nat) (Option.some Jvm.ClassFile.FieldType.int)) ∈ lw_all := lw_g (lw_at lw_m5 58 rfl) rfl
theorem q1122 : (Jvm.Cond.methodLink "WeekFoot" (329 : Nat) ({ cls := "WeekFoot", name := "isNumber", desc := "(II)Z" } : Jvm.MethodName)) ∈ lw_all := lw_g (lw_at lw_m5 59 rfl) rfl
theorem q1123 : (Jvm.Cond.static ({ cls := "WeekFoot", name := "isNumber", desc := "(II)Z" } : Jvm.MethodName)) ∈ lw_all := lw_g (lw_at lw_m5 60 rfl) rfl
theorem q1124 : (Jvm.Cond.code ({ cls := "WeekFoot", name := "isNumber", desc := "(II)Z" } : Jvm.MethodName) prog_1_method_48_code (2 : Nat) (Option.some Jvm.ClassFile.FieldType.boolean)) ∈ lw_all := lw_g (lw_at lw_m5 61 rfl) rfl
theorem q1125 : (Jvm.Cond.methodLink "WeekFoot" (332 : Nat) ({ cls := "WeekFoot", name := "could", desc := "(LWeekFoot$Entry;II)Z" } : Jvm.MethodName)) ∈ lw_all := lw_g (lw_at lw_m5 62 rfl) rfl
theorem q1126 : (Jvm.Cond.privateMethod ({ cls := "WeekFoot", name := "could", desc := "(LWeekFoot$Entry;II)Z" } : Jvm.MethodName)) ∈ lw_tbl := lw_at lw_m5 63 rfl
theorem q1127 : (Jvm.Cond.instanceMethod ({ cls := "WeekFoot", name := "could", desc := "(LWeekFoot$Entry;II)Z" } : Jvm.MethodName)) ∈ lw_all := lw_g (lw_at lw_m5 64 rfl) rfl
theorem q1128 : (Jvm.Cond.code ({ cls := "WeekFoot", name := "could", desc := "(LWeekFoot$Entry;II)Z" } : Jvm.MethodName) prog_1_method_46_code (7 : Nat) (Option.some Jvm.ClassFile.FieldType.boolean)) ∈ lw_all := lw_g (lw_at lw_m5 65 rfl) rfl
theorem q1129 : (Jvm.Cond.methodLink "WeekFoot" (320 : Nat) ({ cls := "WeekFoot$Entry", name := "low", desc := "()I" } : Jvm.MethodName)) ∈ lw_all := lw_g (lw_at lw_m5 66 rfl) rfl
theorem q1130 : (Jvm.Cond.methodLink "WeekFoot" (323 : Nat) ({ cls := "WeekFoot", name := "against", desc := "(IIII)I" } : Jvm.MethodName)) ∈ lw_all := lw_g (lw_at lw_m5 67 rfl) rfl
theorem q1131 : (Jvm.Cond.privateMethod ({ cls := "WeekFoot", name := "against", desc := "(IIII)I" } : Jvm.MethodName)) ∈ lw_tbl := lw_at lw_m5 68 rfl
theorem q1132 : (Jvm.Cond.instanceMethod ({ cls := "WeekFoot", name := "against", desc := "(IIII)I" } : Jvm.MethodName)) ∈ lw_all := lw_g (lw_at lw_m5 69 rfl) rfl
theorem q1133 : (Jvm.Cond.code ({ cls := "WeekFoot", name := "against", desc := "(IIII)I" } : Jvm.MethodName) prog_1_method_45_code (5 : Nat) (Option.some Jvm.ClassFile.FieldType.int)) ∈ lw_all := lw_g (lw_at lw_m5 70 rfl) rfl
theorem q1134 : (Jvm.Cond.methodLink "WeekFoot" (326 : Nat) ({ cls := "WeekFoot$Entry", name := "high", desc := "()I" } : Jvm.MethodName)) ∈ lw_all := lw_g (lw_at lw_m5 71 rfl) rfl
theorem q1135 : (Jvm.Cond.methodLink "WeekFoot" (336 : Nat) ({ cls := "WeekFoot", name := "must", desc := "(LWeekFoot$Entry;II)Z" } : Jvm.MethodName)) ∈ lw_all := lw_g (lw_at lw_m5 72 rfl) rfl
theorem q1136 : (Jvm.Cond.privateMethod ({ cls := "WeekFoot", name := "must", desc := "(LWeekFoot$Entry;II)Z" } : Jvm.MethodName)) ∈ lw_tbl := lw_at lw_m5 73 rfl
theorem q1137 : (Jvm.Cond.instanceMethod ({ cls := "WeekFoot", name := "must", desc := "(LWeekFoot$Entry;II)Z" } : Jvm.MethodName)) ∈ lw_all := lw_g (lw_at lw_m5 74 rfl) rfl
theorem q1138 : (Jvm.Cond.code ({ cls := "WeekFoot", name := "must", desc := "(LWeekFoot$Entry;II)Z" } : Jvm.MethodName) prog_1_method_47_code (5 : Nat) (Option.some Jvm.ClassFile.FieldType.boolean)) ∈ lw_all := lw_g (lw_at lw_m5 75 rfl) rfl
theorem q1140 : (Jvm.Cond.instanceMethod ({ cls := "WeekFoot", name := "numbers", desc := "(IIII)I" } : Jvm.MethodName)) ∈ lw_all := lw_g (lw_at lw_m5 77 rfl) rfl
theorem q1141 : (Jvm.Cond.selects "WeekFoot" ({ cls := "WeekFoot", name := "numbers", desc := "(IIII)I" } : Jvm.MethodName) ({ cls := "WeekFoot", name := "numbers", desc := "(IIII)I" } : Jvm.MethodName)) ∈ lw_all := lw_g (lw_at lw_m5 78 rfl) rfl
theorem q1142 : (Jvm.Cond.code ({ cls := "WeekFoot", name := "numbers", desc := "(IIII)I" } : Jvm.MethodName) prog_1_method_51_code (6 : Nat) (Option.some Jvm.ClassFile.FieldType.int)) ∈ lw_all := lw_g (lw_at lw_m5 79 rfl) rfl
theorem q1143 : (Jvm.Cond.methodLink "WeekFoot" (345 : Nat) ({ cls := "WeekFoot", name := "numbersOf", desc := "(III)I" } : Jvm.MethodName)) ∈ lw_all := lw_g (lw_at lw_m5 80 rfl) rfl
theorem q1144 : (Jvm.Cond.privateMethod ({ cls := "WeekFoot", name := "numbersOf", desc := "(III)I" } : Jvm.MethodName)) ∈ lw_tbl := lw_at lw_m5 81 rfl
theorem q1145 : (Jvm.Cond.instanceMethod ({ cls := "WeekFoot", name := "numbersOf", desc := "(III)I" } : Jvm.MethodName)) ∈ lw_all := lw_g (lw_at lw_m5 82 rfl) rfl
theorem q1146 : (Jvm.Cond.code ({ cls := "WeekFoot", name := "numbersOf", desc := "(III)I" } : Jvm.MethodName) prog_1_method_50_code (6 : Nat) (Option.some Jvm.ClassFile.FieldType.int)) ∈ lw_all := lw_g (lw_at lw_m5 83 rfl) rfl
theorem q1148 : (Jvm.Cond.instanceMethod ({ cls := "WeekFoot", name := "ask", desc := "(I)I" } : Jvm.MethodName)) ∈ lw_all := lw_g (lw_at lw_m5 85 rfl) rfl
theorem q1149 : (Jvm.Cond.selects "WeekFoot" ({ cls := "WeekFoot", name := "ask", desc := "(I)I" } : Jvm.MethodName) ({ cls := "WeekFoot", name := "ask", desc := "(I)I" } : Jvm.MethodName)) ∈ lw_all := lw_g (lw_at lw_m5 86 rfl) rfl
theorem q1150 : (Jvm.Cond.code ({ cls := "WeekFoot", name := "ask", desc := "(I)I" } : Jvm.MethodName) prog_1_method_52_code (7 : Nat) (Option.some Jvm.ClassFile.FieldType.int)) ∈ lw_all := lw_g (lw_at lw_m5 87 rfl) rfl
theorem q1152 : (Jvm.Cond.instanceMethod ({ cls := "WeekFoot", name := "dates", desc := "(IIII)I" } : Jvm.MethodName)) ∈ lw_all := lw_g (lw_at lw_m5 89 rfl) rfl
theorem q1153 : (Jvm.Cond.selects "WeekFoot" ({ cls := "WeekFoot", name := "dates", desc := "(IIII)I" } : Jvm.MethodName) ({ cls := "WeekFoot", name := "dates", desc := "(IIII)I" } : Jvm.MethodName)) ∈ lw_all := lw_g (lw_at lw_m5 90 rfl) rfl
theorem q1154 : (Jvm.Cond.code ({ cls := "WeekFoot", name := "dates", desc := "(IIII)I" } : Jvm.MethodName) prog_1_method_53_code (10 : Nat) (Option.some Jvm.ClassFile.FieldType.int)) ∈ lw_all := lw_g (lw_at lw_m5 91 rfl) rfl
theorem q1156 : (Jvm.Cond.instanceMethod ({ cls := "WeekFoot", name := "joined", desc := "(II)I" } : Jvm.MethodName)) ∈ lw_all := lw_g (lw_at lw_m5 93 rfl) rfl
theorem q1157 : (Jvm.Cond.selects "WeekFoot" ({ cls := "WeekFoot", name := "joined", desc := "(II)I" } : Jvm.MethodName) ({ cls := "WeekFoot", name := "joined", desc := "(II)I" } : Jvm.MethodName)) ∈ lw_all := lw_g (lw_at lw_m5 94 rfl) rfl
theorem q1158 : (Jvm.Cond.code ({ cls := "WeekFoot", name := "joined", desc := "(II)I" } : Jvm.MethodName) prog_1_method_56_code (3 : Nat) (Option.some Jvm.ClassFile.FieldType.int)) ∈ lw_all := lw_g (lw_at lw_m5 95 rfl) rfl
theorem q1159 : (Jvm.Cond.methodLink "WeekFoot" (357 : Nat) ({ cls := "WeekFoot", name := "joins", desc := "()V" } : Jvm.MethodName)) ∈ lw_all := lw_g (lw_at lw_m5 96 rfl) rfl
theorem q1160 : (Jvm.Cond.privateMethod ({ cls := "WeekFoot", name := "joins", desc := "()V" } : Jvm.MethodName)) ∈ lw_tbl := lw_at lw_m5 97 rfl
theorem q1161 : (Jvm.Cond.instanceMethod ({ cls := "WeekFoot", name := "joins", desc := "()V" } : Jvm.MethodName)) ∈ lw_all := lw_g (lw_at lw_m5 98 rfl) rfl
theorem q1162 : (Jvm.Cond.code ({ cls := "WeekFoot", name := "joins", desc := "()V" } : Jvm.MethodName) prog_1_method_54_code (3 : Nat) (Option.none : Option Jvm.ClassFile.FieldType)) ∈ lw_all := lw_g (lw_at lw_m5 99 rfl) rfl
theorem q1163 : (Jvm.Cond.methodLink "WeekFoot" (349 : Nat) ({ cls := "WeekFoot", name := "joins", desc := "(II)V" } : Jvm.MethodName)) ∈ lw_all := lw_g (lw_at lw_m5 100 rfl) rfl
theorem q1164 : (Jvm.Cond.privateMethod ({ cls := "WeekFoot", name := "joins", desc := "(II)V" } : Jvm.MethodName)) ∈ lw_tbl := lw_at lw_m5 101 rfl
theorem q1165 : (Jvm.Cond.instanceMethod ({ cls := "WeekFoot", name := "joins", desc := "(II)V" } : Jvm.MethodName)) ∈ lw_all := lw_g (lw_at lw_m5 102 rfl) rfl
theorem q1166 : (Jvm.Cond.code ({ cls := "WeekFoot", name := "joins", desc := "(II)V" } : Jvm.MethodName) prog_1_method_55_code (6 : Nat) (Option.none : Option Jvm.ClassFile.FieldType)) ∈ lw_all := lw_g (lw_at lw_m5 103 rfl) rfl
theorem q1167 : (Jvm.Cond.methodLink "WeekFoot" (354 : Nat) ({ cls := "java/lang/Math", name := "max", desc := "(II)I" } : Jvm.MethodName)) ∈ lw_all := lw_g (lw_at lw_m5 104 rfl) rfl
theorem q1169 : (Jvm.Cond.instanceMethod ({ cls := "WeekFoot", name := "groups", desc := "(I)I" } : Jvm.MethodName)) ∈ lw_all := lw_g (lw_at lw_m5 106 rfl) rfl
theorem q1170 : (Jvm.Cond.selects "WeekFoot" ({ cls := "WeekFoot", name := "groups", desc := "(I)I" } : Jvm.MethodName) ({ cls := "WeekFoot", name := "groups", desc := "(I)I" } : Jvm.MethodName)) ∈ lw_all := lw_g (lw_at lw_m5 107 rfl) rfl
theorem q1171 : (Jvm.Cond.code ({ cls := "WeekFoot", name := "groups", desc := "(I)I" } : Jvm.MethodName) prog_1_method_57_code (7 : Nat) (Option.some Jvm.ClassFile.FieldType.int)) ∈ lw_all := lw_g (lw_at lw_m5 108 rfl) rfl
theorem q1173 : (Jvm.Cond.instanceMethod ({ cls := "WeekFoot", name := "core", desc := "()I" } : Jvm.MethodName)) ∈ lw_all := lw_g (lw_at lw_m5 110 rfl) rfl
theorem q1174 : (Jvm.Cond.selects "WeekFoot" ({ cls := "WeekFoot", name := "core", desc := "()I" } : Jvm.MethodName) ({ cls := "WeekFoot", name := "core", desc := "()I" } : Jvm.MethodName)) ∈ lw_all := lw_g (lw_at lw_m5 111 rfl) rfl
theorem q1175 : (Jvm.Cond.code ({ cls := "WeekFoot", name := "core", desc := "()I" } : Jvm.MethodName) prog_1_method_58_code (3 : Nat) (Option.some Jvm.ClassFile.FieldType.int)) ∈ lw_all := lw_g (lw_at lw_m5 112 rfl) rfl
theorem q1176 : (Jvm.Cond.methodLink "WeekFoot" (359 : Nat) ({ cls := "WeekFoot", name := "fitsWith", desc := "(I)Z" } : Jvm.MethodName)) ∈ lw_all := lw_g (lw_at lw_m5 113 rfl) rfl
theorem q1177 : (Jvm.Cond.privateMethod ({ cls := "WeekFoot", name := "fitsWith", desc := "(I)Z" } : Jvm.MethodName)) ∈ lw_tbl := lw_at lw_m5 114 rfl
theorem q1178 : (Jvm.Cond.instanceMethod ({ cls := "WeekFoot", name := "fitsWith", desc := "(I)Z" } : Jvm.MethodName)) ∈ lw_all := lw_g (lw_at lw_m5 115 rfl) rfl
theorem q1179 : (Jvm.Cond.code ({ cls := "WeekFoot", name := "fitsWith", desc := "(I)Z" } : Jvm.MethodName) prog_1_method_29_code (2 : Nat) (Option.some Jvm.ClassFile.FieldType.boolean)) ∈ lw_all := lw_g (lw_at lw_m5 116 rfl) rfl
theorem q1180 : (Jvm.Cond.methodLink "WeekFoot" (239 : Nat) ({ cls := "WeekFoot$Ends", name := "fits", desc := "(I[III)Z" } : Jvm.MethodName)) ∈ lw_all := lw_g (lw_at lw_m5 117 rfl) rfl
theorem q1181 : (Jvm.Cond.methodLink "WeekFoot" (362 : Nat) ({ cls := "WeekFoot", name := "counted", desc := "()I" } : Jvm.MethodName)) ∈ lw_all := lw_g (lw_at lw_m5 118 rfl) rfl
theorem q1183 : (Jvm.Cond.instanceMethod ({ cls := "WeekFoot", name := "wrong", desc := "(I)I" } : Jvm.MethodName)) ∈ lw_all := lw_g (lw_at lw_m5 120 rfl) rfl
theorem q1184 : (Jvm.Cond.selects "WeekFoot" ({ cls := "WeekFoot", name := "wrong", desc := "(I)I" } : Jvm.MethodName) ({ cls := "WeekFoot", name := "wrong", desc := "(I)I" } : Jvm.MethodName)) ∈ lw_all := lw_g (lw_at lw_m5 121 rfl) rfl
theorem q1185 : (Jvm.Cond.code ({ cls := "WeekFoot", name := "wrong", desc := "(I)I" } : Jvm.MethodName) prog_1_method_61_code (2 : Nat) (Option.some Jvm.ClassFile.FieldType.int)) ∈ lw_all := lw_g (lw_at lw_m5 122 rfl) rfl
theorem q1186 : (Jvm.Cond.methodLink "WeekFoot" (377 : Nat) ({ cls := "WeekFoot", name := "wrongs", desc := "()V" } : Jvm.MethodName)) ∈ lw_all := lw_g (lw_at lw_m5 123 rfl) rfl
theorem q1187 : (Jvm.Cond.privateMethod ({ cls := "WeekFoot", name := "wrongs", desc := "()V" } : Jvm.MethodName)) ∈ lw_tbl := lw_at lw_m5 124 rfl
theorem q1188 : (Jvm.Cond.instanceMethod ({ cls := "WeekFoot", name := "wrongs", desc := "()V" } : Jvm.MethodName)) ∈ lw_all := lw_g (lw_at lw_m5 125 rfl) rfl
theorem q1189 : (Jvm.Cond.code ({ cls := "WeekFoot", name := "wrongs", desc := "()V" } : Jvm.MethodName) prog_1_method_59_code (4 : Nat) (Option.none : Option Jvm.ClassFile.FieldType)) ∈ lw_all := lw_g (lw_at lw_m5 126 rfl) rfl
theorem q1190 : (Jvm.Cond.methodLink "WeekFoot" (374 : Nat) ({ cls := "WeekFoot", name := "tries", desc := "(II)V" } : Jvm.MethodName)) ∈ lw_all := lw_g (lw_at lw_m5 127 rfl) rfl
theorem q1191 : (Jvm.Cond.privateMethod ({ cls := "WeekFoot", name := "tries", desc := "(II)V" } : Jvm.MethodName)) ∈ lw_tbl := lw_at lw_m5 128 rfl
theorem q1192 : (Jvm.Cond.instanceMethod ({ cls := "WeekFoot", name := "tries", desc := "(II)V" } : Jvm.MethodName)) ∈ lw_all := lw_g (lw_at lw_m5 129 rfl) rfl
theorem q1193 : (Jvm.Cond.code ({ cls := "WeekFoot", name := "tries", desc := "(II)V" } : Jvm.MethodName) prog_1_method_60_code (3 : Nat) (Option.none : Option Jvm.ClassFile.FieldType)) ∈ lw_all := lw_g (lw_at lw_m5 130 rfl) rfl
theorem q1195 : (Jvm.Cond.instanceMethod ({ cls := "WeekFoot", name := "whose", desc := "(I)I" } : Jvm.MethodName)) ∈ lw_all := lw_g (lw_at lw_m5 132 rfl) rfl
theorem q1196 : (Jvm.Cond.selects "WeekFoot" ({ cls := "WeekFoot", name := "whose", desc := "(I)I" } : Jvm.MethodName) ({ cls := "WeekFoot", name := "whose", desc := "(I)I" } : Jvm.MethodName)) ∈ lw_all := lw_g (lw_at lw_m5 133 rfl) rfl
theorem q1197 : (Jvm.Cond.code ({ cls := "WeekFoot", name := "whose", desc := "(I)I" } : Jvm.MethodName) prog_1_method_62_code (4 : Nat) (Option.some Jvm.ClassFile.FieldType.int)) ∈ lw_all := lw_g (lw_at lw_m5 134 rfl) rfl
theorem q1198 : (Jvm.Cond.methodLink "WeekFoot" (380 : Nat) ({ cls := "WeekFoot$Whose", name := "looks", desc := "()V" } : Jvm.MethodName)) ∈ lw_all := lw_g (lw_at lw_m5 135 rfl) rfl
theorem q1215 : (Jvm.Cond.methodLink "WeekFoot" (388 : Nat) ({ cls := "WeekFoot$Whose", name := "placeOf", desc := "(I)I" } : Jvm.MethodName)) ∈ lw_all := lw_g (lw_at lw_m5 152 rfl) rfl
theorem q1220 : (Jvm.Cond.instanceMethod ({ cls := "WeekFoot", name := "could", desc := "(II)I" } : Jvm.MethodName)) ∈ lw_all := lw_g (lw_at lw_m5 157 rfl) rfl
theorem q1221 : (Jvm.Cond.selects "WeekFoot" ({ cls := "WeekFoot", name := "could", desc := "(II)I" } : Jvm.MethodName) ({ cls := "WeekFoot", name := "could", desc := "(II)I" } : Jvm.MethodName)) ∈ lw_all := lw_g (lw_at lw_m5 158 rfl) rfl
theorem q1222 : (Jvm.Cond.code ({ cls := "WeekFoot", name := "could", desc := "(II)I" } : Jvm.MethodName) prog_1_method_63_code (4 : Nat) (Option.some Jvm.ClassFile.FieldType.int)) ∈ lw_all := lw_g (lw_at lw_m5 159 rfl) rfl
theorem q1224 : (Jvm.Cond.instanceMethod ({ cls := "WeekFoot", name := "when", desc := "(II)I" } : Jvm.MethodName)) ∈ lw_all := lw_g (lw_at lw_m5 161 rfl) rfl
theorem q1225 : (Jvm.Cond.selects "WeekFoot" ({ cls := "WeekFoot", name := "when", desc := "(II)I" } : Jvm.MethodName) ({ cls := "WeekFoot", name := "when", desc := "(II)I" } : Jvm.MethodName)) ∈ lw_all := lw_g (lw_at lw_m5 162 rfl) rfl
theorem q1226 : (Jvm.Cond.code ({ cls := "WeekFoot", name := "when", desc := "(II)I" } : Jvm.MethodName) prog_1_method_64_code (7 : Nat) (Option.some Jvm.ClassFile.FieldType.int)) ∈ lw_all := lw_g (lw_at lw_m5 163 rfl) rfl
theorem q1228 : (Jvm.Cond.instanceMethod ({ cls := "WeekFoot", name := "tell", desc := "(II)I" } : Jvm.MethodName)) ∈ lw_all := lw_g (lw_at lw_m5 165 rfl) rfl
theorem q1229 : (Jvm.Cond.selects "WeekFoot" ({ cls := "WeekFoot", name := "tell", desc := "(II)I" } : Jvm.MethodName) ({ cls := "WeekFoot", name := "tell", desc := "(II)I" } : Jvm.MethodName)) ∈ lw_all := lw_g (lw_at lw_m5 166 rfl) rfl
theorem q1230 : (Jvm.Cond.code ({ cls := "WeekFoot", name := "tell", desc := "(II)I" } : Jvm.MethodName) prog_1_method_65_code (3 : Nat) (Option.some Jvm.ClassFile.FieldType.int)) ∈ lw_all := lw_g (lw_at lw_m5 167 rfl) rfl
theorem q1232 : (Jvm.Cond.instanceMethod ({ cls := "WeekFoot", name := "says", desc := "(III)I" } : Jvm.MethodName)) ∈ lw_all := lw_g (lw_at lw_m5 169 rfl) rfl
theorem q1233 : (Jvm.Cond.selects "WeekFoot" ({ cls := "WeekFoot", name := "says", desc := "(III)I" } : Jvm.MethodName) ({ cls := "WeekFoot", name := "says", desc := "(III)I" } : Jvm.MethodName)) ∈ lw_all := lw_g (lw_at lw_m5 170 rfl) rfl
theorem q1234 : (Jvm.Cond.code ({ cls := "WeekFoot", name := "says", desc := "(III)I" } : Jvm.MethodName) prog_1_method_67_code (4 : Nat) (Option.some Jvm.ClassFile.FieldType.int)) ∈ lw_all := lw_g (lw_at lw_m5 171 rfl) rfl
theorem q1235 : (Jvm.Cond.methodLink "WeekFoot" (396 : Nat) ({ cls := "WeekFoot", name := "saysOf", desc := "(III)I" } : Jvm.MethodName)) ∈ lw_all := lw_g (lw_at lw_m5 172 rfl) rfl
theorem q1236 : (Jvm.Cond.static ({ cls := "WeekFoot", name := "saysOf", desc := "(III)I" } : Jvm.MethodName)) ∈ lw_all := lw_g (lw_at lw_m5 173 rfl) rfl
theorem q1237 : (Jvm.Cond.code ({ cls := "WeekFoot", name := "saysOf", desc := "(III)I" } : Jvm.MethodName) prog_1_method_66_code (3 : Nat) (Option.some Jvm.ClassFile.FieldType.int)) ∈ lw_all := lw_g (lw_at lw_m5 174 rfl) rfl
theorem q1239 : (Jvm.Cond.instanceMethod ({ cls := "WeekFoot", name := "judge", desc := "(I)I" } : Jvm.MethodName)) ∈ lw_all := lw_g (lw_at lw_m5 176 rfl) rfl
theorem q1240 : (Jvm.Cond.selects "WeekFoot" ({ cls := "WeekFoot", name := "judge", desc := "(I)I" } : Jvm.MethodName) ({ cls := "WeekFoot", name := "judge", desc := "(I)I" } : Jvm.MethodName)) ∈ lw_all := lw_g (lw_at lw_m5 177 rfl) rfl
theorem q1241 : (Jvm.Cond.code ({ cls := "WeekFoot", name := "judge", desc := "(I)I" } : Jvm.MethodName) prog_1_method_69_code (6 : Nat) (Option.some Jvm.ClassFile.FieldType.int)) ∈ lw_all := lw_g (lw_at lw_m5 178 rfl) rfl
theorem q1242 : (Jvm.Cond.methodLink "WeekFoot" (402 : Nat) ({ cls := "WeekFoot", name := "isSo", desc := "(I)Z" } : Jvm.MethodName)) ∈ lw_all := lw_g (lw_at lw_m5 179 rfl) rfl
theorem q1243 : (Jvm.Cond.privateMethod ({ cls := "WeekFoot", name := "isSo", desc := "(I)Z" } : Jvm.MethodName)) ∈ lw_tbl := lw_at lw_m5 180 rfl
theorem q1244 : (Jvm.Cond.instanceMethod ({ cls := "WeekFoot", name := "isSo", desc := "(I)Z" } : Jvm.MethodName)) ∈ lw_all := lw_g (lw_at lw_m5 181 rfl) rfl
theorem q1245 : (Jvm.Cond.code ({ cls := "WeekFoot", name := "isSo", desc := "(I)Z" } : Jvm.MethodName) prog_1_method_68_code (3 : Nat) (Option.some Jvm.ClassFile.FieldType.boolean)) ∈ lw_all := lw_g (lw_at lw_m5 182 rfl) rfl
theorem q1246 : (Jvm.Cond.methodLink "WeekFoot" (399 : Nat) ({ cls := "WeekFoot$Entry", name := "isSo", desc := "(II)Z" } : Jvm.MethodName)) ∈ lw_all := lw_g (lw_at lw_m5 183 rfl) rfl
theorem q1253 : (Jvm.Cond.instanceMethod ({ cls := "WeekFoot", name := "year", desc := "(III)I" } : Jvm.MethodName)) ∈ lw_all := lw_g (lw_at lw_m5 190 rfl) rfl
theorem q1254 : (Jvm.Cond.selects "WeekFoot" ({ cls := "WeekFoot", name := "year", desc := "(III)I" } : Jvm.MethodName) ({ cls := "WeekFoot", name := "year", desc := "(III)I" } : Jvm.MethodName)) ∈ lw_all := lw_g (lw_at lw_m5 191 rfl) rfl
theorem q1255 : (Jvm.Cond.code ({ cls := "WeekFoot", name := "year", desc := "(III)I" } : Jvm.MethodName) prog_1_method_70_code (4 : Nat) (Option.some Jvm.ClassFile.FieldType.int)) ∈ lw_all := lw_g (lw_at lw_m5 192 rfl) rfl
theorem q1256 : (Jvm.Cond.methodLink "WeekFoot" (404 : Nat) ({ cls := "WeekFoot$Year", name := "draws", desc := "(I)V" } : Jvm.MethodName)) ∈ lw_all := lw_g (lw_at lw_m5 193 rfl) rfl
theorem q1263 : (Jvm.Cond.methodLink "WeekFoot" (407 : Nat) ({ cls := "WeekFoot$Year", name := "trades", desc := "(I)V" } : Jvm.MethodName)) ∈ lw_all := lw_g (lw_at lw_m5 200 rfl) rfl
theorem q1272 : (Jvm.Cond.instanceMethod ({ cls := "WeekFoot", name := "trade", desc := "(I)I" } : Jvm.MethodName)) ∈ lw_all := lw_g (lw_at lw_m5 209 rfl) rfl
theorem q1273 : (Jvm.Cond.selects "WeekFoot" ({ cls := "WeekFoot", name := "trade", desc := "(I)I" } : Jvm.MethodName) ({ cls := "WeekFoot", name := "trade", desc := "(I)I" } : Jvm.MethodName)) ∈ lw_all := lw_g (lw_at lw_m5 210 rfl) rfl
theorem q1274 : (Jvm.Cond.code ({ cls := "WeekFoot", name := "trade", desc := "(I)I" } : Jvm.MethodName) prog_1_method_71_code (2 : Nat) (Option.some Jvm.ClassFile.FieldType.int)) ∈ lw_all := lw_g (lw_at lw_m5 211 rfl) rfl
theorem q1276 : (Jvm.Cond.instanceMethod ({ cls := "WeekFoot", name := "told", desc := "(I)I" } : Jvm.MethodName)) ∈ lw_all := lw_g (lw_at lw_m5 213 rfl) rfl
theorem q1277 : (Jvm.Cond.selects "WeekFoot" ({ cls := "WeekFoot", name := "told", desc := "(I)I" } : Jvm.MethodName) ({ cls := "WeekFoot", name := "told", desc := "(I)I" } : Jvm.MethodName)) ∈ lw_all := lw_g (lw_at lw_m5 214 rfl) rfl
theorem q1278 : (Jvm.Cond.code ({ cls := "WeekFoot", name := "told", desc := "(I)I" } : Jvm.MethodName) prog_1_method_72_code (4 : Nat) (Option.some Jvm.ClassFile.FieldType.int)) ∈ lw_all := lw_g (lw_at lw_m5 215 rfl) rfl
theorem q1279 : (Jvm.Cond.methodLink "WeekFoot" (423 : Nat) ({ cls := "WeekFoot$Year", name := "feet", desc := "(II)I" } : Jvm.MethodName)) ∈ lw_all := lw_g (lw_at lw_m5 216 rfl) rfl
theorem q1281 : (Jvm.Cond.instanceMethod ({ cls := "WeekFoot", name := "count", desc := "(I)I" } : Jvm.MethodName)) ∈ lw_all := lw_g (lw_at lw_m5 218 rfl) rfl
theorem q1282 : (Jvm.Cond.selects "WeekFoot" ({ cls := "WeekFoot", name := "count", desc := "(I)I" } : Jvm.MethodName) ({ cls := "WeekFoot", name := "count", desc := "(I)I" } : Jvm.MethodName)) ∈ lw_all := lw_g (lw_at lw_m5 219 rfl) rfl
theorem q1283 : (Jvm.Cond.code ({ cls := "WeekFoot", name := "count", desc := "(I)I" } : Jvm.MethodName) prog_1_method_73_code (5 : Nat) (Option.some Jvm.ClassFile.FieldType.int)) ∈ lw_all := lw_g (lw_at lw_m5 220 rfl) rfl
theorem q1284 : (Jvm.Cond.methodLink "WeekFoot" (426 : Nat) ({ cls := "java/lang/Integer", name := "bitCount", desc := "(I)I" } : Jvm.MethodName)) ∈ lw_all := lw_g (lw_at lw_m5 221 rfl) rfl
theorem q1291 : (Jvm.Cond.instanceMethod ({ cls := "WeekFoot", name := "status", desc := "()I" } : Jvm.MethodName)) ∈ lw_all := lw_g (lw_at lw_m5 228 rfl) rfl
theorem q1292 : (Jvm.Cond.selects "WeekFoot" ({ cls := "WeekFoot", name := "status", desc := "()I" } : Jvm.MethodName) ({ cls := "WeekFoot", name := "status", desc := "()I" } : Jvm.MethodName)) ∈ lw_all := lw_g (lw_at lw_m5 229 rfl) rfl
theorem q1293 : (Jvm.Cond.code ({ cls := "WeekFoot", name := "status", desc := "()I" } : Jvm.MethodName) prog_1_method_74_code (1 : Nat) (Option.some Jvm.ClassFile.FieldType.int)) ∈ lw_all := lw_g (lw_at lw_m5 230 rfl) rfl
theorem q1975 : (Jvm.Cond.castable "WeekFoot" "java/lang/Object") ∈ lw_tbl := lw_at lw_m8 192 rfl
theorem in_X0 : ∀ w ∈ wsX00, w ∈ lw_all := lw_in wsX00 [910, 912, 914, 916, 918, 920, 922, 924, 926, 928, 930, 932, 934, 936, 938, 940, 942, 944, 946, 948, 950, 952, 954, 956, 958, 960, 962, 964] (by decide +kernel) (by decide +kernel)
